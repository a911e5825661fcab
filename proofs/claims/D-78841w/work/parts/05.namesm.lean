/-! DimensionLinesModel -/
set_option maxRecDepth 100000
def RX2 : String := "DimensionLinesModel"
def TX2 : u_T := fun k => match k with
  | 0 => ("DimensionLinesModel", "page", "[I", true)
  | 1 => ("DimensionLinesModel", "backMany", "I", false)
  | 2 => ("DimensionLinesModel", "text", "[I", true)
  | 3 => ("DimensionLinesModel", "typed", "I", false)
  | 4 => ("DimensionLinesModel", "fault", "I", false)
  | 5 => ("DimensionLinesModel", "faultAt", "I", false)
  | 6 => ("DimensionLinesModel", "spot", "I", false)
  | 7 => ("DimensionLinesModel", "number", "I", false)
  | 8 => ("DimensionLinesModel", "unit", "[I", true)
  | 9 => ("DimensionLinesModel", "spanFrom", "[I", true)
  | 10 => ("DimensionLinesModel", "spanTo", "[I", true)
  | 11 => ("DimensionLinesModel", "leastLane", "[I", true)
  | 12 => ("DimensionLinesModel", "lane", "[I", true)
  | 13 => ("DimensionLinesModel", "isPlaced", "[Z", true)
  | 14 => ("DimensionLinesModel", "greatest", "[I", true)
  | _ => ("DimensionLinesModel", "hash", "J", false)
def tyX2 : Nat → FieldType := fun k => match k with
  | 0 => .array .int
  | 1 => .int
  | 2 => .array .int
  | 3 => .int
  | 4 => .int
  | 5 => .int
  | 6 => .int
  | 7 => .int
  | 8 => .array .int
  | 9 => .array .int
  | 10 => .array .int
  | 11 => .array .int
  | 12 => .array .int
  | 13 => .array .boolean
  | 14 => .array .int
  | _ => .long
abbrev wsX20 : List Cond := u_ws RX2 TX2 16
set_option maxRecDepth 100000 in
theorem nmX2 : ∀ a, a < 16 → ∀ b, b < 16 → a ≠ b → (TX2 a).2.1 ≠ (TX2 b).2.1 := by decide +kernel
set_option maxRecDepth 100000 in
theorem tyX2_ok : ∀ k, k < 16 → parseFieldDescriptor (TX2 k).2.2.1 = some (tyX2 k) := by decide +kernel
abbrev cX2_init : ByteArray := prog_12_method_1_code
def yX2_init : MethodName := ⟨RX2, "<init>", "()V"⟩
def dkwX2_init_4 : List UInt8 := [177]
abbrev dktX2_init_4 : List UInt8 := dkwX2_init_4 ++ []
def dkwX2_init_3 : List UInt8 := [17, 0, 144, 188, 10, 181, 0, 35, 42, 180, 0, 7, 16, 110, 7, 79, 42, 180, 0, 7, 16, 111, 6, 79]
abbrev dktX2_init_3 : List UInt8 := dkwX2_init_3 ++ dktX2_init_4
def dkwX2_init_2 : List UInt8 := [188, 10, 181, 0, 25, 42, 16, 16, 188, 10, 181, 0, 28, 42, 16, 16, 188, 4, 181, 0, 31, 42]
abbrev dktX2_init_2 : List UInt8 := dkwX2_init_2 ++ dktX2_init_3
def dkwX2_init_1 : List UInt8 := [188, 10, 181, 0, 16, 42, 16, 16, 188, 10, 181, 0, 19, 42, 16, 16, 188, 10, 181, 0, 22, 42, 16, 16]
abbrev dktX2_init_1 : List UInt8 := dkwX2_init_1 ++ dktX2_init_2
def dkwX2_init_0 : List UInt8 := [42, 183, 0, 1, 42, 17, 4, 96, 188, 10, 181, 0, 7, 42, 16, 80, 188, 10, 181, 0, 13, 42, 16, 16]
abbrev dktX2_init_0 : List UInt8 := dkwX2_init_0 ++ dktX2_init_1
theorem dksX2_init_0 : cX2_init.data.toList.drop 0 = dktX2_init_0 := by decide +kernel
theorem dksX2_init_1 : cX2_init.data.toList.drop 24 = dktX2_init_1 := dk_seg dksX2_init_0 24 rfl rfl
theorem dksX2_init_2 : cX2_init.data.toList.drop 48 = dktX2_init_2 := dk_seg dksX2_init_1 24 rfl rfl
theorem dksX2_init_3 : cX2_init.data.toList.drop 70 = dktX2_init_3 := dk_seg dksX2_init_2 22 rfl rfl
theorem dksX2_init_4 : cX2_init.data.toList.drop 94 = dktX2_init_4 := dk_seg dksX2_init_3 24 rfl rfl
theorem dX2_init_0 : decode cX2_init 0 = .ok (.aload_n 0, 1) := dk_42 (dk_at dksX2_init_0 0 rfl rfl)
theorem dX2_init_1 : decode cX2_init 1 = .ok (.invokespecial 1, 3) := dk_183 0 1 (dk_at dksX2_init_0 1 rfl rfl)
theorem dX2_init_4 : decode cX2_init 4 = .ok (.aload_n 0, 1) := dk_42 (dk_at dksX2_init_0 4 rfl rfl)
theorem dX2_init_5 : decode cX2_init 5 = .ok (.sipush 1120, 3) := dk_17 4 96 (dk_at dksX2_init_0 5 rfl rfl)
theorem dX2_init_8 : decode cX2_init 8 = .ok (.newarray .int, 2) := dk_188_10 (dk_at dksX2_init_0 8 rfl rfl)
theorem dX2_init_10 : decode cX2_init 10 = .ok (.putfield 7, 3) := dk_181 0 7 (dk_at dksX2_init_0 10 rfl rfl)
theorem dX2_init_13 : decode cX2_init 13 = .ok (.aload_n 0, 1) := dk_42 (dk_at dksX2_init_0 13 rfl rfl)
theorem dX2_init_14 : decode cX2_init 14 = .ok (.bipush 80, 2) := dk_16 80 (dk_at dksX2_init_0 14 rfl rfl)
theorem dX2_init_16 : decode cX2_init 16 = .ok (.newarray .int, 2) := dk_188_10 (dk_at dksX2_init_0 16 rfl rfl)
theorem dX2_init_18 : decode cX2_init 18 = .ok (.putfield 13, 3) := dk_181 0 13 (dk_at dksX2_init_0 18 rfl rfl)
theorem dX2_init_21 : decode cX2_init 21 = .ok (.aload_n 0, 1) := dk_42 (dk_at dksX2_init_0 21 rfl rfl)
theorem dX2_init_22 : decode cX2_init 22 = .ok (.bipush 16, 2) := dk_16 16 (dk_at dksX2_init_0 22 rfl rfl)
theorem dX2_init_24 : decode cX2_init 24 = .ok (.newarray .int, 2) := dk_188_10 (dk_at dksX2_init_1 0 rfl rfl)
theorem dX2_init_26 : decode cX2_init 26 = .ok (.putfield 16, 3) := dk_181 0 16 (dk_at dksX2_init_1 2 rfl rfl)
theorem dX2_init_29 : decode cX2_init 29 = .ok (.aload_n 0, 1) := dk_42 (dk_at dksX2_init_1 5 rfl rfl)
theorem dX2_init_30 : decode cX2_init 30 = .ok (.bipush 16, 2) := dk_16 16 (dk_at dksX2_init_1 6 rfl rfl)
theorem dX2_init_32 : decode cX2_init 32 = .ok (.newarray .int, 2) := dk_188_10 (dk_at dksX2_init_1 8 rfl rfl)
theorem dX2_init_34 : decode cX2_init 34 = .ok (.putfield 19, 3) := dk_181 0 19 (dk_at dksX2_init_1 10 rfl rfl)
theorem dX2_init_37 : decode cX2_init 37 = .ok (.aload_n 0, 1) := dk_42 (dk_at dksX2_init_1 13 rfl rfl)
theorem dX2_init_38 : decode cX2_init 38 = .ok (.bipush 16, 2) := dk_16 16 (dk_at dksX2_init_1 14 rfl rfl)
theorem dX2_init_40 : decode cX2_init 40 = .ok (.newarray .int, 2) := dk_188_10 (dk_at dksX2_init_1 16 rfl rfl)
theorem dX2_init_42 : decode cX2_init 42 = .ok (.putfield 22, 3) := dk_181 0 22 (dk_at dksX2_init_1 18 rfl rfl)
theorem dX2_init_45 : decode cX2_init 45 = .ok (.aload_n 0, 1) := dk_42 (dk_at dksX2_init_1 21 rfl rfl)
theorem dX2_init_46 : decode cX2_init 46 = .ok (.bipush 16, 2) := dk_16 16 (dk_at dksX2_init_1 22 rfl rfl)
theorem dX2_init_48 : decode cX2_init 48 = .ok (.newarray .int, 2) := dk_188_10 (dk_at dksX2_init_2 0 rfl rfl)
theorem dX2_init_50 : decode cX2_init 50 = .ok (.putfield 25, 3) := dk_181 0 25 (dk_at dksX2_init_2 2 rfl rfl)
theorem dX2_init_53 : decode cX2_init 53 = .ok (.aload_n 0, 1) := dk_42 (dk_at dksX2_init_2 5 rfl rfl)
theorem dX2_init_54 : decode cX2_init 54 = .ok (.bipush 16, 2) := dk_16 16 (dk_at dksX2_init_2 6 rfl rfl)
theorem dX2_init_56 : decode cX2_init 56 = .ok (.newarray .int, 2) := dk_188_10 (dk_at dksX2_init_2 8 rfl rfl)
theorem dX2_init_58 : decode cX2_init 58 = .ok (.putfield 28, 3) := dk_181 0 28 (dk_at dksX2_init_2 10 rfl rfl)
theorem dX2_init_61 : decode cX2_init 61 = .ok (.aload_n 0, 1) := dk_42 (dk_at dksX2_init_2 13 rfl rfl)
theorem dX2_init_62 : decode cX2_init 62 = .ok (.bipush 16, 2) := dk_16 16 (dk_at dksX2_init_2 14 rfl rfl)
theorem dX2_init_64 : decode cX2_init 64 = .ok (.newarray .boolean, 2) := dk_188_4 (dk_at dksX2_init_2 16 rfl rfl)
theorem dX2_init_66 : decode cX2_init 66 = .ok (.putfield 31, 3) := dk_181 0 31 (dk_at dksX2_init_2 18 rfl rfl)
theorem dX2_init_69 : decode cX2_init 69 = .ok (.aload_n 0, 1) := dk_42 (dk_at dksX2_init_2 21 rfl rfl)
theorem dX2_init_70 : decode cX2_init 70 = .ok (.sipush 144, 3) := dk_17 0 144 (dk_at dksX2_init_3 0 rfl rfl)
theorem dX2_init_73 : decode cX2_init 73 = .ok (.newarray .int, 2) := dk_188_10 (dk_at dksX2_init_3 3 rfl rfl)
theorem dX2_init_75 : decode cX2_init 75 = .ok (.putfield 35, 3) := dk_181 0 35 (dk_at dksX2_init_3 5 rfl rfl)
theorem dX2_init_78 : decode cX2_init 78 = .ok (.aload_n 0, 1) := dk_42 (dk_at dksX2_init_3 8 rfl rfl)
theorem dX2_init_79 : decode cX2_init 79 = .ok (.getfield 7, 3) := dk_180 0 7 (dk_at dksX2_init_3 9 rfl rfl)
theorem dX2_init_82 : decode cX2_init 82 = .ok (.bipush 110, 2) := dk_16 110 (dk_at dksX2_init_3 12 rfl rfl)
theorem dX2_init_84 : decode cX2_init 84 = .ok (.iconst 4, 1) := dk_7 (dk_at dksX2_init_3 14 rfl rfl)
theorem dX2_init_85 : decode cX2_init 85 = .ok (.iastore, 1) := dk_79 (dk_at dksX2_init_3 15 rfl rfl)
theorem dX2_init_86 : decode cX2_init 86 = .ok (.aload_n 0, 1) := dk_42 (dk_at dksX2_init_3 16 rfl rfl)
theorem dX2_init_87 : decode cX2_init 87 = .ok (.getfield 7, 3) := dk_180 0 7 (dk_at dksX2_init_3 17 rfl rfl)
theorem dX2_init_90 : decode cX2_init 90 = .ok (.bipush 111, 2) := dk_16 111 (dk_at dksX2_init_3 20 rfl rfl)
theorem dX2_init_92 : decode cX2_init 92 = .ok (.iconst 3, 1) := dk_6 (dk_at dksX2_init_3 22 rfl rfl)
theorem dX2_init_93 : decode cX2_init 93 = .ok (.iastore, 1) := dk_79 (dk_at dksX2_init_3 23 rfl rfl)
theorem dX2_init_94 : decode cX2_init 94 = .ok (.return_, 1) := dk_177 (dk_at dksX2_init_4 0 rfl rfl)
abbrev cX2_undo : ByteArray := prog_12_method_6_code
def yX2_undo : MethodName := ⟨RX2, "undo", "()I"⟩
def dkwX2_undo_1 : List UInt8 := [4, 100, 181, 0, 38, 42, 180, 0, 38, 172]
abbrev dktX2_undo_1 : List UInt8 := dkwX2_undo_1 ++ []
def dkwX2_undo_0 : List UInt8 := [42, 180, 0, 38, 154, 0, 6, 16, 254, 172, 42, 42, 180, 0, 38, 3, 182, 0, 42, 42, 89, 180, 0, 38]
abbrev dktX2_undo_0 : List UInt8 := dkwX2_undo_0 ++ dktX2_undo_1
theorem dksX2_undo_0 : cX2_undo.data.toList.drop 0 = dktX2_undo_0 := by decide +kernel
theorem dksX2_undo_1 : cX2_undo.data.toList.drop 24 = dktX2_undo_1 := dk_seg dksX2_undo_0 24 rfl rfl
theorem dX2_undo_0 : decode cX2_undo 0 = .ok (.aload_n 0, 1) := dk_42 (dk_at dksX2_undo_0 0 rfl rfl)
theorem dX2_undo_1 : decode cX2_undo 1 = .ok (.getfield 38, 3) := dk_180 0 38 (dk_at dksX2_undo_0 1 rfl rfl)
theorem dX2_undo_4 : decode cX2_undo 4 = .ok (.ifCond .ne 6, 3) := dk_154 0 6 (dk_at dksX2_undo_0 4 rfl rfl)
theorem dX2_undo_7 : decode cX2_undo 7 = .ok (.bipush (-2), 2) := dk_16 254 (dk_at dksX2_undo_0 7 rfl rfl)
theorem dX2_undo_9 : decode cX2_undo 9 = .ok (.ireturn, 1) := dk_172 (dk_at dksX2_undo_0 9 rfl rfl)
theorem dX2_undo_10 : decode cX2_undo 10 = .ok (.aload_n 0, 1) := dk_42 (dk_at dksX2_undo_0 10 rfl rfl)
theorem dX2_undo_11 : decode cX2_undo 11 = .ok (.aload_n 0, 1) := dk_42 (dk_at dksX2_undo_0 11 rfl rfl)
theorem dX2_undo_12 : decode cX2_undo 12 = .ok (.getfield 38, 3) := dk_180 0 38 (dk_at dksX2_undo_0 12 rfl rfl)
theorem dX2_undo_15 : decode cX2_undo 15 = .ok (.iconst 0, 1) := dk_3 (dk_at dksX2_undo_0 15 rfl rfl)
theorem dX2_undo_16 : decode cX2_undo 16 = .ok (.invokevirtual 42, 3) := dk_182 0 42 (dk_at dksX2_undo_0 16 rfl rfl)
theorem dX2_undo_19 : decode cX2_undo 19 = .ok (.aload_n 0, 1) := dk_42 (dk_at dksX2_undo_0 19 rfl rfl)
theorem dX2_undo_20 : decode cX2_undo 20 = .ok (.dup, 1) := dk_89 (dk_at dksX2_undo_0 20 rfl rfl)
theorem dX2_undo_21 : decode cX2_undo 21 = .ok (.getfield 38, 3) := dk_180 0 38 (dk_at dksX2_undo_0 21 rfl rfl)
theorem dX2_undo_24 : decode cX2_undo 24 = .ok (.iconst 1, 1) := dk_4 (dk_at dksX2_undo_1 0 rfl rfl)
theorem dX2_undo_25 : decode cX2_undo 25 = .ok (.isub, 1) := dk_100 (dk_at dksX2_undo_1 1 rfl rfl)
theorem dX2_undo_26 : decode cX2_undo 26 = .ok (.putfield 38, 3) := dk_181 0 38 (dk_at dksX2_undo_1 2 rfl rfl)
theorem dX2_undo_29 : decode cX2_undo 29 = .ok (.aload_n 0, 1) := dk_42 (dk_at dksX2_undo_1 5 rfl rfl)
theorem dX2_undo_30 : decode cX2_undo 30 = .ok (.getfield 38, 3) := dk_180 0 38 (dk_at dksX2_undo_1 6 rfl rfl)
theorem dX2_undo_33 : decode cX2_undo 33 = .ok (.ireturn, 1) := dk_172 (dk_at dksX2_undo_1 9 rfl rfl)
abbrev cX2_copies : ByteArray := prog_12_method_4_code
def yX2_copies : MethodName := ⟨RX2, "copies", "(II)V"⟩
def dkwX2_copies_1 : List UInt8 := [27, 104, 29, 96, 46, 79, 132, 3, 1, 167, 255, 225, 177]
abbrev dktX2_copies_1 : List UInt8 := dkwX2_copies_1 ++ []
def dkwX2_copies_0 : List UInt8 := [3, 62, 29, 16, 112, 162, 0, 31, 42, 180, 0, 7, 16, 112, 28, 104, 29, 96, 42, 180, 0, 7, 16, 112]
abbrev dktX2_copies_0 : List UInt8 := dkwX2_copies_0 ++ dktX2_copies_1
theorem dksX2_copies_0 : cX2_copies.data.toList.drop 0 = dktX2_copies_0 := by decide +kernel
theorem dksX2_copies_1 : cX2_copies.data.toList.drop 24 = dktX2_copies_1 := dk_seg dksX2_copies_0 24 rfl rfl
theorem dX2_copies_0 : decode cX2_copies 0 = .ok (.iconst 0, 1) := dk_3 (dk_at dksX2_copies_0 0 rfl rfl)
theorem dX2_copies_1 : decode cX2_copies 1 = .ok (.istore_n 3, 1) := dk_62 (dk_at dksX2_copies_0 1 rfl rfl)
theorem dX2_copies_2 : decode cX2_copies 2 = .ok (.iload_n 3, 1) := dk_29 (dk_at dksX2_copies_0 2 rfl rfl)
theorem dX2_copies_3 : decode cX2_copies 3 = .ok (.bipush 112, 2) := dk_16 112 (dk_at dksX2_copies_0 3 rfl rfl)
theorem dX2_copies_5 : decode cX2_copies 5 = .ok (.if_icmp .ge 31, 3) := dk_162 0 31 (dk_at dksX2_copies_0 5 rfl rfl)
theorem dX2_copies_8 : decode cX2_copies 8 = .ok (.aload_n 0, 1) := dk_42 (dk_at dksX2_copies_0 8 rfl rfl)
theorem dX2_copies_9 : decode cX2_copies 9 = .ok (.getfield 7, 3) := dk_180 0 7 (dk_at dksX2_copies_0 9 rfl rfl)
theorem dX2_copies_12 : decode cX2_copies 12 = .ok (.bipush 112, 2) := dk_16 112 (dk_at dksX2_copies_0 12 rfl rfl)
theorem dX2_copies_14 : decode cX2_copies 14 = .ok (.iload_n 2, 1) := dk_28 (dk_at dksX2_copies_0 14 rfl rfl)
theorem dX2_copies_15 : decode cX2_copies 15 = .ok (.imul, 1) := dk_104 (dk_at dksX2_copies_0 15 rfl rfl)
theorem dX2_copies_16 : decode cX2_copies 16 = .ok (.iload_n 3, 1) := dk_29 (dk_at dksX2_copies_0 16 rfl rfl)
theorem dX2_copies_17 : decode cX2_copies 17 = .ok (.iadd, 1) := dk_96 (dk_at dksX2_copies_0 17 rfl rfl)
theorem dX2_copies_18 : decode cX2_copies 18 = .ok (.aload_n 0, 1) := dk_42 (dk_at dksX2_copies_0 18 rfl rfl)
theorem dX2_copies_19 : decode cX2_copies 19 = .ok (.getfield 7, 3) := dk_180 0 7 (dk_at dksX2_copies_0 19 rfl rfl)
theorem dX2_copies_22 : decode cX2_copies 22 = .ok (.bipush 112, 2) := dk_16 112 (dk_at dksX2_copies_0 22 rfl rfl)
theorem dX2_copies_24 : decode cX2_copies 24 = .ok (.iload_n 1, 1) := dk_27 (dk_at dksX2_copies_1 0 rfl rfl)
theorem dX2_copies_25 : decode cX2_copies 25 = .ok (.imul, 1) := dk_104 (dk_at dksX2_copies_1 1 rfl rfl)
theorem dX2_copies_26 : decode cX2_copies 26 = .ok (.iload_n 3, 1) := dk_29 (dk_at dksX2_copies_1 2 rfl rfl)
theorem dX2_copies_27 : decode cX2_copies 27 = .ok (.iadd, 1) := dk_96 (dk_at dksX2_copies_1 3 rfl rfl)
theorem dX2_copies_28 : decode cX2_copies 28 = .ok (.iaload, 1) := dk_46 (dk_at dksX2_copies_1 4 rfl rfl)
theorem dX2_copies_29 : decode cX2_copies 29 = .ok (.iastore, 1) := dk_79 (dk_at dksX2_copies_1 5 rfl rfl)
theorem dX2_copies_30 : decode cX2_copies 30 = .ok (.iinc 3 1, 3) := dk_132 3 1 (dk_at dksX2_copies_1 6 rfl rfl)
theorem dX2_copies_33 : decode cX2_copies 33 = .ok (.goto (-31), 3) := dk_167 255 225 (dk_at dksX2_copies_1 9 rfl rfl)
theorem dX2_copies_36 : decode cX2_copies 36 = .ok (.return_, 1) := dk_177 (dk_at dksX2_copies_1 12 rfl rfl)
abbrev cX2_addPoint : ByteArray := prog_12_method_17_code
def yX2_addPoint : MethodName := ⟨RX2, "addPoint", "(I)I"⟩
def dkwX2_addPoint_2 : List UInt8 := [182, 0, 74, 172]
abbrev dktX2_addPoint_2 : List UInt8 := dkwX2_addPoint_2 ++ []
def dkwX2_addPoint_1 : List UInt8 := [16, 254, 172, 42, 180, 0, 7, 3, 46, 16, 12, 160, 0, 6, 16, 253, 172, 42, 182, 0, 71, 42, 27]
abbrev dktX2_addPoint_1 : List UInt8 := dkwX2_addPoint_1 ++ dktX2_addPoint_2
def dkwX2_addPoint_0 : List UInt8 := [27, 3, 17, 1, 44, 184, 0, 46, 154, 0, 5, 2, 172, 42, 27, 182, 0, 68, 17, 252, 25, 159, 0, 6]
abbrev dktX2_addPoint_0 : List UInt8 := dkwX2_addPoint_0 ++ dktX2_addPoint_1
theorem dksX2_addPoint_0 : cX2_addPoint.data.toList.drop 0 = dktX2_addPoint_0 := by decide +kernel
theorem dksX2_addPoint_1 : cX2_addPoint.data.toList.drop 24 = dktX2_addPoint_1 := dk_seg dksX2_addPoint_0 24 rfl rfl
theorem dksX2_addPoint_2 : cX2_addPoint.data.toList.drop 47 = dktX2_addPoint_2 := dk_seg dksX2_addPoint_1 23 rfl rfl
theorem dX2_addPoint_0 : decode cX2_addPoint 0 = .ok (.iload_n 1, 1) := dk_27 (dk_at dksX2_addPoint_0 0 rfl rfl)
theorem dX2_addPoint_1 : decode cX2_addPoint 1 = .ok (.iconst 0, 1) := dk_3 (dk_at dksX2_addPoint_0 1 rfl rfl)
theorem dX2_addPoint_2 : decode cX2_addPoint 2 = .ok (.sipush 300, 3) := dk_17 1 44 (dk_at dksX2_addPoint_0 2 rfl rfl)
theorem dX2_addPoint_5 : decode cX2_addPoint 5 = .ok (.invokestatic 46, 3) := dk_184 0 46 (dk_at dksX2_addPoint_0 5 rfl rfl)
theorem dX2_addPoint_8 : decode cX2_addPoint 8 = .ok (.ifCond .ne 5, 3) := dk_154 0 5 (dk_at dksX2_addPoint_0 8 rfl rfl)
theorem dX2_addPoint_11 : decode cX2_addPoint 11 = .ok (.iconst (-1), 1) := dk_2 (dk_at dksX2_addPoint_0 11 rfl rfl)
theorem dX2_addPoint_12 : decode cX2_addPoint 12 = .ok (.ireturn, 1) := dk_172 (dk_at dksX2_addPoint_0 12 rfl rfl)
theorem dX2_addPoint_13 : decode cX2_addPoint 13 = .ok (.aload_n 0, 1) := dk_42 (dk_at dksX2_addPoint_0 13 rfl rfl)
theorem dX2_addPoint_14 : decode cX2_addPoint 14 = .ok (.iload_n 1, 1) := dk_27 (dk_at dksX2_addPoint_0 14 rfl rfl)
theorem dX2_addPoint_15 : decode cX2_addPoint 15 = .ok (.invokevirtual 68, 3) := dk_182 0 68 (dk_at dksX2_addPoint_0 15 rfl rfl)
theorem dX2_addPoint_18 : decode cX2_addPoint 18 = .ok (.sipush (-999), 3) := dk_17 252 25 (dk_at dksX2_addPoint_0 18 rfl rfl)
theorem dX2_addPoint_21 : decode cX2_addPoint 21 = .ok (.if_icmp .eq 6, 3) := dk_159 0 6 (dk_at dksX2_addPoint_0 21 rfl rfl)
theorem dX2_addPoint_24 : decode cX2_addPoint 24 = .ok (.bipush (-2), 2) := dk_16 254 (dk_at dksX2_addPoint_1 0 rfl rfl)
theorem dX2_addPoint_26 : decode cX2_addPoint 26 = .ok (.ireturn, 1) := dk_172 (dk_at dksX2_addPoint_1 2 rfl rfl)
theorem dX2_addPoint_27 : decode cX2_addPoint 27 = .ok (.aload_n 0, 1) := dk_42 (dk_at dksX2_addPoint_1 3 rfl rfl)
theorem dX2_addPoint_28 : decode cX2_addPoint 28 = .ok (.getfield 7, 3) := dk_180 0 7 (dk_at dksX2_addPoint_1 4 rfl rfl)
theorem dX2_addPoint_31 : decode cX2_addPoint 31 = .ok (.iconst 0, 1) := dk_3 (dk_at dksX2_addPoint_1 7 rfl rfl)
theorem dX2_addPoint_32 : decode cX2_addPoint 32 = .ok (.iaload, 1) := dk_46 (dk_at dksX2_addPoint_1 8 rfl rfl)
theorem dX2_addPoint_33 : decode cX2_addPoint 33 = .ok (.bipush 12, 2) := dk_16 12 (dk_at dksX2_addPoint_1 9 rfl rfl)
theorem dX2_addPoint_35 : decode cX2_addPoint 35 = .ok (.if_icmp .ne 6, 3) := dk_160 0 6 (dk_at dksX2_addPoint_1 11 rfl rfl)
theorem dX2_addPoint_38 : decode cX2_addPoint 38 = .ok (.bipush (-3), 2) := dk_16 253 (dk_at dksX2_addPoint_1 14 rfl rfl)
theorem dX2_addPoint_40 : decode cX2_addPoint 40 = .ok (.ireturn, 1) := dk_172 (dk_at dksX2_addPoint_1 16 rfl rfl)
theorem dX2_addPoint_41 : decode cX2_addPoint 41 = .ok (.aload_n 0, 1) := dk_42 (dk_at dksX2_addPoint_1 17 rfl rfl)
theorem dX2_addPoint_42 : decode cX2_addPoint 42 = .ok (.invokevirtual 71, 3) := dk_182 0 71 (dk_at dksX2_addPoint_1 18 rfl rfl)
theorem dX2_addPoint_45 : decode cX2_addPoint 45 = .ok (.aload_n 0, 1) := dk_42 (dk_at dksX2_addPoint_1 21 rfl rfl)
theorem dX2_addPoint_46 : decode cX2_addPoint 46 = .ok (.iload_n 1, 1) := dk_27 (dk_at dksX2_addPoint_1 22 rfl rfl)
theorem dX2_addPoint_47 : decode cX2_addPoint 47 = .ok (.invokevirtual 74, 3) := dk_182 0 74 (dk_at dksX2_addPoint_2 0 rfl rfl)
theorem dX2_addPoint_50 : decode cX2_addPoint 50 = .ok (.ireturn, 1) := dk_172 (dk_at dksX2_addPoint_2 3 rfl rfl)
abbrev cX2_in : ByteArray := prog_12_method_3_code
def yX2_in : MethodName := ⟨RX2, "in", "(III)Z"⟩
def dkwX2_in_0 : List UInt8 := [26, 27, 161, 0, 12, 26, 28, 163, 0, 7, 4, 167, 0, 4, 3, 172]
abbrev dktX2_in_0 : List UInt8 := dkwX2_in_0 ++ []
theorem dksX2_in_0 : cX2_in.data.toList.drop 0 = dktX2_in_0 := by decide +kernel
theorem dX2_in_0 : decode cX2_in 0 = .ok (.iload_n 0, 1) := dk_26 (dk_at dksX2_in_0 0 rfl rfl)
theorem dX2_in_1 : decode cX2_in 1 = .ok (.iload_n 1, 1) := dk_27 (dk_at dksX2_in_0 1 rfl rfl)
theorem dX2_in_2 : decode cX2_in 2 = .ok (.if_icmp .lt 12, 3) := dk_161 0 12 (dk_at dksX2_in_0 2 rfl rfl)
theorem dX2_in_5 : decode cX2_in 5 = .ok (.iload_n 0, 1) := dk_26 (dk_at dksX2_in_0 5 rfl rfl)
theorem dX2_in_6 : decode cX2_in 6 = .ok (.iload_n 2, 1) := dk_28 (dk_at dksX2_in_0 6 rfl rfl)
theorem dX2_in_7 : decode cX2_in 7 = .ok (.if_icmp .gt 7, 3) := dk_163 0 7 (dk_at dksX2_in_0 7 rfl rfl)
theorem dX2_in_10 : decode cX2_in 10 = .ok (.iconst 1, 1) := dk_4 (dk_at dksX2_in_0 10 rfl rfl)
theorem dX2_in_11 : decode cX2_in 11 = .ok (.goto 4, 3) := dk_167 0 4 (dk_at dksX2_in_0 11 rfl rfl)
theorem dX2_in_14 : decode cX2_in 14 = .ok (.iconst 0, 1) := dk_3 (dk_at dksX2_in_0 14 rfl rfl)
theorem dX2_in_15 : decode cX2_in 15 = .ok (.ireturn, 1) := dk_172 (dk_at dksX2_in_0 15 rfl rfl)
abbrev cX2_pointWith : ByteArray := prog_12_method_15_code
def yX2_pointWith : MethodName := ⟨RX2, "pointWith", "(I)I"⟩
def dkwX2_pointWith_1 : List UInt8 := [132, 2, 1, 167, 255, 232, 17, 252, 25, 172]
abbrev dktX2_pointWith_1 : List UInt8 := dkwX2_pointWith_1 ++ []
def dkwX2_pointWith_0 : List UInt8 := [3, 61, 28, 42, 180, 0, 7, 3, 46, 162, 0, 20, 42, 28, 182, 0, 54, 27, 160, 0, 5, 28, 172]
abbrev dktX2_pointWith_0 : List UInt8 := dkwX2_pointWith_0 ++ dktX2_pointWith_1
theorem dksX2_pointWith_0 : cX2_pointWith.data.toList.drop 0 = dktX2_pointWith_0 := by decide +kernel
theorem dksX2_pointWith_1 : cX2_pointWith.data.toList.drop 23 = dktX2_pointWith_1 := dk_seg dksX2_pointWith_0 23 rfl rfl
theorem dX2_pointWith_0 : decode cX2_pointWith 0 = .ok (.iconst 0, 1) := dk_3 (dk_at dksX2_pointWith_0 0 rfl rfl)
theorem dX2_pointWith_1 : decode cX2_pointWith 1 = .ok (.istore_n 2, 1) := dk_61 (dk_at dksX2_pointWith_0 1 rfl rfl)
theorem dX2_pointWith_2 : decode cX2_pointWith 2 = .ok (.iload_n 2, 1) := dk_28 (dk_at dksX2_pointWith_0 2 rfl rfl)
theorem dX2_pointWith_3 : decode cX2_pointWith 3 = .ok (.aload_n 0, 1) := dk_42 (dk_at dksX2_pointWith_0 3 rfl rfl)
theorem dX2_pointWith_4 : decode cX2_pointWith 4 = .ok (.getfield 7, 3) := dk_180 0 7 (dk_at dksX2_pointWith_0 4 rfl rfl)
theorem dX2_pointWith_7 : decode cX2_pointWith 7 = .ok (.iconst 0, 1) := dk_3 (dk_at dksX2_pointWith_0 7 rfl rfl)
theorem dX2_pointWith_8 : decode cX2_pointWith 8 = .ok (.iaload, 1) := dk_46 (dk_at dksX2_pointWith_0 8 rfl rfl)
theorem dX2_pointWith_9 : decode cX2_pointWith 9 = .ok (.if_icmp .ge 20, 3) := dk_162 0 20 (dk_at dksX2_pointWith_0 9 rfl rfl)
theorem dX2_pointWith_12 : decode cX2_pointWith 12 = .ok (.aload_n 0, 1) := dk_42 (dk_at dksX2_pointWith_0 12 rfl rfl)
theorem dX2_pointWith_13 : decode cX2_pointWith 13 = .ok (.iload_n 2, 1) := dk_28 (dk_at dksX2_pointWith_0 13 rfl rfl)
theorem dX2_pointWith_14 : decode cX2_pointWith 14 = .ok (.invokevirtual 54, 3) := dk_182 0 54 (dk_at dksX2_pointWith_0 14 rfl rfl)
theorem dX2_pointWith_17 : decode cX2_pointWith 17 = .ok (.iload_n 1, 1) := dk_27 (dk_at dksX2_pointWith_0 17 rfl rfl)
theorem dX2_pointWith_18 : decode cX2_pointWith 18 = .ok (.if_icmp .ne 5, 3) := dk_160 0 5 (dk_at dksX2_pointWith_0 18 rfl rfl)
theorem dX2_pointWith_21 : decode cX2_pointWith 21 = .ok (.iload_n 2, 1) := dk_28 (dk_at dksX2_pointWith_0 21 rfl rfl)
theorem dX2_pointWith_22 : decode cX2_pointWith 22 = .ok (.ireturn, 1) := dk_172 (dk_at dksX2_pointWith_0 22 rfl rfl)
theorem dX2_pointWith_23 : decode cX2_pointWith 23 = .ok (.iinc 2 1, 3) := dk_132 2 1 (dk_at dksX2_pointWith_1 0 rfl rfl)
theorem dX2_pointWith_26 : decode cX2_pointWith 26 = .ok (.goto (-24), 3) := dk_167 255 232 (dk_at dksX2_pointWith_1 3 rfl rfl)
theorem dX2_pointWith_29 : decode cX2_pointWith 29 = .ok (.sipush (-999), 3) := dk_17 252 25 (dk_at dksX2_pointWith_1 6 rfl rfl)
theorem dX2_pointWith_32 : decode cX2_pointWith 32 = .ok (.ireturn, 1) := dk_172 (dk_at dksX2_pointWith_1 9 rfl rfl)
abbrev cX2_position : ByteArray := prog_12_method_11_code
def yX2_position : MethodName := ⟨RX2, "position", "(I)I"⟩
def dkwX2_position_0 : List UInt8 := [42, 180, 0, 7, 4, 27, 96, 46, 172]
abbrev dktX2_position_0 : List UInt8 := dkwX2_position_0 ++ []
theorem dksX2_position_0 : cX2_position.data.toList.drop 0 = dktX2_position_0 := by decide +kernel
theorem dX2_position_0 : decode cX2_position 0 = .ok (.aload_n 0, 1) := dk_42 (dk_at dksX2_position_0 0 rfl rfl)
theorem dX2_position_1 : decode cX2_position 1 = .ok (.getfield 7, 3) := dk_180 0 7 (dk_at dksX2_position_0 1 rfl rfl)
theorem dX2_position_4 : decode cX2_position 4 = .ok (.iconst 1, 1) := dk_4 (dk_at dksX2_position_0 4 rfl rfl)
theorem dX2_position_5 : decode cX2_position 5 = .ok (.iload_n 1, 1) := dk_27 (dk_at dksX2_position_0 5 rfl rfl)
theorem dX2_position_6 : decode cX2_position 6 = .ok (.iadd, 1) := dk_96 (dk_at dksX2_position_0 6 rfl rfl)
theorem dX2_position_7 : decode cX2_position 7 = .ok (.iaload, 1) := dk_46 (dk_at dksX2_position_0 7 rfl rfl)
theorem dX2_position_8 : decode cX2_position 8 = .ok (.ireturn, 1) := dk_172 (dk_at dksX2_position_0 8 rfl rfl)
abbrev cX2_records : ByteArray := prog_12_method_5_code
def yX2_records : MethodName := ⟨RX2, "records", "()V"⟩
def dkwX2_records_2 : List UInt8 := [4, 96, 181, 0, 38, 42, 3, 42, 180, 0, 38, 182, 0, 42, 177]
abbrev dktX2_records_2 : List UInt8 := dkwX2_records_2 ++ []
def dkwX2_records_1 : List UInt8 := [182, 0, 42, 132, 1, 1, 167, 255, 239, 42, 89, 180, 0, 38, 4, 100, 181, 0, 38, 42, 89, 180, 0, 38]
abbrev dktX2_records_1 : List UInt8 := dkwX2_records_1 ++ dktX2_records_2
def dkwX2_records_0 : List UInt8 := [42, 180, 0, 38, 16, 8, 160, 0, 35, 4, 60, 27, 16, 8, 162, 0, 17, 42, 27, 4, 96, 27]
abbrev dktX2_records_0 : List UInt8 := dkwX2_records_0 ++ dktX2_records_1
theorem dksX2_records_0 : cX2_records.data.toList.drop 0 = dktX2_records_0 := by decide +kernel
theorem dksX2_records_1 : cX2_records.data.toList.drop 22 = dktX2_records_1 := dk_seg dksX2_records_0 22 rfl rfl
theorem dksX2_records_2 : cX2_records.data.toList.drop 46 = dktX2_records_2 := dk_seg dksX2_records_1 24 rfl rfl
theorem dX2_records_0 : decode cX2_records 0 = .ok (.aload_n 0, 1) := dk_42 (dk_at dksX2_records_0 0 rfl rfl)
theorem dX2_records_1 : decode cX2_records 1 = .ok (.getfield 38, 3) := dk_180 0 38 (dk_at dksX2_records_0 1 rfl rfl)
theorem dX2_records_4 : decode cX2_records 4 = .ok (.bipush 8, 2) := dk_16 8 (dk_at dksX2_records_0 4 rfl rfl)
theorem dX2_records_6 : decode cX2_records 6 = .ok (.if_icmp .ne 35, 3) := dk_160 0 35 (dk_at dksX2_records_0 6 rfl rfl)
theorem dX2_records_9 : decode cX2_records 9 = .ok (.iconst 1, 1) := dk_4 (dk_at dksX2_records_0 9 rfl rfl)
theorem dX2_records_10 : decode cX2_records 10 = .ok (.istore_n 1, 1) := dk_60 (dk_at dksX2_records_0 10 rfl rfl)
theorem dX2_records_11 : decode cX2_records 11 = .ok (.iload_n 1, 1) := dk_27 (dk_at dksX2_records_0 11 rfl rfl)
theorem dX2_records_12 : decode cX2_records 12 = .ok (.bipush 8, 2) := dk_16 8 (dk_at dksX2_records_0 12 rfl rfl)
theorem dX2_records_14 : decode cX2_records 14 = .ok (.if_icmp .ge 17, 3) := dk_162 0 17 (dk_at dksX2_records_0 14 rfl rfl)
theorem dX2_records_17 : decode cX2_records 17 = .ok (.aload_n 0, 1) := dk_42 (dk_at dksX2_records_0 17 rfl rfl)
theorem dX2_records_18 : decode cX2_records 18 = .ok (.iload_n 1, 1) := dk_27 (dk_at dksX2_records_0 18 rfl rfl)
theorem dX2_records_19 : decode cX2_records 19 = .ok (.iconst 1, 1) := dk_4 (dk_at dksX2_records_0 19 rfl rfl)
theorem dX2_records_20 : decode cX2_records 20 = .ok (.iadd, 1) := dk_96 (dk_at dksX2_records_0 20 rfl rfl)
theorem dX2_records_21 : decode cX2_records 21 = .ok (.iload_n 1, 1) := dk_27 (dk_at dksX2_records_0 21 rfl rfl)
theorem dX2_records_22 : decode cX2_records 22 = .ok (.invokevirtual 42, 3) := dk_182 0 42 (dk_at dksX2_records_1 0 rfl rfl)
theorem dX2_records_25 : decode cX2_records 25 = .ok (.iinc 1 1, 3) := dk_132 1 1 (dk_at dksX2_records_1 3 rfl rfl)
theorem dX2_records_28 : decode cX2_records 28 = .ok (.goto (-17), 3) := dk_167 255 239 (dk_at dksX2_records_1 6 rfl rfl)
theorem dX2_records_31 : decode cX2_records 31 = .ok (.aload_n 0, 1) := dk_42 (dk_at dksX2_records_1 9 rfl rfl)
theorem dX2_records_32 : decode cX2_records 32 = .ok (.dup, 1) := dk_89 (dk_at dksX2_records_1 10 rfl rfl)
theorem dX2_records_33 : decode cX2_records 33 = .ok (.getfield 38, 3) := dk_180 0 38 (dk_at dksX2_records_1 11 rfl rfl)
theorem dX2_records_36 : decode cX2_records 36 = .ok (.iconst 1, 1) := dk_4 (dk_at dksX2_records_1 14 rfl rfl)
theorem dX2_records_37 : decode cX2_records 37 = .ok (.isub, 1) := dk_100 (dk_at dksX2_records_1 15 rfl rfl)
theorem dX2_records_38 : decode cX2_records 38 = .ok (.putfield 38, 3) := dk_181 0 38 (dk_at dksX2_records_1 16 rfl rfl)
theorem dX2_records_41 : decode cX2_records 41 = .ok (.aload_n 0, 1) := dk_42 (dk_at dksX2_records_1 19 rfl rfl)
theorem dX2_records_42 : decode cX2_records 42 = .ok (.dup, 1) := dk_89 (dk_at dksX2_records_1 20 rfl rfl)
theorem dX2_records_43 : decode cX2_records 43 = .ok (.getfield 38, 3) := dk_180 0 38 (dk_at dksX2_records_1 21 rfl rfl)
theorem dX2_records_46 : decode cX2_records 46 = .ok (.iconst 1, 1) := dk_4 (dk_at dksX2_records_2 0 rfl rfl)
theorem dX2_records_47 : decode cX2_records 47 = .ok (.iadd, 1) := dk_96 (dk_at dksX2_records_2 1 rfl rfl)
theorem dX2_records_48 : decode cX2_records 48 = .ok (.putfield 38, 3) := dk_181 0 38 (dk_at dksX2_records_2 2 rfl rfl)
theorem dX2_records_51 : decode cX2_records 51 = .ok (.aload_n 0, 1) := dk_42 (dk_at dksX2_records_2 5 rfl rfl)
theorem dX2_records_52 : decode cX2_records 52 = .ok (.iconst 0, 1) := dk_3 (dk_at dksX2_records_2 6 rfl rfl)
theorem dX2_records_53 : decode cX2_records 53 = .ok (.aload_n 0, 1) := dk_42 (dk_at dksX2_records_2 7 rfl rfl)
theorem dX2_records_54 : decode cX2_records 54 = .ok (.getfield 38, 3) := dk_180 0 38 (dk_at dksX2_records_2 8 rfl rfl)
theorem dX2_records_57 : decode cX2_records 57 = .ok (.invokevirtual 42, 3) := dk_182 0 42 (dk_at dksX2_records_2 11 rfl rfl)
theorem dX2_records_60 : decode cX2_records 60 = .ok (.return_, 1) := dk_177 (dk_at dksX2_records_2 14 rfl rfl)
abbrev cX2_comes : ByteArray := prog_12_method_16_code
def yX2_comes : MethodName := ⟨RX2, "comes", "(I)I"⟩
def dkwX2_comes_5 : List UInt8 := [132, 3, 1, 167, 255, 203, 28, 172]
abbrev dktX2_comes_5 : List UInt8 := dkwX2_comes_5 ++ []
def dkwX2_comes_4 : List UInt8 := [5, 108, 29, 5, 112, 21, 4, 28, 161, 0, 10, 21, 4, 4, 96, 167, 0, 5, 21, 4, 182, 0, 64]
abbrev dktX2_comes_4 : List UInt8 := dkwX2_comes_4 ++ dktX2_comes_5
def dkwX2_comes_3 : List UInt8 := [180, 0, 7, 16, 13, 46, 104, 162, 0, 46, 42, 29, 5, 108, 29, 5, 112, 182, 0, 50, 54, 4, 42, 29]
abbrev dktX2_comes_3 : List UInt8 := dkwX2_comes_3 ++ dktX2_comes_4
def dkwX2_comes_2 : List UInt8 := [180, 0, 7, 4, 28, 96, 27, 79, 42, 180, 0, 7, 3, 92, 46, 4, 96, 79, 3, 62, 29, 5, 42]
abbrev dktX2_comes_2 : List UInt8 := dkwX2_comes_2 ++ dktX2_comes_3
def dkwX2_comes_1 : List UInt8 := [180, 0, 7, 4, 28, 96, 42, 180, 0, 7, 4, 28, 96, 4, 100, 46, 79, 132, 2, 255, 167, 255, 220, 42]
abbrev dktX2_comes_1 : List UInt8 := dkwX2_comes_1 ++ dktX2_comes_2
def dkwX2_comes_0 : List UInt8 := [42, 180, 0, 7, 3, 46, 61, 28, 158, 0, 38, 42, 28, 4, 100, 182, 0, 54, 27, 164, 0, 27, 42]
abbrev dktX2_comes_0 : List UInt8 := dkwX2_comes_0 ++ dktX2_comes_1
theorem dksX2_comes_0 : cX2_comes.data.toList.drop 0 = dktX2_comes_0 := by decide +kernel
theorem dksX2_comes_1 : cX2_comes.data.toList.drop 23 = dktX2_comes_1 := dk_seg dksX2_comes_0 23 rfl rfl
theorem dksX2_comes_2 : cX2_comes.data.toList.drop 47 = dktX2_comes_2 := dk_seg dksX2_comes_1 24 rfl rfl
theorem dksX2_comes_3 : cX2_comes.data.toList.drop 70 = dktX2_comes_3 := dk_seg dksX2_comes_2 23 rfl rfl
theorem dksX2_comes_4 : cX2_comes.data.toList.drop 94 = dktX2_comes_4 := dk_seg dksX2_comes_3 24 rfl rfl
theorem dksX2_comes_5 : cX2_comes.data.toList.drop 117 = dktX2_comes_5 := dk_seg dksX2_comes_4 23 rfl rfl
theorem dX2_comes_0 : decode cX2_comes 0 = .ok (.aload_n 0, 1) := dk_42 (dk_at dksX2_comes_0 0 rfl rfl)
theorem dX2_comes_1 : decode cX2_comes 1 = .ok (.getfield 7, 3) := dk_180 0 7 (dk_at dksX2_comes_0 1 rfl rfl)
theorem dX2_comes_4 : decode cX2_comes 4 = .ok (.iconst 0, 1) := dk_3 (dk_at dksX2_comes_0 4 rfl rfl)
theorem dX2_comes_5 : decode cX2_comes 5 = .ok (.iaload, 1) := dk_46 (dk_at dksX2_comes_0 5 rfl rfl)
theorem dX2_comes_6 : decode cX2_comes 6 = .ok (.istore_n 2, 1) := dk_61 (dk_at dksX2_comes_0 6 rfl rfl)
theorem dX2_comes_7 : decode cX2_comes 7 = .ok (.iload_n 2, 1) := dk_28 (dk_at dksX2_comes_0 7 rfl rfl)
theorem dX2_comes_8 : decode cX2_comes 8 = .ok (.ifCond .le 38, 3) := dk_158 0 38 (dk_at dksX2_comes_0 8 rfl rfl)
theorem dX2_comes_11 : decode cX2_comes 11 = .ok (.aload_n 0, 1) := dk_42 (dk_at dksX2_comes_0 11 rfl rfl)
theorem dX2_comes_12 : decode cX2_comes 12 = .ok (.iload_n 2, 1) := dk_28 (dk_at dksX2_comes_0 12 rfl rfl)
theorem dX2_comes_13 : decode cX2_comes 13 = .ok (.iconst 1, 1) := dk_4 (dk_at dksX2_comes_0 13 rfl rfl)
theorem dX2_comes_14 : decode cX2_comes 14 = .ok (.isub, 1) := dk_100 (dk_at dksX2_comes_0 14 rfl rfl)
theorem dX2_comes_15 : decode cX2_comes 15 = .ok (.invokevirtual 54, 3) := dk_182 0 54 (dk_at dksX2_comes_0 15 rfl rfl)
theorem dX2_comes_18 : decode cX2_comes 18 = .ok (.iload_n 1, 1) := dk_27 (dk_at dksX2_comes_0 18 rfl rfl)
theorem dX2_comes_19 : decode cX2_comes 19 = .ok (.if_icmp .le 27, 3) := dk_164 0 27 (dk_at dksX2_comes_0 19 rfl rfl)
theorem dX2_comes_22 : decode cX2_comes 22 = .ok (.aload_n 0, 1) := dk_42 (dk_at dksX2_comes_0 22 rfl rfl)
theorem dX2_comes_23 : decode cX2_comes 23 = .ok (.getfield 7, 3) := dk_180 0 7 (dk_at dksX2_comes_1 0 rfl rfl)
theorem dX2_comes_26 : decode cX2_comes 26 = .ok (.iconst 1, 1) := dk_4 (dk_at dksX2_comes_1 3 rfl rfl)
theorem dX2_comes_27 : decode cX2_comes 27 = .ok (.iload_n 2, 1) := dk_28 (dk_at dksX2_comes_1 4 rfl rfl)
theorem dX2_comes_28 : decode cX2_comes 28 = .ok (.iadd, 1) := dk_96 (dk_at dksX2_comes_1 5 rfl rfl)
theorem dX2_comes_29 : decode cX2_comes 29 = .ok (.aload_n 0, 1) := dk_42 (dk_at dksX2_comes_1 6 rfl rfl)
theorem dX2_comes_30 : decode cX2_comes 30 = .ok (.getfield 7, 3) := dk_180 0 7 (dk_at dksX2_comes_1 7 rfl rfl)
theorem dX2_comes_33 : decode cX2_comes 33 = .ok (.iconst 1, 1) := dk_4 (dk_at dksX2_comes_1 10 rfl rfl)
theorem dX2_comes_34 : decode cX2_comes 34 = .ok (.iload_n 2, 1) := dk_28 (dk_at dksX2_comes_1 11 rfl rfl)
theorem dX2_comes_35 : decode cX2_comes 35 = .ok (.iadd, 1) := dk_96 (dk_at dksX2_comes_1 12 rfl rfl)
theorem dX2_comes_36 : decode cX2_comes 36 = .ok (.iconst 1, 1) := dk_4 (dk_at dksX2_comes_1 13 rfl rfl)
theorem dX2_comes_37 : decode cX2_comes 37 = .ok (.isub, 1) := dk_100 (dk_at dksX2_comes_1 14 rfl rfl)
theorem dX2_comes_38 : decode cX2_comes 38 = .ok (.iaload, 1) := dk_46 (dk_at dksX2_comes_1 15 rfl rfl)
theorem dX2_comes_39 : decode cX2_comes 39 = .ok (.iastore, 1) := dk_79 (dk_at dksX2_comes_1 16 rfl rfl)
theorem dX2_comes_40 : decode cX2_comes 40 = .ok (.iinc 2 (-1), 3) := dk_132 2 255 (dk_at dksX2_comes_1 17 rfl rfl)
theorem dX2_comes_43 : decode cX2_comes 43 = .ok (.goto (-36), 3) := dk_167 255 220 (dk_at dksX2_comes_1 20 rfl rfl)
theorem dX2_comes_46 : decode cX2_comes 46 = .ok (.aload_n 0, 1) := dk_42 (dk_at dksX2_comes_1 23 rfl rfl)
theorem dX2_comes_47 : decode cX2_comes 47 = .ok (.getfield 7, 3) := dk_180 0 7 (dk_at dksX2_comes_2 0 rfl rfl)
theorem dX2_comes_50 : decode cX2_comes 50 = .ok (.iconst 1, 1) := dk_4 (dk_at dksX2_comes_2 3 rfl rfl)
theorem dX2_comes_51 : decode cX2_comes 51 = .ok (.iload_n 2, 1) := dk_28 (dk_at dksX2_comes_2 4 rfl rfl)
theorem dX2_comes_52 : decode cX2_comes 52 = .ok (.iadd, 1) := dk_96 (dk_at dksX2_comes_2 5 rfl rfl)
theorem dX2_comes_53 : decode cX2_comes 53 = .ok (.iload_n 1, 1) := dk_27 (dk_at dksX2_comes_2 6 rfl rfl)
theorem dX2_comes_54 : decode cX2_comes 54 = .ok (.iastore, 1) := dk_79 (dk_at dksX2_comes_2 7 rfl rfl)
theorem dX2_comes_55 : decode cX2_comes 55 = .ok (.aload_n 0, 1) := dk_42 (dk_at dksX2_comes_2 8 rfl rfl)
theorem dX2_comes_56 : decode cX2_comes 56 = .ok (.getfield 7, 3) := dk_180 0 7 (dk_at dksX2_comes_2 9 rfl rfl)
theorem dX2_comes_59 : decode cX2_comes 59 = .ok (.iconst 0, 1) := dk_3 (dk_at dksX2_comes_2 12 rfl rfl)
theorem dX2_comes_60 : decode cX2_comes 60 = .ok (.dup2, 1) := dk_92 (dk_at dksX2_comes_2 13 rfl rfl)
theorem dX2_comes_61 : decode cX2_comes 61 = .ok (.iaload, 1) := dk_46 (dk_at dksX2_comes_2 14 rfl rfl)
theorem dX2_comes_62 : decode cX2_comes 62 = .ok (.iconst 1, 1) := dk_4 (dk_at dksX2_comes_2 15 rfl rfl)
theorem dX2_comes_63 : decode cX2_comes 63 = .ok (.iadd, 1) := dk_96 (dk_at dksX2_comes_2 16 rfl rfl)
theorem dX2_comes_64 : decode cX2_comes 64 = .ok (.iastore, 1) := dk_79 (dk_at dksX2_comes_2 17 rfl rfl)
theorem dX2_comes_65 : decode cX2_comes 65 = .ok (.iconst 0, 1) := dk_3 (dk_at dksX2_comes_2 18 rfl rfl)
theorem dX2_comes_66 : decode cX2_comes 66 = .ok (.istore_n 3, 1) := dk_62 (dk_at dksX2_comes_2 19 rfl rfl)
theorem dX2_comes_67 : decode cX2_comes 67 = .ok (.iload_n 3, 1) := dk_29 (dk_at dksX2_comes_2 20 rfl rfl)
theorem dX2_comes_68 : decode cX2_comes 68 = .ok (.iconst 2, 1) := dk_5 (dk_at dksX2_comes_2 21 rfl rfl)
theorem dX2_comes_69 : decode cX2_comes 69 = .ok (.aload_n 0, 1) := dk_42 (dk_at dksX2_comes_2 22 rfl rfl)
theorem dX2_comes_70 : decode cX2_comes 70 = .ok (.getfield 7, 3) := dk_180 0 7 (dk_at dksX2_comes_3 0 rfl rfl)
theorem dX2_comes_73 : decode cX2_comes 73 = .ok (.bipush 13, 2) := dk_16 13 (dk_at dksX2_comes_3 3 rfl rfl)
theorem dX2_comes_75 : decode cX2_comes 75 = .ok (.iaload, 1) := dk_46 (dk_at dksX2_comes_3 5 rfl rfl)
theorem dX2_comes_76 : decode cX2_comes 76 = .ok (.imul, 1) := dk_104 (dk_at dksX2_comes_3 6 rfl rfl)
theorem dX2_comes_77 : decode cX2_comes 77 = .ok (.if_icmp .ge 46, 3) := dk_162 0 46 (dk_at dksX2_comes_3 7 rfl rfl)
theorem dX2_comes_80 : decode cX2_comes 80 = .ok (.aload_n 0, 1) := dk_42 (dk_at dksX2_comes_3 10 rfl rfl)
theorem dX2_comes_81 : decode cX2_comes 81 = .ok (.iload_n 3, 1) := dk_29 (dk_at dksX2_comes_3 11 rfl rfl)
theorem dX2_comes_82 : decode cX2_comes 82 = .ok (.iconst 2, 1) := dk_5 (dk_at dksX2_comes_3 12 rfl rfl)
theorem dX2_comes_83 : decode cX2_comes 83 = .ok (.idiv, 1) := dk_108 (dk_at dksX2_comes_3 13 rfl rfl)
theorem dX2_comes_84 : decode cX2_comes 84 = .ok (.iload_n 3, 1) := dk_29 (dk_at dksX2_comes_3 14 rfl rfl)
theorem dX2_comes_85 : decode cX2_comes 85 = .ok (.iconst 2, 1) := dk_5 (dk_at dksX2_comes_3 15 rfl rfl)
theorem dX2_comes_86 : decode cX2_comes 86 = .ok (.irem, 1) := dk_112 (dk_at dksX2_comes_3 16 rfl rfl)
theorem dX2_comes_87 : decode cX2_comes 87 = .ok (.invokevirtual 50, 3) := dk_182 0 50 (dk_at dksX2_comes_3 17 rfl rfl)
theorem dX2_comes_90 : decode cX2_comes 90 = .ok (.istore 4, 2) := dk_54 4 (dk_at dksX2_comes_3 20 rfl rfl)
theorem dX2_comes_92 : decode cX2_comes 92 = .ok (.aload_n 0, 1) := dk_42 (dk_at dksX2_comes_3 22 rfl rfl)
theorem dX2_comes_93 : decode cX2_comes 93 = .ok (.iload_n 3, 1) := dk_29 (dk_at dksX2_comes_3 23 rfl rfl)
theorem dX2_comes_94 : decode cX2_comes 94 = .ok (.iconst 2, 1) := dk_5 (dk_at dksX2_comes_4 0 rfl rfl)
theorem dX2_comes_95 : decode cX2_comes 95 = .ok (.idiv, 1) := dk_108 (dk_at dksX2_comes_4 1 rfl rfl)
theorem dX2_comes_96 : decode cX2_comes 96 = .ok (.iload_n 3, 1) := dk_29 (dk_at dksX2_comes_4 2 rfl rfl)
theorem dX2_comes_97 : decode cX2_comes 97 = .ok (.iconst 2, 1) := dk_5 (dk_at dksX2_comes_4 3 rfl rfl)
theorem dX2_comes_98 : decode cX2_comes 98 = .ok (.irem, 1) := dk_112 (dk_at dksX2_comes_4 4 rfl rfl)
theorem dX2_comes_99 : decode cX2_comes 99 = .ok (.iload 4, 2) := dk_21 4 (dk_at dksX2_comes_4 5 rfl rfl)
theorem dX2_comes_101 : decode cX2_comes 101 = .ok (.iload_n 2, 1) := dk_28 (dk_at dksX2_comes_4 7 rfl rfl)
theorem dX2_comes_102 : decode cX2_comes 102 = .ok (.if_icmp .lt 10, 3) := dk_161 0 10 (dk_at dksX2_comes_4 8 rfl rfl)
theorem dX2_comes_105 : decode cX2_comes 105 = .ok (.iload 4, 2) := dk_21 4 (dk_at dksX2_comes_4 11 rfl rfl)
theorem dX2_comes_107 : decode cX2_comes 107 = .ok (.iconst 1, 1) := dk_4 (dk_at dksX2_comes_4 13 rfl rfl)
theorem dX2_comes_108 : decode cX2_comes 108 = .ok (.iadd, 1) := dk_96 (dk_at dksX2_comes_4 14 rfl rfl)
theorem dX2_comes_109 : decode cX2_comes 109 = .ok (.goto 5, 3) := dk_167 0 5 (dk_at dksX2_comes_4 15 rfl rfl)
theorem dX2_comes_112 : decode cX2_comes 112 = .ok (.iload 4, 2) := dk_21 4 (dk_at dksX2_comes_4 18 rfl rfl)
theorem dX2_comes_114 : decode cX2_comes 114 = .ok (.invokevirtual 64, 3) := dk_182 0 64 (dk_at dksX2_comes_4 20 rfl rfl)
theorem dX2_comes_117 : decode cX2_comes 117 = .ok (.iinc 3 1, 3) := dk_132 3 1 (dk_at dksX2_comes_5 0 rfl rfl)
theorem dX2_comes_120 : decode cX2_comes 120 = .ok (.goto (-53), 3) := dk_167 255 203 (dk_at dksX2_comes_5 3 rfl rfl)
theorem dX2_comes_123 : decode cX2_comes 123 = .ok (.iload_n 2, 1) := dk_28 (dk_at dksX2_comes_5 6 rfl rfl)
theorem dX2_comes_124 : decode cX2_comes 124 = .ok (.ireturn, 1) := dk_172 (dk_at dksX2_comes_5 7 rfl rfl)
abbrev cX2_of : ByteArray := prog_12_method_9_code
def yX2_of : MethodName := ⟨RX2, "of", "(II)I"⟩
def dkwX2_of_0 : List UInt8 := [42, 180, 0, 7, 16, 14, 16, 6, 27, 104, 96, 28, 96, 46, 172]
abbrev dktX2_of_0 : List UInt8 := dkwX2_of_0 ++ []
theorem dksX2_of_0 : cX2_of.data.toList.drop 0 = dktX2_of_0 := by decide +kernel
theorem dX2_of_0 : decode cX2_of 0 = .ok (.aload_n 0, 1) := dk_42 (dk_at dksX2_of_0 0 rfl rfl)
theorem dX2_of_1 : decode cX2_of 1 = .ok (.getfield 7, 3) := dk_180 0 7 (dk_at dksX2_of_0 1 rfl rfl)
theorem dX2_of_4 : decode cX2_of 4 = .ok (.bipush 14, 2) := dk_16 14 (dk_at dksX2_of_0 4 rfl rfl)
theorem dX2_of_6 : decode cX2_of 6 = .ok (.bipush 6, 2) := dk_16 6 (dk_at dksX2_of_0 6 rfl rfl)
theorem dX2_of_8 : decode cX2_of 8 = .ok (.iload_n 1, 1) := dk_27 (dk_at dksX2_of_0 8 rfl rfl)
theorem dX2_of_9 : decode cX2_of 9 = .ok (.imul, 1) := dk_104 (dk_at dksX2_of_0 9 rfl rfl)
theorem dX2_of_10 : decode cX2_of 10 = .ok (.iadd, 1) := dk_96 (dk_at dksX2_of_0 10 rfl rfl)
theorem dX2_of_11 : decode cX2_of 11 = .ok (.iload_n 2, 1) := dk_28 (dk_at dksX2_of_0 11 rfl rfl)
theorem dX2_of_12 : decode cX2_of 12 = .ok (.iadd, 1) := dk_96 (dk_at dksX2_of_0 12 rfl rfl)
theorem dX2_of_13 : decode cX2_of 13 = .ok (.iaload, 1) := dk_46 (dk_at dksX2_of_0 13 rfl rfl)
theorem dX2_of_14 : decode cX2_of 14 = .ok (.ireturn, 1) := dk_172 (dk_at dksX2_of_0 14 rfl rfl)
abbrev cX2_sets : ByteArray := prog_12_method_10_code
def yX2_sets : MethodName := ⟨RX2, "sets", "(III)V"⟩
def dkwX2_sets_0 : List UInt8 := [42, 180, 0, 7, 16, 14, 16, 6, 27, 104, 96, 28, 96, 29, 79, 177]
abbrev dktX2_sets_0 : List UInt8 := dkwX2_sets_0 ++ []
theorem dksX2_sets_0 : cX2_sets.data.toList.drop 0 = dktX2_sets_0 := by decide +kernel
theorem dX2_sets_0 : decode cX2_sets 0 = .ok (.aload_n 0, 1) := dk_42 (dk_at dksX2_sets_0 0 rfl rfl)
theorem dX2_sets_1 : decode cX2_sets 1 = .ok (.getfield 7, 3) := dk_180 0 7 (dk_at dksX2_sets_0 1 rfl rfl)
theorem dX2_sets_4 : decode cX2_sets 4 = .ok (.bipush 14, 2) := dk_16 14 (dk_at dksX2_sets_0 4 rfl rfl)
theorem dX2_sets_6 : decode cX2_sets 6 = .ok (.bipush 6, 2) := dk_16 6 (dk_at dksX2_sets_0 6 rfl rfl)
theorem dX2_sets_8 : decode cX2_sets 8 = .ok (.iload_n 1, 1) := dk_27 (dk_at dksX2_sets_0 8 rfl rfl)
theorem dX2_sets_9 : decode cX2_sets 9 = .ok (.imul, 1) := dk_104 (dk_at dksX2_sets_0 9 rfl rfl)
theorem dX2_sets_10 : decode cX2_sets 10 = .ok (.iadd, 1) := dk_96 (dk_at dksX2_sets_0 10 rfl rfl)
theorem dX2_sets_11 : decode cX2_sets 11 = .ok (.iload_n 2, 1) := dk_28 (dk_at dksX2_sets_0 11 rfl rfl)
theorem dX2_sets_12 : decode cX2_sets 12 = .ok (.iadd, 1) := dk_96 (dk_at dksX2_sets_0 12 rfl rfl)
theorem dX2_sets_13 : decode cX2_sets 13 = .ok (.iload_n 3, 1) := dk_29 (dk_at dksX2_sets_0 13 rfl rfl)
theorem dX2_sets_14 : decode cX2_sets 14 = .ok (.iastore, 1) := dk_79 (dk_at dksX2_sets_0 14 rfl rfl)
theorem dX2_sets_15 : decode cX2_sets 15 = .ok (.return_, 1) := dk_177 (dk_at dksX2_sets_0 15 rfl rfl)
abbrev cX2_movePoint : ByteArray := prog_12_method_19_code
def yX2_movePoint : MethodName := ⟨RX2, "movePoint", "(II)I"⟩
def dkwX2_movePoint_7 : List UInt8 := [132, 5, 1, 167, 255, 149, 21, 4, 172]
abbrev dktX2_movePoint_7 : List UInt8 := dkwX2_movePoint_7 ++ []
def dkwX2_movePoint_6 : List UInt8 := [182, 0, 64, 42, 21, 5, 4, 21, 6, 21, 7, 162, 0, 8, 21, 7, 167, 0, 5, 21, 6, 182, 0, 64]
abbrev dktX2_movePoint_6 : List UInt8 := dkwX2_movePoint_6 ++ dktX2_movePoint_7
def dkwX2_movePoint_5 : List UInt8 := [4, 182, 0, 50, 54, 7, 42, 21, 5, 3, 21, 6, 21, 7, 162, 0, 8, 21, 6, 167, 0, 5, 21, 7]
abbrev dktX2_movePoint_5 : List UInt8 := dkwX2_movePoint_5 ++ dktX2_movePoint_6
def dkwX2_movePoint_4 : List UInt8 := [182, 0, 50, 54, 6, 42, 21, 5, 4, 182, 0, 50, 2, 160, 0, 8, 21, 4, 167, 0, 10, 42, 21, 5]
abbrev dktX2_movePoint_4 : List UInt8 := dkwX2_movePoint_4 ++ dktX2_movePoint_5
def dkwX2_movePoint_3 : List UInt8 := [162, 0, 101, 42, 21, 5, 3, 182, 0, 50, 2, 160, 0, 8, 21, 4, 167, 0, 10, 42, 21, 5, 3]
abbrev dktX2_movePoint_3 : List UInt8 := dkwX2_movePoint_3 ++ dktX2_movePoint_4
def dkwX2_movePoint_2 : List UInt8 := [27, 182, 0, 81, 42, 28, 182, 0, 74, 54, 4, 3, 54, 5, 21, 5, 42, 180, 0, 7, 16, 13, 46]
abbrev dktX2_movePoint_2 : List UInt8 := dkwX2_movePoint_2 ++ dktX2_movePoint_3
def dkwX2_movePoint_1 : List UInt8 := [182, 0, 68, 62, 29, 17, 252, 25, 159, 0, 11, 29, 27, 159, 0, 6, 16, 254, 172, 42, 182, 0, 71, 42]
abbrev dktX2_movePoint_1 : List UInt8 := dkwX2_movePoint_1 ++ dktX2_movePoint_2
def dkwX2_movePoint_0 : List UInt8 := [42, 27, 182, 0, 77, 153, 0, 14, 28, 3, 17, 1, 44, 184, 0, 46, 154, 0, 5, 2, 172, 42, 28]
abbrev dktX2_movePoint_0 : List UInt8 := dkwX2_movePoint_0 ++ dktX2_movePoint_1
theorem dksX2_movePoint_0 : cX2_movePoint.data.toList.drop 0 = dktX2_movePoint_0 := by decide +kernel
theorem dksX2_movePoint_1 : cX2_movePoint.data.toList.drop 23 = dktX2_movePoint_1 := dk_seg dksX2_movePoint_0 23 rfl rfl
theorem dksX2_movePoint_2 : cX2_movePoint.data.toList.drop 47 = dktX2_movePoint_2 := dk_seg dksX2_movePoint_1 24 rfl rfl
theorem dksX2_movePoint_3 : cX2_movePoint.data.toList.drop 70 = dktX2_movePoint_3 := dk_seg dksX2_movePoint_2 23 rfl rfl
theorem dksX2_movePoint_4 : cX2_movePoint.data.toList.drop 93 = dktX2_movePoint_4 := dk_seg dksX2_movePoint_3 23 rfl rfl
theorem dksX2_movePoint_5 : cX2_movePoint.data.toList.drop 117 = dktX2_movePoint_5 := dk_seg dksX2_movePoint_4 24 rfl rfl
theorem dksX2_movePoint_6 : cX2_movePoint.data.toList.drop 141 = dktX2_movePoint_6 := dk_seg dksX2_movePoint_5 24 rfl rfl
theorem dksX2_movePoint_7 : cX2_movePoint.data.toList.drop 165 = dktX2_movePoint_7 := dk_seg dksX2_movePoint_6 24 rfl rfl
theorem dX2_movePoint_0 : decode cX2_movePoint 0 = .ok (.aload_n 0, 1) := dk_42 (dk_at dksX2_movePoint_0 0 rfl rfl)
theorem dX2_movePoint_1 : decode cX2_movePoint 1 = .ok (.iload_n 1, 1) := dk_27 (dk_at dksX2_movePoint_0 1 rfl rfl)
theorem dX2_movePoint_2 : decode cX2_movePoint 2 = .ok (.invokevirtual 77, 3) := dk_182 0 77 (dk_at dksX2_movePoint_0 2 rfl rfl)
theorem dX2_movePoint_5 : decode cX2_movePoint 5 = .ok (.ifCond .eq 14, 3) := dk_153 0 14 (dk_at dksX2_movePoint_0 5 rfl rfl)
theorem dX2_movePoint_8 : decode cX2_movePoint 8 = .ok (.iload_n 2, 1) := dk_28 (dk_at dksX2_movePoint_0 8 rfl rfl)
theorem dX2_movePoint_9 : decode cX2_movePoint 9 = .ok (.iconst 0, 1) := dk_3 (dk_at dksX2_movePoint_0 9 rfl rfl)
theorem dX2_movePoint_10 : decode cX2_movePoint 10 = .ok (.sipush 300, 3) := dk_17 1 44 (dk_at dksX2_movePoint_0 10 rfl rfl)
theorem dX2_movePoint_13 : decode cX2_movePoint 13 = .ok (.invokestatic 46, 3) := dk_184 0 46 (dk_at dksX2_movePoint_0 13 rfl rfl)
theorem dX2_movePoint_16 : decode cX2_movePoint 16 = .ok (.ifCond .ne 5, 3) := dk_154 0 5 (dk_at dksX2_movePoint_0 16 rfl rfl)
theorem dX2_movePoint_19 : decode cX2_movePoint 19 = .ok (.iconst (-1), 1) := dk_2 (dk_at dksX2_movePoint_0 19 rfl rfl)
theorem dX2_movePoint_20 : decode cX2_movePoint 20 = .ok (.ireturn, 1) := dk_172 (dk_at dksX2_movePoint_0 20 rfl rfl)
theorem dX2_movePoint_21 : decode cX2_movePoint 21 = .ok (.aload_n 0, 1) := dk_42 (dk_at dksX2_movePoint_0 21 rfl rfl)
theorem dX2_movePoint_22 : decode cX2_movePoint 22 = .ok (.iload_n 2, 1) := dk_28 (dk_at dksX2_movePoint_0 22 rfl rfl)
theorem dX2_movePoint_23 : decode cX2_movePoint 23 = .ok (.invokevirtual 68, 3) := dk_182 0 68 (dk_at dksX2_movePoint_1 0 rfl rfl)
theorem dX2_movePoint_26 : decode cX2_movePoint 26 = .ok (.istore_n 3, 1) := dk_62 (dk_at dksX2_movePoint_1 3 rfl rfl)
theorem dX2_movePoint_27 : decode cX2_movePoint 27 = .ok (.iload_n 3, 1) := dk_29 (dk_at dksX2_movePoint_1 4 rfl rfl)
theorem dX2_movePoint_28 : decode cX2_movePoint 28 = .ok (.sipush (-999), 3) := dk_17 252 25 (dk_at dksX2_movePoint_1 5 rfl rfl)
theorem dX2_movePoint_31 : decode cX2_movePoint 31 = .ok (.if_icmp .eq 11, 3) := dk_159 0 11 (dk_at dksX2_movePoint_1 8 rfl rfl)
theorem dX2_movePoint_34 : decode cX2_movePoint 34 = .ok (.iload_n 3, 1) := dk_29 (dk_at dksX2_movePoint_1 11 rfl rfl)
theorem dX2_movePoint_35 : decode cX2_movePoint 35 = .ok (.iload_n 1, 1) := dk_27 (dk_at dksX2_movePoint_1 12 rfl rfl)
theorem dX2_movePoint_36 : decode cX2_movePoint 36 = .ok (.if_icmp .eq 6, 3) := dk_159 0 6 (dk_at dksX2_movePoint_1 13 rfl rfl)
theorem dX2_movePoint_39 : decode cX2_movePoint 39 = .ok (.bipush (-2), 2) := dk_16 254 (dk_at dksX2_movePoint_1 16 rfl rfl)
theorem dX2_movePoint_41 : decode cX2_movePoint 41 = .ok (.ireturn, 1) := dk_172 (dk_at dksX2_movePoint_1 18 rfl rfl)
theorem dX2_movePoint_42 : decode cX2_movePoint 42 = .ok (.aload_n 0, 1) := dk_42 (dk_at dksX2_movePoint_1 19 rfl rfl)
theorem dX2_movePoint_43 : decode cX2_movePoint 43 = .ok (.invokevirtual 71, 3) := dk_182 0 71 (dk_at dksX2_movePoint_1 20 rfl rfl)
theorem dX2_movePoint_46 : decode cX2_movePoint 46 = .ok (.aload_n 0, 1) := dk_42 (dk_at dksX2_movePoint_1 23 rfl rfl)
theorem dX2_movePoint_47 : decode cX2_movePoint 47 = .ok (.iload_n 1, 1) := dk_27 (dk_at dksX2_movePoint_2 0 rfl rfl)
theorem dX2_movePoint_48 : decode cX2_movePoint 48 = .ok (.invokevirtual 81, 3) := dk_182 0 81 (dk_at dksX2_movePoint_2 1 rfl rfl)
theorem dX2_movePoint_51 : decode cX2_movePoint 51 = .ok (.aload_n 0, 1) := dk_42 (dk_at dksX2_movePoint_2 4 rfl rfl)
theorem dX2_movePoint_52 : decode cX2_movePoint 52 = .ok (.iload_n 2, 1) := dk_28 (dk_at dksX2_movePoint_2 5 rfl rfl)
theorem dX2_movePoint_53 : decode cX2_movePoint 53 = .ok (.invokevirtual 74, 3) := dk_182 0 74 (dk_at dksX2_movePoint_2 6 rfl rfl)
theorem dX2_movePoint_56 : decode cX2_movePoint 56 = .ok (.istore 4, 2) := dk_54 4 (dk_at dksX2_movePoint_2 9 rfl rfl)
theorem dX2_movePoint_58 : decode cX2_movePoint 58 = .ok (.iconst 0, 1) := dk_3 (dk_at dksX2_movePoint_2 11 rfl rfl)
theorem dX2_movePoint_59 : decode cX2_movePoint 59 = .ok (.istore 5, 2) := dk_54 5 (dk_at dksX2_movePoint_2 12 rfl rfl)
theorem dX2_movePoint_61 : decode cX2_movePoint 61 = .ok (.iload 5, 2) := dk_21 5 (dk_at dksX2_movePoint_2 14 rfl rfl)
theorem dX2_movePoint_63 : decode cX2_movePoint 63 = .ok (.aload_n 0, 1) := dk_42 (dk_at dksX2_movePoint_2 16 rfl rfl)
theorem dX2_movePoint_64 : decode cX2_movePoint 64 = .ok (.getfield 7, 3) := dk_180 0 7 (dk_at dksX2_movePoint_2 17 rfl rfl)
theorem dX2_movePoint_67 : decode cX2_movePoint 67 = .ok (.bipush 13, 2) := dk_16 13 (dk_at dksX2_movePoint_2 20 rfl rfl)
theorem dX2_movePoint_69 : decode cX2_movePoint 69 = .ok (.iaload, 1) := dk_46 (dk_at dksX2_movePoint_2 22 rfl rfl)
theorem dX2_movePoint_70 : decode cX2_movePoint 70 = .ok (.if_icmp .ge 101, 3) := dk_162 0 101 (dk_at dksX2_movePoint_3 0 rfl rfl)
theorem dX2_movePoint_73 : decode cX2_movePoint 73 = .ok (.aload_n 0, 1) := dk_42 (dk_at dksX2_movePoint_3 3 rfl rfl)
theorem dX2_movePoint_74 : decode cX2_movePoint 74 = .ok (.iload 5, 2) := dk_21 5 (dk_at dksX2_movePoint_3 4 rfl rfl)
theorem dX2_movePoint_76 : decode cX2_movePoint 76 = .ok (.iconst 0, 1) := dk_3 (dk_at dksX2_movePoint_3 6 rfl rfl)
theorem dX2_movePoint_77 : decode cX2_movePoint 77 = .ok (.invokevirtual 50, 3) := dk_182 0 50 (dk_at dksX2_movePoint_3 7 rfl rfl)
theorem dX2_movePoint_80 : decode cX2_movePoint 80 = .ok (.iconst (-1), 1) := dk_2 (dk_at dksX2_movePoint_3 10 rfl rfl)
theorem dX2_movePoint_81 : decode cX2_movePoint 81 = .ok (.if_icmp .ne 8, 3) := dk_160 0 8 (dk_at dksX2_movePoint_3 11 rfl rfl)
theorem dX2_movePoint_84 : decode cX2_movePoint 84 = .ok (.iload 4, 2) := dk_21 4 (dk_at dksX2_movePoint_3 14 rfl rfl)
theorem dX2_movePoint_86 : decode cX2_movePoint 86 = .ok (.goto 10, 3) := dk_167 0 10 (dk_at dksX2_movePoint_3 16 rfl rfl)
theorem dX2_movePoint_89 : decode cX2_movePoint 89 = .ok (.aload_n 0, 1) := dk_42 (dk_at dksX2_movePoint_3 19 rfl rfl)
theorem dX2_movePoint_90 : decode cX2_movePoint 90 = .ok (.iload 5, 2) := dk_21 5 (dk_at dksX2_movePoint_3 20 rfl rfl)
theorem dX2_movePoint_92 : decode cX2_movePoint 92 = .ok (.iconst 0, 1) := dk_3 (dk_at dksX2_movePoint_3 22 rfl rfl)
theorem dX2_movePoint_93 : decode cX2_movePoint 93 = .ok (.invokevirtual 50, 3) := dk_182 0 50 (dk_at dksX2_movePoint_4 0 rfl rfl)
theorem dX2_movePoint_96 : decode cX2_movePoint 96 = .ok (.istore 6, 2) := dk_54 6 (dk_at dksX2_movePoint_4 3 rfl rfl)
theorem dX2_movePoint_98 : decode cX2_movePoint 98 = .ok (.aload_n 0, 1) := dk_42 (dk_at dksX2_movePoint_4 5 rfl rfl)
theorem dX2_movePoint_99 : decode cX2_movePoint 99 = .ok (.iload 5, 2) := dk_21 5 (dk_at dksX2_movePoint_4 6 rfl rfl)
theorem dX2_movePoint_101 : decode cX2_movePoint 101 = .ok (.iconst 1, 1) := dk_4 (dk_at dksX2_movePoint_4 8 rfl rfl)
theorem dX2_movePoint_102 : decode cX2_movePoint 102 = .ok (.invokevirtual 50, 3) := dk_182 0 50 (dk_at dksX2_movePoint_4 9 rfl rfl)
theorem dX2_movePoint_105 : decode cX2_movePoint 105 = .ok (.iconst (-1), 1) := dk_2 (dk_at dksX2_movePoint_4 12 rfl rfl)
theorem dX2_movePoint_106 : decode cX2_movePoint 106 = .ok (.if_icmp .ne 8, 3) := dk_160 0 8 (dk_at dksX2_movePoint_4 13 rfl rfl)
theorem dX2_movePoint_109 : decode cX2_movePoint 109 = .ok (.iload 4, 2) := dk_21 4 (dk_at dksX2_movePoint_4 16 rfl rfl)
theorem dX2_movePoint_111 : decode cX2_movePoint 111 = .ok (.goto 10, 3) := dk_167 0 10 (dk_at dksX2_movePoint_4 18 rfl rfl)
theorem dX2_movePoint_114 : decode cX2_movePoint 114 = .ok (.aload_n 0, 1) := dk_42 (dk_at dksX2_movePoint_4 21 rfl rfl)
theorem dX2_movePoint_115 : decode cX2_movePoint 115 = .ok (.iload 5, 2) := dk_21 5 (dk_at dksX2_movePoint_4 22 rfl rfl)
theorem dX2_movePoint_117 : decode cX2_movePoint 117 = .ok (.iconst 1, 1) := dk_4 (dk_at dksX2_movePoint_5 0 rfl rfl)
theorem dX2_movePoint_118 : decode cX2_movePoint 118 = .ok (.invokevirtual 50, 3) := dk_182 0 50 (dk_at dksX2_movePoint_5 1 rfl rfl)
theorem dX2_movePoint_121 : decode cX2_movePoint 121 = .ok (.istore 7, 2) := dk_54 7 (dk_at dksX2_movePoint_5 4 rfl rfl)
theorem dX2_movePoint_123 : decode cX2_movePoint 123 = .ok (.aload_n 0, 1) := dk_42 (dk_at dksX2_movePoint_5 6 rfl rfl)
theorem dX2_movePoint_124 : decode cX2_movePoint 124 = .ok (.iload 5, 2) := dk_21 5 (dk_at dksX2_movePoint_5 7 rfl rfl)
theorem dX2_movePoint_126 : decode cX2_movePoint 126 = .ok (.iconst 0, 1) := dk_3 (dk_at dksX2_movePoint_5 9 rfl rfl)
theorem dX2_movePoint_127 : decode cX2_movePoint 127 = .ok (.iload 6, 2) := dk_21 6 (dk_at dksX2_movePoint_5 10 rfl rfl)
theorem dX2_movePoint_129 : decode cX2_movePoint 129 = .ok (.iload 7, 2) := dk_21 7 (dk_at dksX2_movePoint_5 12 rfl rfl)
theorem dX2_movePoint_131 : decode cX2_movePoint 131 = .ok (.if_icmp .ge 8, 3) := dk_162 0 8 (dk_at dksX2_movePoint_5 14 rfl rfl)
theorem dX2_movePoint_134 : decode cX2_movePoint 134 = .ok (.iload 6, 2) := dk_21 6 (dk_at dksX2_movePoint_5 17 rfl rfl)
theorem dX2_movePoint_136 : decode cX2_movePoint 136 = .ok (.goto 5, 3) := dk_167 0 5 (dk_at dksX2_movePoint_5 19 rfl rfl)
theorem dX2_movePoint_139 : decode cX2_movePoint 139 = .ok (.iload 7, 2) := dk_21 7 (dk_at dksX2_movePoint_5 22 rfl rfl)
theorem dX2_movePoint_141 : decode cX2_movePoint 141 = .ok (.invokevirtual 64, 3) := dk_182 0 64 (dk_at dksX2_movePoint_6 0 rfl rfl)
theorem dX2_movePoint_144 : decode cX2_movePoint 144 = .ok (.aload_n 0, 1) := dk_42 (dk_at dksX2_movePoint_6 3 rfl rfl)
theorem dX2_movePoint_145 : decode cX2_movePoint 145 = .ok (.iload 5, 2) := dk_21 5 (dk_at dksX2_movePoint_6 4 rfl rfl)
theorem dX2_movePoint_147 : decode cX2_movePoint 147 = .ok (.iconst 1, 1) := dk_4 (dk_at dksX2_movePoint_6 6 rfl rfl)
theorem dX2_movePoint_148 : decode cX2_movePoint 148 = .ok (.iload 6, 2) := dk_21 6 (dk_at dksX2_movePoint_6 7 rfl rfl)
theorem dX2_movePoint_150 : decode cX2_movePoint 150 = .ok (.iload 7, 2) := dk_21 7 (dk_at dksX2_movePoint_6 9 rfl rfl)
theorem dX2_movePoint_152 : decode cX2_movePoint 152 = .ok (.if_icmp .ge 8, 3) := dk_162 0 8 (dk_at dksX2_movePoint_6 11 rfl rfl)
theorem dX2_movePoint_155 : decode cX2_movePoint 155 = .ok (.iload 7, 2) := dk_21 7 (dk_at dksX2_movePoint_6 14 rfl rfl)
theorem dX2_movePoint_157 : decode cX2_movePoint 157 = .ok (.goto 5, 3) := dk_167 0 5 (dk_at dksX2_movePoint_6 16 rfl rfl)
theorem dX2_movePoint_160 : decode cX2_movePoint 160 = .ok (.iload 6, 2) := dk_21 6 (dk_at dksX2_movePoint_6 19 rfl rfl)
theorem dX2_movePoint_162 : decode cX2_movePoint 162 = .ok (.invokevirtual 64, 3) := dk_182 0 64 (dk_at dksX2_movePoint_6 21 rfl rfl)
theorem dX2_movePoint_165 : decode cX2_movePoint 165 = .ok (.iinc 5 1, 3) := dk_132 5 1 (dk_at dksX2_movePoint_7 0 rfl rfl)
theorem dX2_movePoint_168 : decode cX2_movePoint 168 = .ok (.goto (-107), 3) := dk_167 255 149 (dk_at dksX2_movePoint_7 3 rfl rfl)
theorem dX2_movePoint_171 : decode cX2_movePoint 171 = .ok (.iload 4, 2) := dk_21 4 (dk_at dksX2_movePoint_7 6 rfl rfl)
theorem dX2_movePoint_173 : decode cX2_movePoint 173 = .ok (.ireturn, 1) := dk_172 (dk_at dksX2_movePoint_7 8 rfl rfl)
abbrev cX2_isPoint : ByteArray := prog_12_method_7_code
def yX2_isPoint : MethodName := ⟨RX2, "isPoint", "(I)Z"⟩
def dkwX2_isPoint_0 : List UInt8 := [27, 3, 42, 180, 0, 7, 3, 46, 4, 100, 184, 0, 46, 172]
abbrev dktX2_isPoint_0 : List UInt8 := dkwX2_isPoint_0 ++ []
theorem dksX2_isPoint_0 : cX2_isPoint.data.toList.drop 0 = dktX2_isPoint_0 := by decide +kernel
theorem dX2_isPoint_0 : decode cX2_isPoint 0 = .ok (.iload_n 1, 1) := dk_27 (dk_at dksX2_isPoint_0 0 rfl rfl)
theorem dX2_isPoint_1 : decode cX2_isPoint 1 = .ok (.iconst 0, 1) := dk_3 (dk_at dksX2_isPoint_0 1 rfl rfl)
theorem dX2_isPoint_2 : decode cX2_isPoint 2 = .ok (.aload_n 0, 1) := dk_42 (dk_at dksX2_isPoint_0 2 rfl rfl)
theorem dX2_isPoint_3 : decode cX2_isPoint 3 = .ok (.getfield 7, 3) := dk_180 0 7 (dk_at dksX2_isPoint_0 3 rfl rfl)
theorem dX2_isPoint_6 : decode cX2_isPoint 6 = .ok (.iconst 0, 1) := dk_3 (dk_at dksX2_isPoint_0 6 rfl rfl)
theorem dX2_isPoint_7 : decode cX2_isPoint 7 = .ok (.iaload, 1) := dk_46 (dk_at dksX2_isPoint_0 7 rfl rfl)
theorem dX2_isPoint_8 : decode cX2_isPoint 8 = .ok (.iconst 1, 1) := dk_4 (dk_at dksX2_isPoint_0 8 rfl rfl)
theorem dX2_isPoint_9 : decode cX2_isPoint 9 = .ok (.isub, 1) := dk_100 (dk_at dksX2_isPoint_0 9 rfl rfl)
theorem dX2_isPoint_10 : decode cX2_isPoint 10 = .ok (.invokestatic 46, 3) := dk_184 0 46 (dk_at dksX2_isPoint_0 10 rfl rfl)
theorem dX2_isPoint_13 : decode cX2_isPoint 13 = .ok (.ireturn, 1) := dk_172 (dk_at dksX2_isPoint_0 13 rfl rfl)
abbrev cX2_goes : ByteArray := prog_12_method_18_code
def yX2_goes : MethodName := ⟨RX2, "goes", "(I)V"⟩
def dkwX2_goes_4 : List UInt8 := [100, 167, 0, 4, 29, 182, 0, 64, 132, 2, 1, 167, 255, 198, 177]
abbrev dktX2_goes_4 : List UInt8 := dkwX2_goes_4 ++ []
def dkwX2_goes_3 : List UInt8 := [62, 42, 28, 5, 108, 28, 5, 112, 29, 27, 160, 0, 7, 2, 167, 0, 15, 29, 27, 164, 0, 9, 29, 4]
abbrev dktX2_goes_3 : List UInt8 := dkwX2_goes_3 ++ dktX2_goes_4
def dkwX2_goes_2 : List UInt8 := [61, 28, 5, 42, 180, 0, 7, 16, 13, 46, 104, 162, 0, 51, 42, 28, 5, 108, 28, 5, 112, 182, 0, 50]
abbrev dktX2_goes_2 : List UInt8 := dkwX2_goes_2 ++ dktX2_goes_3
def dkwX2_goes_1 : List UInt8 := [180, 0, 7, 4, 28, 96, 42, 180, 0, 7, 4, 28, 96, 4, 96, 46, 79, 132, 2, 1, 167, 255, 225, 3]
abbrev dktX2_goes_1 : List UInt8 := dkwX2_goes_1 ++ dktX2_goes_2
def dkwX2_goes_0 : List UInt8 := [42, 180, 0, 7, 3, 92, 46, 4, 100, 79, 27, 61, 28, 42, 180, 0, 7, 3, 46, 162, 0, 27, 42]
abbrev dktX2_goes_0 : List UInt8 := dkwX2_goes_0 ++ dktX2_goes_1
theorem dksX2_goes_0 : cX2_goes.data.toList.drop 0 = dktX2_goes_0 := by decide +kernel
theorem dksX2_goes_1 : cX2_goes.data.toList.drop 23 = dktX2_goes_1 := dk_seg dksX2_goes_0 23 rfl rfl
theorem dksX2_goes_2 : cX2_goes.data.toList.drop 47 = dktX2_goes_2 := dk_seg dksX2_goes_1 24 rfl rfl
theorem dksX2_goes_3 : cX2_goes.data.toList.drop 71 = dktX2_goes_3 := dk_seg dksX2_goes_2 24 rfl rfl
theorem dksX2_goes_4 : cX2_goes.data.toList.drop 95 = dktX2_goes_4 := dk_seg dksX2_goes_3 24 rfl rfl
theorem dX2_goes_0 : decode cX2_goes 0 = .ok (.aload_n 0, 1) := dk_42 (dk_at dksX2_goes_0 0 rfl rfl)
theorem dX2_goes_1 : decode cX2_goes 1 = .ok (.getfield 7, 3) := dk_180 0 7 (dk_at dksX2_goes_0 1 rfl rfl)
theorem dX2_goes_4 : decode cX2_goes 4 = .ok (.iconst 0, 1) := dk_3 (dk_at dksX2_goes_0 4 rfl rfl)
theorem dX2_goes_5 : decode cX2_goes 5 = .ok (.dup2, 1) := dk_92 (dk_at dksX2_goes_0 5 rfl rfl)
theorem dX2_goes_6 : decode cX2_goes 6 = .ok (.iaload, 1) := dk_46 (dk_at dksX2_goes_0 6 rfl rfl)
theorem dX2_goes_7 : decode cX2_goes 7 = .ok (.iconst 1, 1) := dk_4 (dk_at dksX2_goes_0 7 rfl rfl)
theorem dX2_goes_8 : decode cX2_goes 8 = .ok (.isub, 1) := dk_100 (dk_at dksX2_goes_0 8 rfl rfl)
theorem dX2_goes_9 : decode cX2_goes 9 = .ok (.iastore, 1) := dk_79 (dk_at dksX2_goes_0 9 rfl rfl)
theorem dX2_goes_10 : decode cX2_goes 10 = .ok (.iload_n 1, 1) := dk_27 (dk_at dksX2_goes_0 10 rfl rfl)
theorem dX2_goes_11 : decode cX2_goes 11 = .ok (.istore_n 2, 1) := dk_61 (dk_at dksX2_goes_0 11 rfl rfl)
theorem dX2_goes_12 : decode cX2_goes 12 = .ok (.iload_n 2, 1) := dk_28 (dk_at dksX2_goes_0 12 rfl rfl)
theorem dX2_goes_13 : decode cX2_goes 13 = .ok (.aload_n 0, 1) := dk_42 (dk_at dksX2_goes_0 13 rfl rfl)
theorem dX2_goes_14 : decode cX2_goes 14 = .ok (.getfield 7, 3) := dk_180 0 7 (dk_at dksX2_goes_0 14 rfl rfl)
theorem dX2_goes_17 : decode cX2_goes 17 = .ok (.iconst 0, 1) := dk_3 (dk_at dksX2_goes_0 17 rfl rfl)
theorem dX2_goes_18 : decode cX2_goes 18 = .ok (.iaload, 1) := dk_46 (dk_at dksX2_goes_0 18 rfl rfl)
theorem dX2_goes_19 : decode cX2_goes 19 = .ok (.if_icmp .ge 27, 3) := dk_162 0 27 (dk_at dksX2_goes_0 19 rfl rfl)
theorem dX2_goes_22 : decode cX2_goes 22 = .ok (.aload_n 0, 1) := dk_42 (dk_at dksX2_goes_0 22 rfl rfl)
theorem dX2_goes_23 : decode cX2_goes 23 = .ok (.getfield 7, 3) := dk_180 0 7 (dk_at dksX2_goes_1 0 rfl rfl)
theorem dX2_goes_26 : decode cX2_goes 26 = .ok (.iconst 1, 1) := dk_4 (dk_at dksX2_goes_1 3 rfl rfl)
theorem dX2_goes_27 : decode cX2_goes 27 = .ok (.iload_n 2, 1) := dk_28 (dk_at dksX2_goes_1 4 rfl rfl)
theorem dX2_goes_28 : decode cX2_goes 28 = .ok (.iadd, 1) := dk_96 (dk_at dksX2_goes_1 5 rfl rfl)
theorem dX2_goes_29 : decode cX2_goes 29 = .ok (.aload_n 0, 1) := dk_42 (dk_at dksX2_goes_1 6 rfl rfl)
theorem dX2_goes_30 : decode cX2_goes 30 = .ok (.getfield 7, 3) := dk_180 0 7 (dk_at dksX2_goes_1 7 rfl rfl)
theorem dX2_goes_33 : decode cX2_goes 33 = .ok (.iconst 1, 1) := dk_4 (dk_at dksX2_goes_1 10 rfl rfl)
theorem dX2_goes_34 : decode cX2_goes 34 = .ok (.iload_n 2, 1) := dk_28 (dk_at dksX2_goes_1 11 rfl rfl)
theorem dX2_goes_35 : decode cX2_goes 35 = .ok (.iadd, 1) := dk_96 (dk_at dksX2_goes_1 12 rfl rfl)
theorem dX2_goes_36 : decode cX2_goes 36 = .ok (.iconst 1, 1) := dk_4 (dk_at dksX2_goes_1 13 rfl rfl)
theorem dX2_goes_37 : decode cX2_goes 37 = .ok (.iadd, 1) := dk_96 (dk_at dksX2_goes_1 14 rfl rfl)
theorem dX2_goes_38 : decode cX2_goes 38 = .ok (.iaload, 1) := dk_46 (dk_at dksX2_goes_1 15 rfl rfl)
theorem dX2_goes_39 : decode cX2_goes 39 = .ok (.iastore, 1) := dk_79 (dk_at dksX2_goes_1 16 rfl rfl)
theorem dX2_goes_40 : decode cX2_goes 40 = .ok (.iinc 2 1, 3) := dk_132 2 1 (dk_at dksX2_goes_1 17 rfl rfl)
theorem dX2_goes_43 : decode cX2_goes 43 = .ok (.goto (-31), 3) := dk_167 255 225 (dk_at dksX2_goes_1 20 rfl rfl)
theorem dX2_goes_46 : decode cX2_goes 46 = .ok (.iconst 0, 1) := dk_3 (dk_at dksX2_goes_1 23 rfl rfl)
theorem dX2_goes_47 : decode cX2_goes 47 = .ok (.istore_n 2, 1) := dk_61 (dk_at dksX2_goes_2 0 rfl rfl)
theorem dX2_goes_48 : decode cX2_goes 48 = .ok (.iload_n 2, 1) := dk_28 (dk_at dksX2_goes_2 1 rfl rfl)
theorem dX2_goes_49 : decode cX2_goes 49 = .ok (.iconst 2, 1) := dk_5 (dk_at dksX2_goes_2 2 rfl rfl)
theorem dX2_goes_50 : decode cX2_goes 50 = .ok (.aload_n 0, 1) := dk_42 (dk_at dksX2_goes_2 3 rfl rfl)
theorem dX2_goes_51 : decode cX2_goes 51 = .ok (.getfield 7, 3) := dk_180 0 7 (dk_at dksX2_goes_2 4 rfl rfl)
theorem dX2_goes_54 : decode cX2_goes 54 = .ok (.bipush 13, 2) := dk_16 13 (dk_at dksX2_goes_2 7 rfl rfl)
theorem dX2_goes_56 : decode cX2_goes 56 = .ok (.iaload, 1) := dk_46 (dk_at dksX2_goes_2 9 rfl rfl)
theorem dX2_goes_57 : decode cX2_goes 57 = .ok (.imul, 1) := dk_104 (dk_at dksX2_goes_2 10 rfl rfl)
theorem dX2_goes_58 : decode cX2_goes 58 = .ok (.if_icmp .ge 51, 3) := dk_162 0 51 (dk_at dksX2_goes_2 11 rfl rfl)
theorem dX2_goes_61 : decode cX2_goes 61 = .ok (.aload_n 0, 1) := dk_42 (dk_at dksX2_goes_2 14 rfl rfl)
theorem dX2_goes_62 : decode cX2_goes 62 = .ok (.iload_n 2, 1) := dk_28 (dk_at dksX2_goes_2 15 rfl rfl)
theorem dX2_goes_63 : decode cX2_goes 63 = .ok (.iconst 2, 1) := dk_5 (dk_at dksX2_goes_2 16 rfl rfl)
theorem dX2_goes_64 : decode cX2_goes 64 = .ok (.idiv, 1) := dk_108 (dk_at dksX2_goes_2 17 rfl rfl)
theorem dX2_goes_65 : decode cX2_goes 65 = .ok (.iload_n 2, 1) := dk_28 (dk_at dksX2_goes_2 18 rfl rfl)
theorem dX2_goes_66 : decode cX2_goes 66 = .ok (.iconst 2, 1) := dk_5 (dk_at dksX2_goes_2 19 rfl rfl)
theorem dX2_goes_67 : decode cX2_goes 67 = .ok (.irem, 1) := dk_112 (dk_at dksX2_goes_2 20 rfl rfl)
theorem dX2_goes_68 : decode cX2_goes 68 = .ok (.invokevirtual 50, 3) := dk_182 0 50 (dk_at dksX2_goes_2 21 rfl rfl)
theorem dX2_goes_71 : decode cX2_goes 71 = .ok (.istore_n 3, 1) := dk_62 (dk_at dksX2_goes_3 0 rfl rfl)
theorem dX2_goes_72 : decode cX2_goes 72 = .ok (.aload_n 0, 1) := dk_42 (dk_at dksX2_goes_3 1 rfl rfl)
theorem dX2_goes_73 : decode cX2_goes 73 = .ok (.iload_n 2, 1) := dk_28 (dk_at dksX2_goes_3 2 rfl rfl)
theorem dX2_goes_74 : decode cX2_goes 74 = .ok (.iconst 2, 1) := dk_5 (dk_at dksX2_goes_3 3 rfl rfl)
theorem dX2_goes_75 : decode cX2_goes 75 = .ok (.idiv, 1) := dk_108 (dk_at dksX2_goes_3 4 rfl rfl)
theorem dX2_goes_76 : decode cX2_goes 76 = .ok (.iload_n 2, 1) := dk_28 (dk_at dksX2_goes_3 5 rfl rfl)
theorem dX2_goes_77 : decode cX2_goes 77 = .ok (.iconst 2, 1) := dk_5 (dk_at dksX2_goes_3 6 rfl rfl)
theorem dX2_goes_78 : decode cX2_goes 78 = .ok (.irem, 1) := dk_112 (dk_at dksX2_goes_3 7 rfl rfl)
theorem dX2_goes_79 : decode cX2_goes 79 = .ok (.iload_n 3, 1) := dk_29 (dk_at dksX2_goes_3 8 rfl rfl)
theorem dX2_goes_80 : decode cX2_goes 80 = .ok (.iload_n 1, 1) := dk_27 (dk_at dksX2_goes_3 9 rfl rfl)
theorem dX2_goes_81 : decode cX2_goes 81 = .ok (.if_icmp .ne 7, 3) := dk_160 0 7 (dk_at dksX2_goes_3 10 rfl rfl)
theorem dX2_goes_84 : decode cX2_goes 84 = .ok (.iconst (-1), 1) := dk_2 (dk_at dksX2_goes_3 13 rfl rfl)
theorem dX2_goes_85 : decode cX2_goes 85 = .ok (.goto 15, 3) := dk_167 0 15 (dk_at dksX2_goes_3 14 rfl rfl)
theorem dX2_goes_88 : decode cX2_goes 88 = .ok (.iload_n 3, 1) := dk_29 (dk_at dksX2_goes_3 17 rfl rfl)
theorem dX2_goes_89 : decode cX2_goes 89 = .ok (.iload_n 1, 1) := dk_27 (dk_at dksX2_goes_3 18 rfl rfl)
theorem dX2_goes_90 : decode cX2_goes 90 = .ok (.if_icmp .le 9, 3) := dk_164 0 9 (dk_at dksX2_goes_3 19 rfl rfl)
theorem dX2_goes_93 : decode cX2_goes 93 = .ok (.iload_n 3, 1) := dk_29 (dk_at dksX2_goes_3 22 rfl rfl)
theorem dX2_goes_94 : decode cX2_goes 94 = .ok (.iconst 1, 1) := dk_4 (dk_at dksX2_goes_3 23 rfl rfl)
theorem dX2_goes_95 : decode cX2_goes 95 = .ok (.isub, 1) := dk_100 (dk_at dksX2_goes_4 0 rfl rfl)
theorem dX2_goes_96 : decode cX2_goes 96 = .ok (.goto 4, 3) := dk_167 0 4 (dk_at dksX2_goes_4 1 rfl rfl)
theorem dX2_goes_99 : decode cX2_goes 99 = .ok (.iload_n 3, 1) := dk_29 (dk_at dksX2_goes_4 4 rfl rfl)
theorem dX2_goes_100 : decode cX2_goes 100 = .ok (.invokevirtual 64, 3) := dk_182 0 64 (dk_at dksX2_goes_4 5 rfl rfl)
theorem dX2_goes_103 : decode cX2_goes 103 = .ok (.iinc 2 1, 3) := dk_132 2 1 (dk_at dksX2_goes_4 8 rfl rfl)
theorem dX2_goes_106 : decode cX2_goes 106 = .ok (.goto (-58), 3) := dk_167 255 198 (dk_at dksX2_goes_4 11 rfl rfl)
theorem dX2_goes_109 : decode cX2_goes 109 = .ok (.return_, 1) := dk_177 (dk_at dksX2_goes_4 14 rfl rfl)
abbrev cX2_dropPoint : ByteArray := prog_12_method_21_code
def yX2_dropPoint : MethodName := ⟨RX2, "dropPoint", "(I)I"⟩
def dkwX2_dropPoint_1 : List UInt8 := [182, 0, 71, 42, 27, 182, 0, 81, 42, 180, 0, 7, 3, 46, 172]
abbrev dktX2_dropPoint_1 : List UInt8 := dkwX2_dropPoint_1 ++ []
def dkwX2_dropPoint_0 : List UInt8 := [42, 27, 182, 0, 77, 154, 0, 5, 2, 172, 42, 27, 182, 0, 85, 158, 0, 6, 16, 254, 172, 42]
abbrev dktX2_dropPoint_0 : List UInt8 := dkwX2_dropPoint_0 ++ dktX2_dropPoint_1
theorem dksX2_dropPoint_0 : cX2_dropPoint.data.toList.drop 0 = dktX2_dropPoint_0 := by decide +kernel
theorem dksX2_dropPoint_1 : cX2_dropPoint.data.toList.drop 22 = dktX2_dropPoint_1 := dk_seg dksX2_dropPoint_0 22 rfl rfl
theorem dX2_dropPoint_0 : decode cX2_dropPoint 0 = .ok (.aload_n 0, 1) := dk_42 (dk_at dksX2_dropPoint_0 0 rfl rfl)
theorem dX2_dropPoint_1 : decode cX2_dropPoint 1 = .ok (.iload_n 1, 1) := dk_27 (dk_at dksX2_dropPoint_0 1 rfl rfl)
theorem dX2_dropPoint_2 : decode cX2_dropPoint 2 = .ok (.invokevirtual 77, 3) := dk_182 0 77 (dk_at dksX2_dropPoint_0 2 rfl rfl)
theorem dX2_dropPoint_5 : decode cX2_dropPoint 5 = .ok (.ifCond .ne 5, 3) := dk_154 0 5 (dk_at dksX2_dropPoint_0 5 rfl rfl)
theorem dX2_dropPoint_8 : decode cX2_dropPoint 8 = .ok (.iconst (-1), 1) := dk_2 (dk_at dksX2_dropPoint_0 8 rfl rfl)
theorem dX2_dropPoint_9 : decode cX2_dropPoint 9 = .ok (.ireturn, 1) := dk_172 (dk_at dksX2_dropPoint_0 9 rfl rfl)
theorem dX2_dropPoint_10 : decode cX2_dropPoint 10 = .ok (.aload_n 0, 1) := dk_42 (dk_at dksX2_dropPoint_0 10 rfl rfl)
theorem dX2_dropPoint_11 : decode cX2_dropPoint 11 = .ok (.iload_n 1, 1) := dk_27 (dk_at dksX2_dropPoint_0 11 rfl rfl)
theorem dX2_dropPoint_12 : decode cX2_dropPoint 12 = .ok (.invokevirtual 85, 3) := dk_182 0 85 (dk_at dksX2_dropPoint_0 12 rfl rfl)
theorem dX2_dropPoint_15 : decode cX2_dropPoint 15 = .ok (.ifCond .le 6, 3) := dk_158 0 6 (dk_at dksX2_dropPoint_0 15 rfl rfl)
theorem dX2_dropPoint_18 : decode cX2_dropPoint 18 = .ok (.bipush (-2), 2) := dk_16 254 (dk_at dksX2_dropPoint_0 18 rfl rfl)
theorem dX2_dropPoint_20 : decode cX2_dropPoint 20 = .ok (.ireturn, 1) := dk_172 (dk_at dksX2_dropPoint_0 20 rfl rfl)
theorem dX2_dropPoint_21 : decode cX2_dropPoint 21 = .ok (.aload_n 0, 1) := dk_42 (dk_at dksX2_dropPoint_0 21 rfl rfl)
theorem dX2_dropPoint_22 : decode cX2_dropPoint 22 = .ok (.invokevirtual 71, 3) := dk_182 0 71 (dk_at dksX2_dropPoint_1 0 rfl rfl)
theorem dX2_dropPoint_25 : decode cX2_dropPoint 25 = .ok (.aload_n 0, 1) := dk_42 (dk_at dksX2_dropPoint_1 3 rfl rfl)
theorem dX2_dropPoint_26 : decode cX2_dropPoint 26 = .ok (.iload_n 1, 1) := dk_27 (dk_at dksX2_dropPoint_1 4 rfl rfl)
theorem dX2_dropPoint_27 : decode cX2_dropPoint 27 = .ok (.invokevirtual 81, 3) := dk_182 0 81 (dk_at dksX2_dropPoint_1 5 rfl rfl)
theorem dX2_dropPoint_30 : decode cX2_dropPoint 30 = .ok (.aload_n 0, 1) := dk_42 (dk_at dksX2_dropPoint_1 8 rfl rfl)
theorem dX2_dropPoint_31 : decode cX2_dropPoint 31 = .ok (.getfield 7, 3) := dk_180 0 7 (dk_at dksX2_dropPoint_1 9 rfl rfl)
theorem dX2_dropPoint_34 : decode cX2_dropPoint 34 = .ok (.iconst 0, 1) := dk_3 (dk_at dksX2_dropPoint_1 12 rfl rfl)
theorem dX2_dropPoint_35 : decode cX2_dropPoint 35 = .ok (.iaload, 1) := dk_46 (dk_at dksX2_dropPoint_1 13 rfl rfl)
theorem dX2_dropPoint_36 : decode cX2_dropPoint 36 = .ok (.ireturn, 1) := dk_172 (dk_at dksX2_dropPoint_1 14 rfl rfl)
abbrev cX2_ends : ByteArray := prog_12_method_20_code
def yX2_ends : MethodName := ⟨RX2, "ends", "(I)I"⟩
def dkwX2_ends_2 : List UInt8 := [167, 255, 214, 28, 172]
abbrev dktX2_ends_2 : List UInt8 := dkwX2_ends_2 ++ []
def dkwX2_ends_1 : List UInt8 := [159, 0, 13, 42, 29, 4, 182, 0, 50, 27, 160, 0, 7, 4, 167, 0, 4, 3, 96, 61, 132, 3, 1]
abbrev dktX2_ends_1 : List UInt8 := dkwX2_ends_1 ++ dktX2_ends_2
def dkwX2_ends_0 : List UInt8 := [3, 61, 3, 62, 29, 42, 180, 0, 7, 16, 13, 46, 162, 0, 37, 28, 42, 29, 3, 182, 0, 50, 27]
abbrev dktX2_ends_0 : List UInt8 := dkwX2_ends_0 ++ dktX2_ends_1
theorem dksX2_ends_0 : cX2_ends.data.toList.drop 0 = dktX2_ends_0 := by decide +kernel
theorem dksX2_ends_1 : cX2_ends.data.toList.drop 23 = dktX2_ends_1 := dk_seg dksX2_ends_0 23 rfl rfl
theorem dksX2_ends_2 : cX2_ends.data.toList.drop 46 = dktX2_ends_2 := dk_seg dksX2_ends_1 23 rfl rfl
theorem dX2_ends_0 : decode cX2_ends 0 = .ok (.iconst 0, 1) := dk_3 (dk_at dksX2_ends_0 0 rfl rfl)
theorem dX2_ends_1 : decode cX2_ends 1 = .ok (.istore_n 2, 1) := dk_61 (dk_at dksX2_ends_0 1 rfl rfl)
theorem dX2_ends_2 : decode cX2_ends 2 = .ok (.iconst 0, 1) := dk_3 (dk_at dksX2_ends_0 2 rfl rfl)
theorem dX2_ends_3 : decode cX2_ends 3 = .ok (.istore_n 3, 1) := dk_62 (dk_at dksX2_ends_0 3 rfl rfl)
theorem dX2_ends_4 : decode cX2_ends 4 = .ok (.iload_n 3, 1) := dk_29 (dk_at dksX2_ends_0 4 rfl rfl)
theorem dX2_ends_5 : decode cX2_ends 5 = .ok (.aload_n 0, 1) := dk_42 (dk_at dksX2_ends_0 5 rfl rfl)
theorem dX2_ends_6 : decode cX2_ends 6 = .ok (.getfield 7, 3) := dk_180 0 7 (dk_at dksX2_ends_0 6 rfl rfl)
theorem dX2_ends_9 : decode cX2_ends 9 = .ok (.bipush 13, 2) := dk_16 13 (dk_at dksX2_ends_0 9 rfl rfl)
theorem dX2_ends_11 : decode cX2_ends 11 = .ok (.iaload, 1) := dk_46 (dk_at dksX2_ends_0 11 rfl rfl)
theorem dX2_ends_12 : decode cX2_ends 12 = .ok (.if_icmp .ge 37, 3) := dk_162 0 37 (dk_at dksX2_ends_0 12 rfl rfl)
theorem dX2_ends_15 : decode cX2_ends 15 = .ok (.iload_n 2, 1) := dk_28 (dk_at dksX2_ends_0 15 rfl rfl)
theorem dX2_ends_16 : decode cX2_ends 16 = .ok (.aload_n 0, 1) := dk_42 (dk_at dksX2_ends_0 16 rfl rfl)
theorem dX2_ends_17 : decode cX2_ends 17 = .ok (.iload_n 3, 1) := dk_29 (dk_at dksX2_ends_0 17 rfl rfl)
theorem dX2_ends_18 : decode cX2_ends 18 = .ok (.iconst 0, 1) := dk_3 (dk_at dksX2_ends_0 18 rfl rfl)
theorem dX2_ends_19 : decode cX2_ends 19 = .ok (.invokevirtual 50, 3) := dk_182 0 50 (dk_at dksX2_ends_0 19 rfl rfl)
theorem dX2_ends_22 : decode cX2_ends 22 = .ok (.iload_n 1, 1) := dk_27 (dk_at dksX2_ends_0 22 rfl rfl)
theorem dX2_ends_23 : decode cX2_ends 23 = .ok (.if_icmp .eq 13, 3) := dk_159 0 13 (dk_at dksX2_ends_1 0 rfl rfl)
theorem dX2_ends_26 : decode cX2_ends 26 = .ok (.aload_n 0, 1) := dk_42 (dk_at dksX2_ends_1 3 rfl rfl)
theorem dX2_ends_27 : decode cX2_ends 27 = .ok (.iload_n 3, 1) := dk_29 (dk_at dksX2_ends_1 4 rfl rfl)
theorem dX2_ends_28 : decode cX2_ends 28 = .ok (.iconst 1, 1) := dk_4 (dk_at dksX2_ends_1 5 rfl rfl)
theorem dX2_ends_29 : decode cX2_ends 29 = .ok (.invokevirtual 50, 3) := dk_182 0 50 (dk_at dksX2_ends_1 6 rfl rfl)
theorem dX2_ends_32 : decode cX2_ends 32 = .ok (.iload_n 1, 1) := dk_27 (dk_at dksX2_ends_1 9 rfl rfl)
theorem dX2_ends_33 : decode cX2_ends 33 = .ok (.if_icmp .ne 7, 3) := dk_160 0 7 (dk_at dksX2_ends_1 10 rfl rfl)
theorem dX2_ends_36 : decode cX2_ends 36 = .ok (.iconst 1, 1) := dk_4 (dk_at dksX2_ends_1 13 rfl rfl)
theorem dX2_ends_37 : decode cX2_ends 37 = .ok (.goto 4, 3) := dk_167 0 4 (dk_at dksX2_ends_1 14 rfl rfl)
theorem dX2_ends_40 : decode cX2_ends 40 = .ok (.iconst 0, 1) := dk_3 (dk_at dksX2_ends_1 17 rfl rfl)
theorem dX2_ends_41 : decode cX2_ends 41 = .ok (.iadd, 1) := dk_96 (dk_at dksX2_ends_1 18 rfl rfl)
theorem dX2_ends_42 : decode cX2_ends 42 = .ok (.istore_n 2, 1) := dk_61 (dk_at dksX2_ends_1 19 rfl rfl)
theorem dX2_ends_43 : decode cX2_ends 43 = .ok (.iinc 3 1, 3) := dk_132 3 1 (dk_at dksX2_ends_1 20 rfl rfl)
theorem dX2_ends_46 : decode cX2_ends 46 = .ok (.goto (-42), 3) := dk_167 255 214 (dk_at dksX2_ends_2 0 rfl rfl)
theorem dX2_ends_49 : decode cX2_ends 49 = .ok (.iload_n 2, 1) := dk_28 (dk_at dksX2_ends_2 3 rfl rfl)
theorem dX2_ends_50 : decode cX2_ends 50 = .ok (.ireturn, 1) := dk_172 (dk_at dksX2_ends_2 4 rfl rfl)
abbrev cX2_add : ByteArray := prog_12_method_23_code
def yX2_add : MethodName := ⟨RX2, "add", "(II)I"⟩
def dkwX2_add_3 : List UInt8 := [180, 0, 7, 16, 13, 46, 4, 100, 172]
abbrev dktX2_add_3 : List UInt8 := dkwX2_add_3 ++ []
def dkwX2_add_2 : List UInt8 := [27, 167, 0, 4, 28, 27, 28, 162, 0, 7, 28, 167, 0, 4, 27, 3, 3, 3, 182, 0, 88, 42]
abbrev dktX2_add_2 : List UInt8 := dkwX2_add_2 ++ dktX2_add_3
def dkwX2_add_1 : List UInt8 := [180, 0, 7, 16, 13, 46, 16, 16, 160, 0, 6, 16, 253, 172, 42, 182, 0, 71, 42, 27, 28, 162, 0, 7]
abbrev dktX2_add_1 : List UInt8 := dkwX2_add_1 ++ dktX2_add_2
def dkwX2_add_0 : List UInt8 := [42, 27, 182, 0, 77, 153, 0, 16, 42, 28, 182, 0, 77, 153, 0, 8, 27, 28, 160, 0, 5, 2, 172, 42]
abbrev dktX2_add_0 : List UInt8 := dkwX2_add_0 ++ dktX2_add_1
theorem dksX2_add_0 : cX2_add.data.toList.drop 0 = dktX2_add_0 := by decide +kernel
theorem dksX2_add_1 : cX2_add.data.toList.drop 24 = dktX2_add_1 := dk_seg dksX2_add_0 24 rfl rfl
theorem dksX2_add_2 : cX2_add.data.toList.drop 48 = dktX2_add_2 := dk_seg dksX2_add_1 24 rfl rfl
theorem dksX2_add_3 : cX2_add.data.toList.drop 70 = dktX2_add_3 := dk_seg dksX2_add_2 22 rfl rfl
theorem dX2_add_0 : decode cX2_add 0 = .ok (.aload_n 0, 1) := dk_42 (dk_at dksX2_add_0 0 rfl rfl)
theorem dX2_add_1 : decode cX2_add 1 = .ok (.iload_n 1, 1) := dk_27 (dk_at dksX2_add_0 1 rfl rfl)
theorem dX2_add_2 : decode cX2_add 2 = .ok (.invokevirtual 77, 3) := dk_182 0 77 (dk_at dksX2_add_0 2 rfl rfl)
theorem dX2_add_5 : decode cX2_add 5 = .ok (.ifCond .eq 16, 3) := dk_153 0 16 (dk_at dksX2_add_0 5 rfl rfl)
theorem dX2_add_8 : decode cX2_add 8 = .ok (.aload_n 0, 1) := dk_42 (dk_at dksX2_add_0 8 rfl rfl)
theorem dX2_add_9 : decode cX2_add 9 = .ok (.iload_n 2, 1) := dk_28 (dk_at dksX2_add_0 9 rfl rfl)
theorem dX2_add_10 : decode cX2_add 10 = .ok (.invokevirtual 77, 3) := dk_182 0 77 (dk_at dksX2_add_0 10 rfl rfl)
theorem dX2_add_13 : decode cX2_add 13 = .ok (.ifCond .eq 8, 3) := dk_153 0 8 (dk_at dksX2_add_0 13 rfl rfl)
theorem dX2_add_16 : decode cX2_add 16 = .ok (.iload_n 1, 1) := dk_27 (dk_at dksX2_add_0 16 rfl rfl)
theorem dX2_add_17 : decode cX2_add 17 = .ok (.iload_n 2, 1) := dk_28 (dk_at dksX2_add_0 17 rfl rfl)
theorem dX2_add_18 : decode cX2_add 18 = .ok (.if_icmp .ne 5, 3) := dk_160 0 5 (dk_at dksX2_add_0 18 rfl rfl)
theorem dX2_add_21 : decode cX2_add 21 = .ok (.iconst (-1), 1) := dk_2 (dk_at dksX2_add_0 21 rfl rfl)
theorem dX2_add_22 : decode cX2_add 22 = .ok (.ireturn, 1) := dk_172 (dk_at dksX2_add_0 22 rfl rfl)
theorem dX2_add_23 : decode cX2_add 23 = .ok (.aload_n 0, 1) := dk_42 (dk_at dksX2_add_0 23 rfl rfl)
theorem dX2_add_24 : decode cX2_add 24 = .ok (.getfield 7, 3) := dk_180 0 7 (dk_at dksX2_add_1 0 rfl rfl)
theorem dX2_add_27 : decode cX2_add 27 = .ok (.bipush 13, 2) := dk_16 13 (dk_at dksX2_add_1 3 rfl rfl)
theorem dX2_add_29 : decode cX2_add 29 = .ok (.iaload, 1) := dk_46 (dk_at dksX2_add_1 5 rfl rfl)
theorem dX2_add_30 : decode cX2_add 30 = .ok (.bipush 16, 2) := dk_16 16 (dk_at dksX2_add_1 6 rfl rfl)
theorem dX2_add_32 : decode cX2_add 32 = .ok (.if_icmp .ne 6, 3) := dk_160 0 6 (dk_at dksX2_add_1 8 rfl rfl)
theorem dX2_add_35 : decode cX2_add 35 = .ok (.bipush (-3), 2) := dk_16 253 (dk_at dksX2_add_1 11 rfl rfl)
theorem dX2_add_37 : decode cX2_add 37 = .ok (.ireturn, 1) := dk_172 (dk_at dksX2_add_1 13 rfl rfl)
theorem dX2_add_38 : decode cX2_add 38 = .ok (.aload_n 0, 1) := dk_42 (dk_at dksX2_add_1 14 rfl rfl)
theorem dX2_add_39 : decode cX2_add 39 = .ok (.invokevirtual 71, 3) := dk_182 0 71 (dk_at dksX2_add_1 15 rfl rfl)
theorem dX2_add_42 : decode cX2_add 42 = .ok (.aload_n 0, 1) := dk_42 (dk_at dksX2_add_1 18 rfl rfl)
theorem dX2_add_43 : decode cX2_add 43 = .ok (.iload_n 1, 1) := dk_27 (dk_at dksX2_add_1 19 rfl rfl)
theorem dX2_add_44 : decode cX2_add 44 = .ok (.iload_n 2, 1) := dk_28 (dk_at dksX2_add_1 20 rfl rfl)
theorem dX2_add_45 : decode cX2_add 45 = .ok (.if_icmp .ge 7, 3) := dk_162 0 7 (dk_at dksX2_add_1 21 rfl rfl)
theorem dX2_add_48 : decode cX2_add 48 = .ok (.iload_n 1, 1) := dk_27 (dk_at dksX2_add_2 0 rfl rfl)
theorem dX2_add_49 : decode cX2_add 49 = .ok (.goto 4, 3) := dk_167 0 4 (dk_at dksX2_add_2 1 rfl rfl)
theorem dX2_add_52 : decode cX2_add 52 = .ok (.iload_n 2, 1) := dk_28 (dk_at dksX2_add_2 4 rfl rfl)
theorem dX2_add_53 : decode cX2_add 53 = .ok (.iload_n 1, 1) := dk_27 (dk_at dksX2_add_2 5 rfl rfl)
theorem dX2_add_54 : decode cX2_add 54 = .ok (.iload_n 2, 1) := dk_28 (dk_at dksX2_add_2 6 rfl rfl)
theorem dX2_add_55 : decode cX2_add 55 = .ok (.if_icmp .ge 7, 3) := dk_162 0 7 (dk_at dksX2_add_2 7 rfl rfl)
theorem dX2_add_58 : decode cX2_add 58 = .ok (.iload_n 2, 1) := dk_28 (dk_at dksX2_add_2 10 rfl rfl)
theorem dX2_add_59 : decode cX2_add 59 = .ok (.goto 4, 3) := dk_167 0 4 (dk_at dksX2_add_2 11 rfl rfl)
theorem dX2_add_62 : decode cX2_add 62 = .ok (.iload_n 1, 1) := dk_27 (dk_at dksX2_add_2 14 rfl rfl)
theorem dX2_add_63 : decode cX2_add 63 = .ok (.iconst 0, 1) := dk_3 (dk_at dksX2_add_2 15 rfl rfl)
theorem dX2_add_64 : decode cX2_add 64 = .ok (.iconst 0, 1) := dk_3 (dk_at dksX2_add_2 16 rfl rfl)
theorem dX2_add_65 : decode cX2_add 65 = .ok (.iconst 0, 1) := dk_3 (dk_at dksX2_add_2 17 rfl rfl)
theorem dX2_add_66 : decode cX2_add 66 = .ok (.invokevirtual 88, 3) := dk_182 0 88 (dk_at dksX2_add_2 18 rfl rfl)
theorem dX2_add_69 : decode cX2_add 69 = .ok (.aload_n 0, 1) := dk_42 (dk_at dksX2_add_2 21 rfl rfl)
theorem dX2_add_70 : decode cX2_add 70 = .ok (.getfield 7, 3) := dk_180 0 7 (dk_at dksX2_add_3 0 rfl rfl)
theorem dX2_add_73 : decode cX2_add 73 = .ok (.bipush 13, 2) := dk_16 13 (dk_at dksX2_add_3 3 rfl rfl)
theorem dX2_add_75 : decode cX2_add 75 = .ok (.iaload, 1) := dk_46 (dk_at dksX2_add_3 5 rfl rfl)
theorem dX2_add_76 : decode cX2_add 76 = .ok (.iconst 1, 1) := dk_4 (dk_at dksX2_add_3 6 rfl rfl)
theorem dX2_add_77 : decode cX2_add 77 = .ok (.isub, 1) := dk_100 (dk_at dksX2_add_3 7 rfl rfl)
theorem dX2_add_78 : decode cX2_add 78 = .ok (.ireturn, 1) := dk_172 (dk_at dksX2_add_3 8 rfl rfl)
abbrev cX2_lays : ByteArray := prog_12_method_22_code
def yX2_lays : MethodName := ⟨RX2, "lays", "(IIIII)V"⟩
def dkwX2_lays_2 : List UInt8 := [21, 4, 182, 0, 64, 42, 21, 6, 7, 21, 5, 182, 0, 64, 42, 21, 6, 8, 3, 182, 0, 64, 177]
abbrev dktX2_lays_2 : List UInt8 := dkwX2_lays_2 ++ []
def dkwX2_lays_1 : List UInt8 := [27, 182, 0, 64, 42, 21, 6, 4, 28, 182, 0, 64, 42, 21, 6, 5, 29, 182, 0, 64, 42, 21, 6, 6]
abbrev dktX2_lays_1 : List UInt8 := dkwX2_lays_1 ++ dktX2_lays_2
def dkwX2_lays_0 : List UInt8 := [42, 180, 0, 7, 16, 13, 46, 54, 6, 42, 180, 0, 7, 16, 13, 92, 46, 4, 96, 79, 42, 21, 6, 3]
abbrev dktX2_lays_0 : List UInt8 := dkwX2_lays_0 ++ dktX2_lays_1
theorem dksX2_lays_0 : cX2_lays.data.toList.drop 0 = dktX2_lays_0 := by decide +kernel
theorem dksX2_lays_1 : cX2_lays.data.toList.drop 24 = dktX2_lays_1 := dk_seg dksX2_lays_0 24 rfl rfl
theorem dksX2_lays_2 : cX2_lays.data.toList.drop 48 = dktX2_lays_2 := dk_seg dksX2_lays_1 24 rfl rfl
theorem dX2_lays_0 : decode cX2_lays 0 = .ok (.aload_n 0, 1) := dk_42 (dk_at dksX2_lays_0 0 rfl rfl)
theorem dX2_lays_1 : decode cX2_lays 1 = .ok (.getfield 7, 3) := dk_180 0 7 (dk_at dksX2_lays_0 1 rfl rfl)
theorem dX2_lays_4 : decode cX2_lays 4 = .ok (.bipush 13, 2) := dk_16 13 (dk_at dksX2_lays_0 4 rfl rfl)
theorem dX2_lays_6 : decode cX2_lays 6 = .ok (.iaload, 1) := dk_46 (dk_at dksX2_lays_0 6 rfl rfl)
theorem dX2_lays_7 : decode cX2_lays 7 = .ok (.istore 6, 2) := dk_54 6 (dk_at dksX2_lays_0 7 rfl rfl)
theorem dX2_lays_9 : decode cX2_lays 9 = .ok (.aload_n 0, 1) := dk_42 (dk_at dksX2_lays_0 9 rfl rfl)
theorem dX2_lays_10 : decode cX2_lays 10 = .ok (.getfield 7, 3) := dk_180 0 7 (dk_at dksX2_lays_0 10 rfl rfl)
theorem dX2_lays_13 : decode cX2_lays 13 = .ok (.bipush 13, 2) := dk_16 13 (dk_at dksX2_lays_0 13 rfl rfl)
theorem dX2_lays_15 : decode cX2_lays 15 = .ok (.dup2, 1) := dk_92 (dk_at dksX2_lays_0 15 rfl rfl)
theorem dX2_lays_16 : decode cX2_lays 16 = .ok (.iaload, 1) := dk_46 (dk_at dksX2_lays_0 16 rfl rfl)
theorem dX2_lays_17 : decode cX2_lays 17 = .ok (.iconst 1, 1) := dk_4 (dk_at dksX2_lays_0 17 rfl rfl)
theorem dX2_lays_18 : decode cX2_lays 18 = .ok (.iadd, 1) := dk_96 (dk_at dksX2_lays_0 18 rfl rfl)
theorem dX2_lays_19 : decode cX2_lays 19 = .ok (.iastore, 1) := dk_79 (dk_at dksX2_lays_0 19 rfl rfl)
theorem dX2_lays_20 : decode cX2_lays 20 = .ok (.aload_n 0, 1) := dk_42 (dk_at dksX2_lays_0 20 rfl rfl)
theorem dX2_lays_21 : decode cX2_lays 21 = .ok (.iload 6, 2) := dk_21 6 (dk_at dksX2_lays_0 21 rfl rfl)
theorem dX2_lays_23 : decode cX2_lays 23 = .ok (.iconst 0, 1) := dk_3 (dk_at dksX2_lays_0 23 rfl rfl)
theorem dX2_lays_24 : decode cX2_lays 24 = .ok (.iload_n 1, 1) := dk_27 (dk_at dksX2_lays_1 0 rfl rfl)
theorem dX2_lays_25 : decode cX2_lays 25 = .ok (.invokevirtual 64, 3) := dk_182 0 64 (dk_at dksX2_lays_1 1 rfl rfl)
theorem dX2_lays_28 : decode cX2_lays 28 = .ok (.aload_n 0, 1) := dk_42 (dk_at dksX2_lays_1 4 rfl rfl)
theorem dX2_lays_29 : decode cX2_lays 29 = .ok (.iload 6, 2) := dk_21 6 (dk_at dksX2_lays_1 5 rfl rfl)
theorem dX2_lays_31 : decode cX2_lays 31 = .ok (.iconst 1, 1) := dk_4 (dk_at dksX2_lays_1 7 rfl rfl)
theorem dX2_lays_32 : decode cX2_lays 32 = .ok (.iload_n 2, 1) := dk_28 (dk_at dksX2_lays_1 8 rfl rfl)
theorem dX2_lays_33 : decode cX2_lays 33 = .ok (.invokevirtual 64, 3) := dk_182 0 64 (dk_at dksX2_lays_1 9 rfl rfl)
theorem dX2_lays_36 : decode cX2_lays 36 = .ok (.aload_n 0, 1) := dk_42 (dk_at dksX2_lays_1 12 rfl rfl)
theorem dX2_lays_37 : decode cX2_lays 37 = .ok (.iload 6, 2) := dk_21 6 (dk_at dksX2_lays_1 13 rfl rfl)
theorem dX2_lays_39 : decode cX2_lays 39 = .ok (.iconst 2, 1) := dk_5 (dk_at dksX2_lays_1 15 rfl rfl)
theorem dX2_lays_40 : decode cX2_lays 40 = .ok (.iload_n 3, 1) := dk_29 (dk_at dksX2_lays_1 16 rfl rfl)
theorem dX2_lays_41 : decode cX2_lays 41 = .ok (.invokevirtual 64, 3) := dk_182 0 64 (dk_at dksX2_lays_1 17 rfl rfl)
theorem dX2_lays_44 : decode cX2_lays 44 = .ok (.aload_n 0, 1) := dk_42 (dk_at dksX2_lays_1 20 rfl rfl)
theorem dX2_lays_45 : decode cX2_lays 45 = .ok (.iload 6, 2) := dk_21 6 (dk_at dksX2_lays_1 21 rfl rfl)
theorem dX2_lays_47 : decode cX2_lays 47 = .ok (.iconst 3, 1) := dk_6 (dk_at dksX2_lays_1 23 rfl rfl)
theorem dX2_lays_48 : decode cX2_lays 48 = .ok (.iload 4, 2) := dk_21 4 (dk_at dksX2_lays_2 0 rfl rfl)
theorem dX2_lays_50 : decode cX2_lays 50 = .ok (.invokevirtual 64, 3) := dk_182 0 64 (dk_at dksX2_lays_2 2 rfl rfl)
theorem dX2_lays_53 : decode cX2_lays 53 = .ok (.aload_n 0, 1) := dk_42 (dk_at dksX2_lays_2 5 rfl rfl)
theorem dX2_lays_54 : decode cX2_lays 54 = .ok (.iload 6, 2) := dk_21 6 (dk_at dksX2_lays_2 6 rfl rfl)
theorem dX2_lays_56 : decode cX2_lays 56 = .ok (.iconst 4, 1) := dk_7 (dk_at dksX2_lays_2 8 rfl rfl)
theorem dX2_lays_57 : decode cX2_lays 57 = .ok (.iload 5, 2) := dk_21 5 (dk_at dksX2_lays_2 9 rfl rfl)
theorem dX2_lays_59 : decode cX2_lays 59 = .ok (.invokevirtual 64, 3) := dk_182 0 64 (dk_at dksX2_lays_2 11 rfl rfl)
theorem dX2_lays_62 : decode cX2_lays 62 = .ok (.aload_n 0, 1) := dk_42 (dk_at dksX2_lays_2 14 rfl rfl)
theorem dX2_lays_63 : decode cX2_lays 63 = .ok (.iload 6, 2) := dk_21 6 (dk_at dksX2_lays_2 15 rfl rfl)
theorem dX2_lays_65 : decode cX2_lays 65 = .ok (.iconst 5, 1) := dk_8 (dk_at dksX2_lays_2 17 rfl rfl)
theorem dX2_lays_66 : decode cX2_lays 66 = .ok (.iconst 0, 1) := dk_3 (dk_at dksX2_lays_2 18 rfl rfl)
theorem dX2_lays_67 : decode cX2_lays 67 = .ok (.invokevirtual 64, 3) := dk_182 0 64 (dk_at dksX2_lays_2 19 rfl rfl)
theorem dX2_lays_70 : decode cX2_lays 70 = .ok (.return_, 1) := dk_177 (dk_at dksX2_lays_2 22 rfl rfl)
abbrev cX2_drop : ByteArray := prog_12_method_24_code
def yX2_drop : MethodName := ⟨RX2, "drop", "(I)I"⟩
def dkwX2_drop_3 : List UInt8 := [42, 180, 0, 7, 16, 13, 46, 172]
abbrev dktX2_drop_3 : List UInt8 := dkwX2_drop_3 ++ []
def dkwX2_drop_2 : List UInt8 := [162, 0, 24, 42, 180, 0, 7, 28, 42, 180, 0, 7, 28, 16, 6, 96, 46, 79, 132, 2, 1, 167, 255, 221]
abbrev dktX2_drop_2 : List UInt8 := dkwX2_drop_2 ++ dktX2_drop_3
def dkwX2_drop_1 : List UInt8 := [79, 16, 14, 16, 6, 27, 104, 96, 61, 28, 16, 14, 16, 6, 42, 180, 0, 7, 16, 13, 46, 104, 96]
abbrev dktX2_drop_1 : List UInt8 := dkwX2_drop_1 ++ dktX2_drop_2
def dkwX2_drop_0 : List UInt8 := [42, 27, 182, 0, 92, 154, 0, 5, 2, 172, 42, 182, 0, 71, 42, 180, 0, 7, 16, 13, 92, 46, 4, 100]
abbrev dktX2_drop_0 : List UInt8 := dkwX2_drop_0 ++ dktX2_drop_1
theorem dksX2_drop_0 : cX2_drop.data.toList.drop 0 = dktX2_drop_0 := by decide +kernel
theorem dksX2_drop_1 : cX2_drop.data.toList.drop 24 = dktX2_drop_1 := dk_seg dksX2_drop_0 24 rfl rfl
theorem dksX2_drop_2 : cX2_drop.data.toList.drop 47 = dktX2_drop_2 := dk_seg dksX2_drop_1 23 rfl rfl
theorem dksX2_drop_3 : cX2_drop.data.toList.drop 71 = dktX2_drop_3 := dk_seg dksX2_drop_2 24 rfl rfl
theorem dX2_drop_0 : decode cX2_drop 0 = .ok (.aload_n 0, 1) := dk_42 (dk_at dksX2_drop_0 0 rfl rfl)
theorem dX2_drop_1 : decode cX2_drop 1 = .ok (.iload_n 1, 1) := dk_27 (dk_at dksX2_drop_0 1 rfl rfl)
theorem dX2_drop_2 : decode cX2_drop 2 = .ok (.invokevirtual 92, 3) := dk_182 0 92 (dk_at dksX2_drop_0 2 rfl rfl)
theorem dX2_drop_5 : decode cX2_drop 5 = .ok (.ifCond .ne 5, 3) := dk_154 0 5 (dk_at dksX2_drop_0 5 rfl rfl)
theorem dX2_drop_8 : decode cX2_drop 8 = .ok (.iconst (-1), 1) := dk_2 (dk_at dksX2_drop_0 8 rfl rfl)
theorem dX2_drop_9 : decode cX2_drop 9 = .ok (.ireturn, 1) := dk_172 (dk_at dksX2_drop_0 9 rfl rfl)
theorem dX2_drop_10 : decode cX2_drop 10 = .ok (.aload_n 0, 1) := dk_42 (dk_at dksX2_drop_0 10 rfl rfl)
theorem dX2_drop_11 : decode cX2_drop 11 = .ok (.invokevirtual 71, 3) := dk_182 0 71 (dk_at dksX2_drop_0 11 rfl rfl)
theorem dX2_drop_14 : decode cX2_drop 14 = .ok (.aload_n 0, 1) := dk_42 (dk_at dksX2_drop_0 14 rfl rfl)
theorem dX2_drop_15 : decode cX2_drop 15 = .ok (.getfield 7, 3) := dk_180 0 7 (dk_at dksX2_drop_0 15 rfl rfl)
theorem dX2_drop_18 : decode cX2_drop 18 = .ok (.bipush 13, 2) := dk_16 13 (dk_at dksX2_drop_0 18 rfl rfl)
theorem dX2_drop_20 : decode cX2_drop 20 = .ok (.dup2, 1) := dk_92 (dk_at dksX2_drop_0 20 rfl rfl)
theorem dX2_drop_21 : decode cX2_drop 21 = .ok (.iaload, 1) := dk_46 (dk_at dksX2_drop_0 21 rfl rfl)
theorem dX2_drop_22 : decode cX2_drop 22 = .ok (.iconst 1, 1) := dk_4 (dk_at dksX2_drop_0 22 rfl rfl)
theorem dX2_drop_23 : decode cX2_drop 23 = .ok (.isub, 1) := dk_100 (dk_at dksX2_drop_0 23 rfl rfl)
theorem dX2_drop_24 : decode cX2_drop 24 = .ok (.iastore, 1) := dk_79 (dk_at dksX2_drop_1 0 rfl rfl)
theorem dX2_drop_25 : decode cX2_drop 25 = .ok (.bipush 14, 2) := dk_16 14 (dk_at dksX2_drop_1 1 rfl rfl)
theorem dX2_drop_27 : decode cX2_drop 27 = .ok (.bipush 6, 2) := dk_16 6 (dk_at dksX2_drop_1 3 rfl rfl)
theorem dX2_drop_29 : decode cX2_drop 29 = .ok (.iload_n 1, 1) := dk_27 (dk_at dksX2_drop_1 5 rfl rfl)
theorem dX2_drop_30 : decode cX2_drop 30 = .ok (.imul, 1) := dk_104 (dk_at dksX2_drop_1 6 rfl rfl)
theorem dX2_drop_31 : decode cX2_drop 31 = .ok (.iadd, 1) := dk_96 (dk_at dksX2_drop_1 7 rfl rfl)
theorem dX2_drop_32 : decode cX2_drop 32 = .ok (.istore_n 2, 1) := dk_61 (dk_at dksX2_drop_1 8 rfl rfl)
theorem dX2_drop_33 : decode cX2_drop 33 = .ok (.iload_n 2, 1) := dk_28 (dk_at dksX2_drop_1 9 rfl rfl)
theorem dX2_drop_34 : decode cX2_drop 34 = .ok (.bipush 14, 2) := dk_16 14 (dk_at dksX2_drop_1 10 rfl rfl)
theorem dX2_drop_36 : decode cX2_drop 36 = .ok (.bipush 6, 2) := dk_16 6 (dk_at dksX2_drop_1 12 rfl rfl)
theorem dX2_drop_38 : decode cX2_drop 38 = .ok (.aload_n 0, 1) := dk_42 (dk_at dksX2_drop_1 14 rfl rfl)
theorem dX2_drop_39 : decode cX2_drop 39 = .ok (.getfield 7, 3) := dk_180 0 7 (dk_at dksX2_drop_1 15 rfl rfl)
theorem dX2_drop_42 : decode cX2_drop 42 = .ok (.bipush 13, 2) := dk_16 13 (dk_at dksX2_drop_1 18 rfl rfl)
theorem dX2_drop_44 : decode cX2_drop 44 = .ok (.iaload, 1) := dk_46 (dk_at dksX2_drop_1 20 rfl rfl)
theorem dX2_drop_45 : decode cX2_drop 45 = .ok (.imul, 1) := dk_104 (dk_at dksX2_drop_1 21 rfl rfl)
theorem dX2_drop_46 : decode cX2_drop 46 = .ok (.iadd, 1) := dk_96 (dk_at dksX2_drop_1 22 rfl rfl)
theorem dX2_drop_47 : decode cX2_drop 47 = .ok (.if_icmp .ge 24, 3) := dk_162 0 24 (dk_at dksX2_drop_2 0 rfl rfl)
theorem dX2_drop_50 : decode cX2_drop 50 = .ok (.aload_n 0, 1) := dk_42 (dk_at dksX2_drop_2 3 rfl rfl)
theorem dX2_drop_51 : decode cX2_drop 51 = .ok (.getfield 7, 3) := dk_180 0 7 (dk_at dksX2_drop_2 4 rfl rfl)
theorem dX2_drop_54 : decode cX2_drop 54 = .ok (.iload_n 2, 1) := dk_28 (dk_at dksX2_drop_2 7 rfl rfl)
theorem dX2_drop_55 : decode cX2_drop 55 = .ok (.aload_n 0, 1) := dk_42 (dk_at dksX2_drop_2 8 rfl rfl)
theorem dX2_drop_56 : decode cX2_drop 56 = .ok (.getfield 7, 3) := dk_180 0 7 (dk_at dksX2_drop_2 9 rfl rfl)
theorem dX2_drop_59 : decode cX2_drop 59 = .ok (.iload_n 2, 1) := dk_28 (dk_at dksX2_drop_2 12 rfl rfl)
theorem dX2_drop_60 : decode cX2_drop 60 = .ok (.bipush 6, 2) := dk_16 6 (dk_at dksX2_drop_2 13 rfl rfl)
theorem dX2_drop_62 : decode cX2_drop 62 = .ok (.iadd, 1) := dk_96 (dk_at dksX2_drop_2 15 rfl rfl)
theorem dX2_drop_63 : decode cX2_drop 63 = .ok (.iaload, 1) := dk_46 (dk_at dksX2_drop_2 16 rfl rfl)
theorem dX2_drop_64 : decode cX2_drop 64 = .ok (.iastore, 1) := dk_79 (dk_at dksX2_drop_2 17 rfl rfl)
theorem dX2_drop_65 : decode cX2_drop 65 = .ok (.iinc 2 1, 3) := dk_132 2 1 (dk_at dksX2_drop_2 18 rfl rfl)
theorem dX2_drop_68 : decode cX2_drop 68 = .ok (.goto (-35), 3) := dk_167 255 221 (dk_at dksX2_drop_2 21 rfl rfl)
theorem dX2_drop_71 : decode cX2_drop 71 = .ok (.aload_n 0, 1) := dk_42 (dk_at dksX2_drop_3 0 rfl rfl)
theorem dX2_drop_72 : decode cX2_drop 72 = .ok (.getfield 7, 3) := dk_180 0 7 (dk_at dksX2_drop_3 1 rfl rfl)
theorem dX2_drop_75 : decode cX2_drop 75 = .ok (.bipush 13, 2) := dk_16 13 (dk_at dksX2_drop_3 4 rfl rfl)
theorem dX2_drop_77 : decode cX2_drop 77 = .ok (.iaload, 1) := dk_46 (dk_at dksX2_drop_3 6 rfl rfl)
theorem dX2_drop_78 : decode cX2_drop 78 = .ok (.ireturn, 1) := dk_172 (dk_at dksX2_drop_3 7 rfl rfl)
abbrev cX2_isDimension : ByteArray := prog_12_method_8_code
def yX2_isDimension : MethodName := ⟨RX2, "isDimension", "(I)Z"⟩
def dkwX2_isDimension_0 : List UInt8 := [27, 3, 42, 180, 0, 7, 16, 13, 46, 4, 100, 184, 0, 46, 172]
abbrev dktX2_isDimension_0 : List UInt8 := dkwX2_isDimension_0 ++ []
theorem dksX2_isDimension_0 : cX2_isDimension.data.toList.drop 0 = dktX2_isDimension_0 := by decide +kernel
theorem dX2_isDimension_0 : decode cX2_isDimension 0 = .ok (.iload_n 1, 1) := dk_27 (dk_at dksX2_isDimension_0 0 rfl rfl)
theorem dX2_isDimension_1 : decode cX2_isDimension 1 = .ok (.iconst 0, 1) := dk_3 (dk_at dksX2_isDimension_0 1 rfl rfl)
theorem dX2_isDimension_2 : decode cX2_isDimension 2 = .ok (.aload_n 0, 1) := dk_42 (dk_at dksX2_isDimension_0 2 rfl rfl)
theorem dX2_isDimension_3 : decode cX2_isDimension 3 = .ok (.getfield 7, 3) := dk_180 0 7 (dk_at dksX2_isDimension_0 3 rfl rfl)
theorem dX2_isDimension_6 : decode cX2_isDimension 6 = .ok (.bipush 13, 2) := dk_16 13 (dk_at dksX2_isDimension_0 6 rfl rfl)
theorem dX2_isDimension_8 : decode cX2_isDimension 8 = .ok (.iaload, 1) := dk_46 (dk_at dksX2_isDimension_0 8 rfl rfl)
theorem dX2_isDimension_9 : decode cX2_isDimension 9 = .ok (.iconst 1, 1) := dk_4 (dk_at dksX2_isDimension_0 9 rfl rfl)
theorem dX2_isDimension_10 : decode cX2_isDimension 10 = .ok (.isub, 1) := dk_100 (dk_at dksX2_isDimension_0 10 rfl rfl)
theorem dX2_isDimension_11 : decode cX2_isDimension 11 = .ok (.invokestatic 46, 3) := dk_184 0 46 (dk_at dksX2_isDimension_0 11 rfl rfl)
theorem dX2_isDimension_14 : decode cX2_isDimension 14 = .ok (.ireturn, 1) := dk_172 (dk_at dksX2_isDimension_0 14 rfl rfl)
abbrev cX2_setTolerance : ByteArray := prog_12_method_25_code
def yX2_setTolerance : MethodName := ⟨RX2, "setTolerance", "(III)I"⟩
def dkwX2_setTolerance_2 : List UInt8 := [182, 0, 50, 96, 54, 4, 42, 27, 5, 28, 182, 0, 64, 42, 27, 6, 29, 182, 0, 64, 21, 4, 172]
abbrev dktX2_setTolerance_2 : List UInt8 := dkwX2_setTolerance_2 ++ []
def dkwX2_setTolerance_1 : List UInt8 := [184, 0, 46, 154, 0, 5, 2, 172, 42, 182, 0, 71, 16, 100, 42, 27, 5, 182, 0, 50, 104, 42, 27, 6]
abbrev dktX2_setTolerance_1 : List UInt8 := dkwX2_setTolerance_1 ++ dktX2_setTolerance_2
def dkwX2_setTolerance_0 : List UInt8 := [42, 27, 182, 0, 92, 153, 0, 23, 28, 3, 16, 20, 184, 0, 46, 153, 0, 13, 29, 3, 16, 20]
abbrev dktX2_setTolerance_0 : List UInt8 := dkwX2_setTolerance_0 ++ dktX2_setTolerance_1
theorem dksX2_setTolerance_0 : cX2_setTolerance.data.toList.drop 0 = dktX2_setTolerance_0 := by decide +kernel
theorem dksX2_setTolerance_1 : cX2_setTolerance.data.toList.drop 22 = dktX2_setTolerance_1 := dk_seg dksX2_setTolerance_0 22 rfl rfl
theorem dksX2_setTolerance_2 : cX2_setTolerance.data.toList.drop 46 = dktX2_setTolerance_2 := dk_seg dksX2_setTolerance_1 24 rfl rfl
theorem dX2_setTolerance_0 : decode cX2_setTolerance 0 = .ok (.aload_n 0, 1) := dk_42 (dk_at dksX2_setTolerance_0 0 rfl rfl)
theorem dX2_setTolerance_1 : decode cX2_setTolerance 1 = .ok (.iload_n 1, 1) := dk_27 (dk_at dksX2_setTolerance_0 1 rfl rfl)
theorem dX2_setTolerance_2 : decode cX2_setTolerance 2 = .ok (.invokevirtual 92, 3) := dk_182 0 92 (dk_at dksX2_setTolerance_0 2 rfl rfl)
theorem dX2_setTolerance_5 : decode cX2_setTolerance 5 = .ok (.ifCond .eq 23, 3) := dk_153 0 23 (dk_at dksX2_setTolerance_0 5 rfl rfl)
theorem dX2_setTolerance_8 : decode cX2_setTolerance 8 = .ok (.iload_n 2, 1) := dk_28 (dk_at dksX2_setTolerance_0 8 rfl rfl)
theorem dX2_setTolerance_9 : decode cX2_setTolerance 9 = .ok (.iconst 0, 1) := dk_3 (dk_at dksX2_setTolerance_0 9 rfl rfl)
theorem dX2_setTolerance_10 : decode cX2_setTolerance 10 = .ok (.bipush 20, 2) := dk_16 20 (dk_at dksX2_setTolerance_0 10 rfl rfl)
theorem dX2_setTolerance_12 : decode cX2_setTolerance 12 = .ok (.invokestatic 46, 3) := dk_184 0 46 (dk_at dksX2_setTolerance_0 12 rfl rfl)
theorem dX2_setTolerance_15 : decode cX2_setTolerance 15 = .ok (.ifCond .eq 13, 3) := dk_153 0 13 (dk_at dksX2_setTolerance_0 15 rfl rfl)
theorem dX2_setTolerance_18 : decode cX2_setTolerance 18 = .ok (.iload_n 3, 1) := dk_29 (dk_at dksX2_setTolerance_0 18 rfl rfl)
theorem dX2_setTolerance_19 : decode cX2_setTolerance 19 = .ok (.iconst 0, 1) := dk_3 (dk_at dksX2_setTolerance_0 19 rfl rfl)
theorem dX2_setTolerance_20 : decode cX2_setTolerance 20 = .ok (.bipush 20, 2) := dk_16 20 (dk_at dksX2_setTolerance_0 20 rfl rfl)
theorem dX2_setTolerance_22 : decode cX2_setTolerance 22 = .ok (.invokestatic 46, 3) := dk_184 0 46 (dk_at dksX2_setTolerance_1 0 rfl rfl)
theorem dX2_setTolerance_25 : decode cX2_setTolerance 25 = .ok (.ifCond .ne 5, 3) := dk_154 0 5 (dk_at dksX2_setTolerance_1 3 rfl rfl)
theorem dX2_setTolerance_28 : decode cX2_setTolerance 28 = .ok (.iconst (-1), 1) := dk_2 (dk_at dksX2_setTolerance_1 6 rfl rfl)
theorem dX2_setTolerance_29 : decode cX2_setTolerance 29 = .ok (.ireturn, 1) := dk_172 (dk_at dksX2_setTolerance_1 7 rfl rfl)
theorem dX2_setTolerance_30 : decode cX2_setTolerance 30 = .ok (.aload_n 0, 1) := dk_42 (dk_at dksX2_setTolerance_1 8 rfl rfl)
theorem dX2_setTolerance_31 : decode cX2_setTolerance 31 = .ok (.invokevirtual 71, 3) := dk_182 0 71 (dk_at dksX2_setTolerance_1 9 rfl rfl)
theorem dX2_setTolerance_34 : decode cX2_setTolerance 34 = .ok (.bipush 100, 2) := dk_16 100 (dk_at dksX2_setTolerance_1 12 rfl rfl)
theorem dX2_setTolerance_36 : decode cX2_setTolerance 36 = .ok (.aload_n 0, 1) := dk_42 (dk_at dksX2_setTolerance_1 14 rfl rfl)
theorem dX2_setTolerance_37 : decode cX2_setTolerance 37 = .ok (.iload_n 1, 1) := dk_27 (dk_at dksX2_setTolerance_1 15 rfl rfl)
theorem dX2_setTolerance_38 : decode cX2_setTolerance 38 = .ok (.iconst 2, 1) := dk_5 (dk_at dksX2_setTolerance_1 16 rfl rfl)
theorem dX2_setTolerance_39 : decode cX2_setTolerance 39 = .ok (.invokevirtual 50, 3) := dk_182 0 50 (dk_at dksX2_setTolerance_1 17 rfl rfl)
theorem dX2_setTolerance_42 : decode cX2_setTolerance 42 = .ok (.imul, 1) := dk_104 (dk_at dksX2_setTolerance_1 20 rfl rfl)
theorem dX2_setTolerance_43 : decode cX2_setTolerance 43 = .ok (.aload_n 0, 1) := dk_42 (dk_at dksX2_setTolerance_1 21 rfl rfl)
theorem dX2_setTolerance_44 : decode cX2_setTolerance 44 = .ok (.iload_n 1, 1) := dk_27 (dk_at dksX2_setTolerance_1 22 rfl rfl)
theorem dX2_setTolerance_45 : decode cX2_setTolerance 45 = .ok (.iconst 3, 1) := dk_6 (dk_at dksX2_setTolerance_1 23 rfl rfl)
theorem dX2_setTolerance_46 : decode cX2_setTolerance 46 = .ok (.invokevirtual 50, 3) := dk_182 0 50 (dk_at dksX2_setTolerance_2 0 rfl rfl)
theorem dX2_setTolerance_49 : decode cX2_setTolerance 49 = .ok (.iadd, 1) := dk_96 (dk_at dksX2_setTolerance_2 3 rfl rfl)
theorem dX2_setTolerance_50 : decode cX2_setTolerance 50 = .ok (.istore 4, 2) := dk_54 4 (dk_at dksX2_setTolerance_2 4 rfl rfl)
theorem dX2_setTolerance_52 : decode cX2_setTolerance 52 = .ok (.aload_n 0, 1) := dk_42 (dk_at dksX2_setTolerance_2 6 rfl rfl)
theorem dX2_setTolerance_53 : decode cX2_setTolerance 53 = .ok (.iload_n 1, 1) := dk_27 (dk_at dksX2_setTolerance_2 7 rfl rfl)
theorem dX2_setTolerance_54 : decode cX2_setTolerance 54 = .ok (.iconst 2, 1) := dk_5 (dk_at dksX2_setTolerance_2 8 rfl rfl)
theorem dX2_setTolerance_55 : decode cX2_setTolerance 55 = .ok (.iload_n 2, 1) := dk_28 (dk_at dksX2_setTolerance_2 9 rfl rfl)
theorem dX2_setTolerance_56 : decode cX2_setTolerance 56 = .ok (.invokevirtual 64, 3) := dk_182 0 64 (dk_at dksX2_setTolerance_2 10 rfl rfl)
theorem dX2_setTolerance_59 : decode cX2_setTolerance 59 = .ok (.aload_n 0, 1) := dk_42 (dk_at dksX2_setTolerance_2 13 rfl rfl)
theorem dX2_setTolerance_60 : decode cX2_setTolerance 60 = .ok (.iload_n 1, 1) := dk_27 (dk_at dksX2_setTolerance_2 14 rfl rfl)
theorem dX2_setTolerance_61 : decode cX2_setTolerance 61 = .ok (.iconst 3, 1) := dk_6 (dk_at dksX2_setTolerance_2 15 rfl rfl)
theorem dX2_setTolerance_62 : decode cX2_setTolerance 62 = .ok (.iload_n 3, 1) := dk_29 (dk_at dksX2_setTolerance_2 16 rfl rfl)
theorem dX2_setTolerance_63 : decode cX2_setTolerance 63 = .ok (.invokevirtual 64, 3) := dk_182 0 64 (dk_at dksX2_setTolerance_2 17 rfl rfl)
theorem dX2_setTolerance_66 : decode cX2_setTolerance 66 = .ok (.iload 4, 2) := dk_21 4 (dk_at dksX2_setTolerance_2 20 rfl rfl)
theorem dX2_setTolerance_68 : decode cX2_setTolerance 68 = .ok (.ireturn, 1) := dk_172 (dk_at dksX2_setTolerance_2 22 rfl rfl)
abbrev cX2_setChain : ByteArray := prog_12_method_27_code
def yX2_setChain : MethodName := ⟨RX2, "setChain", "(II)I"⟩
def dkwX2_setChain_1 : List UInt8 := [167, 0, 4, 2, 172]
abbrev dktX2_setChain_1 : List UInt8 := dkwX2_setChain_1 ++ []
def dkwX2_setChain_0 : List UInt8 := [42, 27, 182, 0, 92, 153, 0, 22, 28, 3, 8, 184, 0, 46, 153, 0, 13, 42, 27, 7, 28, 182, 0, 95]
abbrev dktX2_setChain_0 : List UInt8 := dkwX2_setChain_0 ++ dktX2_setChain_1
theorem dksX2_setChain_0 : cX2_setChain.data.toList.drop 0 = dktX2_setChain_0 := by decide +kernel
theorem dksX2_setChain_1 : cX2_setChain.data.toList.drop 24 = dktX2_setChain_1 := dk_seg dksX2_setChain_0 24 rfl rfl
theorem dX2_setChain_0 : decode cX2_setChain 0 = .ok (.aload_n 0, 1) := dk_42 (dk_at dksX2_setChain_0 0 rfl rfl)
theorem dX2_setChain_1 : decode cX2_setChain 1 = .ok (.iload_n 1, 1) := dk_27 (dk_at dksX2_setChain_0 1 rfl rfl)
theorem dX2_setChain_2 : decode cX2_setChain 2 = .ok (.invokevirtual 92, 3) := dk_182 0 92 (dk_at dksX2_setChain_0 2 rfl rfl)
theorem dX2_setChain_5 : decode cX2_setChain 5 = .ok (.ifCond .eq 22, 3) := dk_153 0 22 (dk_at dksX2_setChain_0 5 rfl rfl)
theorem dX2_setChain_8 : decode cX2_setChain 8 = .ok (.iload_n 2, 1) := dk_28 (dk_at dksX2_setChain_0 8 rfl rfl)
theorem dX2_setChain_9 : decode cX2_setChain 9 = .ok (.iconst 0, 1) := dk_3 (dk_at dksX2_setChain_0 9 rfl rfl)
theorem dX2_setChain_10 : decode cX2_setChain 10 = .ok (.iconst 5, 1) := dk_8 (dk_at dksX2_setChain_0 10 rfl rfl)
theorem dX2_setChain_11 : decode cX2_setChain 11 = .ok (.invokestatic 46, 3) := dk_184 0 46 (dk_at dksX2_setChain_0 11 rfl rfl)
theorem dX2_setChain_14 : decode cX2_setChain 14 = .ok (.ifCond .eq 13, 3) := dk_153 0 13 (dk_at dksX2_setChain_0 14 rfl rfl)
theorem dX2_setChain_17 : decode cX2_setChain 17 = .ok (.aload_n 0, 1) := dk_42 (dk_at dksX2_setChain_0 17 rfl rfl)
theorem dX2_setChain_18 : decode cX2_setChain 18 = .ok (.iload_n 1, 1) := dk_27 (dk_at dksX2_setChain_0 18 rfl rfl)
theorem dX2_setChain_19 : decode cX2_setChain 19 = .ok (.iconst 4, 1) := dk_7 (dk_at dksX2_setChain_0 19 rfl rfl)
theorem dX2_setChain_20 : decode cX2_setChain 20 = .ok (.iload_n 2, 1) := dk_28 (dk_at dksX2_setChain_0 20 rfl rfl)
theorem dX2_setChain_21 : decode cX2_setChain 21 = .ok (.invokevirtual 95, 3) := dk_182 0 95 (dk_at dksX2_setChain_0 21 rfl rfl)
theorem dX2_setChain_24 : decode cX2_setChain 24 = .ok (.goto 4, 3) := dk_167 0 4 (dk_at dksX2_setChain_1 0 rfl rfl)
theorem dX2_setChain_27 : decode cX2_setChain 27 = .ok (.iconst (-1), 1) := dk_2 (dk_at dksX2_setChain_1 3 rfl rfl)
theorem dX2_setChain_28 : decode cX2_setChain 28 = .ok (.ireturn, 1) := dk_172 (dk_at dksX2_setChain_1 4 rfl rfl)
abbrev cX2_becomes : ByteArray := prog_12_method_26_code
def yX2_becomes : MethodName := ⟨RX2, "becomes", "(III)I"⟩
def dkwX2_becomes_0 : List UInt8 := [42, 182, 0, 71, 42, 27, 28, 182, 0, 50, 54, 4, 42, 27, 28, 29, 182, 0, 64, 21, 4, 172]
abbrev dktX2_becomes_0 : List UInt8 := dkwX2_becomes_0 ++ []
theorem dksX2_becomes_0 : cX2_becomes.data.toList.drop 0 = dktX2_becomes_0 := by decide +kernel
theorem dX2_becomes_0 : decode cX2_becomes 0 = .ok (.aload_n 0, 1) := dk_42 (dk_at dksX2_becomes_0 0 rfl rfl)
theorem dX2_becomes_1 : decode cX2_becomes 1 = .ok (.invokevirtual 71, 3) := dk_182 0 71 (dk_at dksX2_becomes_0 1 rfl rfl)
theorem dX2_becomes_4 : decode cX2_becomes 4 = .ok (.aload_n 0, 1) := dk_42 (dk_at dksX2_becomes_0 4 rfl rfl)
theorem dX2_becomes_5 : decode cX2_becomes 5 = .ok (.iload_n 1, 1) := dk_27 (dk_at dksX2_becomes_0 5 rfl rfl)
theorem dX2_becomes_6 : decode cX2_becomes 6 = .ok (.iload_n 2, 1) := dk_28 (dk_at dksX2_becomes_0 6 rfl rfl)
theorem dX2_becomes_7 : decode cX2_becomes 7 = .ok (.invokevirtual 50, 3) := dk_182 0 50 (dk_at dksX2_becomes_0 7 rfl rfl)
theorem dX2_becomes_10 : decode cX2_becomes 10 = .ok (.istore 4, 2) := dk_54 4 (dk_at dksX2_becomes_0 10 rfl rfl)
theorem dX2_becomes_12 : decode cX2_becomes 12 = .ok (.aload_n 0, 1) := dk_42 (dk_at dksX2_becomes_0 12 rfl rfl)
theorem dX2_becomes_13 : decode cX2_becomes 13 = .ok (.iload_n 1, 1) := dk_27 (dk_at dksX2_becomes_0 13 rfl rfl)
theorem dX2_becomes_14 : decode cX2_becomes 14 = .ok (.iload_n 2, 1) := dk_28 (dk_at dksX2_becomes_0 14 rfl rfl)
theorem dX2_becomes_15 : decode cX2_becomes 15 = .ok (.iload_n 3, 1) := dk_29 (dk_at dksX2_becomes_0 15 rfl rfl)
theorem dX2_becomes_16 : decode cX2_becomes 16 = .ok (.invokevirtual 64, 3) := dk_182 0 64 (dk_at dksX2_becomes_0 16 rfl rfl)
theorem dX2_becomes_19 : decode cX2_becomes 19 = .ok (.iload 4, 2) := dk_21 4 (dk_at dksX2_becomes_0 19 rfl rfl)
theorem dX2_becomes_21 : decode cX2_becomes 21 = .ok (.ireturn, 1) := dk_172 (dk_at dksX2_becomes_0 21 rfl rfl)
abbrev cX2_setLeast : ByteArray := prog_12_method_28_code
def yX2_setLeast : MethodName := ⟨RX2, "setLeast", "(II)I"⟩
def dkwX2_setLeast_1 : List UInt8 := [182, 0, 95, 167, 0, 4, 2, 172]
abbrev dktX2_setLeast_1 : List UInt8 := dkwX2_setLeast_1 ++ []
def dkwX2_setLeast_0 : List UInt8 := [42, 27, 182, 0, 92, 153, 0, 23, 28, 3, 16, 9, 184, 0, 46, 153, 0, 13, 42, 27, 8, 28]
abbrev dktX2_setLeast_0 : List UInt8 := dkwX2_setLeast_0 ++ dktX2_setLeast_1
theorem dksX2_setLeast_0 : cX2_setLeast.data.toList.drop 0 = dktX2_setLeast_0 := by decide +kernel
theorem dksX2_setLeast_1 : cX2_setLeast.data.toList.drop 22 = dktX2_setLeast_1 := dk_seg dksX2_setLeast_0 22 rfl rfl
theorem dX2_setLeast_0 : decode cX2_setLeast 0 = .ok (.aload_n 0, 1) := dk_42 (dk_at dksX2_setLeast_0 0 rfl rfl)
theorem dX2_setLeast_1 : decode cX2_setLeast 1 = .ok (.iload_n 1, 1) := dk_27 (dk_at dksX2_setLeast_0 1 rfl rfl)
theorem dX2_setLeast_2 : decode cX2_setLeast 2 = .ok (.invokevirtual 92, 3) := dk_182 0 92 (dk_at dksX2_setLeast_0 2 rfl rfl)
theorem dX2_setLeast_5 : decode cX2_setLeast 5 = .ok (.ifCond .eq 23, 3) := dk_153 0 23 (dk_at dksX2_setLeast_0 5 rfl rfl)
theorem dX2_setLeast_8 : decode cX2_setLeast 8 = .ok (.iload_n 2, 1) := dk_28 (dk_at dksX2_setLeast_0 8 rfl rfl)
theorem dX2_setLeast_9 : decode cX2_setLeast 9 = .ok (.iconst 0, 1) := dk_3 (dk_at dksX2_setLeast_0 9 rfl rfl)
theorem dX2_setLeast_10 : decode cX2_setLeast 10 = .ok (.bipush 9, 2) := dk_16 9 (dk_at dksX2_setLeast_0 10 rfl rfl)
theorem dX2_setLeast_12 : decode cX2_setLeast 12 = .ok (.invokestatic 46, 3) := dk_184 0 46 (dk_at dksX2_setLeast_0 12 rfl rfl)
theorem dX2_setLeast_15 : decode cX2_setLeast 15 = .ok (.ifCond .eq 13, 3) := dk_153 0 13 (dk_at dksX2_setLeast_0 15 rfl rfl)
theorem dX2_setLeast_18 : decode cX2_setLeast 18 = .ok (.aload_n 0, 1) := dk_42 (dk_at dksX2_setLeast_0 18 rfl rfl)
theorem dX2_setLeast_19 : decode cX2_setLeast 19 = .ok (.iload_n 1, 1) := dk_27 (dk_at dksX2_setLeast_0 19 rfl rfl)
theorem dX2_setLeast_20 : decode cX2_setLeast 20 = .ok (.iconst 5, 1) := dk_8 (dk_at dksX2_setLeast_0 20 rfl rfl)
theorem dX2_setLeast_21 : decode cX2_setLeast 21 = .ok (.iload_n 2, 1) := dk_28 (dk_at dksX2_setLeast_0 21 rfl rfl)
theorem dX2_setLeast_22 : decode cX2_setLeast 22 = .ok (.invokevirtual 95, 3) := dk_182 0 95 (dk_at dksX2_setLeast_1 0 rfl rfl)
theorem dX2_setLeast_25 : decode cX2_setLeast 25 = .ok (.goto 4, 3) := dk_167 0 4 (dk_at dksX2_setLeast_1 3 rfl rfl)
theorem dX2_setLeast_28 : decode cX2_setLeast 28 = .ok (.iconst (-1), 1) := dk_2 (dk_at dksX2_setLeast_1 6 rfl rfl)
theorem dX2_setLeast_29 : decode cX2_setLeast 29 = .ok (.ireturn, 1) := dk_172 (dk_at dksX2_setLeast_1 7 rfl rfl)
abbrev cX2_setLetter : ByteArray := prog_12_method_30_code
def yX2_setLetter : MethodName := ⟨RX2, "setLetter", "(I)I"⟩
def dkwX2_setLetter_0 : List UInt8 := [42, 16, 110, 27, 182, 0, 99, 172]
abbrev dktX2_setLetter_0 : List UInt8 := dkwX2_setLetter_0 ++ []
theorem dksX2_setLetter_0 : cX2_setLetter.data.toList.drop 0 = dktX2_setLetter_0 := by decide +kernel
theorem dX2_setLetter_0 : decode cX2_setLetter 0 = .ok (.aload_n 0, 1) := dk_42 (dk_at dksX2_setLetter_0 0 rfl rfl)
theorem dX2_setLetter_1 : decode cX2_setLetter 1 = .ok (.bipush 110, 2) := dk_16 110 (dk_at dksX2_setLetter_0 1 rfl rfl)
theorem dX2_setLetter_3 : decode cX2_setLetter 3 = .ok (.iload_n 1, 1) := dk_27 (dk_at dksX2_setLetter_0 3 rfl rfl)
theorem dX2_setLetter_4 : decode cX2_setLetter 4 = .ok (.invokevirtual 99, 3) := dk_182 0 99 (dk_at dksX2_setLetter_0 4 rfl rfl)
theorem dX2_setLetter_7 : decode cX2_setLetter 7 = .ok (.ireturn, 1) := dk_172 (dk_at dksX2_setLetter_0 7 rfl rfl)
abbrev cX2_setting : ByteArray := prog_12_method_29_code
def yX2_setting : MethodName := ⟨RX2, "setting", "(II)I"⟩
def dkwX2_setting_1 : List UInt8 := [180, 0, 7, 27, 28, 79, 29, 172]
abbrev dktX2_setting_1 : List UInt8 := dkwX2_setting_1 ++ []
def dkwX2_setting_0 : List UInt8 := [28, 4, 16, 9, 184, 0, 46, 154, 0, 5, 2, 172, 42, 182, 0, 71, 42, 180, 0, 7, 27, 46, 62, 42]
abbrev dktX2_setting_0 : List UInt8 := dkwX2_setting_0 ++ dktX2_setting_1
theorem dksX2_setting_0 : cX2_setting.data.toList.drop 0 = dktX2_setting_0 := by decide +kernel
theorem dksX2_setting_1 : cX2_setting.data.toList.drop 24 = dktX2_setting_1 := dk_seg dksX2_setting_0 24 rfl rfl
theorem dX2_setting_0 : decode cX2_setting 0 = .ok (.iload_n 2, 1) := dk_28 (dk_at dksX2_setting_0 0 rfl rfl)
theorem dX2_setting_1 : decode cX2_setting 1 = .ok (.iconst 1, 1) := dk_4 (dk_at dksX2_setting_0 1 rfl rfl)
theorem dX2_setting_2 : decode cX2_setting 2 = .ok (.bipush 9, 2) := dk_16 9 (dk_at dksX2_setting_0 2 rfl rfl)
theorem dX2_setting_4 : decode cX2_setting 4 = .ok (.invokestatic 46, 3) := dk_184 0 46 (dk_at dksX2_setting_0 4 rfl rfl)
theorem dX2_setting_7 : decode cX2_setting 7 = .ok (.ifCond .ne 5, 3) := dk_154 0 5 (dk_at dksX2_setting_0 7 rfl rfl)
theorem dX2_setting_10 : decode cX2_setting 10 = .ok (.iconst (-1), 1) := dk_2 (dk_at dksX2_setting_0 10 rfl rfl)
theorem dX2_setting_11 : decode cX2_setting 11 = .ok (.ireturn, 1) := dk_172 (dk_at dksX2_setting_0 11 rfl rfl)
theorem dX2_setting_12 : decode cX2_setting 12 = .ok (.aload_n 0, 1) := dk_42 (dk_at dksX2_setting_0 12 rfl rfl)
theorem dX2_setting_13 : decode cX2_setting 13 = .ok (.invokevirtual 71, 3) := dk_182 0 71 (dk_at dksX2_setting_0 13 rfl rfl)
theorem dX2_setting_16 : decode cX2_setting 16 = .ok (.aload_n 0, 1) := dk_42 (dk_at dksX2_setting_0 16 rfl rfl)
theorem dX2_setting_17 : decode cX2_setting 17 = .ok (.getfield 7, 3) := dk_180 0 7 (dk_at dksX2_setting_0 17 rfl rfl)
theorem dX2_setting_20 : decode cX2_setting 20 = .ok (.iload_n 1, 1) := dk_27 (dk_at dksX2_setting_0 20 rfl rfl)
theorem dX2_setting_21 : decode cX2_setting 21 = .ok (.iaload, 1) := dk_46 (dk_at dksX2_setting_0 21 rfl rfl)
theorem dX2_setting_22 : decode cX2_setting 22 = .ok (.istore_n 3, 1) := dk_62 (dk_at dksX2_setting_0 22 rfl rfl)
theorem dX2_setting_23 : decode cX2_setting 23 = .ok (.aload_n 0, 1) := dk_42 (dk_at dksX2_setting_0 23 rfl rfl)
theorem dX2_setting_24 : decode cX2_setting 24 = .ok (.getfield 7, 3) := dk_180 0 7 (dk_at dksX2_setting_1 0 rfl rfl)
theorem dX2_setting_27 : decode cX2_setting 27 = .ok (.iload_n 1, 1) := dk_27 (dk_at dksX2_setting_1 3 rfl rfl)
theorem dX2_setting_28 : decode cX2_setting 28 = .ok (.iload_n 2, 1) := dk_28 (dk_at dksX2_setting_1 4 rfl rfl)
theorem dX2_setting_29 : decode cX2_setting 29 = .ok (.iastore, 1) := dk_79 (dk_at dksX2_setting_1 5 rfl rfl)
theorem dX2_setting_30 : decode cX2_setting 30 = .ok (.iload_n 3, 1) := dk_29 (dk_at dksX2_setting_1 6 rfl rfl)
theorem dX2_setting_31 : decode cX2_setting 31 = .ok (.ireturn, 1) := dk_172 (dk_at dksX2_setting_1 7 rfl rfl)
abbrev cX2_setArrow : ByteArray := prog_12_method_31_code
def yX2_setArrow : MethodName := ⟨RX2, "setArrow", "(I)I"⟩
def dkwX2_setArrow_0 : List UInt8 := [42, 16, 111, 27, 182, 0, 99, 172]
abbrev dktX2_setArrow_0 : List UInt8 := dkwX2_setArrow_0 ++ []
theorem dksX2_setArrow_0 : cX2_setArrow.data.toList.drop 0 = dktX2_setArrow_0 := by decide +kernel
theorem dX2_setArrow_0 : decode cX2_setArrow 0 = .ok (.aload_n 0, 1) := dk_42 (dk_at dksX2_setArrow_0 0 rfl rfl)
theorem dX2_setArrow_1 : decode cX2_setArrow 1 = .ok (.bipush 111, 2) := dk_16 111 (dk_at dksX2_setArrow_0 1 rfl rfl)
theorem dX2_setArrow_3 : decode cX2_setArrow 3 = .ok (.iload_n 1, 1) := dk_27 (dk_at dksX2_setArrow_0 3 rfl rfl)
theorem dX2_setArrow_4 : decode cX2_setArrow 4 = .ok (.invokevirtual 99, 3) := dk_182 0 99 (dk_at dksX2_setArrow_0 4 rfl rfl)
theorem dX2_setArrow_7 : decode cX2_setArrow 7 = .ok (.ireturn, 1) := dk_172 (dk_at dksX2_setArrow_0 7 rfl rfl)
abbrev cX2_type : ByteArray := prog_12_method_32_code
def yX2_type : MethodName := ⟨RX2, "type", "(I)I"⟩
def dkwX2_type_2 : List UInt8 := [180, 0, 102, 172]
abbrev dktX2_type_2 : List UInt8 := dkwX2_type_2 ++ []
def dkwX2_type_1 : List UInt8 := [172, 42, 180, 0, 13, 42, 180, 0, 102, 27, 79, 42, 89, 180, 0, 102, 4, 96, 181, 0, 102, 42]
abbrev dktX2_type_1 : List UInt8 := dkwX2_type_1 ++ dktX2_type_2
def dkwX2_type_0 : List UInt8 := [27, 16, 32, 16, 126, 184, 0, 46, 154, 0, 5, 2, 172, 42, 180, 0, 102, 16, 80, 160, 0, 6, 16, 253]
abbrev dktX2_type_0 : List UInt8 := dkwX2_type_0 ++ dktX2_type_1
theorem dksX2_type_0 : cX2_type.data.toList.drop 0 = dktX2_type_0 := by decide +kernel
theorem dksX2_type_1 : cX2_type.data.toList.drop 24 = dktX2_type_1 := dk_seg dksX2_type_0 24 rfl rfl
theorem dksX2_type_2 : cX2_type.data.toList.drop 46 = dktX2_type_2 := dk_seg dksX2_type_1 22 rfl rfl
theorem dX2_type_0 : decode cX2_type 0 = .ok (.iload_n 1, 1) := dk_27 (dk_at dksX2_type_0 0 rfl rfl)
theorem dX2_type_1 : decode cX2_type 1 = .ok (.bipush 32, 2) := dk_16 32 (dk_at dksX2_type_0 1 rfl rfl)
theorem dX2_type_3 : decode cX2_type 3 = .ok (.bipush 126, 2) := dk_16 126 (dk_at dksX2_type_0 3 rfl rfl)
theorem dX2_type_5 : decode cX2_type 5 = .ok (.invokestatic 46, 3) := dk_184 0 46 (dk_at dksX2_type_0 5 rfl rfl)
theorem dX2_type_8 : decode cX2_type 8 = .ok (.ifCond .ne 5, 3) := dk_154 0 5 (dk_at dksX2_type_0 8 rfl rfl)
theorem dX2_type_11 : decode cX2_type 11 = .ok (.iconst (-1), 1) := dk_2 (dk_at dksX2_type_0 11 rfl rfl)
theorem dX2_type_12 : decode cX2_type 12 = .ok (.ireturn, 1) := dk_172 (dk_at dksX2_type_0 12 rfl rfl)
theorem dX2_type_13 : decode cX2_type 13 = .ok (.aload_n 0, 1) := dk_42 (dk_at dksX2_type_0 13 rfl rfl)
theorem dX2_type_14 : decode cX2_type 14 = .ok (.getfield 102, 3) := dk_180 0 102 (dk_at dksX2_type_0 14 rfl rfl)
theorem dX2_type_17 : decode cX2_type 17 = .ok (.bipush 80, 2) := dk_16 80 (dk_at dksX2_type_0 17 rfl rfl)
theorem dX2_type_19 : decode cX2_type 19 = .ok (.if_icmp .ne 6, 3) := dk_160 0 6 (dk_at dksX2_type_0 19 rfl rfl)
theorem dX2_type_22 : decode cX2_type 22 = .ok (.bipush (-3), 2) := dk_16 253 (dk_at dksX2_type_0 22 rfl rfl)
theorem dX2_type_24 : decode cX2_type 24 = .ok (.ireturn, 1) := dk_172 (dk_at dksX2_type_1 0 rfl rfl)
theorem dX2_type_25 : decode cX2_type 25 = .ok (.aload_n 0, 1) := dk_42 (dk_at dksX2_type_1 1 rfl rfl)
theorem dX2_type_26 : decode cX2_type 26 = .ok (.getfield 13, 3) := dk_180 0 13 (dk_at dksX2_type_1 2 rfl rfl)
theorem dX2_type_29 : decode cX2_type 29 = .ok (.aload_n 0, 1) := dk_42 (dk_at dksX2_type_1 5 rfl rfl)
theorem dX2_type_30 : decode cX2_type 30 = .ok (.getfield 102, 3) := dk_180 0 102 (dk_at dksX2_type_1 6 rfl rfl)
theorem dX2_type_33 : decode cX2_type 33 = .ok (.iload_n 1, 1) := dk_27 (dk_at dksX2_type_1 9 rfl rfl)
theorem dX2_type_34 : decode cX2_type 34 = .ok (.iastore, 1) := dk_79 (dk_at dksX2_type_1 10 rfl rfl)
theorem dX2_type_35 : decode cX2_type 35 = .ok (.aload_n 0, 1) := dk_42 (dk_at dksX2_type_1 11 rfl rfl)
theorem dX2_type_36 : decode cX2_type 36 = .ok (.dup, 1) := dk_89 (dk_at dksX2_type_1 12 rfl rfl)
theorem dX2_type_37 : decode cX2_type 37 = .ok (.getfield 102, 3) := dk_180 0 102 (dk_at dksX2_type_1 13 rfl rfl)
theorem dX2_type_40 : decode cX2_type 40 = .ok (.iconst 1, 1) := dk_4 (dk_at dksX2_type_1 16 rfl rfl)
theorem dX2_type_41 : decode cX2_type 41 = .ok (.iadd, 1) := dk_96 (dk_at dksX2_type_1 17 rfl rfl)
theorem dX2_type_42 : decode cX2_type 42 = .ok (.putfield 102, 3) := dk_181 0 102 (dk_at dksX2_type_1 18 rfl rfl)
theorem dX2_type_45 : decode cX2_type 45 = .ok (.aload_n 0, 1) := dk_42 (dk_at dksX2_type_1 21 rfl rfl)
theorem dX2_type_46 : decode cX2_type 46 = .ok (.getfield 102, 3) := dk_180 0 102 (dk_at dksX2_type_2 0 rfl rfl)
theorem dX2_type_49 : decode cX2_type 49 = .ok (.ireturn, 1) := dk_172 (dk_at dksX2_type_2 3 rfl rfl)
abbrev cX2_clearText : ByteArray := prog_12_method_33_code
def yX2_clearText : MethodName := ⟨RX2, "clearText", "()I"⟩
def dkwX2_clearText_0 : List UInt8 := [42, 180, 0, 102, 60, 42, 3, 181, 0, 102, 27, 172]
abbrev dktX2_clearText_0 : List UInt8 := dkwX2_clearText_0 ++ []
theorem dksX2_clearText_0 : cX2_clearText.data.toList.drop 0 = dktX2_clearText_0 := by decide +kernel
theorem dX2_clearText_0 : decode cX2_clearText 0 = .ok (.aload_n 0, 1) := dk_42 (dk_at dksX2_clearText_0 0 rfl rfl)
theorem dX2_clearText_1 : decode cX2_clearText 1 = .ok (.getfield 102, 3) := dk_180 0 102 (dk_at dksX2_clearText_0 1 rfl rfl)
theorem dX2_clearText_4 : decode cX2_clearText 4 = .ok (.istore_n 1, 1) := dk_60 (dk_at dksX2_clearText_0 4 rfl rfl)
theorem dX2_clearText_5 : decode cX2_clearText 5 = .ok (.aload_n 0, 1) := dk_42 (dk_at dksX2_clearText_0 5 rfl rfl)
theorem dX2_clearText_6 : decode cX2_clearText 6 = .ok (.iconst 0, 1) := dk_3 (dk_at dksX2_clearText_0 6 rfl rfl)
theorem dX2_clearText_7 : decode cX2_clearText 7 = .ok (.putfield 102, 3) := dk_181 0 102 (dk_at dksX2_clearText_0 7 rfl rfl)
theorem dX2_clearText_10 : decode cX2_clearText 10 = .ok (.iload_n 1, 1) := dk_27 (dk_at dksX2_clearText_0 10 rfl rfl)
theorem dX2_clearText_11 : decode cX2_clearText 11 = .ok (.ireturn, 1) := dk_172 (dk_at dksX2_clearText_0 11 rfl rfl)
abbrev cX2_load : ByteArray := prog_12_method_43_code
def yX2_load : MethodName := ⟨RX2, "load", "()I"⟩
def dkwX2_load_4 : List UInt8 := [167, 255, 213, 42, 182, 0, 71, 42, 16, 9, 3, 182, 0, 42, 42, 180, 0, 7, 16, 13, 46, 172]
abbrev dktX2_load_4 : List UInt8 := dkwX2_load_4 ++ []
def dkwX2_load_3 : List UInt8 := [180, 0, 7, 17, 3, 240, 27, 96, 46, 79, 42, 180, 0, 7, 17, 3, 240, 27, 96, 28, 79, 132, 1, 1]
abbrev dktX2_load_3 : List UInt8 := dkwX2_load_3 ++ dktX2_load_4
def dkwX2_load_2 : List UInt8 := [172, 3, 60, 27, 16, 112, 162, 0, 43, 42, 180, 0, 7, 27, 46, 61, 42, 180, 0, 7, 27, 42]
abbrev dktX2_load_2 : List UInt8 := dkwX2_load_2 ++ dktX2_load_3
def dkwX2_load_1 : List UInt8 := [182, 0, 145, 42, 180, 0, 112, 153, 0, 18, 42, 16, 9, 3, 182, 0, 42, 16, 246, 42, 180, 0, 115, 100]
abbrev dktX2_load_1 : List UInt8 := dkwX2_load_1 ++ dktX2_load_2
def dkwX2_load_0 : List UInt8 := [42, 3, 16, 9, 182, 0, 42, 42, 180, 0, 7, 3, 3, 79, 42, 180, 0, 7, 16, 13, 3, 79, 42]
abbrev dktX2_load_0 : List UInt8 := dkwX2_load_0 ++ dktX2_load_1
theorem dksX2_load_0 : cX2_load.data.toList.drop 0 = dktX2_load_0 := by decide +kernel
theorem dksX2_load_1 : cX2_load.data.toList.drop 23 = dktX2_load_1 := dk_seg dksX2_load_0 23 rfl rfl
theorem dksX2_load_2 : cX2_load.data.toList.drop 47 = dktX2_load_2 := dk_seg dksX2_load_1 24 rfl rfl
theorem dksX2_load_3 : cX2_load.data.toList.drop 69 = dktX2_load_3 := dk_seg dksX2_load_2 22 rfl rfl
theorem dksX2_load_4 : cX2_load.data.toList.drop 93 = dktX2_load_4 := dk_seg dksX2_load_3 24 rfl rfl
theorem dX2_load_0 : decode cX2_load 0 = .ok (.aload_n 0, 1) := dk_42 (dk_at dksX2_load_0 0 rfl rfl)
theorem dX2_load_1 : decode cX2_load 1 = .ok (.iconst 0, 1) := dk_3 (dk_at dksX2_load_0 1 rfl rfl)
theorem dX2_load_2 : decode cX2_load 2 = .ok (.bipush 9, 2) := dk_16 9 (dk_at dksX2_load_0 2 rfl rfl)
theorem dX2_load_4 : decode cX2_load 4 = .ok (.invokevirtual 42, 3) := dk_182 0 42 (dk_at dksX2_load_0 4 rfl rfl)
theorem dX2_load_7 : decode cX2_load 7 = .ok (.aload_n 0, 1) := dk_42 (dk_at dksX2_load_0 7 rfl rfl)
theorem dX2_load_8 : decode cX2_load 8 = .ok (.getfield 7, 3) := dk_180 0 7 (dk_at dksX2_load_0 8 rfl rfl)
theorem dX2_load_11 : decode cX2_load 11 = .ok (.iconst 0, 1) := dk_3 (dk_at dksX2_load_0 11 rfl rfl)
theorem dX2_load_12 : decode cX2_load 12 = .ok (.iconst 0, 1) := dk_3 (dk_at dksX2_load_0 12 rfl rfl)
theorem dX2_load_13 : decode cX2_load 13 = .ok (.iastore, 1) := dk_79 (dk_at dksX2_load_0 13 rfl rfl)
theorem dX2_load_14 : decode cX2_load 14 = .ok (.aload_n 0, 1) := dk_42 (dk_at dksX2_load_0 14 rfl rfl)
theorem dX2_load_15 : decode cX2_load 15 = .ok (.getfield 7, 3) := dk_180 0 7 (dk_at dksX2_load_0 15 rfl rfl)
theorem dX2_load_18 : decode cX2_load 18 = .ok (.bipush 13, 2) := dk_16 13 (dk_at dksX2_load_0 18 rfl rfl)
theorem dX2_load_20 : decode cX2_load 20 = .ok (.iconst 0, 1) := dk_3 (dk_at dksX2_load_0 20 rfl rfl)
theorem dX2_load_21 : decode cX2_load 21 = .ok (.iastore, 1) := dk_79 (dk_at dksX2_load_0 21 rfl rfl)
theorem dX2_load_22 : decode cX2_load 22 = .ok (.aload_n 0, 1) := dk_42 (dk_at dksX2_load_0 22 rfl rfl)
theorem dX2_load_23 : decode cX2_load 23 = .ok (.invokevirtual 145, 3) := dk_182 0 145 (dk_at dksX2_load_1 0 rfl rfl)
theorem dX2_load_26 : decode cX2_load 26 = .ok (.aload_n 0, 1) := dk_42 (dk_at dksX2_load_1 3 rfl rfl)
theorem dX2_load_27 : decode cX2_load 27 = .ok (.getfield 112, 3) := dk_180 0 112 (dk_at dksX2_load_1 4 rfl rfl)
theorem dX2_load_30 : decode cX2_load 30 = .ok (.ifCond .eq 18, 3) := dk_153 0 18 (dk_at dksX2_load_1 7 rfl rfl)
theorem dX2_load_33 : decode cX2_load 33 = .ok (.aload_n 0, 1) := dk_42 (dk_at dksX2_load_1 10 rfl rfl)
theorem dX2_load_34 : decode cX2_load 34 = .ok (.bipush 9, 2) := dk_16 9 (dk_at dksX2_load_1 11 rfl rfl)
theorem dX2_load_36 : decode cX2_load 36 = .ok (.iconst 0, 1) := dk_3 (dk_at dksX2_load_1 13 rfl rfl)
theorem dX2_load_37 : decode cX2_load 37 = .ok (.invokevirtual 42, 3) := dk_182 0 42 (dk_at dksX2_load_1 14 rfl rfl)
theorem dX2_load_40 : decode cX2_load 40 = .ok (.bipush (-10), 2) := dk_16 246 (dk_at dksX2_load_1 17 rfl rfl)
theorem dX2_load_42 : decode cX2_load 42 = .ok (.aload_n 0, 1) := dk_42 (dk_at dksX2_load_1 19 rfl rfl)
theorem dX2_load_43 : decode cX2_load 43 = .ok (.getfield 115, 3) := dk_180 0 115 (dk_at dksX2_load_1 20 rfl rfl)
theorem dX2_load_46 : decode cX2_load 46 = .ok (.isub, 1) := dk_100 (dk_at dksX2_load_1 23 rfl rfl)
theorem dX2_load_47 : decode cX2_load 47 = .ok (.ireturn, 1) := dk_172 (dk_at dksX2_load_2 0 rfl rfl)
theorem dX2_load_48 : decode cX2_load 48 = .ok (.iconst 0, 1) := dk_3 (dk_at dksX2_load_2 1 rfl rfl)
theorem dX2_load_49 : decode cX2_load 49 = .ok (.istore_n 1, 1) := dk_60 (dk_at dksX2_load_2 2 rfl rfl)
theorem dX2_load_50 : decode cX2_load 50 = .ok (.iload_n 1, 1) := dk_27 (dk_at dksX2_load_2 3 rfl rfl)
theorem dX2_load_51 : decode cX2_load 51 = .ok (.bipush 112, 2) := dk_16 112 (dk_at dksX2_load_2 4 rfl rfl)
theorem dX2_load_53 : decode cX2_load 53 = .ok (.if_icmp .ge 43, 3) := dk_162 0 43 (dk_at dksX2_load_2 6 rfl rfl)
theorem dX2_load_56 : decode cX2_load 56 = .ok (.aload_n 0, 1) := dk_42 (dk_at dksX2_load_2 9 rfl rfl)
theorem dX2_load_57 : decode cX2_load 57 = .ok (.getfield 7, 3) := dk_180 0 7 (dk_at dksX2_load_2 10 rfl rfl)
theorem dX2_load_60 : decode cX2_load 60 = .ok (.iload_n 1, 1) := dk_27 (dk_at dksX2_load_2 13 rfl rfl)
theorem dX2_load_61 : decode cX2_load 61 = .ok (.iaload, 1) := dk_46 (dk_at dksX2_load_2 14 rfl rfl)
theorem dX2_load_62 : decode cX2_load 62 = .ok (.istore_n 2, 1) := dk_61 (dk_at dksX2_load_2 15 rfl rfl)
theorem dX2_load_63 : decode cX2_load 63 = .ok (.aload_n 0, 1) := dk_42 (dk_at dksX2_load_2 16 rfl rfl)
theorem dX2_load_64 : decode cX2_load 64 = .ok (.getfield 7, 3) := dk_180 0 7 (dk_at dksX2_load_2 17 rfl rfl)
theorem dX2_load_67 : decode cX2_load 67 = .ok (.iload_n 1, 1) := dk_27 (dk_at dksX2_load_2 20 rfl rfl)
theorem dX2_load_68 : decode cX2_load 68 = .ok (.aload_n 0, 1) := dk_42 (dk_at dksX2_load_2 21 rfl rfl)
theorem dX2_load_69 : decode cX2_load 69 = .ok (.getfield 7, 3) := dk_180 0 7 (dk_at dksX2_load_3 0 rfl rfl)
theorem dX2_load_72 : decode cX2_load 72 = .ok (.sipush 1008, 3) := dk_17 3 240 (dk_at dksX2_load_3 3 rfl rfl)
theorem dX2_load_75 : decode cX2_load 75 = .ok (.iload_n 1, 1) := dk_27 (dk_at dksX2_load_3 6 rfl rfl)
theorem dX2_load_76 : decode cX2_load 76 = .ok (.iadd, 1) := dk_96 (dk_at dksX2_load_3 7 rfl rfl)
theorem dX2_load_77 : decode cX2_load 77 = .ok (.iaload, 1) := dk_46 (dk_at dksX2_load_3 8 rfl rfl)
theorem dX2_load_78 : decode cX2_load 78 = .ok (.iastore, 1) := dk_79 (dk_at dksX2_load_3 9 rfl rfl)
theorem dX2_load_79 : decode cX2_load 79 = .ok (.aload_n 0, 1) := dk_42 (dk_at dksX2_load_3 10 rfl rfl)
theorem dX2_load_80 : decode cX2_load 80 = .ok (.getfield 7, 3) := dk_180 0 7 (dk_at dksX2_load_3 11 rfl rfl)
theorem dX2_load_83 : decode cX2_load 83 = .ok (.sipush 1008, 3) := dk_17 3 240 (dk_at dksX2_load_3 14 rfl rfl)
theorem dX2_load_86 : decode cX2_load 86 = .ok (.iload_n 1, 1) := dk_27 (dk_at dksX2_load_3 17 rfl rfl)
theorem dX2_load_87 : decode cX2_load 87 = .ok (.iadd, 1) := dk_96 (dk_at dksX2_load_3 18 rfl rfl)
theorem dX2_load_88 : decode cX2_load 88 = .ok (.iload_n 2, 1) := dk_28 (dk_at dksX2_load_3 19 rfl rfl)
theorem dX2_load_89 : decode cX2_load 89 = .ok (.iastore, 1) := dk_79 (dk_at dksX2_load_3 20 rfl rfl)
theorem dX2_load_90 : decode cX2_load 90 = .ok (.iinc 1 1, 3) := dk_132 1 1 (dk_at dksX2_load_3 21 rfl rfl)
theorem dX2_load_93 : decode cX2_load 93 = .ok (.goto (-43), 3) := dk_167 255 213 (dk_at dksX2_load_4 0 rfl rfl)
theorem dX2_load_96 : decode cX2_load 96 = .ok (.aload_n 0, 1) := dk_42 (dk_at dksX2_load_4 3 rfl rfl)
theorem dX2_load_97 : decode cX2_load 97 = .ok (.invokevirtual 71, 3) := dk_182 0 71 (dk_at dksX2_load_4 4 rfl rfl)
theorem dX2_load_100 : decode cX2_load 100 = .ok (.aload_n 0, 1) := dk_42 (dk_at dksX2_load_4 7 rfl rfl)
theorem dX2_load_101 : decode cX2_load 101 = .ok (.bipush 9, 2) := dk_16 9 (dk_at dksX2_load_4 8 rfl rfl)
theorem dX2_load_103 : decode cX2_load 103 = .ok (.iconst 0, 1) := dk_3 (dk_at dksX2_load_4 10 rfl rfl)
theorem dX2_load_104 : decode cX2_load 104 = .ok (.invokevirtual 42, 3) := dk_182 0 42 (dk_at dksX2_load_4 11 rfl rfl)
theorem dX2_load_107 : decode cX2_load 107 = .ok (.aload_n 0, 1) := dk_42 (dk_at dksX2_load_4 14 rfl rfl)
theorem dX2_load_108 : decode cX2_load 108 = .ok (.getfield 7, 3) := dk_180 0 7 (dk_at dksX2_load_4 15 rfl rfl)
theorem dX2_load_111 : decode cX2_load 111 = .ok (.bipush 13, 2) := dk_16 13 (dk_at dksX2_load_4 18 rfl rfl)
theorem dX2_load_113 : decode cX2_load 113 = .ok (.iaload, 1) := dk_46 (dk_at dksX2_load_4 20 rfl rfl)
theorem dX2_load_114 : decode cX2_load 114 = .ok (.ireturn, 1) := dk_172 (dk_at dksX2_load_4 21 rfl rfl)
abbrev cX2_readsAll : ByteArray := prog_12_method_42_code
def yX2_readsAll : MethodName := ⟨RX2, "readsAll", "()V"⟩
def dkwX2_readsAll_4 : List UInt8 := [153, 0, 7, 4, 167, 0, 4, 3, 60, 167, 255, 167, 177]
abbrev dktX2_readsAll_4 : List UInt8 := dkwX2_readsAll_4 ++ []
def dkwX2_readsAll_3 : List UInt8 := [180, 0, 105, 27, 153, 0, 7, 4, 167, 0, 4, 3, 96, 181, 0, 105, 27, 153, 0, 14, 42, 182, 0, 142]
abbrev dktX2_readsAll_3 : List UInt8 := dkwX2_readsAll_3 ++ dktX2_readsAll_4
def dkwX2_readsAll_2 : List UInt8 := [161, 0, 15, 42, 4, 42, 180, 0, 105, 182, 0, 125, 153, 0, 7, 4, 167, 0, 4, 3, 60, 42, 89]
abbrev dktX2_readsAll_2 : List UInt8 := dkwX2_readsAll_2 ++ dktX2_readsAll_3
def dkwX2_readsAll_1 : List UInt8 := [180, 0, 102, 162, 0, 80, 42, 182, 0, 108, 16, 59, 160, 0, 15, 42, 180, 0, 7, 16, 13, 46, 16, 16]
abbrev dktX2_readsAll_1 : List UInt8 := dkwX2_readsAll_1 ++ dktX2_readsAll_2
def dkwX2_readsAll_0 : List UInt8 := [42, 3, 181, 0, 112, 42, 3, 181, 0, 105, 42, 182, 0, 139, 60, 27, 153, 0, 91, 42, 180, 0, 105, 42]
abbrev dktX2_readsAll_0 : List UInt8 := dkwX2_readsAll_0 ++ dktX2_readsAll_1
theorem dksX2_readsAll_0 : cX2_readsAll.data.toList.drop 0 = dktX2_readsAll_0 := by decide +kernel
theorem dksX2_readsAll_1 : cX2_readsAll.data.toList.drop 24 = dktX2_readsAll_1 := dk_seg dksX2_readsAll_0 24 rfl rfl
theorem dksX2_readsAll_2 : cX2_readsAll.data.toList.drop 48 = dktX2_readsAll_2 := dk_seg dksX2_readsAll_1 24 rfl rfl
theorem dksX2_readsAll_3 : cX2_readsAll.data.toList.drop 71 = dktX2_readsAll_3 := dk_seg dksX2_readsAll_2 23 rfl rfl
theorem dksX2_readsAll_4 : cX2_readsAll.data.toList.drop 95 = dktX2_readsAll_4 := dk_seg dksX2_readsAll_3 24 rfl rfl
theorem dX2_readsAll_0 : decode cX2_readsAll 0 = .ok (.aload_n 0, 1) := dk_42 (dk_at dksX2_readsAll_0 0 rfl rfl)
theorem dX2_readsAll_1 : decode cX2_readsAll 1 = .ok (.iconst 0, 1) := dk_3 (dk_at dksX2_readsAll_0 1 rfl rfl)
theorem dX2_readsAll_2 : decode cX2_readsAll 2 = .ok (.putfield 112, 3) := dk_181 0 112 (dk_at dksX2_readsAll_0 2 rfl rfl)
theorem dX2_readsAll_5 : decode cX2_readsAll 5 = .ok (.aload_n 0, 1) := dk_42 (dk_at dksX2_readsAll_0 5 rfl rfl)
theorem dX2_readsAll_6 : decode cX2_readsAll 6 = .ok (.iconst 0, 1) := dk_3 (dk_at dksX2_readsAll_0 6 rfl rfl)
theorem dX2_readsAll_7 : decode cX2_readsAll 7 = .ok (.putfield 105, 3) := dk_181 0 105 (dk_at dksX2_readsAll_0 7 rfl rfl)
theorem dX2_readsAll_10 : decode cX2_readsAll 10 = .ok (.aload_n 0, 1) := dk_42 (dk_at dksX2_readsAll_0 10 rfl rfl)
theorem dX2_readsAll_11 : decode cX2_readsAll 11 = .ok (.invokevirtual 139, 3) := dk_182 0 139 (dk_at dksX2_readsAll_0 11 rfl rfl)
theorem dX2_readsAll_14 : decode cX2_readsAll 14 = .ok (.istore_n 1, 1) := dk_60 (dk_at dksX2_readsAll_0 14 rfl rfl)
theorem dX2_readsAll_15 : decode cX2_readsAll 15 = .ok (.iload_n 1, 1) := dk_27 (dk_at dksX2_readsAll_0 15 rfl rfl)
theorem dX2_readsAll_16 : decode cX2_readsAll 16 = .ok (.ifCond .eq 91, 3) := dk_153 0 91 (dk_at dksX2_readsAll_0 16 rfl rfl)
theorem dX2_readsAll_19 : decode cX2_readsAll 19 = .ok (.aload_n 0, 1) := dk_42 (dk_at dksX2_readsAll_0 19 rfl rfl)
theorem dX2_readsAll_20 : decode cX2_readsAll 20 = .ok (.getfield 105, 3) := dk_180 0 105 (dk_at dksX2_readsAll_0 20 rfl rfl)
theorem dX2_readsAll_23 : decode cX2_readsAll 23 = .ok (.aload_n 0, 1) := dk_42 (dk_at dksX2_readsAll_0 23 rfl rfl)
theorem dX2_readsAll_24 : decode cX2_readsAll 24 = .ok (.getfield 102, 3) := dk_180 0 102 (dk_at dksX2_readsAll_1 0 rfl rfl)
theorem dX2_readsAll_27 : decode cX2_readsAll 27 = .ok (.if_icmp .ge 80, 3) := dk_162 0 80 (dk_at dksX2_readsAll_1 3 rfl rfl)
theorem dX2_readsAll_30 : decode cX2_readsAll 30 = .ok (.aload_n 0, 1) := dk_42 (dk_at dksX2_readsAll_1 6 rfl rfl)
theorem dX2_readsAll_31 : decode cX2_readsAll 31 = .ok (.invokevirtual 108, 3) := dk_182 0 108 (dk_at dksX2_readsAll_1 7 rfl rfl)
theorem dX2_readsAll_34 : decode cX2_readsAll 34 = .ok (.bipush 59, 2) := dk_16 59 (dk_at dksX2_readsAll_1 10 rfl rfl)
theorem dX2_readsAll_36 : decode cX2_readsAll 36 = .ok (.if_icmp .ne 15, 3) := dk_160 0 15 (dk_at dksX2_readsAll_1 12 rfl rfl)
theorem dX2_readsAll_39 : decode cX2_readsAll 39 = .ok (.aload_n 0, 1) := dk_42 (dk_at dksX2_readsAll_1 15 rfl rfl)
theorem dX2_readsAll_40 : decode cX2_readsAll 40 = .ok (.getfield 7, 3) := dk_180 0 7 (dk_at dksX2_readsAll_1 16 rfl rfl)
theorem dX2_readsAll_43 : decode cX2_readsAll 43 = .ok (.bipush 13, 2) := dk_16 13 (dk_at dksX2_readsAll_1 19 rfl rfl)
theorem dX2_readsAll_45 : decode cX2_readsAll 45 = .ok (.iaload, 1) := dk_46 (dk_at dksX2_readsAll_1 21 rfl rfl)
theorem dX2_readsAll_46 : decode cX2_readsAll 46 = .ok (.bipush 16, 2) := dk_16 16 (dk_at dksX2_readsAll_1 22 rfl rfl)
theorem dX2_readsAll_48 : decode cX2_readsAll 48 = .ok (.if_icmp .lt 15, 3) := dk_161 0 15 (dk_at dksX2_readsAll_2 0 rfl rfl)
theorem dX2_readsAll_51 : decode cX2_readsAll 51 = .ok (.aload_n 0, 1) := dk_42 (dk_at dksX2_readsAll_2 3 rfl rfl)
theorem dX2_readsAll_52 : decode cX2_readsAll 52 = .ok (.iconst 1, 1) := dk_4 (dk_at dksX2_readsAll_2 4 rfl rfl)
theorem dX2_readsAll_53 : decode cX2_readsAll 53 = .ok (.aload_n 0, 1) := dk_42 (dk_at dksX2_readsAll_2 5 rfl rfl)
theorem dX2_readsAll_54 : decode cX2_readsAll 54 = .ok (.getfield 105, 3) := dk_180 0 105 (dk_at dksX2_readsAll_2 6 rfl rfl)
theorem dX2_readsAll_57 : decode cX2_readsAll 57 = .ok (.invokevirtual 125, 3) := dk_182 0 125 (dk_at dksX2_readsAll_2 9 rfl rfl)
theorem dX2_readsAll_60 : decode cX2_readsAll 60 = .ok (.ifCond .eq 7, 3) := dk_153 0 7 (dk_at dksX2_readsAll_2 12 rfl rfl)
theorem dX2_readsAll_63 : decode cX2_readsAll 63 = .ok (.iconst 1, 1) := dk_4 (dk_at dksX2_readsAll_2 15 rfl rfl)
theorem dX2_readsAll_64 : decode cX2_readsAll 64 = .ok (.goto 4, 3) := dk_167 0 4 (dk_at dksX2_readsAll_2 16 rfl rfl)
theorem dX2_readsAll_67 : decode cX2_readsAll 67 = .ok (.iconst 0, 1) := dk_3 (dk_at dksX2_readsAll_2 19 rfl rfl)
theorem dX2_readsAll_68 : decode cX2_readsAll 68 = .ok (.istore_n 1, 1) := dk_60 (dk_at dksX2_readsAll_2 20 rfl rfl)
theorem dX2_readsAll_69 : decode cX2_readsAll 69 = .ok (.aload_n 0, 1) := dk_42 (dk_at dksX2_readsAll_2 21 rfl rfl)
theorem dX2_readsAll_70 : decode cX2_readsAll 70 = .ok (.dup, 1) := dk_89 (dk_at dksX2_readsAll_2 22 rfl rfl)
theorem dX2_readsAll_71 : decode cX2_readsAll 71 = .ok (.getfield 105, 3) := dk_180 0 105 (dk_at dksX2_readsAll_3 0 rfl rfl)
theorem dX2_readsAll_74 : decode cX2_readsAll 74 = .ok (.iload_n 1, 1) := dk_27 (dk_at dksX2_readsAll_3 3 rfl rfl)
theorem dX2_readsAll_75 : decode cX2_readsAll 75 = .ok (.ifCond .eq 7, 3) := dk_153 0 7 (dk_at dksX2_readsAll_3 4 rfl rfl)
theorem dX2_readsAll_78 : decode cX2_readsAll 78 = .ok (.iconst 1, 1) := dk_4 (dk_at dksX2_readsAll_3 7 rfl rfl)
theorem dX2_readsAll_79 : decode cX2_readsAll 79 = .ok (.goto 4, 3) := dk_167 0 4 (dk_at dksX2_readsAll_3 8 rfl rfl)
theorem dX2_readsAll_82 : decode cX2_readsAll 82 = .ok (.iconst 0, 1) := dk_3 (dk_at dksX2_readsAll_3 11 rfl rfl)
theorem dX2_readsAll_83 : decode cX2_readsAll 83 = .ok (.iadd, 1) := dk_96 (dk_at dksX2_readsAll_3 12 rfl rfl)
theorem dX2_readsAll_84 : decode cX2_readsAll 84 = .ok (.putfield 105, 3) := dk_181 0 105 (dk_at dksX2_readsAll_3 13 rfl rfl)
theorem dX2_readsAll_87 : decode cX2_readsAll 87 = .ok (.iload_n 1, 1) := dk_27 (dk_at dksX2_readsAll_3 16 rfl rfl)
theorem dX2_readsAll_88 : decode cX2_readsAll 88 = .ok (.ifCond .eq 14, 3) := dk_153 0 14 (dk_at dksX2_readsAll_3 17 rfl rfl)
theorem dX2_readsAll_91 : decode cX2_readsAll 91 = .ok (.aload_n 0, 1) := dk_42 (dk_at dksX2_readsAll_3 20 rfl rfl)
theorem dX2_readsAll_92 : decode cX2_readsAll 92 = .ok (.invokevirtual 142, 3) := dk_182 0 142 (dk_at dksX2_readsAll_3 21 rfl rfl)
theorem dX2_readsAll_95 : decode cX2_readsAll 95 = .ok (.ifCond .eq 7, 3) := dk_153 0 7 (dk_at dksX2_readsAll_4 0 rfl rfl)
theorem dX2_readsAll_98 : decode cX2_readsAll 98 = .ok (.iconst 1, 1) := dk_4 (dk_at dksX2_readsAll_4 3 rfl rfl)
theorem dX2_readsAll_99 : decode cX2_readsAll 99 = .ok (.goto 4, 3) := dk_167 0 4 (dk_at dksX2_readsAll_4 4 rfl rfl)
theorem dX2_readsAll_102 : decode cX2_readsAll 102 = .ok (.iconst 0, 1) := dk_3 (dk_at dksX2_readsAll_4 7 rfl rfl)
theorem dX2_readsAll_103 : decode cX2_readsAll 103 = .ok (.istore_n 1, 1) := dk_60 (dk_at dksX2_readsAll_4 8 rfl rfl)
theorem dX2_readsAll_104 : decode cX2_readsAll 104 = .ok (.goto (-89), 3) := dk_167 255 167 (dk_at dksX2_readsAll_4 9 rfl rfl)
theorem dX2_readsAll_107 : decode cX2_readsAll 107 = .ok (.return_, 1) := dk_177 (dk_at dksX2_readsAll_4 12 rfl rfl)
abbrev cX2_readsPositions : ByteArray := prog_12_method_39_code
def yX2_readsPositions : MethodName := ⟨RX2, "readsPositions", "()Z"⟩
def dkwX2_readsPositions_5 : List UInt8 := [167, 0, 4, 3, 172]
abbrev dktX2_readsPositions_5 : List UInt8 := dkwX2_readsPositions_5 ++ []
def dkwX2_readsPositions_4 : List UInt8 := [153, 0, 7, 4, 167, 0, 4, 3, 96, 181, 0, 105, 167, 255, 160, 42, 180, 0, 112, 154, 0, 7, 4]
abbrev dktX2_readsPositions_4 : List UInt8 := dkwX2_readsPositions_4 ++ dktX2_readsPositions_5
def dkwX2_readsPositions_3 : List UInt8 := [180, 0, 7, 3, 46, 16, 12, 162, 0, 7, 4, 167, 0, 4, 3, 61, 42, 89, 180, 0, 105, 28]
abbrev dktX2_readsPositions_3 : List UInt8 := dkwX2_readsPositions_3 ++ dktX2_readsPositions_4
def dkwX2_readsPositions_2 : List UInt8 := [180, 0, 118, 79, 42, 180, 0, 7, 3, 92, 46, 4, 96, 79, 42, 182, 0, 108, 16, 44, 160, 0, 18, 42]
abbrev dktX2_readsPositions_2 : List UInt8 := dkwX2_readsPositions_2 ++ dktX2_readsPositions_3
def dkwX2_readsPositions_1 : List UInt8 := [154, 0, 5, 3, 172, 42, 180, 0, 118, 60, 42, 180, 0, 7, 4, 42, 180, 0, 7, 3, 46, 96, 42]
abbrev dktX2_readsPositions_1 : List UInt8 := dkwX2_readsPositions_1 ++ dktX2_readsPositions_2
def dkwX2_readsPositions_0 : List UInt8 := [2, 60, 42, 16, 112, 182, 0, 129, 61, 28, 153, 0, 98, 42, 6, 27, 4, 96, 17, 1, 44, 182, 0, 132]
abbrev dktX2_readsPositions_0 : List UInt8 := dkwX2_readsPositions_0 ++ dktX2_readsPositions_1
theorem dksX2_readsPositions_0 : cX2_readsPositions.data.toList.drop 0 = dktX2_readsPositions_0 := by decide +kernel
theorem dksX2_readsPositions_1 : cX2_readsPositions.data.toList.drop 24 = dktX2_readsPositions_1 := dk_seg dksX2_readsPositions_0 24 rfl rfl
theorem dksX2_readsPositions_2 : cX2_readsPositions.data.toList.drop 47 = dktX2_readsPositions_2 := dk_seg dksX2_readsPositions_1 23 rfl rfl
theorem dksX2_readsPositions_3 : cX2_readsPositions.data.toList.drop 71 = dktX2_readsPositions_3 := dk_seg dksX2_readsPositions_2 24 rfl rfl
theorem dksX2_readsPositions_4 : cX2_readsPositions.data.toList.drop 93 = dktX2_readsPositions_4 := dk_seg dksX2_readsPositions_3 22 rfl rfl
theorem dksX2_readsPositions_5 : cX2_readsPositions.data.toList.drop 116 = dktX2_readsPositions_5 := dk_seg dksX2_readsPositions_4 23 rfl rfl
theorem dX2_readsPositions_0 : decode cX2_readsPositions 0 = .ok (.iconst (-1), 1) := dk_2 (dk_at dksX2_readsPositions_0 0 rfl rfl)
theorem dX2_readsPositions_1 : decode cX2_readsPositions 1 = .ok (.istore_n 1, 1) := dk_60 (dk_at dksX2_readsPositions_0 1 rfl rfl)
theorem dX2_readsPositions_2 : decode cX2_readsPositions 2 = .ok (.aload_n 0, 1) := dk_42 (dk_at dksX2_readsPositions_0 2 rfl rfl)
theorem dX2_readsPositions_3 : decode cX2_readsPositions 3 = .ok (.bipush 112, 2) := dk_16 112 (dk_at dksX2_readsPositions_0 3 rfl rfl)
theorem dX2_readsPositions_5 : decode cX2_readsPositions 5 = .ok (.invokevirtual 129, 3) := dk_182 0 129 (dk_at dksX2_readsPositions_0 5 rfl rfl)
theorem dX2_readsPositions_8 : decode cX2_readsPositions 8 = .ok (.istore_n 2, 1) := dk_61 (dk_at dksX2_readsPositions_0 8 rfl rfl)
theorem dX2_readsPositions_9 : decode cX2_readsPositions 9 = .ok (.iload_n 2, 1) := dk_28 (dk_at dksX2_readsPositions_0 9 rfl rfl)
theorem dX2_readsPositions_10 : decode cX2_readsPositions 10 = .ok (.ifCond .eq 98, 3) := dk_153 0 98 (dk_at dksX2_readsPositions_0 10 rfl rfl)
theorem dX2_readsPositions_13 : decode cX2_readsPositions 13 = .ok (.aload_n 0, 1) := dk_42 (dk_at dksX2_readsPositions_0 13 rfl rfl)
theorem dX2_readsPositions_14 : decode cX2_readsPositions 14 = .ok (.iconst 3, 1) := dk_6 (dk_at dksX2_readsPositions_0 14 rfl rfl)
theorem dX2_readsPositions_15 : decode cX2_readsPositions 15 = .ok (.iload_n 1, 1) := dk_27 (dk_at dksX2_readsPositions_0 15 rfl rfl)
theorem dX2_readsPositions_16 : decode cX2_readsPositions 16 = .ok (.iconst 1, 1) := dk_4 (dk_at dksX2_readsPositions_0 16 rfl rfl)
theorem dX2_readsPositions_17 : decode cX2_readsPositions 17 = .ok (.iadd, 1) := dk_96 (dk_at dksX2_readsPositions_0 17 rfl rfl)
theorem dX2_readsPositions_18 : decode cX2_readsPositions 18 = .ok (.sipush 300, 3) := dk_17 1 44 (dk_at dksX2_readsPositions_0 18 rfl rfl)
theorem dX2_readsPositions_21 : decode cX2_readsPositions 21 = .ok (.invokevirtual 132, 3) := dk_182 0 132 (dk_at dksX2_readsPositions_0 21 rfl rfl)
theorem dX2_readsPositions_24 : decode cX2_readsPositions 24 = .ok (.ifCond .ne 5, 3) := dk_154 0 5 (dk_at dksX2_readsPositions_1 0 rfl rfl)
theorem dX2_readsPositions_27 : decode cX2_readsPositions 27 = .ok (.iconst 0, 1) := dk_3 (dk_at dksX2_readsPositions_1 3 rfl rfl)
theorem dX2_readsPositions_28 : decode cX2_readsPositions 28 = .ok (.ireturn, 1) := dk_172 (dk_at dksX2_readsPositions_1 4 rfl rfl)
theorem dX2_readsPositions_29 : decode cX2_readsPositions 29 = .ok (.aload_n 0, 1) := dk_42 (dk_at dksX2_readsPositions_1 5 rfl rfl)
theorem dX2_readsPositions_30 : decode cX2_readsPositions 30 = .ok (.getfield 118, 3) := dk_180 0 118 (dk_at dksX2_readsPositions_1 6 rfl rfl)
theorem dX2_readsPositions_33 : decode cX2_readsPositions 33 = .ok (.istore_n 1, 1) := dk_60 (dk_at dksX2_readsPositions_1 9 rfl rfl)
theorem dX2_readsPositions_34 : decode cX2_readsPositions 34 = .ok (.aload_n 0, 1) := dk_42 (dk_at dksX2_readsPositions_1 10 rfl rfl)
theorem dX2_readsPositions_35 : decode cX2_readsPositions 35 = .ok (.getfield 7, 3) := dk_180 0 7 (dk_at dksX2_readsPositions_1 11 rfl rfl)
theorem dX2_readsPositions_38 : decode cX2_readsPositions 38 = .ok (.iconst 1, 1) := dk_4 (dk_at dksX2_readsPositions_1 14 rfl rfl)
theorem dX2_readsPositions_39 : decode cX2_readsPositions 39 = .ok (.aload_n 0, 1) := dk_42 (dk_at dksX2_readsPositions_1 15 rfl rfl)
theorem dX2_readsPositions_40 : decode cX2_readsPositions 40 = .ok (.getfield 7, 3) := dk_180 0 7 (dk_at dksX2_readsPositions_1 16 rfl rfl)
theorem dX2_readsPositions_43 : decode cX2_readsPositions 43 = .ok (.iconst 0, 1) := dk_3 (dk_at dksX2_readsPositions_1 19 rfl rfl)
theorem dX2_readsPositions_44 : decode cX2_readsPositions 44 = .ok (.iaload, 1) := dk_46 (dk_at dksX2_readsPositions_1 20 rfl rfl)
theorem dX2_readsPositions_45 : decode cX2_readsPositions 45 = .ok (.iadd, 1) := dk_96 (dk_at dksX2_readsPositions_1 21 rfl rfl)
theorem dX2_readsPositions_46 : decode cX2_readsPositions 46 = .ok (.aload_n 0, 1) := dk_42 (dk_at dksX2_readsPositions_1 22 rfl rfl)
theorem dX2_readsPositions_47 : decode cX2_readsPositions 47 = .ok (.getfield 118, 3) := dk_180 0 118 (dk_at dksX2_readsPositions_2 0 rfl rfl)
theorem dX2_readsPositions_50 : decode cX2_readsPositions 50 = .ok (.iastore, 1) := dk_79 (dk_at dksX2_readsPositions_2 3 rfl rfl)
theorem dX2_readsPositions_51 : decode cX2_readsPositions 51 = .ok (.aload_n 0, 1) := dk_42 (dk_at dksX2_readsPositions_2 4 rfl rfl)
theorem dX2_readsPositions_52 : decode cX2_readsPositions 52 = .ok (.getfield 7, 3) := dk_180 0 7 (dk_at dksX2_readsPositions_2 5 rfl rfl)
theorem dX2_readsPositions_55 : decode cX2_readsPositions 55 = .ok (.iconst 0, 1) := dk_3 (dk_at dksX2_readsPositions_2 8 rfl rfl)
theorem dX2_readsPositions_56 : decode cX2_readsPositions 56 = .ok (.dup2, 1) := dk_92 (dk_at dksX2_readsPositions_2 9 rfl rfl)
theorem dX2_readsPositions_57 : decode cX2_readsPositions 57 = .ok (.iaload, 1) := dk_46 (dk_at dksX2_readsPositions_2 10 rfl rfl)
theorem dX2_readsPositions_58 : decode cX2_readsPositions 58 = .ok (.iconst 1, 1) := dk_4 (dk_at dksX2_readsPositions_2 11 rfl rfl)
theorem dX2_readsPositions_59 : decode cX2_readsPositions 59 = .ok (.iadd, 1) := dk_96 (dk_at dksX2_readsPositions_2 12 rfl rfl)
theorem dX2_readsPositions_60 : decode cX2_readsPositions 60 = .ok (.iastore, 1) := dk_79 (dk_at dksX2_readsPositions_2 13 rfl rfl)
theorem dX2_readsPositions_61 : decode cX2_readsPositions 61 = .ok (.aload_n 0, 1) := dk_42 (dk_at dksX2_readsPositions_2 14 rfl rfl)
theorem dX2_readsPositions_62 : decode cX2_readsPositions 62 = .ok (.invokevirtual 108, 3) := dk_182 0 108 (dk_at dksX2_readsPositions_2 15 rfl rfl)
theorem dX2_readsPositions_65 : decode cX2_readsPositions 65 = .ok (.bipush 44, 2) := dk_16 44 (dk_at dksX2_readsPositions_2 18 rfl rfl)
theorem dX2_readsPositions_67 : decode cX2_readsPositions 67 = .ok (.if_icmp .ne 18, 3) := dk_160 0 18 (dk_at dksX2_readsPositions_2 20 rfl rfl)
theorem dX2_readsPositions_70 : decode cX2_readsPositions 70 = .ok (.aload_n 0, 1) := dk_42 (dk_at dksX2_readsPositions_2 23 rfl rfl)
theorem dX2_readsPositions_71 : decode cX2_readsPositions 71 = .ok (.getfield 7, 3) := dk_180 0 7 (dk_at dksX2_readsPositions_3 0 rfl rfl)
theorem dX2_readsPositions_74 : decode cX2_readsPositions 74 = .ok (.iconst 0, 1) := dk_3 (dk_at dksX2_readsPositions_3 3 rfl rfl)
theorem dX2_readsPositions_75 : decode cX2_readsPositions 75 = .ok (.iaload, 1) := dk_46 (dk_at dksX2_readsPositions_3 4 rfl rfl)
theorem dX2_readsPositions_76 : decode cX2_readsPositions 76 = .ok (.bipush 12, 2) := dk_16 12 (dk_at dksX2_readsPositions_3 5 rfl rfl)
theorem dX2_readsPositions_78 : decode cX2_readsPositions 78 = .ok (.if_icmp .ge 7, 3) := dk_162 0 7 (dk_at dksX2_readsPositions_3 7 rfl rfl)
theorem dX2_readsPositions_81 : decode cX2_readsPositions 81 = .ok (.iconst 1, 1) := dk_4 (dk_at dksX2_readsPositions_3 10 rfl rfl)
theorem dX2_readsPositions_82 : decode cX2_readsPositions 82 = .ok (.goto 4, 3) := dk_167 0 4 (dk_at dksX2_readsPositions_3 11 rfl rfl)
theorem dX2_readsPositions_85 : decode cX2_readsPositions 85 = .ok (.iconst 0, 1) := dk_3 (dk_at dksX2_readsPositions_3 14 rfl rfl)
theorem dX2_readsPositions_86 : decode cX2_readsPositions 86 = .ok (.istore_n 2, 1) := dk_61 (dk_at dksX2_readsPositions_3 15 rfl rfl)
theorem dX2_readsPositions_87 : decode cX2_readsPositions 87 = .ok (.aload_n 0, 1) := dk_42 (dk_at dksX2_readsPositions_3 16 rfl rfl)
theorem dX2_readsPositions_88 : decode cX2_readsPositions 88 = .ok (.dup, 1) := dk_89 (dk_at dksX2_readsPositions_3 17 rfl rfl)
theorem dX2_readsPositions_89 : decode cX2_readsPositions 89 = .ok (.getfield 105, 3) := dk_180 0 105 (dk_at dksX2_readsPositions_3 18 rfl rfl)
theorem dX2_readsPositions_92 : decode cX2_readsPositions 92 = .ok (.iload_n 2, 1) := dk_28 (dk_at dksX2_readsPositions_3 21 rfl rfl)
theorem dX2_readsPositions_93 : decode cX2_readsPositions 93 = .ok (.ifCond .eq 7, 3) := dk_153 0 7 (dk_at dksX2_readsPositions_4 0 rfl rfl)
theorem dX2_readsPositions_96 : decode cX2_readsPositions 96 = .ok (.iconst 1, 1) := dk_4 (dk_at dksX2_readsPositions_4 3 rfl rfl)
theorem dX2_readsPositions_97 : decode cX2_readsPositions 97 = .ok (.goto 4, 3) := dk_167 0 4 (dk_at dksX2_readsPositions_4 4 rfl rfl)
theorem dX2_readsPositions_100 : decode cX2_readsPositions 100 = .ok (.iconst 0, 1) := dk_3 (dk_at dksX2_readsPositions_4 7 rfl rfl)
theorem dX2_readsPositions_101 : decode cX2_readsPositions 101 = .ok (.iadd, 1) := dk_96 (dk_at dksX2_readsPositions_4 8 rfl rfl)
theorem dX2_readsPositions_102 : decode cX2_readsPositions 102 = .ok (.putfield 105, 3) := dk_181 0 105 (dk_at dksX2_readsPositions_4 9 rfl rfl)
theorem dX2_readsPositions_105 : decode cX2_readsPositions 105 = .ok (.goto (-96), 3) := dk_167 255 160 (dk_at dksX2_readsPositions_4 12 rfl rfl)
theorem dX2_readsPositions_108 : decode cX2_readsPositions 108 = .ok (.aload_n 0, 1) := dk_42 (dk_at dksX2_readsPositions_4 15 rfl rfl)
theorem dX2_readsPositions_109 : decode cX2_readsPositions 109 = .ok (.getfield 112, 3) := dk_180 0 112 (dk_at dksX2_readsPositions_4 16 rfl rfl)
theorem dX2_readsPositions_112 : decode cX2_readsPositions 112 = .ok (.ifCond .ne 7, 3) := dk_154 0 7 (dk_at dksX2_readsPositions_4 19 rfl rfl)
theorem dX2_readsPositions_115 : decode cX2_readsPositions 115 = .ok (.iconst 1, 1) := dk_4 (dk_at dksX2_readsPositions_4 22 rfl rfl)
theorem dX2_readsPositions_116 : decode cX2_readsPositions 116 = .ok (.goto 4, 3) := dk_167 0 4 (dk_at dksX2_readsPositions_5 0 rfl rfl)
theorem dX2_readsPositions_119 : decode cX2_readsPositions 119 = .ok (.iconst 0, 1) := dk_3 (dk_at dksX2_readsPositions_5 3 rfl rfl)
theorem dX2_readsPositions_120 : decode cX2_readsPositions 120 = .ok (.ireturn, 1) := dk_172 (dk_at dksX2_readsPositions_5 4 rfl rfl)
abbrev cX2_reads : ByteArray := prog_12_method_38_code
def yX2_reads : MethodName := ⟨RX2, "reads", "(I)Z"⟩
def dkwX2_reads_1 : List UInt8 := [96, 181, 0, 105, 4, 172]
abbrev dktX2_reads_1 : List UInt8 := dkwX2_reads_1 ++ []
def dkwX2_reads_0 : List UInt8 := [42, 182, 0, 108, 27, 159, 0, 13, 42, 4, 42, 180, 0, 105, 182, 0, 125, 172, 42, 89, 180, 0, 105, 4]
abbrev dktX2_reads_0 : List UInt8 := dkwX2_reads_0 ++ dktX2_reads_1
theorem dksX2_reads_0 : cX2_reads.data.toList.drop 0 = dktX2_reads_0 := by decide +kernel
theorem dksX2_reads_1 : cX2_reads.data.toList.drop 24 = dktX2_reads_1 := dk_seg dksX2_reads_0 24 rfl rfl
theorem dX2_reads_0 : decode cX2_reads 0 = .ok (.aload_n 0, 1) := dk_42 (dk_at dksX2_reads_0 0 rfl rfl)
theorem dX2_reads_1 : decode cX2_reads 1 = .ok (.invokevirtual 108, 3) := dk_182 0 108 (dk_at dksX2_reads_0 1 rfl rfl)
theorem dX2_reads_4 : decode cX2_reads 4 = .ok (.iload_n 1, 1) := dk_27 (dk_at dksX2_reads_0 4 rfl rfl)
theorem dX2_reads_5 : decode cX2_reads 5 = .ok (.if_icmp .eq 13, 3) := dk_159 0 13 (dk_at dksX2_reads_0 5 rfl rfl)
theorem dX2_reads_8 : decode cX2_reads 8 = .ok (.aload_n 0, 1) := dk_42 (dk_at dksX2_reads_0 8 rfl rfl)
theorem dX2_reads_9 : decode cX2_reads 9 = .ok (.iconst 1, 1) := dk_4 (dk_at dksX2_reads_0 9 rfl rfl)
theorem dX2_reads_10 : decode cX2_reads 10 = .ok (.aload_n 0, 1) := dk_42 (dk_at dksX2_reads_0 10 rfl rfl)
theorem dX2_reads_11 : decode cX2_reads 11 = .ok (.getfield 105, 3) := dk_180 0 105 (dk_at dksX2_reads_0 11 rfl rfl)
theorem dX2_reads_14 : decode cX2_reads 14 = .ok (.invokevirtual 125, 3) := dk_182 0 125 (dk_at dksX2_reads_0 14 rfl rfl)
theorem dX2_reads_17 : decode cX2_reads 17 = .ok (.ireturn, 1) := dk_172 (dk_at dksX2_reads_0 17 rfl rfl)
theorem dX2_reads_18 : decode cX2_reads 18 = .ok (.aload_n 0, 1) := dk_42 (dk_at dksX2_reads_0 18 rfl rfl)
theorem dX2_reads_19 : decode cX2_reads 19 = .ok (.dup, 1) := dk_89 (dk_at dksX2_reads_0 19 rfl rfl)
theorem dX2_reads_20 : decode cX2_reads 20 = .ok (.getfield 105, 3) := dk_180 0 105 (dk_at dksX2_reads_0 20 rfl rfl)
theorem dX2_reads_23 : decode cX2_reads 23 = .ok (.iconst 1, 1) := dk_4 (dk_at dksX2_reads_0 23 rfl rfl)
theorem dX2_reads_24 : decode cX2_reads 24 = .ok (.iadd, 1) := dk_96 (dk_at dksX2_reads_1 0 rfl rfl)
theorem dX2_reads_25 : decode cX2_reads 25 = .ok (.putfield 105, 3) := dk_181 0 105 (dk_at dksX2_reads_1 1 rfl rfl)
theorem dX2_reads_28 : decode cX2_reads 28 = .ok (.iconst 1, 1) := dk_4 (dk_at dksX2_reads_1 4 rfl rfl)
theorem dX2_reads_29 : decode cX2_reads 29 = .ok (.ireturn, 1) := dk_172 (dk_at dksX2_reads_1 5 rfl rfl)
abbrev cX2_here : ByteArray := prog_12_method_34_code
def yX2_here : MethodName := ⟨RX2, "here", "()I"⟩
def dkwX2_here_1 : List UInt8 := [17, 252, 25, 172]
abbrev dktX2_here_1 : List UInt8 := dkwX2_here_1 ++ []
def dkwX2_here_0 : List UInt8 := [42, 180, 0, 105, 42, 180, 0, 102, 162, 0, 15, 42, 180, 0, 13, 42, 180, 0, 105, 46, 167, 0, 6]
abbrev dktX2_here_0 : List UInt8 := dkwX2_here_0 ++ dktX2_here_1
theorem dksX2_here_0 : cX2_here.data.toList.drop 0 = dktX2_here_0 := by decide +kernel
theorem dksX2_here_1 : cX2_here.data.toList.drop 23 = dktX2_here_1 := dk_seg dksX2_here_0 23 rfl rfl
theorem dX2_here_0 : decode cX2_here 0 = .ok (.aload_n 0, 1) := dk_42 (dk_at dksX2_here_0 0 rfl rfl)
theorem dX2_here_1 : decode cX2_here 1 = .ok (.getfield 105, 3) := dk_180 0 105 (dk_at dksX2_here_0 1 rfl rfl)
theorem dX2_here_4 : decode cX2_here 4 = .ok (.aload_n 0, 1) := dk_42 (dk_at dksX2_here_0 4 rfl rfl)
theorem dX2_here_5 : decode cX2_here 5 = .ok (.getfield 102, 3) := dk_180 0 102 (dk_at dksX2_here_0 5 rfl rfl)
theorem dX2_here_8 : decode cX2_here 8 = .ok (.if_icmp .ge 15, 3) := dk_162 0 15 (dk_at dksX2_here_0 8 rfl rfl)
theorem dX2_here_11 : decode cX2_here 11 = .ok (.aload_n 0, 1) := dk_42 (dk_at dksX2_here_0 11 rfl rfl)
theorem dX2_here_12 : decode cX2_here 12 = .ok (.getfield 13, 3) := dk_180 0 13 (dk_at dksX2_here_0 12 rfl rfl)
theorem dX2_here_15 : decode cX2_here 15 = .ok (.aload_n 0, 1) := dk_42 (dk_at dksX2_here_0 15 rfl rfl)
theorem dX2_here_16 : decode cX2_here 16 = .ok (.getfield 105, 3) := dk_180 0 105 (dk_at dksX2_here_0 16 rfl rfl)
theorem dX2_here_19 : decode cX2_here 19 = .ok (.iaload, 1) := dk_46 (dk_at dksX2_here_0 19 rfl rfl)
theorem dX2_here_20 : decode cX2_here 20 = .ok (.goto 6, 3) := dk_167 0 6 (dk_at dksX2_here_0 20 rfl rfl)
theorem dX2_here_23 : decode cX2_here 23 = .ok (.sipush (-999), 3) := dk_17 252 25 (dk_at dksX2_here_1 0 rfl rfl)
theorem dX2_here_26 : decode cX2_here 26 = .ok (.ireturn, 1) := dk_172 (dk_at dksX2_here_1 3 rfl rfl)
abbrev cX2_fails : ByteArray := prog_12_method_36_code
def yX2_fails : MethodName := ⟨RX2, "fails", "(II)Z"⟩
def dkwX2_fails_0 : List UInt8 := [42, 27, 181, 0, 112, 42, 28, 181, 0, 115, 3, 172]
abbrev dktX2_fails_0 : List UInt8 := dkwX2_fails_0 ++ []
theorem dksX2_fails_0 : cX2_fails.data.toList.drop 0 = dktX2_fails_0 := by decide +kernel
theorem dX2_fails_0 : decode cX2_fails 0 = .ok (.aload_n 0, 1) := dk_42 (dk_at dksX2_fails_0 0 rfl rfl)
theorem dX2_fails_1 : decode cX2_fails 1 = .ok (.iload_n 1, 1) := dk_27 (dk_at dksX2_fails_0 1 rfl rfl)
theorem dX2_fails_2 : decode cX2_fails 2 = .ok (.putfield 112, 3) := dk_181 0 112 (dk_at dksX2_fails_0 2 rfl rfl)
theorem dX2_fails_5 : decode cX2_fails 5 = .ok (.aload_n 0, 1) := dk_42 (dk_at dksX2_fails_0 5 rfl rfl)
theorem dX2_fails_6 : decode cX2_fails 6 = .ok (.iload_n 2, 1) := dk_28 (dk_at dksX2_fails_0 6 rfl rfl)
theorem dX2_fails_7 : decode cX2_fails 7 = .ok (.putfield 115, 3) := dk_181 0 115 (dk_at dksX2_fails_0 7 rfl rfl)
theorem dX2_fails_10 : decode cX2_fails 10 = .ok (.iconst 0, 1) := dk_3 (dk_at dksX2_fails_0 10 rfl rfl)
theorem dX2_fails_11 : decode cX2_fails 11 = .ok (.ireturn, 1) := dk_172 (dk_at dksX2_fails_0 11 rfl rfl)
abbrev cX2_readsNumber : ByteArray := prog_12_method_37_code
def yX2_readsNumber : MethodName := ⟨RX2, "readsNumber", "(III)Z"⟩
def dkwX2_readsNumber_4 : List UInt8 := [184, 0, 46, 154, 0, 13, 42, 5, 21, 4, 182, 0, 125, 153, 0, 7, 4, 167, 0, 4, 3, 172]
abbrev dktX2_readsNumber_4 : List UInt8 := dkwX2_readsNumber_4 ++ []
def dkwX2_readsNumber_3 : List UInt8 := [182, 0, 121, 153, 0, 13, 42, 4, 42, 180, 0, 105, 182, 0, 125, 172, 42, 180, 0, 118, 28, 29]
abbrev dktX2_readsNumber_3 : List UInt8 := dkwX2_readsNumber_3 ++ dktX2_readsNumber_4
def dkwX2_readsNumber_2 : List UInt8 := [42, 89, 180, 0, 105, 4, 96, 181, 0, 105, 167, 255, 209, 42, 180, 0, 105, 21, 4, 159, 0, 10, 42]
abbrev dktX2_readsNumber_2 : List UInt8 := dkwX2_readsNumber_2 ++ dktX2_readsNumber_3
def dkwX2_readsNumber_1 : List UInt8 := [27, 96, 162, 0, 35, 42, 16, 10, 42, 180, 0, 118, 104, 42, 182, 0, 108, 96, 16, 48, 100, 181, 0, 118]
abbrev dktX2_readsNumber_1 : List UInt8 := dkwX2_readsNumber_1 ++ dktX2_readsNumber_2
def dkwX2_readsNumber_0 : List UInt8 := [42, 180, 0, 105, 54, 4, 42, 3, 181, 0, 118, 42, 182, 0, 121, 153, 0, 46, 42, 180, 0, 105, 21, 4]
abbrev dktX2_readsNumber_0 : List UInt8 := dkwX2_readsNumber_0 ++ dktX2_readsNumber_1
theorem dksX2_readsNumber_0 : cX2_readsNumber.data.toList.drop 0 = dktX2_readsNumber_0 := by decide +kernel
theorem dksX2_readsNumber_1 : cX2_readsNumber.data.toList.drop 24 = dktX2_readsNumber_1 := dk_seg dksX2_readsNumber_0 24 rfl rfl
theorem dksX2_readsNumber_2 : cX2_readsNumber.data.toList.drop 48 = dktX2_readsNumber_2 := dk_seg dksX2_readsNumber_1 24 rfl rfl
theorem dksX2_readsNumber_3 : cX2_readsNumber.data.toList.drop 71 = dktX2_readsNumber_3 := dk_seg dksX2_readsNumber_2 23 rfl rfl
theorem dksX2_readsNumber_4 : cX2_readsNumber.data.toList.drop 93 = dktX2_readsNumber_4 := dk_seg dksX2_readsNumber_3 22 rfl rfl
theorem dX2_readsNumber_0 : decode cX2_readsNumber 0 = .ok (.aload_n 0, 1) := dk_42 (dk_at dksX2_readsNumber_0 0 rfl rfl)
theorem dX2_readsNumber_1 : decode cX2_readsNumber 1 = .ok (.getfield 105, 3) := dk_180 0 105 (dk_at dksX2_readsNumber_0 1 rfl rfl)
theorem dX2_readsNumber_4 : decode cX2_readsNumber 4 = .ok (.istore 4, 2) := dk_54 4 (dk_at dksX2_readsNumber_0 4 rfl rfl)
theorem dX2_readsNumber_6 : decode cX2_readsNumber 6 = .ok (.aload_n 0, 1) := dk_42 (dk_at dksX2_readsNumber_0 6 rfl rfl)
theorem dX2_readsNumber_7 : decode cX2_readsNumber 7 = .ok (.iconst 0, 1) := dk_3 (dk_at dksX2_readsNumber_0 7 rfl rfl)
theorem dX2_readsNumber_8 : decode cX2_readsNumber 8 = .ok (.putfield 118, 3) := dk_181 0 118 (dk_at dksX2_readsNumber_0 8 rfl rfl)
theorem dX2_readsNumber_11 : decode cX2_readsNumber 11 = .ok (.aload_n 0, 1) := dk_42 (dk_at dksX2_readsNumber_0 11 rfl rfl)
theorem dX2_readsNumber_12 : decode cX2_readsNumber 12 = .ok (.invokevirtual 121, 3) := dk_182 0 121 (dk_at dksX2_readsNumber_0 12 rfl rfl)
theorem dX2_readsNumber_15 : decode cX2_readsNumber 15 = .ok (.ifCond .eq 46, 3) := dk_153 0 46 (dk_at dksX2_readsNumber_0 15 rfl rfl)
theorem dX2_readsNumber_18 : decode cX2_readsNumber 18 = .ok (.aload_n 0, 1) := dk_42 (dk_at dksX2_readsNumber_0 18 rfl rfl)
theorem dX2_readsNumber_19 : decode cX2_readsNumber 19 = .ok (.getfield 105, 3) := dk_180 0 105 (dk_at dksX2_readsNumber_0 19 rfl rfl)
theorem dX2_readsNumber_22 : decode cX2_readsNumber 22 = .ok (.iload 4, 2) := dk_21 4 (dk_at dksX2_readsNumber_0 22 rfl rfl)
theorem dX2_readsNumber_24 : decode cX2_readsNumber 24 = .ok (.iload_n 1, 1) := dk_27 (dk_at dksX2_readsNumber_1 0 rfl rfl)
theorem dX2_readsNumber_25 : decode cX2_readsNumber 25 = .ok (.iadd, 1) := dk_96 (dk_at dksX2_readsNumber_1 1 rfl rfl)
theorem dX2_readsNumber_26 : decode cX2_readsNumber 26 = .ok (.if_icmp .ge 35, 3) := dk_162 0 35 (dk_at dksX2_readsNumber_1 2 rfl rfl)
theorem dX2_readsNumber_29 : decode cX2_readsNumber 29 = .ok (.aload_n 0, 1) := dk_42 (dk_at dksX2_readsNumber_1 5 rfl rfl)
theorem dX2_readsNumber_30 : decode cX2_readsNumber 30 = .ok (.bipush 10, 2) := dk_16 10 (dk_at dksX2_readsNumber_1 6 rfl rfl)
theorem dX2_readsNumber_32 : decode cX2_readsNumber 32 = .ok (.aload_n 0, 1) := dk_42 (dk_at dksX2_readsNumber_1 8 rfl rfl)
theorem dX2_readsNumber_33 : decode cX2_readsNumber 33 = .ok (.getfield 118, 3) := dk_180 0 118 (dk_at dksX2_readsNumber_1 9 rfl rfl)
theorem dX2_readsNumber_36 : decode cX2_readsNumber 36 = .ok (.imul, 1) := dk_104 (dk_at dksX2_readsNumber_1 12 rfl rfl)
theorem dX2_readsNumber_37 : decode cX2_readsNumber 37 = .ok (.aload_n 0, 1) := dk_42 (dk_at dksX2_readsNumber_1 13 rfl rfl)
theorem dX2_readsNumber_38 : decode cX2_readsNumber 38 = .ok (.invokevirtual 108, 3) := dk_182 0 108 (dk_at dksX2_readsNumber_1 14 rfl rfl)
theorem dX2_readsNumber_41 : decode cX2_readsNumber 41 = .ok (.iadd, 1) := dk_96 (dk_at dksX2_readsNumber_1 17 rfl rfl)
theorem dX2_readsNumber_42 : decode cX2_readsNumber 42 = .ok (.bipush 48, 2) := dk_16 48 (dk_at dksX2_readsNumber_1 18 rfl rfl)
theorem dX2_readsNumber_44 : decode cX2_readsNumber 44 = .ok (.isub, 1) := dk_100 (dk_at dksX2_readsNumber_1 20 rfl rfl)
theorem dX2_readsNumber_45 : decode cX2_readsNumber 45 = .ok (.putfield 118, 3) := dk_181 0 118 (dk_at dksX2_readsNumber_1 21 rfl rfl)
theorem dX2_readsNumber_48 : decode cX2_readsNumber 48 = .ok (.aload_n 0, 1) := dk_42 (dk_at dksX2_readsNumber_2 0 rfl rfl)
theorem dX2_readsNumber_49 : decode cX2_readsNumber 49 = .ok (.dup, 1) := dk_89 (dk_at dksX2_readsNumber_2 1 rfl rfl)
theorem dX2_readsNumber_50 : decode cX2_readsNumber 50 = .ok (.getfield 105, 3) := dk_180 0 105 (dk_at dksX2_readsNumber_2 2 rfl rfl)
theorem dX2_readsNumber_53 : decode cX2_readsNumber 53 = .ok (.iconst 1, 1) := dk_4 (dk_at dksX2_readsNumber_2 5 rfl rfl)
theorem dX2_readsNumber_54 : decode cX2_readsNumber 54 = .ok (.iadd, 1) := dk_96 (dk_at dksX2_readsNumber_2 6 rfl rfl)
theorem dX2_readsNumber_55 : decode cX2_readsNumber 55 = .ok (.putfield 105, 3) := dk_181 0 105 (dk_at dksX2_readsNumber_2 7 rfl rfl)
theorem dX2_readsNumber_58 : decode cX2_readsNumber 58 = .ok (.goto (-47), 3) := dk_167 255 209 (dk_at dksX2_readsNumber_2 10 rfl rfl)
theorem dX2_readsNumber_61 : decode cX2_readsNumber 61 = .ok (.aload_n 0, 1) := dk_42 (dk_at dksX2_readsNumber_2 13 rfl rfl)
theorem dX2_readsNumber_62 : decode cX2_readsNumber 62 = .ok (.getfield 105, 3) := dk_180 0 105 (dk_at dksX2_readsNumber_2 14 rfl rfl)
theorem dX2_readsNumber_65 : decode cX2_readsNumber 65 = .ok (.iload 4, 2) := dk_21 4 (dk_at dksX2_readsNumber_2 17 rfl rfl)
theorem dX2_readsNumber_67 : decode cX2_readsNumber 67 = .ok (.if_icmp .eq 10, 3) := dk_159 0 10 (dk_at dksX2_readsNumber_2 19 rfl rfl)
theorem dX2_readsNumber_70 : decode cX2_readsNumber 70 = .ok (.aload_n 0, 1) := dk_42 (dk_at dksX2_readsNumber_2 22 rfl rfl)
theorem dX2_readsNumber_71 : decode cX2_readsNumber 71 = .ok (.invokevirtual 121, 3) := dk_182 0 121 (dk_at dksX2_readsNumber_3 0 rfl rfl)
theorem dX2_readsNumber_74 : decode cX2_readsNumber 74 = .ok (.ifCond .eq 13, 3) := dk_153 0 13 (dk_at dksX2_readsNumber_3 3 rfl rfl)
theorem dX2_readsNumber_77 : decode cX2_readsNumber 77 = .ok (.aload_n 0, 1) := dk_42 (dk_at dksX2_readsNumber_3 6 rfl rfl)
theorem dX2_readsNumber_78 : decode cX2_readsNumber 78 = .ok (.iconst 1, 1) := dk_4 (dk_at dksX2_readsNumber_3 7 rfl rfl)
theorem dX2_readsNumber_79 : decode cX2_readsNumber 79 = .ok (.aload_n 0, 1) := dk_42 (dk_at dksX2_readsNumber_3 8 rfl rfl)
theorem dX2_readsNumber_80 : decode cX2_readsNumber 80 = .ok (.getfield 105, 3) := dk_180 0 105 (dk_at dksX2_readsNumber_3 9 rfl rfl)
theorem dX2_readsNumber_83 : decode cX2_readsNumber 83 = .ok (.invokevirtual 125, 3) := dk_182 0 125 (dk_at dksX2_readsNumber_3 12 rfl rfl)
theorem dX2_readsNumber_86 : decode cX2_readsNumber 86 = .ok (.ireturn, 1) := dk_172 (dk_at dksX2_readsNumber_3 15 rfl rfl)
theorem dX2_readsNumber_87 : decode cX2_readsNumber 87 = .ok (.aload_n 0, 1) := dk_42 (dk_at dksX2_readsNumber_3 16 rfl rfl)
theorem dX2_readsNumber_88 : decode cX2_readsNumber 88 = .ok (.getfield 118, 3) := dk_180 0 118 (dk_at dksX2_readsNumber_3 17 rfl rfl)
theorem dX2_readsNumber_91 : decode cX2_readsNumber 91 = .ok (.iload_n 2, 1) := dk_28 (dk_at dksX2_readsNumber_3 20 rfl rfl)
theorem dX2_readsNumber_92 : decode cX2_readsNumber 92 = .ok (.iload_n 3, 1) := dk_29 (dk_at dksX2_readsNumber_3 21 rfl rfl)
theorem dX2_readsNumber_93 : decode cX2_readsNumber 93 = .ok (.invokestatic 46, 3) := dk_184 0 46 (dk_at dksX2_readsNumber_4 0 rfl rfl)
theorem dX2_readsNumber_96 : decode cX2_readsNumber 96 = .ok (.ifCond .ne 13, 3) := dk_154 0 13 (dk_at dksX2_readsNumber_4 3 rfl rfl)
theorem dX2_readsNumber_99 : decode cX2_readsNumber 99 = .ok (.aload_n 0, 1) := dk_42 (dk_at dksX2_readsNumber_4 6 rfl rfl)
theorem dX2_readsNumber_100 : decode cX2_readsNumber 100 = .ok (.iconst 2, 1) := dk_5 (dk_at dksX2_readsNumber_4 7 rfl rfl)
theorem dX2_readsNumber_101 : decode cX2_readsNumber 101 = .ok (.iload 4, 2) := dk_21 4 (dk_at dksX2_readsNumber_4 8 rfl rfl)
theorem dX2_readsNumber_103 : decode cX2_readsNumber 103 = .ok (.invokevirtual 125, 3) := dk_182 0 125 (dk_at dksX2_readsNumber_4 10 rfl rfl)
theorem dX2_readsNumber_106 : decode cX2_readsNumber 106 = .ok (.ifCond .eq 7, 3) := dk_153 0 7 (dk_at dksX2_readsNumber_4 13 rfl rfl)
theorem dX2_readsNumber_109 : decode cX2_readsNumber 109 = .ok (.iconst 1, 1) := dk_4 (dk_at dksX2_readsNumber_4 16 rfl rfl)
theorem dX2_readsNumber_110 : decode cX2_readsNumber 110 = .ok (.goto 4, 3) := dk_167 0 4 (dk_at dksX2_readsNumber_4 17 rfl rfl)
theorem dX2_readsNumber_113 : decode cX2_readsNumber 113 = .ok (.iconst 0, 1) := dk_3 (dk_at dksX2_readsNumber_4 20 rfl rfl)
theorem dX2_readsNumber_114 : decode cX2_readsNumber 114 = .ok (.ireturn, 1) := dk_172 (dk_at dksX2_readsNumber_4 21 rfl rfl)
abbrev cX2_isDigit : ByteArray := prog_12_method_35_code
def yX2_isDigit : MethodName := ⟨RX2, "isDigit", "()Z"⟩
def dkwX2_isDigit_0 : List UInt8 := [42, 182, 0, 108, 16, 48, 16, 57, 184, 0, 46, 172]
abbrev dktX2_isDigit_0 : List UInt8 := dkwX2_isDigit_0 ++ []
theorem dksX2_isDigit_0 : cX2_isDigit.data.toList.drop 0 = dktX2_isDigit_0 := by decide +kernel
theorem dX2_isDigit_0 : decode cX2_isDigit 0 = .ok (.aload_n 0, 1) := dk_42 (dk_at dksX2_isDigit_0 0 rfl rfl)
theorem dX2_isDigit_1 : decode cX2_isDigit 1 = .ok (.invokevirtual 108, 3) := dk_182 0 108 (dk_at dksX2_isDigit_0 1 rfl rfl)
theorem dX2_isDigit_4 : decode cX2_isDigit 4 = .ok (.bipush 48, 2) := dk_16 48 (dk_at dksX2_isDigit_0 4 rfl rfl)
theorem dX2_isDigit_6 : decode cX2_isDigit 6 = .ok (.bipush 57, 2) := dk_16 57 (dk_at dksX2_isDigit_0 6 rfl rfl)
theorem dX2_isDigit_8 : decode cX2_isDigit 8 = .ok (.invokestatic 46, 3) := dk_184 0 46 (dk_at dksX2_isDigit_0 8 rfl rfl)
theorem dX2_isDigit_11 : decode cX2_isDigit 11 = .ok (.ireturn, 1) := dk_172 (dk_at dksX2_isDigit_0 11 rfl rfl)
abbrev cX2_readsDimension : ByteArray := prog_12_method_41_code
def yX2_readsDimension : MethodName := ⟨RX2, "readsDimension", "()Z"⟩
def dkwX2_readsDimension_5 : List UInt8 := [21, 4, 29, 42, 180, 0, 118, 182, 0, 88, 4, 172]
abbrev dktX2_readsDimension_5 : List UInt8 := dkwX2_readsDimension_5 ++ []
def dkwX2_readsDimension_4 : List UInt8 := [172, 42, 180, 0, 118, 54, 4, 42, 16, 99, 4, 3, 8, 182, 0, 135, 154, 0, 5, 3, 172, 42, 27, 28]
abbrev dktX2_readsDimension_4 : List UInt8 := dkwX2_readsDimension_4 ++ dktX2_readsDimension_5
def dkwX2_readsDimension_3 : List UInt8 := [154, 0, 5, 3, 172, 42, 180, 0, 118, 62, 42, 16, 45, 5, 3, 16, 20, 182, 0, 135, 154, 0, 5, 3]
abbrev dktX2_readsDimension_3 : List UInt8 := dkwX2_readsDimension_3 ++ dktX2_readsDimension_4
def dkwX2_readsDimension_2 : List UInt8 := [182, 0, 132, 154, 0, 5, 3, 172, 42, 180, 0, 118, 61, 42, 16, 43, 5, 3, 16, 20, 182, 0, 135]
abbrev dktX2_readsDimension_2 : List UInt8 := dkwX2_readsDimension_2 ++ dktX2_readsDimension_3
def dkwX2_readsDimension_1 : List UInt8 := [42, 16, 45, 182, 0, 129, 153, 0, 22, 42, 4, 27, 4, 96, 42, 180, 0, 7, 3, 46, 4, 100]
abbrev dktX2_readsDimension_1 : List UInt8 := dkwX2_readsDimension_1 ++ dktX2_readsDimension_2
def dkwX2_readsDimension_0 : List UInt8 := [42, 4, 3, 42, 180, 0, 7, 3, 46, 4, 100, 182, 0, 132, 154, 0, 5, 3, 172, 42, 180, 0, 118, 60]
abbrev dktX2_readsDimension_0 : List UInt8 := dkwX2_readsDimension_0 ++ dktX2_readsDimension_1
theorem dksX2_readsDimension_0 : cX2_readsDimension.data.toList.drop 0 = dktX2_readsDimension_0 := by decide +kernel
theorem dksX2_readsDimension_1 : cX2_readsDimension.data.toList.drop 24 = dktX2_readsDimension_1 := dk_seg dksX2_readsDimension_0 24 rfl rfl
theorem dksX2_readsDimension_2 : cX2_readsDimension.data.toList.drop 46 = dktX2_readsDimension_2 := dk_seg dksX2_readsDimension_1 22 rfl rfl
theorem dksX2_readsDimension_3 : cX2_readsDimension.data.toList.drop 69 = dktX2_readsDimension_3 := dk_seg dksX2_readsDimension_2 23 rfl rfl
theorem dksX2_readsDimension_4 : cX2_readsDimension.data.toList.drop 93 = dktX2_readsDimension_4 := dk_seg dksX2_readsDimension_3 24 rfl rfl
theorem dksX2_readsDimension_5 : cX2_readsDimension.data.toList.drop 117 = dktX2_readsDimension_5 := dk_seg dksX2_readsDimension_4 24 rfl rfl
theorem dX2_readsDimension_0 : decode cX2_readsDimension 0 = .ok (.aload_n 0, 1) := dk_42 (dk_at dksX2_readsDimension_0 0 rfl rfl)
theorem dX2_readsDimension_1 : decode cX2_readsDimension 1 = .ok (.iconst 1, 1) := dk_4 (dk_at dksX2_readsDimension_0 1 rfl rfl)
theorem dX2_readsDimension_2 : decode cX2_readsDimension 2 = .ok (.iconst 0, 1) := dk_3 (dk_at dksX2_readsDimension_0 2 rfl rfl)
theorem dX2_readsDimension_3 : decode cX2_readsDimension 3 = .ok (.aload_n 0, 1) := dk_42 (dk_at dksX2_readsDimension_0 3 rfl rfl)
theorem dX2_readsDimension_4 : decode cX2_readsDimension 4 = .ok (.getfield 7, 3) := dk_180 0 7 (dk_at dksX2_readsDimension_0 4 rfl rfl)
theorem dX2_readsDimension_7 : decode cX2_readsDimension 7 = .ok (.iconst 0, 1) := dk_3 (dk_at dksX2_readsDimension_0 7 rfl rfl)
theorem dX2_readsDimension_8 : decode cX2_readsDimension 8 = .ok (.iaload, 1) := dk_46 (dk_at dksX2_readsDimension_0 8 rfl rfl)
theorem dX2_readsDimension_9 : decode cX2_readsDimension 9 = .ok (.iconst 1, 1) := dk_4 (dk_at dksX2_readsDimension_0 9 rfl rfl)
theorem dX2_readsDimension_10 : decode cX2_readsDimension 10 = .ok (.isub, 1) := dk_100 (dk_at dksX2_readsDimension_0 10 rfl rfl)
theorem dX2_readsDimension_11 : decode cX2_readsDimension 11 = .ok (.invokevirtual 132, 3) := dk_182 0 132 (dk_at dksX2_readsDimension_0 11 rfl rfl)
theorem dX2_readsDimension_14 : decode cX2_readsDimension 14 = .ok (.ifCond .ne 5, 3) := dk_154 0 5 (dk_at dksX2_readsDimension_0 14 rfl rfl)
theorem dX2_readsDimension_17 : decode cX2_readsDimension 17 = .ok (.iconst 0, 1) := dk_3 (dk_at dksX2_readsDimension_0 17 rfl rfl)
theorem dX2_readsDimension_18 : decode cX2_readsDimension 18 = .ok (.ireturn, 1) := dk_172 (dk_at dksX2_readsDimension_0 18 rfl rfl)
theorem dX2_readsDimension_19 : decode cX2_readsDimension 19 = .ok (.aload_n 0, 1) := dk_42 (dk_at dksX2_readsDimension_0 19 rfl rfl)
theorem dX2_readsDimension_20 : decode cX2_readsDimension 20 = .ok (.getfield 118, 3) := dk_180 0 118 (dk_at dksX2_readsDimension_0 20 rfl rfl)
theorem dX2_readsDimension_23 : decode cX2_readsDimension 23 = .ok (.istore_n 1, 1) := dk_60 (dk_at dksX2_readsDimension_0 23 rfl rfl)
theorem dX2_readsDimension_24 : decode cX2_readsDimension 24 = .ok (.aload_n 0, 1) := dk_42 (dk_at dksX2_readsDimension_1 0 rfl rfl)
theorem dX2_readsDimension_25 : decode cX2_readsDimension 25 = .ok (.bipush 45, 2) := dk_16 45 (dk_at dksX2_readsDimension_1 1 rfl rfl)
theorem dX2_readsDimension_27 : decode cX2_readsDimension 27 = .ok (.invokevirtual 129, 3) := dk_182 0 129 (dk_at dksX2_readsDimension_1 3 rfl rfl)
theorem dX2_readsDimension_30 : decode cX2_readsDimension 30 = .ok (.ifCond .eq 22, 3) := dk_153 0 22 (dk_at dksX2_readsDimension_1 6 rfl rfl)
theorem dX2_readsDimension_33 : decode cX2_readsDimension 33 = .ok (.aload_n 0, 1) := dk_42 (dk_at dksX2_readsDimension_1 9 rfl rfl)
theorem dX2_readsDimension_34 : decode cX2_readsDimension 34 = .ok (.iconst 1, 1) := dk_4 (dk_at dksX2_readsDimension_1 10 rfl rfl)
theorem dX2_readsDimension_35 : decode cX2_readsDimension 35 = .ok (.iload_n 1, 1) := dk_27 (dk_at dksX2_readsDimension_1 11 rfl rfl)
theorem dX2_readsDimension_36 : decode cX2_readsDimension 36 = .ok (.iconst 1, 1) := dk_4 (dk_at dksX2_readsDimension_1 12 rfl rfl)
theorem dX2_readsDimension_37 : decode cX2_readsDimension 37 = .ok (.iadd, 1) := dk_96 (dk_at dksX2_readsDimension_1 13 rfl rfl)
theorem dX2_readsDimension_38 : decode cX2_readsDimension 38 = .ok (.aload_n 0, 1) := dk_42 (dk_at dksX2_readsDimension_1 14 rfl rfl)
theorem dX2_readsDimension_39 : decode cX2_readsDimension 39 = .ok (.getfield 7, 3) := dk_180 0 7 (dk_at dksX2_readsDimension_1 15 rfl rfl)
theorem dX2_readsDimension_42 : decode cX2_readsDimension 42 = .ok (.iconst 0, 1) := dk_3 (dk_at dksX2_readsDimension_1 18 rfl rfl)
theorem dX2_readsDimension_43 : decode cX2_readsDimension 43 = .ok (.iaload, 1) := dk_46 (dk_at dksX2_readsDimension_1 19 rfl rfl)
theorem dX2_readsDimension_44 : decode cX2_readsDimension 44 = .ok (.iconst 1, 1) := dk_4 (dk_at dksX2_readsDimension_1 20 rfl rfl)
theorem dX2_readsDimension_45 : decode cX2_readsDimension 45 = .ok (.isub, 1) := dk_100 (dk_at dksX2_readsDimension_1 21 rfl rfl)
theorem dX2_readsDimension_46 : decode cX2_readsDimension 46 = .ok (.invokevirtual 132, 3) := dk_182 0 132 (dk_at dksX2_readsDimension_2 0 rfl rfl)
theorem dX2_readsDimension_49 : decode cX2_readsDimension 49 = .ok (.ifCond .ne 5, 3) := dk_154 0 5 (dk_at dksX2_readsDimension_2 3 rfl rfl)
theorem dX2_readsDimension_52 : decode cX2_readsDimension 52 = .ok (.iconst 0, 1) := dk_3 (dk_at dksX2_readsDimension_2 6 rfl rfl)
theorem dX2_readsDimension_53 : decode cX2_readsDimension 53 = .ok (.ireturn, 1) := dk_172 (dk_at dksX2_readsDimension_2 7 rfl rfl)
theorem dX2_readsDimension_54 : decode cX2_readsDimension 54 = .ok (.aload_n 0, 1) := dk_42 (dk_at dksX2_readsDimension_2 8 rfl rfl)
theorem dX2_readsDimension_55 : decode cX2_readsDimension 55 = .ok (.getfield 118, 3) := dk_180 0 118 (dk_at dksX2_readsDimension_2 9 rfl rfl)
theorem dX2_readsDimension_58 : decode cX2_readsDimension 58 = .ok (.istore_n 2, 1) := dk_61 (dk_at dksX2_readsDimension_2 12 rfl rfl)
theorem dX2_readsDimension_59 : decode cX2_readsDimension 59 = .ok (.aload_n 0, 1) := dk_42 (dk_at dksX2_readsDimension_2 13 rfl rfl)
theorem dX2_readsDimension_60 : decode cX2_readsDimension 60 = .ok (.bipush 43, 2) := dk_16 43 (dk_at dksX2_readsDimension_2 14 rfl rfl)
theorem dX2_readsDimension_62 : decode cX2_readsDimension 62 = .ok (.iconst 2, 1) := dk_5 (dk_at dksX2_readsDimension_2 16 rfl rfl)
theorem dX2_readsDimension_63 : decode cX2_readsDimension 63 = .ok (.iconst 0, 1) := dk_3 (dk_at dksX2_readsDimension_2 17 rfl rfl)
theorem dX2_readsDimension_64 : decode cX2_readsDimension 64 = .ok (.bipush 20, 2) := dk_16 20 (dk_at dksX2_readsDimension_2 18 rfl rfl)
theorem dX2_readsDimension_66 : decode cX2_readsDimension 66 = .ok (.invokevirtual 135, 3) := dk_182 0 135 (dk_at dksX2_readsDimension_2 20 rfl rfl)
theorem dX2_readsDimension_69 : decode cX2_readsDimension 69 = .ok (.ifCond .ne 5, 3) := dk_154 0 5 (dk_at dksX2_readsDimension_3 0 rfl rfl)
theorem dX2_readsDimension_72 : decode cX2_readsDimension 72 = .ok (.iconst 0, 1) := dk_3 (dk_at dksX2_readsDimension_3 3 rfl rfl)
theorem dX2_readsDimension_73 : decode cX2_readsDimension 73 = .ok (.ireturn, 1) := dk_172 (dk_at dksX2_readsDimension_3 4 rfl rfl)
theorem dX2_readsDimension_74 : decode cX2_readsDimension 74 = .ok (.aload_n 0, 1) := dk_42 (dk_at dksX2_readsDimension_3 5 rfl rfl)
theorem dX2_readsDimension_75 : decode cX2_readsDimension 75 = .ok (.getfield 118, 3) := dk_180 0 118 (dk_at dksX2_readsDimension_3 6 rfl rfl)
theorem dX2_readsDimension_78 : decode cX2_readsDimension 78 = .ok (.istore_n 3, 1) := dk_62 (dk_at dksX2_readsDimension_3 9 rfl rfl)
theorem dX2_readsDimension_79 : decode cX2_readsDimension 79 = .ok (.aload_n 0, 1) := dk_42 (dk_at dksX2_readsDimension_3 10 rfl rfl)
theorem dX2_readsDimension_80 : decode cX2_readsDimension 80 = .ok (.bipush 45, 2) := dk_16 45 (dk_at dksX2_readsDimension_3 11 rfl rfl)
theorem dX2_readsDimension_82 : decode cX2_readsDimension 82 = .ok (.iconst 2, 1) := dk_5 (dk_at dksX2_readsDimension_3 13 rfl rfl)
theorem dX2_readsDimension_83 : decode cX2_readsDimension 83 = .ok (.iconst 0, 1) := dk_3 (dk_at dksX2_readsDimension_3 14 rfl rfl)
theorem dX2_readsDimension_84 : decode cX2_readsDimension 84 = .ok (.bipush 20, 2) := dk_16 20 (dk_at dksX2_readsDimension_3 15 rfl rfl)
theorem dX2_readsDimension_86 : decode cX2_readsDimension 86 = .ok (.invokevirtual 135, 3) := dk_182 0 135 (dk_at dksX2_readsDimension_3 17 rfl rfl)
theorem dX2_readsDimension_89 : decode cX2_readsDimension 89 = .ok (.ifCond .ne 5, 3) := dk_154 0 5 (dk_at dksX2_readsDimension_3 20 rfl rfl)
theorem dX2_readsDimension_92 : decode cX2_readsDimension 92 = .ok (.iconst 0, 1) := dk_3 (dk_at dksX2_readsDimension_3 23 rfl rfl)
theorem dX2_readsDimension_93 : decode cX2_readsDimension 93 = .ok (.ireturn, 1) := dk_172 (dk_at dksX2_readsDimension_4 0 rfl rfl)
theorem dX2_readsDimension_94 : decode cX2_readsDimension 94 = .ok (.aload_n 0, 1) := dk_42 (dk_at dksX2_readsDimension_4 1 rfl rfl)
theorem dX2_readsDimension_95 : decode cX2_readsDimension 95 = .ok (.getfield 118, 3) := dk_180 0 118 (dk_at dksX2_readsDimension_4 2 rfl rfl)
theorem dX2_readsDimension_98 : decode cX2_readsDimension 98 = .ok (.istore 4, 2) := dk_54 4 (dk_at dksX2_readsDimension_4 5 rfl rfl)
theorem dX2_readsDimension_100 : decode cX2_readsDimension 100 = .ok (.aload_n 0, 1) := dk_42 (dk_at dksX2_readsDimension_4 7 rfl rfl)
theorem dX2_readsDimension_101 : decode cX2_readsDimension 101 = .ok (.bipush 99, 2) := dk_16 99 (dk_at dksX2_readsDimension_4 8 rfl rfl)
theorem dX2_readsDimension_103 : decode cX2_readsDimension 103 = .ok (.iconst 1, 1) := dk_4 (dk_at dksX2_readsDimension_4 10 rfl rfl)
theorem dX2_readsDimension_104 : decode cX2_readsDimension 104 = .ok (.iconst 0, 1) := dk_3 (dk_at dksX2_readsDimension_4 11 rfl rfl)
theorem dX2_readsDimension_105 : decode cX2_readsDimension 105 = .ok (.iconst 5, 1) := dk_8 (dk_at dksX2_readsDimension_4 12 rfl rfl)
theorem dX2_readsDimension_106 : decode cX2_readsDimension 106 = .ok (.invokevirtual 135, 3) := dk_182 0 135 (dk_at dksX2_readsDimension_4 13 rfl rfl)
theorem dX2_readsDimension_109 : decode cX2_readsDimension 109 = .ok (.ifCond .ne 5, 3) := dk_154 0 5 (dk_at dksX2_readsDimension_4 16 rfl rfl)
theorem dX2_readsDimension_112 : decode cX2_readsDimension 112 = .ok (.iconst 0, 1) := dk_3 (dk_at dksX2_readsDimension_4 19 rfl rfl)
theorem dX2_readsDimension_113 : decode cX2_readsDimension 113 = .ok (.ireturn, 1) := dk_172 (dk_at dksX2_readsDimension_4 20 rfl rfl)
theorem dX2_readsDimension_114 : decode cX2_readsDimension 114 = .ok (.aload_n 0, 1) := dk_42 (dk_at dksX2_readsDimension_4 21 rfl rfl)
theorem dX2_readsDimension_115 : decode cX2_readsDimension 115 = .ok (.iload_n 1, 1) := dk_27 (dk_at dksX2_readsDimension_4 22 rfl rfl)
theorem dX2_readsDimension_116 : decode cX2_readsDimension 116 = .ok (.iload_n 2, 1) := dk_28 (dk_at dksX2_readsDimension_4 23 rfl rfl)
theorem dX2_readsDimension_117 : decode cX2_readsDimension 117 = .ok (.iload 4, 2) := dk_21 4 (dk_at dksX2_readsDimension_5 0 rfl rfl)
theorem dX2_readsDimension_119 : decode cX2_readsDimension 119 = .ok (.iload_n 3, 1) := dk_29 (dk_at dksX2_readsDimension_5 2 rfl rfl)
theorem dX2_readsDimension_120 : decode cX2_readsDimension 120 = .ok (.aload_n 0, 1) := dk_42 (dk_at dksX2_readsDimension_5 3 rfl rfl)
theorem dX2_readsDimension_121 : decode cX2_readsDimension 121 = .ok (.getfield 118, 3) := dk_180 0 118 (dk_at dksX2_readsDimension_5 4 rfl rfl)
theorem dX2_readsDimension_124 : decode cX2_readsDimension 124 = .ok (.invokevirtual 88, 3) := dk_182 0 88 (dk_at dksX2_readsDimension_5 7 rfl rfl)
theorem dX2_readsDimension_127 : decode cX2_readsDimension 127 = .ok (.iconst 1, 1) := dk_4 (dk_at dksX2_readsDimension_5 10 rfl rfl)
theorem dX2_readsDimension_128 : decode cX2_readsDimension 128 = .ok (.ireturn, 1) := dk_172 (dk_at dksX2_readsDimension_5 11 rfl rfl)
abbrev cX2_readsBehind : ByteArray := prog_12_method_40_code
def yX2_readsBehind : MethodName := ⟨RX2, "readsBehind", "(IIII)Z"⟩
def dkwX2_readsBehind_1 : List UInt8 := [181, 0, 105, 42, 28, 29, 21, 4, 182, 0, 132, 172]
abbrev dktX2_readsBehind_1 : List UInt8 := dkwX2_readsBehind_1 ++ []
def dkwX2_readsBehind_0 : List UInt8 := [42, 3, 181, 0, 118, 42, 182, 0, 108, 27, 159, 0, 5, 4, 172, 42, 89, 180, 0, 105, 4, 96]
abbrev dktX2_readsBehind_0 : List UInt8 := dkwX2_readsBehind_0 ++ dktX2_readsBehind_1
theorem dksX2_readsBehind_0 : cX2_readsBehind.data.toList.drop 0 = dktX2_readsBehind_0 := by decide +kernel
theorem dksX2_readsBehind_1 : cX2_readsBehind.data.toList.drop 22 = dktX2_readsBehind_1 := dk_seg dksX2_readsBehind_0 22 rfl rfl
theorem dX2_readsBehind_0 : decode cX2_readsBehind 0 = .ok (.aload_n 0, 1) := dk_42 (dk_at dksX2_readsBehind_0 0 rfl rfl)
theorem dX2_readsBehind_1 : decode cX2_readsBehind 1 = .ok (.iconst 0, 1) := dk_3 (dk_at dksX2_readsBehind_0 1 rfl rfl)
theorem dX2_readsBehind_2 : decode cX2_readsBehind 2 = .ok (.putfield 118, 3) := dk_181 0 118 (dk_at dksX2_readsBehind_0 2 rfl rfl)
theorem dX2_readsBehind_5 : decode cX2_readsBehind 5 = .ok (.aload_n 0, 1) := dk_42 (dk_at dksX2_readsBehind_0 5 rfl rfl)
theorem dX2_readsBehind_6 : decode cX2_readsBehind 6 = .ok (.invokevirtual 108, 3) := dk_182 0 108 (dk_at dksX2_readsBehind_0 6 rfl rfl)
theorem dX2_readsBehind_9 : decode cX2_readsBehind 9 = .ok (.iload_n 1, 1) := dk_27 (dk_at dksX2_readsBehind_0 9 rfl rfl)
theorem dX2_readsBehind_10 : decode cX2_readsBehind 10 = .ok (.if_icmp .eq 5, 3) := dk_159 0 5 (dk_at dksX2_readsBehind_0 10 rfl rfl)
theorem dX2_readsBehind_13 : decode cX2_readsBehind 13 = .ok (.iconst 1, 1) := dk_4 (dk_at dksX2_readsBehind_0 13 rfl rfl)
theorem dX2_readsBehind_14 : decode cX2_readsBehind 14 = .ok (.ireturn, 1) := dk_172 (dk_at dksX2_readsBehind_0 14 rfl rfl)
theorem dX2_readsBehind_15 : decode cX2_readsBehind 15 = .ok (.aload_n 0, 1) := dk_42 (dk_at dksX2_readsBehind_0 15 rfl rfl)
theorem dX2_readsBehind_16 : decode cX2_readsBehind 16 = .ok (.dup, 1) := dk_89 (dk_at dksX2_readsBehind_0 16 rfl rfl)
theorem dX2_readsBehind_17 : decode cX2_readsBehind 17 = .ok (.getfield 105, 3) := dk_180 0 105 (dk_at dksX2_readsBehind_0 17 rfl rfl)
theorem dX2_readsBehind_20 : decode cX2_readsBehind 20 = .ok (.iconst 1, 1) := dk_4 (dk_at dksX2_readsBehind_0 20 rfl rfl)
theorem dX2_readsBehind_21 : decode cX2_readsBehind 21 = .ok (.iadd, 1) := dk_96 (dk_at dksX2_readsBehind_0 21 rfl rfl)
theorem dX2_readsBehind_22 : decode cX2_readsBehind 22 = .ok (.putfield 105, 3) := dk_181 0 105 (dk_at dksX2_readsBehind_1 0 rfl rfl)
theorem dX2_readsBehind_25 : decode cX2_readsBehind 25 = .ok (.aload_n 0, 1) := dk_42 (dk_at dksX2_readsBehind_1 3 rfl rfl)
theorem dX2_readsBehind_26 : decode cX2_readsBehind 26 = .ok (.iload_n 2, 1) := dk_28 (dk_at dksX2_readsBehind_1 4 rfl rfl)
theorem dX2_readsBehind_27 : decode cX2_readsBehind 27 = .ok (.iload_n 3, 1) := dk_29 (dk_at dksX2_readsBehind_1 5 rfl rfl)
theorem dX2_readsBehind_28 : decode cX2_readsBehind 28 = .ok (.iload 4, 2) := dk_21 4 (dk_at dksX2_readsBehind_1 6 rfl rfl)
theorem dX2_readsBehind_30 : decode cX2_readsBehind 30 = .ok (.invokevirtual 132, 3) := dk_182 0 132 (dk_at dksX2_readsBehind_1 8 rfl rfl)
theorem dX2_readsBehind_33 : decode cX2_readsBehind 33 = .ok (.ireturn, 1) := dk_172 (dk_at dksX2_readsBehind_1 11 rfl rfl)
abbrev cX2_faultKind : ByteArray := prog_12_method_44_code
def yX2_faultKind : MethodName := ⟨RX2, "faultKind", "()I"⟩
theorem dX2_faultKind_0 : decode cX2_faultKind 0 = .ok (.aload_n 0, 1) := by decide +kernel
theorem dX2_faultKind_1 : decode cX2_faultKind 1 = .ok (.getfield 112, 3) := by decide +kernel
theorem dX2_faultKind_4 : decode cX2_faultKind 4 = .ok (.ireturn, 1) := by decide +kernel
abbrev cX2_point : ByteArray := prog_12_method_70_code
def yX2_point : MethodName := ⟨RX2, "point", "(II)I"⟩
def dkwX2_point_3 : List UInt8 := [182, 0, 187, 167, 0, 11, 42, 27, 17, 252, 25, 182, 0, 215, 172]
abbrev dktX2_point_3 : List UInt8 := dkwX2_point_3 ++ []
def dkwX2_point_2 : List UInt8 := [3, 17, 252, 25, 182, 0, 197, 42, 27, 182, 0, 209, 172, 42, 182, 0, 212, 28, 5, 160, 0, 11, 42, 27]
abbrev dktX2_point_2 : List UInt8 := dkwX2_point_2 ++ dktX2_point_3
def dkwX2_point_1 : List UInt8 := [28, 154, 0, 11, 42, 27, 182, 0, 54, 167, 0, 8, 42, 27, 182, 0, 85, 172, 28, 7, 160, 0, 17, 42]
abbrev dktX2_point_1 : List UInt8 := dkwX2_point_1 ++ dktX2_point_2
def dkwX2_point_0 : List UInt8 := [42, 27, 182, 0, 77, 153, 0, 12, 28, 3, 7, 184, 0, 46, 154, 0, 5, 2, 172, 28, 5, 162, 0, 21]
abbrev dktX2_point_0 : List UInt8 := dkwX2_point_0 ++ dktX2_point_1
theorem dksX2_point_0 : cX2_point.data.toList.drop 0 = dktX2_point_0 := by decide +kernel
theorem dksX2_point_1 : cX2_point.data.toList.drop 24 = dktX2_point_1 := dk_seg dksX2_point_0 24 rfl rfl
theorem dksX2_point_2 : cX2_point.data.toList.drop 48 = dktX2_point_2 := dk_seg dksX2_point_1 24 rfl rfl
theorem dksX2_point_3 : cX2_point.data.toList.drop 72 = dktX2_point_3 := dk_seg dksX2_point_2 24 rfl rfl
theorem dX2_point_0 : decode cX2_point 0 = .ok (.aload_n 0, 1) := dk_42 (dk_at dksX2_point_0 0 rfl rfl)
theorem dX2_point_1 : decode cX2_point 1 = .ok (.iload_n 1, 1) := dk_27 (dk_at dksX2_point_0 1 rfl rfl)
theorem dX2_point_2 : decode cX2_point 2 = .ok (.invokevirtual 77, 3) := dk_182 0 77 (dk_at dksX2_point_0 2 rfl rfl)
theorem dX2_point_5 : decode cX2_point 5 = .ok (.ifCond .eq 12, 3) := dk_153 0 12 (dk_at dksX2_point_0 5 rfl rfl)
theorem dX2_point_8 : decode cX2_point 8 = .ok (.iload_n 2, 1) := dk_28 (dk_at dksX2_point_0 8 rfl rfl)
theorem dX2_point_9 : decode cX2_point 9 = .ok (.iconst 0, 1) := dk_3 (dk_at dksX2_point_0 9 rfl rfl)
theorem dX2_point_10 : decode cX2_point 10 = .ok (.iconst 4, 1) := dk_7 (dk_at dksX2_point_0 10 rfl rfl)
theorem dX2_point_11 : decode cX2_point 11 = .ok (.invokestatic 46, 3) := dk_184 0 46 (dk_at dksX2_point_0 11 rfl rfl)
theorem dX2_point_14 : decode cX2_point 14 = .ok (.ifCond .ne 5, 3) := dk_154 0 5 (dk_at dksX2_point_0 14 rfl rfl)
theorem dX2_point_17 : decode cX2_point 17 = .ok (.iconst (-1), 1) := dk_2 (dk_at dksX2_point_0 17 rfl rfl)
theorem dX2_point_18 : decode cX2_point 18 = .ok (.ireturn, 1) := dk_172 (dk_at dksX2_point_0 18 rfl rfl)
theorem dX2_point_19 : decode cX2_point 19 = .ok (.iload_n 2, 1) := dk_28 (dk_at dksX2_point_0 19 rfl rfl)
theorem dX2_point_20 : decode cX2_point 20 = .ok (.iconst 2, 1) := dk_5 (dk_at dksX2_point_0 20 rfl rfl)
theorem dX2_point_21 : decode cX2_point 21 = .ok (.if_icmp .ge 21, 3) := dk_162 0 21 (dk_at dksX2_point_0 21 rfl rfl)
theorem dX2_point_24 : decode cX2_point 24 = .ok (.iload_n 2, 1) := dk_28 (dk_at dksX2_point_1 0 rfl rfl)
theorem dX2_point_25 : decode cX2_point 25 = .ok (.ifCond .ne 11, 3) := dk_154 0 11 (dk_at dksX2_point_1 1 rfl rfl)
theorem dX2_point_28 : decode cX2_point 28 = .ok (.aload_n 0, 1) := dk_42 (dk_at dksX2_point_1 4 rfl rfl)
theorem dX2_point_29 : decode cX2_point 29 = .ok (.iload_n 1, 1) := dk_27 (dk_at dksX2_point_1 5 rfl rfl)
theorem dX2_point_30 : decode cX2_point 30 = .ok (.invokevirtual 54, 3) := dk_182 0 54 (dk_at dksX2_point_1 6 rfl rfl)
theorem dX2_point_33 : decode cX2_point 33 = .ok (.goto 8, 3) := dk_167 0 8 (dk_at dksX2_point_1 9 rfl rfl)
theorem dX2_point_36 : decode cX2_point 36 = .ok (.aload_n 0, 1) := dk_42 (dk_at dksX2_point_1 12 rfl rfl)
theorem dX2_point_37 : decode cX2_point 37 = .ok (.iload_n 1, 1) := dk_27 (dk_at dksX2_point_1 13 rfl rfl)
theorem dX2_point_38 : decode cX2_point 38 = .ok (.invokevirtual 85, 3) := dk_182 0 85 (dk_at dksX2_point_1 14 rfl rfl)
theorem dX2_point_41 : decode cX2_point 41 = .ok (.ireturn, 1) := dk_172 (dk_at dksX2_point_1 17 rfl rfl)
theorem dX2_point_42 : decode cX2_point 42 = .ok (.iload_n 2, 1) := dk_28 (dk_at dksX2_point_1 18 rfl rfl)
theorem dX2_point_43 : decode cX2_point 43 = .ok (.iconst 4, 1) := dk_7 (dk_at dksX2_point_1 19 rfl rfl)
theorem dX2_point_44 : decode cX2_point 44 = .ok (.if_icmp .ne 17, 3) := dk_160 0 17 (dk_at dksX2_point_1 20 rfl rfl)
theorem dX2_point_47 : decode cX2_point 47 = .ok (.aload_n 0, 1) := dk_42 (dk_at dksX2_point_1 23 rfl rfl)
theorem dX2_point_48 : decode cX2_point 48 = .ok (.iconst 0, 1) := dk_3 (dk_at dksX2_point_2 0 rfl rfl)
theorem dX2_point_49 : decode cX2_point 49 = .ok (.sipush (-999), 3) := dk_17 252 25 (dk_at dksX2_point_2 1 rfl rfl)
theorem dX2_point_52 : decode cX2_point 52 = .ok (.invokevirtual 197, 3) := dk_182 0 197 (dk_at dksX2_point_2 4 rfl rfl)
theorem dX2_point_55 : decode cX2_point 55 = .ok (.aload_n 0, 1) := dk_42 (dk_at dksX2_point_2 7 rfl rfl)
theorem dX2_point_56 : decode cX2_point 56 = .ok (.iload_n 1, 1) := dk_27 (dk_at dksX2_point_2 8 rfl rfl)
theorem dX2_point_57 : decode cX2_point 57 = .ok (.invokevirtual 209, 3) := dk_182 0 209 (dk_at dksX2_point_2 9 rfl rfl)
theorem dX2_point_60 : decode cX2_point 60 = .ok (.ireturn, 1) := dk_172 (dk_at dksX2_point_2 12 rfl rfl)
theorem dX2_point_61 : decode cX2_point 61 = .ok (.aload_n 0, 1) := dk_42 (dk_at dksX2_point_2 13 rfl rfl)
theorem dX2_point_62 : decode cX2_point 62 = .ok (.invokevirtual 212, 3) := dk_182 0 212 (dk_at dksX2_point_2 14 rfl rfl)
theorem dX2_point_65 : decode cX2_point 65 = .ok (.iload_n 2, 1) := dk_28 (dk_at dksX2_point_2 17 rfl rfl)
theorem dX2_point_66 : decode cX2_point 66 = .ok (.iconst 2, 1) := dk_5 (dk_at dksX2_point_2 18 rfl rfl)
theorem dX2_point_67 : decode cX2_point 67 = .ok (.if_icmp .ne 11, 3) := dk_160 0 11 (dk_at dksX2_point_2 19 rfl rfl)
theorem dX2_point_70 : decode cX2_point 70 = .ok (.aload_n 0, 1) := dk_42 (dk_at dksX2_point_2 22 rfl rfl)
theorem dX2_point_71 : decode cX2_point 71 = .ok (.iload_n 1, 1) := dk_27 (dk_at dksX2_point_2 23 rfl rfl)
theorem dX2_point_72 : decode cX2_point 72 = .ok (.invokevirtual 187, 3) := dk_182 0 187 (dk_at dksX2_point_3 0 rfl rfl)
theorem dX2_point_75 : decode cX2_point 75 = .ok (.goto 11, 3) := dk_167 0 11 (dk_at dksX2_point_3 3 rfl rfl)
theorem dX2_point_78 : decode cX2_point 78 = .ok (.aload_n 0, 1) := dk_42 (dk_at dksX2_point_3 6 rfl rfl)
theorem dX2_point_79 : decode cX2_point 79 = .ok (.iload_n 1, 1) := dk_27 (dk_at dksX2_point_3 7 rfl rfl)
theorem dX2_point_80 : decode cX2_point 80 = .ok (.sipush (-999), 3) := dk_17 252 25 (dk_at dksX2_point_3 8 rfl rfl)
theorem dX2_point_83 : decode cX2_point 83 = .ok (.invokevirtual 215, 3) := dk_182 0 215 (dk_at dksX2_point_3 11 rfl rfl)
theorem dX2_point_86 : decode cX2_point 86 = .ok (.ireturn, 1) := dk_172 (dk_at dksX2_point_3 14 rfl rfl)
abbrev cX2_laysDistances : ByteArray := prog_12_method_63_code
def yX2_laysDistances : MethodName := ⟨RX2, "laysDistances", "(II)V"⟩
def dkwX2_laysDistances_10 : List UInt8 := [132, 3, 1, 167, 255, 159, 177]
abbrev dktX2_laysDistances_10 : List UInt8 := dkwX2_laysDistances_10 ++ []
def dkwX2_laysDistances_9 : List UInt8 := [21, 4, 16, 12, 108, 21, 4, 16, 12, 112, 21, 5, 21, 6, 96, 182, 0, 194, 132, 4, 1, 167, 255, 178]
abbrev dktX2_laysDistances_9 : List UInt8 := dkwX2_laysDistances_9 ++ dktX2_laysDistances_10
def dkwX2_laysDistances_8 : List UInt8 := [21, 4, 16, 12, 112, 96, 46, 54, 6, 21, 5, 18, 193, 159, 0, 29, 21, 6, 18, 193, 159, 0, 22, 42]
abbrev dktX2_laysDistances_8 : List UInt8 := dkwX2_laysDistances_8 ++ dktX2_laysDistances_9
def dkwX2_laysDistances_7 : List UInt8 := [180, 0, 35, 21, 4, 16, 12, 108, 16, 12, 104, 29, 96, 46, 54, 5, 42, 180, 0, 35, 16, 12, 29, 104]
abbrev dktX2_laysDistances_7 : List UInt8 := dkwX2_laysDistances_7 ++ dktX2_laysDistances_8
def dkwX2_laysDistances_6 : List UInt8 := [3, 62, 29, 42, 180, 0, 7, 3, 46, 162, 0, 93, 3, 54, 4, 21, 4, 17, 0, 144, 162, 0, 76, 42]
abbrev dktX2_laysDistances_6 : List UInt8 := dkwX2_laysDistances_6 ++ dktX2_laysDistances_7
def dkwX2_laysDistances_5 : List UInt8 := [167, 0, 9, 42, 29, 5, 182, 0, 50, 42, 29, 182, 0, 148, 100, 182, 0, 194, 132, 3, 1, 167, 255, 160]
abbrev dktX2_laysDistances_5 : List UInt8 := dkwX2_laysDistances_5 ++ dktX2_laysDistances_6
def dkwX2_laysDistances_4 : List UInt8 := [182, 0, 194, 42, 42, 29, 4, 182, 0, 50, 42, 29, 3, 182, 0, 50, 29, 28, 160, 0, 7, 3]
abbrev dktX2_laysDistances_4 : List UInt8 := dkwX2_laysDistances_4 ++ dktX2_laysDistances_5
def dkwX2_laysDistances_3 : List UInt8 := [182, 0, 50, 42, 29, 182, 0, 148, 29, 28, 160, 0, 7, 3, 167, 0, 9, 42, 29, 6, 182, 0, 50, 96]
abbrev dktX2_laysDistances_3 : List UInt8 := dkwX2_laysDistances_3 ++ dktX2_laysDistances_4
def dkwX2_laysDistances_2 : List UInt8 := [16, 13, 46, 162, 0, 91, 27, 29, 122, 4, 126, 154, 0, 77, 42, 42, 29, 3, 182, 0, 50, 42, 29, 4]
abbrev dktX2_laysDistances_2 : List UInt8 := dkwX2_laysDistances_2 ++ dktX2_laysDistances_3
def dkwX2_laysDistances_1 : List UInt8 := [160, 0, 7, 3, 167, 0, 5, 18, 193, 79, 132, 3, 1, 167, 255, 223, 3, 62, 29, 42, 180, 0, 7]
abbrev dktX2_laysDistances_1 : List UInt8 := dkwX2_laysDistances_1 ++ dktX2_laysDistances_2
def dkwX2_laysDistances_0 : List UInt8 := [3, 62, 29, 17, 0, 144, 162, 0, 32, 42, 180, 0, 35, 29, 29, 16, 12, 108, 29, 16, 12, 112]
abbrev dktX2_laysDistances_0 : List UInt8 := dkwX2_laysDistances_0 ++ dktX2_laysDistances_1
theorem dksX2_laysDistances_0 : cX2_laysDistances.data.toList.drop 0 = dktX2_laysDistances_0 := by decide +kernel
theorem dksX2_laysDistances_1 : cX2_laysDistances.data.toList.drop 22 = dktX2_laysDistances_1 := dk_seg dksX2_laysDistances_0 22 rfl rfl
theorem dksX2_laysDistances_2 : cX2_laysDistances.data.toList.drop 45 = dktX2_laysDistances_2 := dk_seg dksX2_laysDistances_1 23 rfl rfl
theorem dksX2_laysDistances_3 : cX2_laysDistances.data.toList.drop 69 = dktX2_laysDistances_3 := dk_seg dksX2_laysDistances_2 24 rfl rfl
theorem dksX2_laysDistances_4 : cX2_laysDistances.data.toList.drop 93 = dktX2_laysDistances_4 := dk_seg dksX2_laysDistances_3 24 rfl rfl
theorem dksX2_laysDistances_5 : cX2_laysDistances.data.toList.drop 115 = dktX2_laysDistances_5 := dk_seg dksX2_laysDistances_4 22 rfl rfl
theorem dksX2_laysDistances_6 : cX2_laysDistances.data.toList.drop 139 = dktX2_laysDistances_6 := dk_seg dksX2_laysDistances_5 24 rfl rfl
theorem dksX2_laysDistances_7 : cX2_laysDistances.data.toList.drop 163 = dktX2_laysDistances_7 := dk_seg dksX2_laysDistances_6 24 rfl rfl
theorem dksX2_laysDistances_8 : cX2_laysDistances.data.toList.drop 187 = dktX2_laysDistances_8 := dk_seg dksX2_laysDistances_7 24 rfl rfl
theorem dksX2_laysDistances_9 : cX2_laysDistances.data.toList.drop 211 = dktX2_laysDistances_9 := dk_seg dksX2_laysDistances_8 24 rfl rfl
theorem dksX2_laysDistances_10 : cX2_laysDistances.data.toList.drop 235 = dktX2_laysDistances_10 := dk_seg dksX2_laysDistances_9 24 rfl rfl
theorem dX2_laysDistances_0 : decode cX2_laysDistances 0 = .ok (.iconst 0, 1) := dk_3 (dk_at dksX2_laysDistances_0 0 rfl rfl)
theorem dX2_laysDistances_1 : decode cX2_laysDistances 1 = .ok (.istore_n 3, 1) := dk_62 (dk_at dksX2_laysDistances_0 1 rfl rfl)
theorem dX2_laysDistances_2 : decode cX2_laysDistances 2 = .ok (.iload_n 3, 1) := dk_29 (dk_at dksX2_laysDistances_0 2 rfl rfl)
theorem dX2_laysDistances_3 : decode cX2_laysDistances 3 = .ok (.sipush 144, 3) := dk_17 0 144 (dk_at dksX2_laysDistances_0 3 rfl rfl)
theorem dX2_laysDistances_6 : decode cX2_laysDistances 6 = .ok (.if_icmp .ge 32, 3) := dk_162 0 32 (dk_at dksX2_laysDistances_0 6 rfl rfl)
theorem dX2_laysDistances_9 : decode cX2_laysDistances 9 = .ok (.aload_n 0, 1) := dk_42 (dk_at dksX2_laysDistances_0 9 rfl rfl)
theorem dX2_laysDistances_10 : decode cX2_laysDistances 10 = .ok (.getfield 35, 3) := dk_180 0 35 (dk_at dksX2_laysDistances_0 10 rfl rfl)
theorem dX2_laysDistances_13 : decode cX2_laysDistances 13 = .ok (.iload_n 3, 1) := dk_29 (dk_at dksX2_laysDistances_0 13 rfl rfl)
theorem dX2_laysDistances_14 : decode cX2_laysDistances 14 = .ok (.iload_n 3, 1) := dk_29 (dk_at dksX2_laysDistances_0 14 rfl rfl)
theorem dX2_laysDistances_15 : decode cX2_laysDistances 15 = .ok (.bipush 12, 2) := dk_16 12 (dk_at dksX2_laysDistances_0 15 rfl rfl)
theorem dX2_laysDistances_17 : decode cX2_laysDistances 17 = .ok (.idiv, 1) := dk_108 (dk_at dksX2_laysDistances_0 17 rfl rfl)
theorem dX2_laysDistances_18 : decode cX2_laysDistances 18 = .ok (.iload_n 3, 1) := dk_29 (dk_at dksX2_laysDistances_0 18 rfl rfl)
theorem dX2_laysDistances_19 : decode cX2_laysDistances 19 = .ok (.bipush 12, 2) := dk_16 12 (dk_at dksX2_laysDistances_0 19 rfl rfl)
theorem dX2_laysDistances_21 : decode cX2_laysDistances 21 = .ok (.irem, 1) := dk_112 (dk_at dksX2_laysDistances_0 21 rfl rfl)
theorem dX2_laysDistances_22 : decode cX2_laysDistances 22 = .ok (.if_icmp .ne 7, 3) := dk_160 0 7 (dk_at dksX2_laysDistances_1 0 rfl rfl)
theorem dX2_laysDistances_25 : decode cX2_laysDistances 25 = .ok (.iconst 0, 1) := dk_3 (dk_at dksX2_laysDistances_1 3 rfl rfl)
theorem dX2_laysDistances_26 : decode cX2_laysDistances 26 = .ok (.goto 5, 3) := dk_167 0 5 (dk_at dksX2_laysDistances_1 4 rfl rfl)
theorem dX2_laysDistances_29 : decode cX2_laysDistances 29 = .ok (.ldc 193, 2) := dk_18 193 (dk_at dksX2_laysDistances_1 7 rfl rfl)
theorem dX2_laysDistances_31 : decode cX2_laysDistances 31 = .ok (.iastore, 1) := dk_79 (dk_at dksX2_laysDistances_1 9 rfl rfl)
theorem dX2_laysDistances_32 : decode cX2_laysDistances 32 = .ok (.iinc 3 1, 3) := dk_132 3 1 (dk_at dksX2_laysDistances_1 10 rfl rfl)
theorem dX2_laysDistances_35 : decode cX2_laysDistances 35 = .ok (.goto (-33), 3) := dk_167 255 223 (dk_at dksX2_laysDistances_1 13 rfl rfl)
theorem dX2_laysDistances_38 : decode cX2_laysDistances 38 = .ok (.iconst 0, 1) := dk_3 (dk_at dksX2_laysDistances_1 16 rfl rfl)
theorem dX2_laysDistances_39 : decode cX2_laysDistances 39 = .ok (.istore_n 3, 1) := dk_62 (dk_at dksX2_laysDistances_1 17 rfl rfl)
theorem dX2_laysDistances_40 : decode cX2_laysDistances 40 = .ok (.iload_n 3, 1) := dk_29 (dk_at dksX2_laysDistances_1 18 rfl rfl)
theorem dX2_laysDistances_41 : decode cX2_laysDistances 41 = .ok (.aload_n 0, 1) := dk_42 (dk_at dksX2_laysDistances_1 19 rfl rfl)
theorem dX2_laysDistances_42 : decode cX2_laysDistances 42 = .ok (.getfield 7, 3) := dk_180 0 7 (dk_at dksX2_laysDistances_1 20 rfl rfl)
theorem dX2_laysDistances_45 : decode cX2_laysDistances 45 = .ok (.bipush 13, 2) := dk_16 13 (dk_at dksX2_laysDistances_2 0 rfl rfl)
theorem dX2_laysDistances_47 : decode cX2_laysDistances 47 = .ok (.iaload, 1) := dk_46 (dk_at dksX2_laysDistances_2 2 rfl rfl)
theorem dX2_laysDistances_48 : decode cX2_laysDistances 48 = .ok (.if_icmp .ge 91, 3) := dk_162 0 91 (dk_at dksX2_laysDistances_2 3 rfl rfl)
theorem dX2_laysDistances_51 : decode cX2_laysDistances 51 = .ok (.iload_n 1, 1) := dk_27 (dk_at dksX2_laysDistances_2 6 rfl rfl)
theorem dX2_laysDistances_52 : decode cX2_laysDistances 52 = .ok (.iload_n 3, 1) := dk_29 (dk_at dksX2_laysDistances_2 7 rfl rfl)
theorem dX2_laysDistances_53 : decode cX2_laysDistances 53 = .ok (.ishr, 1) := dk_122 (dk_at dksX2_laysDistances_2 8 rfl rfl)
theorem dX2_laysDistances_54 : decode cX2_laysDistances 54 = .ok (.iconst 1, 1) := dk_4 (dk_at dksX2_laysDistances_2 9 rfl rfl)
theorem dX2_laysDistances_55 : decode cX2_laysDistances 55 = .ok (.iand, 1) := dk_126 (dk_at dksX2_laysDistances_2 10 rfl rfl)
theorem dX2_laysDistances_56 : decode cX2_laysDistances 56 = .ok (.ifCond .ne 77, 3) := dk_154 0 77 (dk_at dksX2_laysDistances_2 11 rfl rfl)
theorem dX2_laysDistances_59 : decode cX2_laysDistances 59 = .ok (.aload_n 0, 1) := dk_42 (dk_at dksX2_laysDistances_2 14 rfl rfl)
theorem dX2_laysDistances_60 : decode cX2_laysDistances 60 = .ok (.aload_n 0, 1) := dk_42 (dk_at dksX2_laysDistances_2 15 rfl rfl)
theorem dX2_laysDistances_61 : decode cX2_laysDistances 61 = .ok (.iload_n 3, 1) := dk_29 (dk_at dksX2_laysDistances_2 16 rfl rfl)
theorem dX2_laysDistances_62 : decode cX2_laysDistances 62 = .ok (.iconst 0, 1) := dk_3 (dk_at dksX2_laysDistances_2 17 rfl rfl)
theorem dX2_laysDistances_63 : decode cX2_laysDistances 63 = .ok (.invokevirtual 50, 3) := dk_182 0 50 (dk_at dksX2_laysDistances_2 18 rfl rfl)
theorem dX2_laysDistances_66 : decode cX2_laysDistances 66 = .ok (.aload_n 0, 1) := dk_42 (dk_at dksX2_laysDistances_2 21 rfl rfl)
theorem dX2_laysDistances_67 : decode cX2_laysDistances 67 = .ok (.iload_n 3, 1) := dk_29 (dk_at dksX2_laysDistances_2 22 rfl rfl)
theorem dX2_laysDistances_68 : decode cX2_laysDistances 68 = .ok (.iconst 1, 1) := dk_4 (dk_at dksX2_laysDistances_2 23 rfl rfl)
theorem dX2_laysDistances_69 : decode cX2_laysDistances 69 = .ok (.invokevirtual 50, 3) := dk_182 0 50 (dk_at dksX2_laysDistances_3 0 rfl rfl)
theorem dX2_laysDistances_72 : decode cX2_laysDistances 72 = .ok (.aload_n 0, 1) := dk_42 (dk_at dksX2_laysDistances_3 3 rfl rfl)
theorem dX2_laysDistances_73 : decode cX2_laysDistances 73 = .ok (.iload_n 3, 1) := dk_29 (dk_at dksX2_laysDistances_3 4 rfl rfl)
theorem dX2_laysDistances_74 : decode cX2_laysDistances 74 = .ok (.invokevirtual 148, 3) := dk_182 0 148 (dk_at dksX2_laysDistances_3 5 rfl rfl)
theorem dX2_laysDistances_77 : decode cX2_laysDistances 77 = .ok (.iload_n 3, 1) := dk_29 (dk_at dksX2_laysDistances_3 8 rfl rfl)
theorem dX2_laysDistances_78 : decode cX2_laysDistances 78 = .ok (.iload_n 2, 1) := dk_28 (dk_at dksX2_laysDistances_3 9 rfl rfl)
theorem dX2_laysDistances_79 : decode cX2_laysDistances 79 = .ok (.if_icmp .ne 7, 3) := dk_160 0 7 (dk_at dksX2_laysDistances_3 10 rfl rfl)
theorem dX2_laysDistances_82 : decode cX2_laysDistances 82 = .ok (.iconst 0, 1) := dk_3 (dk_at dksX2_laysDistances_3 13 rfl rfl)
theorem dX2_laysDistances_83 : decode cX2_laysDistances 83 = .ok (.goto 9, 3) := dk_167 0 9 (dk_at dksX2_laysDistances_3 14 rfl rfl)
theorem dX2_laysDistances_86 : decode cX2_laysDistances 86 = .ok (.aload_n 0, 1) := dk_42 (dk_at dksX2_laysDistances_3 17 rfl rfl)
theorem dX2_laysDistances_87 : decode cX2_laysDistances 87 = .ok (.iload_n 3, 1) := dk_29 (dk_at dksX2_laysDistances_3 18 rfl rfl)
theorem dX2_laysDistances_88 : decode cX2_laysDistances 88 = .ok (.iconst 3, 1) := dk_6 (dk_at dksX2_laysDistances_3 19 rfl rfl)
theorem dX2_laysDistances_89 : decode cX2_laysDistances 89 = .ok (.invokevirtual 50, 3) := dk_182 0 50 (dk_at dksX2_laysDistances_3 20 rfl rfl)
theorem dX2_laysDistances_92 : decode cX2_laysDistances 92 = .ok (.iadd, 1) := dk_96 (dk_at dksX2_laysDistances_3 23 rfl rfl)
theorem dX2_laysDistances_93 : decode cX2_laysDistances 93 = .ok (.invokevirtual 194, 3) := dk_182 0 194 (dk_at dksX2_laysDistances_4 0 rfl rfl)
theorem dX2_laysDistances_96 : decode cX2_laysDistances 96 = .ok (.aload_n 0, 1) := dk_42 (dk_at dksX2_laysDistances_4 3 rfl rfl)
theorem dX2_laysDistances_97 : decode cX2_laysDistances 97 = .ok (.aload_n 0, 1) := dk_42 (dk_at dksX2_laysDistances_4 4 rfl rfl)
theorem dX2_laysDistances_98 : decode cX2_laysDistances 98 = .ok (.iload_n 3, 1) := dk_29 (dk_at dksX2_laysDistances_4 5 rfl rfl)
theorem dX2_laysDistances_99 : decode cX2_laysDistances 99 = .ok (.iconst 1, 1) := dk_4 (dk_at dksX2_laysDistances_4 6 rfl rfl)
theorem dX2_laysDistances_100 : decode cX2_laysDistances 100 = .ok (.invokevirtual 50, 3) := dk_182 0 50 (dk_at dksX2_laysDistances_4 7 rfl rfl)
theorem dX2_laysDistances_103 : decode cX2_laysDistances 103 = .ok (.aload_n 0, 1) := dk_42 (dk_at dksX2_laysDistances_4 10 rfl rfl)
theorem dX2_laysDistances_104 : decode cX2_laysDistances 104 = .ok (.iload_n 3, 1) := dk_29 (dk_at dksX2_laysDistances_4 11 rfl rfl)
theorem dX2_laysDistances_105 : decode cX2_laysDistances 105 = .ok (.iconst 0, 1) := dk_3 (dk_at dksX2_laysDistances_4 12 rfl rfl)
theorem dX2_laysDistances_106 : decode cX2_laysDistances 106 = .ok (.invokevirtual 50, 3) := dk_182 0 50 (dk_at dksX2_laysDistances_4 13 rfl rfl)
theorem dX2_laysDistances_109 : decode cX2_laysDistances 109 = .ok (.iload_n 3, 1) := dk_29 (dk_at dksX2_laysDistances_4 16 rfl rfl)
theorem dX2_laysDistances_110 : decode cX2_laysDistances 110 = .ok (.iload_n 2, 1) := dk_28 (dk_at dksX2_laysDistances_4 17 rfl rfl)
theorem dX2_laysDistances_111 : decode cX2_laysDistances 111 = .ok (.if_icmp .ne 7, 3) := dk_160 0 7 (dk_at dksX2_laysDistances_4 18 rfl rfl)
theorem dX2_laysDistances_114 : decode cX2_laysDistances 114 = .ok (.iconst 0, 1) := dk_3 (dk_at dksX2_laysDistances_4 21 rfl rfl)
theorem dX2_laysDistances_115 : decode cX2_laysDistances 115 = .ok (.goto 9, 3) := dk_167 0 9 (dk_at dksX2_laysDistances_5 0 rfl rfl)
theorem dX2_laysDistances_118 : decode cX2_laysDistances 118 = .ok (.aload_n 0, 1) := dk_42 (dk_at dksX2_laysDistances_5 3 rfl rfl)
theorem dX2_laysDistances_119 : decode cX2_laysDistances 119 = .ok (.iload_n 3, 1) := dk_29 (dk_at dksX2_laysDistances_5 4 rfl rfl)
theorem dX2_laysDistances_120 : decode cX2_laysDistances 120 = .ok (.iconst 2, 1) := dk_5 (dk_at dksX2_laysDistances_5 5 rfl rfl)
theorem dX2_laysDistances_121 : decode cX2_laysDistances 121 = .ok (.invokevirtual 50, 3) := dk_182 0 50 (dk_at dksX2_laysDistances_5 6 rfl rfl)
theorem dX2_laysDistances_124 : decode cX2_laysDistances 124 = .ok (.aload_n 0, 1) := dk_42 (dk_at dksX2_laysDistances_5 9 rfl rfl)
theorem dX2_laysDistances_125 : decode cX2_laysDistances 125 = .ok (.iload_n 3, 1) := dk_29 (dk_at dksX2_laysDistances_5 10 rfl rfl)
theorem dX2_laysDistances_126 : decode cX2_laysDistances 126 = .ok (.invokevirtual 148, 3) := dk_182 0 148 (dk_at dksX2_laysDistances_5 11 rfl rfl)
theorem dX2_laysDistances_129 : decode cX2_laysDistances 129 = .ok (.isub, 1) := dk_100 (dk_at dksX2_laysDistances_5 14 rfl rfl)
theorem dX2_laysDistances_130 : decode cX2_laysDistances 130 = .ok (.invokevirtual 194, 3) := dk_182 0 194 (dk_at dksX2_laysDistances_5 15 rfl rfl)
theorem dX2_laysDistances_133 : decode cX2_laysDistances 133 = .ok (.iinc 3 1, 3) := dk_132 3 1 (dk_at dksX2_laysDistances_5 18 rfl rfl)
theorem dX2_laysDistances_136 : decode cX2_laysDistances 136 = .ok (.goto (-96), 3) := dk_167 255 160 (dk_at dksX2_laysDistances_5 21 rfl rfl)
theorem dX2_laysDistances_139 : decode cX2_laysDistances 139 = .ok (.iconst 0, 1) := dk_3 (dk_at dksX2_laysDistances_6 0 rfl rfl)
theorem dX2_laysDistances_140 : decode cX2_laysDistances 140 = .ok (.istore_n 3, 1) := dk_62 (dk_at dksX2_laysDistances_6 1 rfl rfl)
theorem dX2_laysDistances_141 : decode cX2_laysDistances 141 = .ok (.iload_n 3, 1) := dk_29 (dk_at dksX2_laysDistances_6 2 rfl rfl)
theorem dX2_laysDistances_142 : decode cX2_laysDistances 142 = .ok (.aload_n 0, 1) := dk_42 (dk_at dksX2_laysDistances_6 3 rfl rfl)
theorem dX2_laysDistances_143 : decode cX2_laysDistances 143 = .ok (.getfield 7, 3) := dk_180 0 7 (dk_at dksX2_laysDistances_6 4 rfl rfl)
theorem dX2_laysDistances_146 : decode cX2_laysDistances 146 = .ok (.iconst 0, 1) := dk_3 (dk_at dksX2_laysDistances_6 7 rfl rfl)
theorem dX2_laysDistances_147 : decode cX2_laysDistances 147 = .ok (.iaload, 1) := dk_46 (dk_at dksX2_laysDistances_6 8 rfl rfl)
theorem dX2_laysDistances_148 : decode cX2_laysDistances 148 = .ok (.if_icmp .ge 93, 3) := dk_162 0 93 (dk_at dksX2_laysDistances_6 9 rfl rfl)
theorem dX2_laysDistances_151 : decode cX2_laysDistances 151 = .ok (.iconst 0, 1) := dk_3 (dk_at dksX2_laysDistances_6 12 rfl rfl)
theorem dX2_laysDistances_152 : decode cX2_laysDistances 152 = .ok (.istore 4, 2) := dk_54 4 (dk_at dksX2_laysDistances_6 13 rfl rfl)
theorem dX2_laysDistances_154 : decode cX2_laysDistances 154 = .ok (.iload 4, 2) := dk_21 4 (dk_at dksX2_laysDistances_6 15 rfl rfl)
theorem dX2_laysDistances_156 : decode cX2_laysDistances 156 = .ok (.sipush 144, 3) := dk_17 0 144 (dk_at dksX2_laysDistances_6 17 rfl rfl)
theorem dX2_laysDistances_159 : decode cX2_laysDistances 159 = .ok (.if_icmp .ge 76, 3) := dk_162 0 76 (dk_at dksX2_laysDistances_6 20 rfl rfl)
theorem dX2_laysDistances_162 : decode cX2_laysDistances 162 = .ok (.aload_n 0, 1) := dk_42 (dk_at dksX2_laysDistances_6 23 rfl rfl)
theorem dX2_laysDistances_163 : decode cX2_laysDistances 163 = .ok (.getfield 35, 3) := dk_180 0 35 (dk_at dksX2_laysDistances_7 0 rfl rfl)
theorem dX2_laysDistances_166 : decode cX2_laysDistances 166 = .ok (.iload 4, 2) := dk_21 4 (dk_at dksX2_laysDistances_7 3 rfl rfl)
theorem dX2_laysDistances_168 : decode cX2_laysDistances 168 = .ok (.bipush 12, 2) := dk_16 12 (dk_at dksX2_laysDistances_7 5 rfl rfl)
theorem dX2_laysDistances_170 : decode cX2_laysDistances 170 = .ok (.idiv, 1) := dk_108 (dk_at dksX2_laysDistances_7 7 rfl rfl)
theorem dX2_laysDistances_171 : decode cX2_laysDistances 171 = .ok (.bipush 12, 2) := dk_16 12 (dk_at dksX2_laysDistances_7 8 rfl rfl)
theorem dX2_laysDistances_173 : decode cX2_laysDistances 173 = .ok (.imul, 1) := dk_104 (dk_at dksX2_laysDistances_7 10 rfl rfl)
theorem dX2_laysDistances_174 : decode cX2_laysDistances 174 = .ok (.iload_n 3, 1) := dk_29 (dk_at dksX2_laysDistances_7 11 rfl rfl)
theorem dX2_laysDistances_175 : decode cX2_laysDistances 175 = .ok (.iadd, 1) := dk_96 (dk_at dksX2_laysDistances_7 12 rfl rfl)
theorem dX2_laysDistances_176 : decode cX2_laysDistances 176 = .ok (.iaload, 1) := dk_46 (dk_at dksX2_laysDistances_7 13 rfl rfl)
theorem dX2_laysDistances_177 : decode cX2_laysDistances 177 = .ok (.istore 5, 2) := dk_54 5 (dk_at dksX2_laysDistances_7 14 rfl rfl)
theorem dX2_laysDistances_179 : decode cX2_laysDistances 179 = .ok (.aload_n 0, 1) := dk_42 (dk_at dksX2_laysDistances_7 16 rfl rfl)
theorem dX2_laysDistances_180 : decode cX2_laysDistances 180 = .ok (.getfield 35, 3) := dk_180 0 35 (dk_at dksX2_laysDistances_7 17 rfl rfl)
theorem dX2_laysDistances_183 : decode cX2_laysDistances 183 = .ok (.bipush 12, 2) := dk_16 12 (dk_at dksX2_laysDistances_7 20 rfl rfl)
theorem dX2_laysDistances_185 : decode cX2_laysDistances 185 = .ok (.iload_n 3, 1) := dk_29 (dk_at dksX2_laysDistances_7 22 rfl rfl)
theorem dX2_laysDistances_186 : decode cX2_laysDistances 186 = .ok (.imul, 1) := dk_104 (dk_at dksX2_laysDistances_7 23 rfl rfl)
theorem dX2_laysDistances_187 : decode cX2_laysDistances 187 = .ok (.iload 4, 2) := dk_21 4 (dk_at dksX2_laysDistances_8 0 rfl rfl)
theorem dX2_laysDistances_189 : decode cX2_laysDistances 189 = .ok (.bipush 12, 2) := dk_16 12 (dk_at dksX2_laysDistances_8 2 rfl rfl)
theorem dX2_laysDistances_191 : decode cX2_laysDistances 191 = .ok (.irem, 1) := dk_112 (dk_at dksX2_laysDistances_8 4 rfl rfl)
theorem dX2_laysDistances_192 : decode cX2_laysDistances 192 = .ok (.iadd, 1) := dk_96 (dk_at dksX2_laysDistances_8 5 rfl rfl)
theorem dX2_laysDistances_193 : decode cX2_laysDistances 193 = .ok (.iaload, 1) := dk_46 (dk_at dksX2_laysDistances_8 6 rfl rfl)
theorem dX2_laysDistances_194 : decode cX2_laysDistances 194 = .ok (.istore 6, 2) := dk_54 6 (dk_at dksX2_laysDistances_8 7 rfl rfl)
theorem dX2_laysDistances_196 : decode cX2_laysDistances 196 = .ok (.iload 5, 2) := dk_21 5 (dk_at dksX2_laysDistances_8 9 rfl rfl)
theorem dX2_laysDistances_198 : decode cX2_laysDistances 198 = .ok (.ldc 193, 2) := dk_18 193 (dk_at dksX2_laysDistances_8 11 rfl rfl)
theorem dX2_laysDistances_200 : decode cX2_laysDistances 200 = .ok (.if_icmp .eq 29, 3) := dk_159 0 29 (dk_at dksX2_laysDistances_8 13 rfl rfl)
theorem dX2_laysDistances_203 : decode cX2_laysDistances 203 = .ok (.iload 6, 2) := dk_21 6 (dk_at dksX2_laysDistances_8 16 rfl rfl)
theorem dX2_laysDistances_205 : decode cX2_laysDistances 205 = .ok (.ldc 193, 2) := dk_18 193 (dk_at dksX2_laysDistances_8 18 rfl rfl)
theorem dX2_laysDistances_207 : decode cX2_laysDistances 207 = .ok (.if_icmp .eq 22, 3) := dk_159 0 22 (dk_at dksX2_laysDistances_8 20 rfl rfl)
theorem dX2_laysDistances_210 : decode cX2_laysDistances 210 = .ok (.aload_n 0, 1) := dk_42 (dk_at dksX2_laysDistances_8 23 rfl rfl)
theorem dX2_laysDistances_211 : decode cX2_laysDistances 211 = .ok (.iload 4, 2) := dk_21 4 (dk_at dksX2_laysDistances_9 0 rfl rfl)
theorem dX2_laysDistances_213 : decode cX2_laysDistances 213 = .ok (.bipush 12, 2) := dk_16 12 (dk_at dksX2_laysDistances_9 2 rfl rfl)
theorem dX2_laysDistances_215 : decode cX2_laysDistances 215 = .ok (.idiv, 1) := dk_108 (dk_at dksX2_laysDistances_9 4 rfl rfl)
theorem dX2_laysDistances_216 : decode cX2_laysDistances 216 = .ok (.iload 4, 2) := dk_21 4 (dk_at dksX2_laysDistances_9 5 rfl rfl)
theorem dX2_laysDistances_218 : decode cX2_laysDistances 218 = .ok (.bipush 12, 2) := dk_16 12 (dk_at dksX2_laysDistances_9 7 rfl rfl)
theorem dX2_laysDistances_220 : decode cX2_laysDistances 220 = .ok (.irem, 1) := dk_112 (dk_at dksX2_laysDistances_9 9 rfl rfl)
theorem dX2_laysDistances_221 : decode cX2_laysDistances 221 = .ok (.iload 5, 2) := dk_21 5 (dk_at dksX2_laysDistances_9 10 rfl rfl)
theorem dX2_laysDistances_223 : decode cX2_laysDistances 223 = .ok (.iload 6, 2) := dk_21 6 (dk_at dksX2_laysDistances_9 12 rfl rfl)
theorem dX2_laysDistances_225 : decode cX2_laysDistances 225 = .ok (.iadd, 1) := dk_96 (dk_at dksX2_laysDistances_9 14 rfl rfl)
theorem dX2_laysDistances_226 : decode cX2_laysDistances 226 = .ok (.invokevirtual 194, 3) := dk_182 0 194 (dk_at dksX2_laysDistances_9 15 rfl rfl)
theorem dX2_laysDistances_229 : decode cX2_laysDistances 229 = .ok (.iinc 4 1, 3) := dk_132 4 1 (dk_at dksX2_laysDistances_9 18 rfl rfl)
theorem dX2_laysDistances_232 : decode cX2_laysDistances 232 = .ok (.goto (-78), 3) := dk_167 255 178 (dk_at dksX2_laysDistances_9 21 rfl rfl)
theorem dX2_laysDistances_235 : decode cX2_laysDistances 235 = .ok (.iinc 3 1, 3) := dk_132 3 1 (dk_at dksX2_laysDistances_10 0 rfl rfl)
theorem dX2_laysDistances_238 : decode cX2_laysDistances 238 = .ok (.goto (-97), 3) := dk_167 255 159 (dk_at dksX2_laysDistances_10 3 rfl rfl)
theorem dX2_laysDistances_241 : decode cX2_laysDistances 241 = .ok (.return_, 1) := dk_177 (dk_at dksX2_laysDistances_10 6 rfl rfl)
abbrev cX2_value : ByteArray := prog_12_method_14_code
def yX2_value : MethodName := ⟨RX2, "value", "(I)I"⟩
def dkwX2_value_0 : List UInt8 := [42, 27, 182, 0, 58, 42, 27, 182, 0, 61, 100, 172]
abbrev dktX2_value_0 : List UInt8 := dkwX2_value_0 ++ []
theorem dksX2_value_0 : cX2_value.data.toList.drop 0 = dktX2_value_0 := by decide +kernel
theorem dX2_value_0 : decode cX2_value 0 = .ok (.aload_n 0, 1) := dk_42 (dk_at dksX2_value_0 0 rfl rfl)
theorem dX2_value_1 : decode cX2_value 1 = .ok (.iload_n 1, 1) := dk_27 (dk_at dksX2_value_0 1 rfl rfl)
theorem dX2_value_2 : decode cX2_value 2 = .ok (.invokevirtual 58, 3) := dk_182 0 58 (dk_at dksX2_value_0 2 rfl rfl)
theorem dX2_value_5 : decode cX2_value 5 = .ok (.aload_n 0, 1) := dk_42 (dk_at dksX2_value_0 5 rfl rfl)
theorem dX2_value_6 : decode cX2_value 6 = .ok (.iload_n 1, 1) := dk_27 (dk_at dksX2_value_0 6 rfl rfl)
theorem dX2_value_7 : decode cX2_value 7 = .ok (.invokevirtual 61, 3) := dk_182 0 61 (dk_at dksX2_value_0 7 rfl rfl)
theorem dX2_value_10 : decode cX2_value 10 = .ok (.isub, 1) := dk_100 (dk_at dksX2_value_0 10 rfl rfl)
theorem dX2_value_11 : decode cX2_value 11 = .ok (.ireturn, 1) := dk_172 (dk_at dksX2_value_0 11 rfl rfl)
abbrev cX2_to : ByteArray := prog_12_method_13_code
def yX2_to : MethodName := ⟨RX2, "to", "(I)I"⟩
def dkwX2_to_0 : List UInt8 := [42, 42, 27, 4, 182, 0, 50, 182, 0, 54, 172]
abbrev dktX2_to_0 : List UInt8 := dkwX2_to_0 ++ []
theorem dksX2_to_0 : cX2_to.data.toList.drop 0 = dktX2_to_0 := by decide +kernel
theorem dX2_to_0 : decode cX2_to 0 = .ok (.aload_n 0, 1) := dk_42 (dk_at dksX2_to_0 0 rfl rfl)
theorem dX2_to_1 : decode cX2_to 1 = .ok (.aload_n 0, 1) := dk_42 (dk_at dksX2_to_0 1 rfl rfl)
theorem dX2_to_2 : decode cX2_to 2 = .ok (.iload_n 1, 1) := dk_27 (dk_at dksX2_to_0 2 rfl rfl)
theorem dX2_to_3 : decode cX2_to 3 = .ok (.iconst 1, 1) := dk_4 (dk_at dksX2_to_0 3 rfl rfl)
theorem dX2_to_4 : decode cX2_to 4 = .ok (.invokevirtual 50, 3) := dk_182 0 50 (dk_at dksX2_to_0 4 rfl rfl)
theorem dX2_to_7 : decode cX2_to 7 = .ok (.invokevirtual 54, 3) := dk_182 0 54 (dk_at dksX2_to_0 7 rfl rfl)
theorem dX2_to_10 : decode cX2_to 10 = .ok (.ireturn, 1) := dk_172 (dk_at dksX2_to_0 10 rfl rfl)
abbrev cX2_from : ByteArray := prog_12_method_12_code
def yX2_from : MethodName := ⟨RX2, "from", "(I)I"⟩
def dkwX2_from_0 : List UInt8 := [42, 42, 27, 3, 182, 0, 50, 182, 0, 54, 172]
abbrev dktX2_from_0 : List UInt8 := dkwX2_from_0 ++ []
theorem dksX2_from_0 : cX2_from.data.toList.drop 0 = dktX2_from_0 := by decide +kernel
theorem dX2_from_0 : decode cX2_from 0 = .ok (.aload_n 0, 1) := dk_42 (dk_at dksX2_from_0 0 rfl rfl)
theorem dX2_from_1 : decode cX2_from 1 = .ok (.aload_n 0, 1) := dk_42 (dk_at dksX2_from_0 1 rfl rfl)
theorem dX2_from_2 : decode cX2_from 2 = .ok (.iload_n 1, 1) := dk_27 (dk_at dksX2_from_0 2 rfl rfl)
theorem dX2_from_3 : decode cX2_from 3 = .ok (.iconst 0, 1) := dk_3 (dk_at dksX2_from_0 3 rfl rfl)
theorem dX2_from_4 : decode cX2_from 4 = .ok (.invokevirtual 50, 3) := dk_182 0 50 (dk_at dksX2_from_0 4 rfl rfl)
theorem dX2_from_7 : decode cX2_from 7 = .ok (.invokevirtual 54, 3) := dk_182 0 54 (dk_at dksX2_from_0 7 rfl rfl)
theorem dX2_from_10 : decode cX2_from 10 = .ok (.ireturn, 1) := dk_172 (dk_at dksX2_from_0 10 rfl rfl)
abbrev cX2_bounds : ByteArray := prog_12_method_62_code
def yX2_bounds : MethodName := ⟨RX2, "bounds", "(III)V"⟩
def dkwX2_bounds_1 : List UInt8 := [162, 0, 7, 29, 167, 0, 14, 42, 180, 0, 35, 16, 12, 27, 104, 28, 96, 46, 79, 177]
abbrev dktX2_bounds_1 : List UInt8 := dkwX2_bounds_1 ++ []
def dkwX2_bounds_0 : List UInt8 := [42, 180, 0, 35, 16, 12, 27, 104, 28, 96, 29, 42, 180, 0, 35, 16, 12, 27, 104, 28, 96, 46]
abbrev dktX2_bounds_0 : List UInt8 := dkwX2_bounds_0 ++ dktX2_bounds_1
theorem dksX2_bounds_0 : cX2_bounds.data.toList.drop 0 = dktX2_bounds_0 := by decide +kernel
theorem dksX2_bounds_1 : cX2_bounds.data.toList.drop 22 = dktX2_bounds_1 := dk_seg dksX2_bounds_0 22 rfl rfl
theorem dX2_bounds_0 : decode cX2_bounds 0 = .ok (.aload_n 0, 1) := dk_42 (dk_at dksX2_bounds_0 0 rfl rfl)
theorem dX2_bounds_1 : decode cX2_bounds 1 = .ok (.getfield 35, 3) := dk_180 0 35 (dk_at dksX2_bounds_0 1 rfl rfl)
theorem dX2_bounds_4 : decode cX2_bounds 4 = .ok (.bipush 12, 2) := dk_16 12 (dk_at dksX2_bounds_0 4 rfl rfl)
theorem dX2_bounds_6 : decode cX2_bounds 6 = .ok (.iload_n 1, 1) := dk_27 (dk_at dksX2_bounds_0 6 rfl rfl)
theorem dX2_bounds_7 : decode cX2_bounds 7 = .ok (.imul, 1) := dk_104 (dk_at dksX2_bounds_0 7 rfl rfl)
theorem dX2_bounds_8 : decode cX2_bounds 8 = .ok (.iload_n 2, 1) := dk_28 (dk_at dksX2_bounds_0 8 rfl rfl)
theorem dX2_bounds_9 : decode cX2_bounds 9 = .ok (.iadd, 1) := dk_96 (dk_at dksX2_bounds_0 9 rfl rfl)
theorem dX2_bounds_10 : decode cX2_bounds 10 = .ok (.iload_n 3, 1) := dk_29 (dk_at dksX2_bounds_0 10 rfl rfl)
theorem dX2_bounds_11 : decode cX2_bounds 11 = .ok (.aload_n 0, 1) := dk_42 (dk_at dksX2_bounds_0 11 rfl rfl)
theorem dX2_bounds_12 : decode cX2_bounds 12 = .ok (.getfield 35, 3) := dk_180 0 35 (dk_at dksX2_bounds_0 12 rfl rfl)
theorem dX2_bounds_15 : decode cX2_bounds 15 = .ok (.bipush 12, 2) := dk_16 12 (dk_at dksX2_bounds_0 15 rfl rfl)
theorem dX2_bounds_17 : decode cX2_bounds 17 = .ok (.iload_n 1, 1) := dk_27 (dk_at dksX2_bounds_0 17 rfl rfl)
theorem dX2_bounds_18 : decode cX2_bounds 18 = .ok (.imul, 1) := dk_104 (dk_at dksX2_bounds_0 18 rfl rfl)
theorem dX2_bounds_19 : decode cX2_bounds 19 = .ok (.iload_n 2, 1) := dk_28 (dk_at dksX2_bounds_0 19 rfl rfl)
theorem dX2_bounds_20 : decode cX2_bounds 20 = .ok (.iadd, 1) := dk_96 (dk_at dksX2_bounds_0 20 rfl rfl)
theorem dX2_bounds_21 : decode cX2_bounds 21 = .ok (.iaload, 1) := dk_46 (dk_at dksX2_bounds_0 21 rfl rfl)
theorem dX2_bounds_22 : decode cX2_bounds 22 = .ok (.if_icmp .ge 7, 3) := dk_162 0 7 (dk_at dksX2_bounds_1 0 rfl rfl)
theorem dX2_bounds_25 : decode cX2_bounds 25 = .ok (.iload_n 3, 1) := dk_29 (dk_at dksX2_bounds_1 3 rfl rfl)
theorem dX2_bounds_26 : decode cX2_bounds 26 = .ok (.goto 14, 3) := dk_167 0 14 (dk_at dksX2_bounds_1 4 rfl rfl)
theorem dX2_bounds_29 : decode cX2_bounds 29 = .ok (.aload_n 0, 1) := dk_42 (dk_at dksX2_bounds_1 7 rfl rfl)
theorem dX2_bounds_30 : decode cX2_bounds 30 = .ok (.getfield 35, 3) := dk_180 0 35 (dk_at dksX2_bounds_1 8 rfl rfl)
theorem dX2_bounds_33 : decode cX2_bounds 33 = .ok (.bipush 12, 2) := dk_16 12 (dk_at dksX2_bounds_1 11 rfl rfl)
theorem dX2_bounds_35 : decode cX2_bounds 35 = .ok (.iload_n 1, 1) := dk_27 (dk_at dksX2_bounds_1 13 rfl rfl)
theorem dX2_bounds_36 : decode cX2_bounds 36 = .ok (.imul, 1) := dk_104 (dk_at dksX2_bounds_1 14 rfl rfl)
theorem dX2_bounds_37 : decode cX2_bounds 37 = .ok (.iload_n 2, 1) := dk_28 (dk_at dksX2_bounds_1 15 rfl rfl)
theorem dX2_bounds_38 : decode cX2_bounds 38 = .ok (.iadd, 1) := dk_96 (dk_at dksX2_bounds_1 16 rfl rfl)
theorem dX2_bounds_39 : decode cX2_bounds 39 = .ok (.iaload, 1) := dk_46 (dk_at dksX2_bounds_1 17 rfl rfl)
theorem dX2_bounds_40 : decode cX2_bounds 40 = .ok (.iastore, 1) := dk_79 (dk_at dksX2_bounds_1 18 rfl rfl)
theorem dX2_bounds_41 : decode cX2_bounds 41 = .ok (.return_, 1) := dk_177 (dk_at dksX2_bounds_1 19 rfl rfl)
abbrev cX2_group : ByteArray := prog_12_method_67_code
def yX2_group : MethodName := ⟨RX2, "group", "(I)I"⟩
def dkwX2_group_2 : List UInt8 := [167, 0, 4, 3, 96, 61, 132, 3, 1, 167, 255, 232, 28, 172]
abbrev dktX2_group_2 : List UInt8 := dkwX2_group_2 ++ []
def dkwX2_group_1 : List UInt8 := [132, 3, 1, 167, 255, 233, 3, 62, 29, 27, 162, 0, 25, 28, 42, 29, 182, 0, 206, 153, 0, 7, 4]
abbrev dktX2_group_1 : List UInt8 := dkwX2_group_1 ++ dktX2_group_2
def dkwX2_group_0 : List UInt8 := [3, 61, 3, 62, 29, 27, 162, 0, 24, 42, 29, 27, 182, 0, 200, 153, 0, 9, 42, 29, 182, 0, 203, 172]
abbrev dktX2_group_0 : List UInt8 := dkwX2_group_0 ++ dktX2_group_1
theorem dksX2_group_0 : cX2_group.data.toList.drop 0 = dktX2_group_0 := by decide +kernel
theorem dksX2_group_1 : cX2_group.data.toList.drop 24 = dktX2_group_1 := dk_seg dksX2_group_0 24 rfl rfl
theorem dksX2_group_2 : cX2_group.data.toList.drop 47 = dktX2_group_2 := dk_seg dksX2_group_1 23 rfl rfl
theorem dX2_group_0 : decode cX2_group 0 = .ok (.iconst 0, 1) := dk_3 (dk_at dksX2_group_0 0 rfl rfl)
theorem dX2_group_1 : decode cX2_group 1 = .ok (.istore_n 2, 1) := dk_61 (dk_at dksX2_group_0 1 rfl rfl)
theorem dX2_group_2 : decode cX2_group 2 = .ok (.iconst 0, 1) := dk_3 (dk_at dksX2_group_0 2 rfl rfl)
theorem dX2_group_3 : decode cX2_group 3 = .ok (.istore_n 3, 1) := dk_62 (dk_at dksX2_group_0 3 rfl rfl)
theorem dX2_group_4 : decode cX2_group 4 = .ok (.iload_n 3, 1) := dk_29 (dk_at dksX2_group_0 4 rfl rfl)
theorem dX2_group_5 : decode cX2_group 5 = .ok (.iload_n 1, 1) := dk_27 (dk_at dksX2_group_0 5 rfl rfl)
theorem dX2_group_6 : decode cX2_group 6 = .ok (.if_icmp .ge 24, 3) := dk_162 0 24 (dk_at dksX2_group_0 6 rfl rfl)
theorem dX2_group_9 : decode cX2_group 9 = .ok (.aload_n 0, 1) := dk_42 (dk_at dksX2_group_0 9 rfl rfl)
theorem dX2_group_10 : decode cX2_group 10 = .ok (.iload_n 3, 1) := dk_29 (dk_at dksX2_group_0 10 rfl rfl)
theorem dX2_group_11 : decode cX2_group 11 = .ok (.iload_n 1, 1) := dk_27 (dk_at dksX2_group_0 11 rfl rfl)
theorem dX2_group_12 : decode cX2_group 12 = .ok (.invokevirtual 200, 3) := dk_182 0 200 (dk_at dksX2_group_0 12 rfl rfl)
theorem dX2_group_15 : decode cX2_group 15 = .ok (.ifCond .eq 9, 3) := dk_153 0 9 (dk_at dksX2_group_0 15 rfl rfl)
theorem dX2_group_18 : decode cX2_group 18 = .ok (.aload_n 0, 1) := dk_42 (dk_at dksX2_group_0 18 rfl rfl)
theorem dX2_group_19 : decode cX2_group 19 = .ok (.iload_n 3, 1) := dk_29 (dk_at dksX2_group_0 19 rfl rfl)
theorem dX2_group_20 : decode cX2_group 20 = .ok (.invokevirtual 203, 3) := dk_182 0 203 (dk_at dksX2_group_0 20 rfl rfl)
theorem dX2_group_23 : decode cX2_group 23 = .ok (.ireturn, 1) := dk_172 (dk_at dksX2_group_0 23 rfl rfl)
theorem dX2_group_24 : decode cX2_group 24 = .ok (.iinc 3 1, 3) := dk_132 3 1 (dk_at dksX2_group_1 0 rfl rfl)
theorem dX2_group_27 : decode cX2_group 27 = .ok (.goto (-23), 3) := dk_167 255 233 (dk_at dksX2_group_1 3 rfl rfl)
theorem dX2_group_30 : decode cX2_group 30 = .ok (.iconst 0, 1) := dk_3 (dk_at dksX2_group_1 6 rfl rfl)
theorem dX2_group_31 : decode cX2_group 31 = .ok (.istore_n 3, 1) := dk_62 (dk_at dksX2_group_1 7 rfl rfl)
theorem dX2_group_32 : decode cX2_group 32 = .ok (.iload_n 3, 1) := dk_29 (dk_at dksX2_group_1 8 rfl rfl)
theorem dX2_group_33 : decode cX2_group 33 = .ok (.iload_n 1, 1) := dk_27 (dk_at dksX2_group_1 9 rfl rfl)
theorem dX2_group_34 : decode cX2_group 34 = .ok (.if_icmp .ge 25, 3) := dk_162 0 25 (dk_at dksX2_group_1 10 rfl rfl)
theorem dX2_group_37 : decode cX2_group 37 = .ok (.iload_n 2, 1) := dk_28 (dk_at dksX2_group_1 13 rfl rfl)
theorem dX2_group_38 : decode cX2_group 38 = .ok (.aload_n 0, 1) := dk_42 (dk_at dksX2_group_1 14 rfl rfl)
theorem dX2_group_39 : decode cX2_group 39 = .ok (.iload_n 3, 1) := dk_29 (dk_at dksX2_group_1 15 rfl rfl)
theorem dX2_group_40 : decode cX2_group 40 = .ok (.invokevirtual 206, 3) := dk_182 0 206 (dk_at dksX2_group_1 16 rfl rfl)
theorem dX2_group_43 : decode cX2_group 43 = .ok (.ifCond .eq 7, 3) := dk_153 0 7 (dk_at dksX2_group_1 19 rfl rfl)
theorem dX2_group_46 : decode cX2_group 46 = .ok (.iconst 1, 1) := dk_4 (dk_at dksX2_group_1 22 rfl rfl)
theorem dX2_group_47 : decode cX2_group 47 = .ok (.goto 4, 3) := dk_167 0 4 (dk_at dksX2_group_2 0 rfl rfl)
theorem dX2_group_50 : decode cX2_group 50 = .ok (.iconst 0, 1) := dk_3 (dk_at dksX2_group_2 3 rfl rfl)
theorem dX2_group_51 : decode cX2_group 51 = .ok (.iadd, 1) := dk_96 (dk_at dksX2_group_2 4 rfl rfl)
theorem dX2_group_52 : decode cX2_group 52 = .ok (.istore_n 2, 1) := dk_61 (dk_at dksX2_group_2 5 rfl rfl)
theorem dX2_group_53 : decode cX2_group 53 = .ok (.iinc 3 1, 3) := dk_132 3 1 (dk_at dksX2_group_2 6 rfl rfl)
theorem dX2_group_56 : decode cX2_group 56 = .ok (.goto (-24), 3) := dk_167 255 232 (dk_at dksX2_group_2 9 rfl rfl)
theorem dX2_group_59 : decode cX2_group 59 = .ok (.iload_n 2, 1) := dk_28 (dk_at dksX2_group_2 12 rfl rfl)
theorem dX2_group_60 : decode cX2_group 60 = .ok (.ireturn, 1) := dk_172 (dk_at dksX2_group_2 13 rfl rfl)
abbrev cX2_areBound : ByteArray := prog_12_method_64_code
def yX2_areBound : MethodName := ⟨RX2, "areBound", "(II)Z"⟩
def dkwX2_areBound_0 : List UInt8 := [42, 180, 0, 35, 16, 12, 27, 104, 28, 96, 46, 18, 193, 159, 0, 7, 4, 167, 0, 4, 3, 172]
abbrev dktX2_areBound_0 : List UInt8 := dkwX2_areBound_0 ++ []
theorem dksX2_areBound_0 : cX2_areBound.data.toList.drop 0 = dktX2_areBound_0 := by decide +kernel
theorem dX2_areBound_0 : decode cX2_areBound 0 = .ok (.aload_n 0, 1) := dk_42 (dk_at dksX2_areBound_0 0 rfl rfl)
theorem dX2_areBound_1 : decode cX2_areBound 1 = .ok (.getfield 35, 3) := dk_180 0 35 (dk_at dksX2_areBound_0 1 rfl rfl)
theorem dX2_areBound_4 : decode cX2_areBound 4 = .ok (.bipush 12, 2) := dk_16 12 (dk_at dksX2_areBound_0 4 rfl rfl)
theorem dX2_areBound_6 : decode cX2_areBound 6 = .ok (.iload_n 1, 1) := dk_27 (dk_at dksX2_areBound_0 6 rfl rfl)
theorem dX2_areBound_7 : decode cX2_areBound 7 = .ok (.imul, 1) := dk_104 (dk_at dksX2_areBound_0 7 rfl rfl)
theorem dX2_areBound_8 : decode cX2_areBound 8 = .ok (.iload_n 2, 1) := dk_28 (dk_at dksX2_areBound_0 8 rfl rfl)
theorem dX2_areBound_9 : decode cX2_areBound 9 = .ok (.iadd, 1) := dk_96 (dk_at dksX2_areBound_0 9 rfl rfl)
theorem dX2_areBound_10 : decode cX2_areBound 10 = .ok (.iaload, 1) := dk_46 (dk_at dksX2_areBound_0 10 rfl rfl)
theorem dX2_areBound_11 : decode cX2_areBound 11 = .ok (.ldc 193, 2) := dk_18 193 (dk_at dksX2_areBound_0 11 rfl rfl)
theorem dX2_areBound_13 : decode cX2_areBound 13 = .ok (.if_icmp .eq 7, 3) := dk_159 0 7 (dk_at dksX2_areBound_0 13 rfl rfl)
theorem dX2_areBound_16 : decode cX2_areBound 16 = .ok (.iconst 1, 1) := dk_4 (dk_at dksX2_areBound_0 16 rfl rfl)
theorem dX2_areBound_17 : decode cX2_areBound 17 = .ok (.goto 4, 3) := dk_167 0 4 (dk_at dksX2_areBound_0 17 rfl rfl)
theorem dX2_areBound_20 : decode cX2_areBound 20 = .ok (.iconst 0, 1) := dk_3 (dk_at dksX2_areBound_0 20 rfl rfl)
theorem dX2_areBound_21 : decode cX2_areBound 21 = .ok (.ireturn, 1) := dk_172 (dk_at dksX2_areBound_0 21 rfl rfl)
abbrev cX2_groupOfFirst : ByteArray := prog_12_method_69_code
def yX2_groupOfFirst : MethodName := ⟨RX2, "groupOfFirst", "(I)I"⟩
def dkwX2_groupOfFirst_1 : List UInt8 := [61, 132, 3, 1, 167, 255, 232, 28, 172]
abbrev dktX2_groupOfFirst_1 : List UInt8 := dkwX2_groupOfFirst_1 ++ []
def dkwX2_groupOfFirst_0 : List UInt8 := [3, 61, 3, 62, 29, 27, 162, 0, 25, 28, 42, 29, 182, 0, 206, 153, 0, 7, 4, 167, 0, 4, 3, 96]
abbrev dktX2_groupOfFirst_0 : List UInt8 := dkwX2_groupOfFirst_0 ++ dktX2_groupOfFirst_1
theorem dksX2_groupOfFirst_0 : cX2_groupOfFirst.data.toList.drop 0 = dktX2_groupOfFirst_0 := by decide +kernel
theorem dksX2_groupOfFirst_1 : cX2_groupOfFirst.data.toList.drop 24 = dktX2_groupOfFirst_1 := dk_seg dksX2_groupOfFirst_0 24 rfl rfl
theorem dX2_groupOfFirst_0 : decode cX2_groupOfFirst 0 = .ok (.iconst 0, 1) := dk_3 (dk_at dksX2_groupOfFirst_0 0 rfl rfl)
theorem dX2_groupOfFirst_1 : decode cX2_groupOfFirst 1 = .ok (.istore_n 2, 1) := dk_61 (dk_at dksX2_groupOfFirst_0 1 rfl rfl)
theorem dX2_groupOfFirst_2 : decode cX2_groupOfFirst 2 = .ok (.iconst 0, 1) := dk_3 (dk_at dksX2_groupOfFirst_0 2 rfl rfl)
theorem dX2_groupOfFirst_3 : decode cX2_groupOfFirst 3 = .ok (.istore_n 3, 1) := dk_62 (dk_at dksX2_groupOfFirst_0 3 rfl rfl)
theorem dX2_groupOfFirst_4 : decode cX2_groupOfFirst 4 = .ok (.iload_n 3, 1) := dk_29 (dk_at dksX2_groupOfFirst_0 4 rfl rfl)
theorem dX2_groupOfFirst_5 : decode cX2_groupOfFirst 5 = .ok (.iload_n 1, 1) := dk_27 (dk_at dksX2_groupOfFirst_0 5 rfl rfl)
theorem dX2_groupOfFirst_6 : decode cX2_groupOfFirst 6 = .ok (.if_icmp .ge 25, 3) := dk_162 0 25 (dk_at dksX2_groupOfFirst_0 6 rfl rfl)
theorem dX2_groupOfFirst_9 : decode cX2_groupOfFirst 9 = .ok (.iload_n 2, 1) := dk_28 (dk_at dksX2_groupOfFirst_0 9 rfl rfl)
theorem dX2_groupOfFirst_10 : decode cX2_groupOfFirst 10 = .ok (.aload_n 0, 1) := dk_42 (dk_at dksX2_groupOfFirst_0 10 rfl rfl)
theorem dX2_groupOfFirst_11 : decode cX2_groupOfFirst 11 = .ok (.iload_n 3, 1) := dk_29 (dk_at dksX2_groupOfFirst_0 11 rfl rfl)
theorem dX2_groupOfFirst_12 : decode cX2_groupOfFirst 12 = .ok (.invokevirtual 206, 3) := dk_182 0 206 (dk_at dksX2_groupOfFirst_0 12 rfl rfl)
theorem dX2_groupOfFirst_15 : decode cX2_groupOfFirst 15 = .ok (.ifCond .eq 7, 3) := dk_153 0 7 (dk_at dksX2_groupOfFirst_0 15 rfl rfl)
theorem dX2_groupOfFirst_18 : decode cX2_groupOfFirst 18 = .ok (.iconst 1, 1) := dk_4 (dk_at dksX2_groupOfFirst_0 18 rfl rfl)
theorem dX2_groupOfFirst_19 : decode cX2_groupOfFirst 19 = .ok (.goto 4, 3) := dk_167 0 4 (dk_at dksX2_groupOfFirst_0 19 rfl rfl)
theorem dX2_groupOfFirst_22 : decode cX2_groupOfFirst 22 = .ok (.iconst 0, 1) := dk_3 (dk_at dksX2_groupOfFirst_0 22 rfl rfl)
theorem dX2_groupOfFirst_23 : decode cX2_groupOfFirst 23 = .ok (.iadd, 1) := dk_96 (dk_at dksX2_groupOfFirst_0 23 rfl rfl)
theorem dX2_groupOfFirst_24 : decode cX2_groupOfFirst 24 = .ok (.istore_n 2, 1) := dk_61 (dk_at dksX2_groupOfFirst_1 0 rfl rfl)
theorem dX2_groupOfFirst_25 : decode cX2_groupOfFirst 25 = .ok (.iinc 3 1, 3) := dk_132 3 1 (dk_at dksX2_groupOfFirst_1 1 rfl rfl)
theorem dX2_groupOfFirst_28 : decode cX2_groupOfFirst 28 = .ok (.goto (-24), 3) := dk_167 255 232 (dk_at dksX2_groupOfFirst_1 4 rfl rfl)
theorem dX2_groupOfFirst_31 : decode cX2_groupOfFirst 31 = .ok (.iload_n 2, 1) := dk_28 (dk_at dksX2_groupOfFirst_1 7 rfl rfl)
theorem dX2_groupOfFirst_32 : decode cX2_groupOfFirst 32 = .ok (.ireturn, 1) := dk_172 (dk_at dksX2_groupOfFirst_1 8 rfl rfl)
abbrev cX2_isFirst : ByteArray := prog_12_method_68_code
def yX2_isFirst : MethodName := ⟨RX2, "isFirst", "(I)Z"⟩
def dkwX2_isFirst_1 : List UInt8 := [167, 0, 4, 3, 61, 132, 3, 1, 167, 255, 229, 28, 172]
abbrev dktX2_isFirst_1 : List UInt8 := dkwX2_isFirst_1 ++ []
def dkwX2_isFirst_0 : List UInt8 := [4, 61, 3, 62, 29, 27, 162, 0, 28, 28, 153, 0, 16, 42, 29, 27, 182, 0, 200, 154, 0, 7, 4]
abbrev dktX2_isFirst_0 : List UInt8 := dkwX2_isFirst_0 ++ dktX2_isFirst_1
theorem dksX2_isFirst_0 : cX2_isFirst.data.toList.drop 0 = dktX2_isFirst_0 := by decide +kernel
theorem dksX2_isFirst_1 : cX2_isFirst.data.toList.drop 23 = dktX2_isFirst_1 := dk_seg dksX2_isFirst_0 23 rfl rfl
theorem dX2_isFirst_0 : decode cX2_isFirst 0 = .ok (.iconst 1, 1) := dk_4 (dk_at dksX2_isFirst_0 0 rfl rfl)
theorem dX2_isFirst_1 : decode cX2_isFirst 1 = .ok (.istore_n 2, 1) := dk_61 (dk_at dksX2_isFirst_0 1 rfl rfl)
theorem dX2_isFirst_2 : decode cX2_isFirst 2 = .ok (.iconst 0, 1) := dk_3 (dk_at dksX2_isFirst_0 2 rfl rfl)
theorem dX2_isFirst_3 : decode cX2_isFirst 3 = .ok (.istore_n 3, 1) := dk_62 (dk_at dksX2_isFirst_0 3 rfl rfl)
theorem dX2_isFirst_4 : decode cX2_isFirst 4 = .ok (.iload_n 3, 1) := dk_29 (dk_at dksX2_isFirst_0 4 rfl rfl)
theorem dX2_isFirst_5 : decode cX2_isFirst 5 = .ok (.iload_n 1, 1) := dk_27 (dk_at dksX2_isFirst_0 5 rfl rfl)
theorem dX2_isFirst_6 : decode cX2_isFirst 6 = .ok (.if_icmp .ge 28, 3) := dk_162 0 28 (dk_at dksX2_isFirst_0 6 rfl rfl)
theorem dX2_isFirst_9 : decode cX2_isFirst 9 = .ok (.iload_n 2, 1) := dk_28 (dk_at dksX2_isFirst_0 9 rfl rfl)
theorem dX2_isFirst_10 : decode cX2_isFirst 10 = .ok (.ifCond .eq 16, 3) := dk_153 0 16 (dk_at dksX2_isFirst_0 10 rfl rfl)
theorem dX2_isFirst_13 : decode cX2_isFirst 13 = .ok (.aload_n 0, 1) := dk_42 (dk_at dksX2_isFirst_0 13 rfl rfl)
theorem dX2_isFirst_14 : decode cX2_isFirst 14 = .ok (.iload_n 3, 1) := dk_29 (dk_at dksX2_isFirst_0 14 rfl rfl)
theorem dX2_isFirst_15 : decode cX2_isFirst 15 = .ok (.iload_n 1, 1) := dk_27 (dk_at dksX2_isFirst_0 15 rfl rfl)
theorem dX2_isFirst_16 : decode cX2_isFirst 16 = .ok (.invokevirtual 200, 3) := dk_182 0 200 (dk_at dksX2_isFirst_0 16 rfl rfl)
theorem dX2_isFirst_19 : decode cX2_isFirst 19 = .ok (.ifCond .ne 7, 3) := dk_154 0 7 (dk_at dksX2_isFirst_0 19 rfl rfl)
theorem dX2_isFirst_22 : decode cX2_isFirst 22 = .ok (.iconst 1, 1) := dk_4 (dk_at dksX2_isFirst_0 22 rfl rfl)
theorem dX2_isFirst_23 : decode cX2_isFirst 23 = .ok (.goto 4, 3) := dk_167 0 4 (dk_at dksX2_isFirst_1 0 rfl rfl)
theorem dX2_isFirst_26 : decode cX2_isFirst 26 = .ok (.iconst 0, 1) := dk_3 (dk_at dksX2_isFirst_1 3 rfl rfl)
theorem dX2_isFirst_27 : decode cX2_isFirst 27 = .ok (.istore_n 2, 1) := dk_61 (dk_at dksX2_isFirst_1 4 rfl rfl)
theorem dX2_isFirst_28 : decode cX2_isFirst 28 = .ok (.iinc 3 1, 3) := dk_132 3 1 (dk_at dksX2_isFirst_1 5 rfl rfl)
theorem dX2_isFirst_31 : decode cX2_isFirst 31 = .ok (.goto (-27), 3) := dk_167 255 229 (dk_at dksX2_isFirst_1 8 rfl rfl)
theorem dX2_isFirst_34 : decode cX2_isFirst 34 = .ok (.iload_n 2, 1) := dk_28 (dk_at dksX2_isFirst_1 11 rfl rfl)
theorem dX2_isFirst_35 : decode cX2_isFirst 35 = .ok (.ireturn, 1) := dk_172 (dk_at dksX2_isFirst_1 12 rfl rfl)
abbrev cX2_laysLanes : ByteArray := prog_12_method_56_code
def yX2_laysLanes : MethodName := ⟨RX2, "laysLanes", "()V"⟩
def dkwX2_laysLanes_5 : List UInt8 := [4, 84, 42, 182, 0, 175, 60, 167, 255, 140, 177]
abbrev dktX2_laysLanes_5 : List UInt8 := dkwX2_laysLanes_5 ++ []
def dkwX2_laysLanes_4 : List UInt8 := [182, 0, 181, 153, 0, 9, 132, 2, 1, 167, 255, 244, 42, 180, 0, 28, 27, 28, 79, 42, 180, 0, 31, 27]
abbrev dktX2_laysLanes_4 : List UInt8 := dkwX2_laysLanes_4 ++ dktX2_laysLanes_5
def dkwX2_laysLanes_3 : List UInt8 := [42, 180, 0, 28, 29, 46, 4, 96, 167, 0, 4, 28, 61, 132, 3, 1, 167, 255, 193, 42, 27, 28]
abbrev dktX2_laysLanes_3 : List UInt8 := dkwX2_laysLanes_3 ++ dktX2_laysLanes_4
def dkwX2_laysLanes_2 : List UInt8 := [29, 51, 153, 0, 33, 42, 27, 29, 182, 0, 178, 153, 0, 24, 42, 180, 0, 28, 29, 46, 28, 161, 0, 14]
abbrev dktX2_laysLanes_2 : List UInt8 := dkwX2_laysLanes_2 ++ dktX2_laysLanes_3
def dkwX2_laysLanes_1 : List UInt8 := [62, 29, 42, 180, 0, 7, 16, 13, 46, 162, 0, 58, 42, 29, 182, 0, 160, 153, 0, 42, 42, 180, 0, 31]
abbrev dktX2_laysLanes_1 : List UInt8 := dkwX2_laysLanes_1 ++ dktX2_laysLanes_2
def dkwX2_laysLanes_0 : List UInt8 := [42, 182, 0, 172, 42, 182, 0, 175, 60, 27, 17, 252, 25, 159, 0, 115, 42, 180, 0, 25, 27, 46, 61, 3]
abbrev dktX2_laysLanes_0 : List UInt8 := dkwX2_laysLanes_0 ++ dktX2_laysLanes_1
theorem dksX2_laysLanes_0 : cX2_laysLanes.data.toList.drop 0 = dktX2_laysLanes_0 := by decide +kernel
theorem dksX2_laysLanes_1 : cX2_laysLanes.data.toList.drop 24 = dktX2_laysLanes_1 := dk_seg dksX2_laysLanes_0 24 rfl rfl
theorem dksX2_laysLanes_2 : cX2_laysLanes.data.toList.drop 48 = dktX2_laysLanes_2 := dk_seg dksX2_laysLanes_1 24 rfl rfl
theorem dksX2_laysLanes_3 : cX2_laysLanes.data.toList.drop 72 = dktX2_laysLanes_3 := dk_seg dksX2_laysLanes_2 24 rfl rfl
theorem dksX2_laysLanes_4 : cX2_laysLanes.data.toList.drop 94 = dktX2_laysLanes_4 := dk_seg dksX2_laysLanes_3 22 rfl rfl
theorem dksX2_laysLanes_5 : cX2_laysLanes.data.toList.drop 118 = dktX2_laysLanes_5 := dk_seg dksX2_laysLanes_4 24 rfl rfl
theorem dX2_laysLanes_0 : decode cX2_laysLanes 0 = .ok (.aload_n 0, 1) := dk_42 (dk_at dksX2_laysLanes_0 0 rfl rfl)
theorem dX2_laysLanes_1 : decode cX2_laysLanes 1 = .ok (.invokevirtual 172, 3) := dk_182 0 172 (dk_at dksX2_laysLanes_0 1 rfl rfl)
theorem dX2_laysLanes_4 : decode cX2_laysLanes 4 = .ok (.aload_n 0, 1) := dk_42 (dk_at dksX2_laysLanes_0 4 rfl rfl)
theorem dX2_laysLanes_5 : decode cX2_laysLanes 5 = .ok (.invokevirtual 175, 3) := dk_182 0 175 (dk_at dksX2_laysLanes_0 5 rfl rfl)
theorem dX2_laysLanes_8 : decode cX2_laysLanes 8 = .ok (.istore_n 1, 1) := dk_60 (dk_at dksX2_laysLanes_0 8 rfl rfl)
theorem dX2_laysLanes_9 : decode cX2_laysLanes 9 = .ok (.iload_n 1, 1) := dk_27 (dk_at dksX2_laysLanes_0 9 rfl rfl)
theorem dX2_laysLanes_10 : decode cX2_laysLanes 10 = .ok (.sipush (-999), 3) := dk_17 252 25 (dk_at dksX2_laysLanes_0 10 rfl rfl)
theorem dX2_laysLanes_13 : decode cX2_laysLanes 13 = .ok (.if_icmp .eq 115, 3) := dk_159 0 115 (dk_at dksX2_laysLanes_0 13 rfl rfl)
theorem dX2_laysLanes_16 : decode cX2_laysLanes 16 = .ok (.aload_n 0, 1) := dk_42 (dk_at dksX2_laysLanes_0 16 rfl rfl)
theorem dX2_laysLanes_17 : decode cX2_laysLanes 17 = .ok (.getfield 25, 3) := dk_180 0 25 (dk_at dksX2_laysLanes_0 17 rfl rfl)
theorem dX2_laysLanes_20 : decode cX2_laysLanes 20 = .ok (.iload_n 1, 1) := dk_27 (dk_at dksX2_laysLanes_0 20 rfl rfl)
theorem dX2_laysLanes_21 : decode cX2_laysLanes 21 = .ok (.iaload, 1) := dk_46 (dk_at dksX2_laysLanes_0 21 rfl rfl)
theorem dX2_laysLanes_22 : decode cX2_laysLanes 22 = .ok (.istore_n 2, 1) := dk_61 (dk_at dksX2_laysLanes_0 22 rfl rfl)
theorem dX2_laysLanes_23 : decode cX2_laysLanes 23 = .ok (.iconst 0, 1) := dk_3 (dk_at dksX2_laysLanes_0 23 rfl rfl)
theorem dX2_laysLanes_24 : decode cX2_laysLanes 24 = .ok (.istore_n 3, 1) := dk_62 (dk_at dksX2_laysLanes_1 0 rfl rfl)
theorem dX2_laysLanes_25 : decode cX2_laysLanes 25 = .ok (.iload_n 3, 1) := dk_29 (dk_at dksX2_laysLanes_1 1 rfl rfl)
theorem dX2_laysLanes_26 : decode cX2_laysLanes 26 = .ok (.aload_n 0, 1) := dk_42 (dk_at dksX2_laysLanes_1 2 rfl rfl)
theorem dX2_laysLanes_27 : decode cX2_laysLanes 27 = .ok (.getfield 7, 3) := dk_180 0 7 (dk_at dksX2_laysLanes_1 3 rfl rfl)
theorem dX2_laysLanes_30 : decode cX2_laysLanes 30 = .ok (.bipush 13, 2) := dk_16 13 (dk_at dksX2_laysLanes_1 6 rfl rfl)
theorem dX2_laysLanes_32 : decode cX2_laysLanes 32 = .ok (.iaload, 1) := dk_46 (dk_at dksX2_laysLanes_1 8 rfl rfl)
theorem dX2_laysLanes_33 : decode cX2_laysLanes 33 = .ok (.if_icmp .ge 58, 3) := dk_162 0 58 (dk_at dksX2_laysLanes_1 9 rfl rfl)
theorem dX2_laysLanes_36 : decode cX2_laysLanes 36 = .ok (.aload_n 0, 1) := dk_42 (dk_at dksX2_laysLanes_1 12 rfl rfl)
theorem dX2_laysLanes_37 : decode cX2_laysLanes 37 = .ok (.iload_n 3, 1) := dk_29 (dk_at dksX2_laysLanes_1 13 rfl rfl)
theorem dX2_laysLanes_38 : decode cX2_laysLanes 38 = .ok (.invokevirtual 160, 3) := dk_182 0 160 (dk_at dksX2_laysLanes_1 14 rfl rfl)
theorem dX2_laysLanes_41 : decode cX2_laysLanes 41 = .ok (.ifCond .eq 42, 3) := dk_153 0 42 (dk_at dksX2_laysLanes_1 17 rfl rfl)
theorem dX2_laysLanes_44 : decode cX2_laysLanes 44 = .ok (.aload_n 0, 1) := dk_42 (dk_at dksX2_laysLanes_1 20 rfl rfl)
theorem dX2_laysLanes_45 : decode cX2_laysLanes 45 = .ok (.getfield 31, 3) := dk_180 0 31 (dk_at dksX2_laysLanes_1 21 rfl rfl)
theorem dX2_laysLanes_48 : decode cX2_laysLanes 48 = .ok (.iload_n 3, 1) := dk_29 (dk_at dksX2_laysLanes_2 0 rfl rfl)
theorem dX2_laysLanes_49 : decode cX2_laysLanes 49 = .ok (.baload, 1) := dk_51 (dk_at dksX2_laysLanes_2 1 rfl rfl)
theorem dX2_laysLanes_50 : decode cX2_laysLanes 50 = .ok (.ifCond .eq 33, 3) := dk_153 0 33 (dk_at dksX2_laysLanes_2 2 rfl rfl)
theorem dX2_laysLanes_53 : decode cX2_laysLanes 53 = .ok (.aload_n 0, 1) := dk_42 (dk_at dksX2_laysLanes_2 5 rfl rfl)
theorem dX2_laysLanes_54 : decode cX2_laysLanes 54 = .ok (.iload_n 1, 1) := dk_27 (dk_at dksX2_laysLanes_2 6 rfl rfl)
theorem dX2_laysLanes_55 : decode cX2_laysLanes 55 = .ok (.iload_n 3, 1) := dk_29 (dk_at dksX2_laysLanes_2 7 rfl rfl)
theorem dX2_laysLanes_56 : decode cX2_laysLanes 56 = .ok (.invokevirtual 178, 3) := dk_182 0 178 (dk_at dksX2_laysLanes_2 8 rfl rfl)
theorem dX2_laysLanes_59 : decode cX2_laysLanes 59 = .ok (.ifCond .eq 24, 3) := dk_153 0 24 (dk_at dksX2_laysLanes_2 11 rfl rfl)
theorem dX2_laysLanes_62 : decode cX2_laysLanes 62 = .ok (.aload_n 0, 1) := dk_42 (dk_at dksX2_laysLanes_2 14 rfl rfl)
theorem dX2_laysLanes_63 : decode cX2_laysLanes 63 = .ok (.getfield 28, 3) := dk_180 0 28 (dk_at dksX2_laysLanes_2 15 rfl rfl)
theorem dX2_laysLanes_66 : decode cX2_laysLanes 66 = .ok (.iload_n 3, 1) := dk_29 (dk_at dksX2_laysLanes_2 18 rfl rfl)
theorem dX2_laysLanes_67 : decode cX2_laysLanes 67 = .ok (.iaload, 1) := dk_46 (dk_at dksX2_laysLanes_2 19 rfl rfl)
theorem dX2_laysLanes_68 : decode cX2_laysLanes 68 = .ok (.iload_n 2, 1) := dk_28 (dk_at dksX2_laysLanes_2 20 rfl rfl)
theorem dX2_laysLanes_69 : decode cX2_laysLanes 69 = .ok (.if_icmp .lt 14, 3) := dk_161 0 14 (dk_at dksX2_laysLanes_2 21 rfl rfl)
theorem dX2_laysLanes_72 : decode cX2_laysLanes 72 = .ok (.aload_n 0, 1) := dk_42 (dk_at dksX2_laysLanes_3 0 rfl rfl)
theorem dX2_laysLanes_73 : decode cX2_laysLanes 73 = .ok (.getfield 28, 3) := dk_180 0 28 (dk_at dksX2_laysLanes_3 1 rfl rfl)
theorem dX2_laysLanes_76 : decode cX2_laysLanes 76 = .ok (.iload_n 3, 1) := dk_29 (dk_at dksX2_laysLanes_3 4 rfl rfl)
theorem dX2_laysLanes_77 : decode cX2_laysLanes 77 = .ok (.iaload, 1) := dk_46 (dk_at dksX2_laysLanes_3 5 rfl rfl)
theorem dX2_laysLanes_78 : decode cX2_laysLanes 78 = .ok (.iconst 1, 1) := dk_4 (dk_at dksX2_laysLanes_3 6 rfl rfl)
theorem dX2_laysLanes_79 : decode cX2_laysLanes 79 = .ok (.iadd, 1) := dk_96 (dk_at dksX2_laysLanes_3 7 rfl rfl)
theorem dX2_laysLanes_80 : decode cX2_laysLanes 80 = .ok (.goto 4, 3) := dk_167 0 4 (dk_at dksX2_laysLanes_3 8 rfl rfl)
theorem dX2_laysLanes_83 : decode cX2_laysLanes 83 = .ok (.iload_n 2, 1) := dk_28 (dk_at dksX2_laysLanes_3 11 rfl rfl)
theorem dX2_laysLanes_84 : decode cX2_laysLanes 84 = .ok (.istore_n 2, 1) := dk_61 (dk_at dksX2_laysLanes_3 12 rfl rfl)
theorem dX2_laysLanes_85 : decode cX2_laysLanes 85 = .ok (.iinc 3 1, 3) := dk_132 3 1 (dk_at dksX2_laysLanes_3 13 rfl rfl)
theorem dX2_laysLanes_88 : decode cX2_laysLanes 88 = .ok (.goto (-63), 3) := dk_167 255 193 (dk_at dksX2_laysLanes_3 16 rfl rfl)
theorem dX2_laysLanes_91 : decode cX2_laysLanes 91 = .ok (.aload_n 0, 1) := dk_42 (dk_at dksX2_laysLanes_3 19 rfl rfl)
theorem dX2_laysLanes_92 : decode cX2_laysLanes 92 = .ok (.iload_n 1, 1) := dk_27 (dk_at dksX2_laysLanes_3 20 rfl rfl)
theorem dX2_laysLanes_93 : decode cX2_laysLanes 93 = .ok (.iload_n 2, 1) := dk_28 (dk_at dksX2_laysLanes_3 21 rfl rfl)
theorem dX2_laysLanes_94 : decode cX2_laysLanes 94 = .ok (.invokevirtual 181, 3) := dk_182 0 181 (dk_at dksX2_laysLanes_4 0 rfl rfl)
theorem dX2_laysLanes_97 : decode cX2_laysLanes 97 = .ok (.ifCond .eq 9, 3) := dk_153 0 9 (dk_at dksX2_laysLanes_4 3 rfl rfl)
theorem dX2_laysLanes_100 : decode cX2_laysLanes 100 = .ok (.iinc 2 1, 3) := dk_132 2 1 (dk_at dksX2_laysLanes_4 6 rfl rfl)
theorem dX2_laysLanes_103 : decode cX2_laysLanes 103 = .ok (.goto (-12), 3) := dk_167 255 244 (dk_at dksX2_laysLanes_4 9 rfl rfl)
theorem dX2_laysLanes_106 : decode cX2_laysLanes 106 = .ok (.aload_n 0, 1) := dk_42 (dk_at dksX2_laysLanes_4 12 rfl rfl)
theorem dX2_laysLanes_107 : decode cX2_laysLanes 107 = .ok (.getfield 28, 3) := dk_180 0 28 (dk_at dksX2_laysLanes_4 13 rfl rfl)
theorem dX2_laysLanes_110 : decode cX2_laysLanes 110 = .ok (.iload_n 1, 1) := dk_27 (dk_at dksX2_laysLanes_4 16 rfl rfl)
theorem dX2_laysLanes_111 : decode cX2_laysLanes 111 = .ok (.iload_n 2, 1) := dk_28 (dk_at dksX2_laysLanes_4 17 rfl rfl)
theorem dX2_laysLanes_112 : decode cX2_laysLanes 112 = .ok (.iastore, 1) := dk_79 (dk_at dksX2_laysLanes_4 18 rfl rfl)
theorem dX2_laysLanes_113 : decode cX2_laysLanes 113 = .ok (.aload_n 0, 1) := dk_42 (dk_at dksX2_laysLanes_4 19 rfl rfl)
theorem dX2_laysLanes_114 : decode cX2_laysLanes 114 = .ok (.getfield 31, 3) := dk_180 0 31 (dk_at dksX2_laysLanes_4 20 rfl rfl)
theorem dX2_laysLanes_117 : decode cX2_laysLanes 117 = .ok (.iload_n 1, 1) := dk_27 (dk_at dksX2_laysLanes_4 23 rfl rfl)
theorem dX2_laysLanes_118 : decode cX2_laysLanes 118 = .ok (.iconst 1, 1) := dk_4 (dk_at dksX2_laysLanes_5 0 rfl rfl)
theorem dX2_laysLanes_119 : decode cX2_laysLanes 119 = .ok (.bastore, 1) := dk_84 (dk_at dksX2_laysLanes_5 1 rfl rfl)
theorem dX2_laysLanes_120 : decode cX2_laysLanes 120 = .ok (.aload_n 0, 1) := dk_42 (dk_at dksX2_laysLanes_5 2 rfl rfl)
theorem dX2_laysLanes_121 : decode cX2_laysLanes 121 = .ok (.invokevirtual 175, 3) := dk_182 0 175 (dk_at dksX2_laysLanes_5 3 rfl rfl)
theorem dX2_laysLanes_124 : decode cX2_laysLanes 124 = .ok (.istore_n 1, 1) := dk_60 (dk_at dksX2_laysLanes_5 6 rfl rfl)
theorem dX2_laysLanes_125 : decode cX2_laysLanes 125 = .ok (.goto (-116), 3) := dk_167 255 140 (dk_at dksX2_laysLanes_5 7 rfl rfl)
theorem dX2_laysLanes_128 : decode cX2_laysLanes 128 = .ok (.return_, 1) := dk_177 (dk_at dksX2_laysLanes_5 10 rfl rfl)
abbrev cX2_laysUnits : ByteArray := prog_12_method_50_code
def yX2_laysUnits : MethodName := ⟨RX2, "laysUnits", "()V"⟩
def dkwX2_laysUnits_6 : List UInt8 := [167, 0, 9, 42, 180, 0, 25, 28, 46, 79, 132, 1, 1, 167, 255, 103, 177]
abbrev dktX2_laysUnits_6 : List UInt8 := dkwX2_laysUnits_6 ++ []
def dkwX2_laysUnits_5 : List UInt8 := [159, 0, 18, 42, 27, 8, 182, 0, 50, 42, 180, 0, 25, 28, 46, 164, 0, 12, 42, 27, 8, 182, 0, 50]
abbrev dktX2_laysUnits_5 : List UInt8 := dkwX2_laysUnits_5 ++ dktX2_laysUnits_6
def dkwX2_laysUnits_4 : List UInt8 := [42, 27, 182, 0, 58, 167, 0, 9, 42, 180, 0, 22, 28, 46, 79, 42, 180, 0, 25, 28, 28, 27]
abbrev dktX2_laysUnits_4 : List UInt8 := dkwX2_laysUnits_4 ++ dktX2_laysUnits_5
def dkwX2_laysUnits_3 : List UInt8 := [42, 180, 0, 22, 28, 28, 27, 159, 0, 17, 42, 27, 182, 0, 58, 42, 180, 0, 22, 28, 46, 164, 0, 11]
abbrev dktX2_laysUnits_3 : List UInt8 := dkwX2_laysUnits_3 ++ dktX2_laysUnits_4
def dkwX2_laysUnits_2 : List UInt8 := [42, 180, 0, 19, 28, 46, 162, 0, 11, 42, 27, 182, 0, 61, 167, 0, 9, 42, 180, 0, 19, 28, 46, 79]
abbrev dktX2_laysUnits_2 : List UInt8 := dkwX2_laysUnits_2 ++ dktX2_laysUnits_3
def dkwX2_laysUnits_1 : List UInt8 := [28, 79, 42, 180, 0, 31, 27, 3, 84, 42, 180, 0, 19, 28, 28, 27, 159, 0, 17, 42, 27, 182, 0, 61]
abbrev dktX2_laysUnits_1 : List UInt8 := dkwX2_laysUnits_1 ++ dktX2_laysUnits_2
def dkwX2_laysUnits_0 : List UInt8 := [3, 60, 27, 42, 180, 0, 7, 16, 13, 46, 162, 0, 148, 42, 27, 182, 0, 157, 61, 42, 180, 0, 16, 27]
abbrev dktX2_laysUnits_0 : List UInt8 := dkwX2_laysUnits_0 ++ dktX2_laysUnits_1
theorem dksX2_laysUnits_0 : cX2_laysUnits.data.toList.drop 0 = dktX2_laysUnits_0 := by decide +kernel
theorem dksX2_laysUnits_1 : cX2_laysUnits.data.toList.drop 24 = dktX2_laysUnits_1 := dk_seg dksX2_laysUnits_0 24 rfl rfl
theorem dksX2_laysUnits_2 : cX2_laysUnits.data.toList.drop 48 = dktX2_laysUnits_2 := dk_seg dksX2_laysUnits_1 24 rfl rfl
theorem dksX2_laysUnits_3 : cX2_laysUnits.data.toList.drop 72 = dktX2_laysUnits_3 := dk_seg dksX2_laysUnits_2 24 rfl rfl
theorem dksX2_laysUnits_4 : cX2_laysUnits.data.toList.drop 96 = dktX2_laysUnits_4 := dk_seg dksX2_laysUnits_3 24 rfl rfl
theorem dksX2_laysUnits_5 : cX2_laysUnits.data.toList.drop 118 = dktX2_laysUnits_5 := dk_seg dksX2_laysUnits_4 22 rfl rfl
theorem dksX2_laysUnits_6 : cX2_laysUnits.data.toList.drop 142 = dktX2_laysUnits_6 := dk_seg dksX2_laysUnits_5 24 rfl rfl
theorem dX2_laysUnits_0 : decode cX2_laysUnits 0 = .ok (.iconst 0, 1) := dk_3 (dk_at dksX2_laysUnits_0 0 rfl rfl)
theorem dX2_laysUnits_1 : decode cX2_laysUnits 1 = .ok (.istore_n 1, 1) := dk_60 (dk_at dksX2_laysUnits_0 1 rfl rfl)
theorem dX2_laysUnits_2 : decode cX2_laysUnits 2 = .ok (.iload_n 1, 1) := dk_27 (dk_at dksX2_laysUnits_0 2 rfl rfl)
theorem dX2_laysUnits_3 : decode cX2_laysUnits 3 = .ok (.aload_n 0, 1) := dk_42 (dk_at dksX2_laysUnits_0 3 rfl rfl)
theorem dX2_laysUnits_4 : decode cX2_laysUnits 4 = .ok (.getfield 7, 3) := dk_180 0 7 (dk_at dksX2_laysUnits_0 4 rfl rfl)
theorem dX2_laysUnits_7 : decode cX2_laysUnits 7 = .ok (.bipush 13, 2) := dk_16 13 (dk_at dksX2_laysUnits_0 7 rfl rfl)
theorem dX2_laysUnits_9 : decode cX2_laysUnits 9 = .ok (.iaload, 1) := dk_46 (dk_at dksX2_laysUnits_0 9 rfl rfl)
theorem dX2_laysUnits_10 : decode cX2_laysUnits 10 = .ok (.if_icmp .ge 148, 3) := dk_162 0 148 (dk_at dksX2_laysUnits_0 10 rfl rfl)
theorem dX2_laysUnits_13 : decode cX2_laysUnits 13 = .ok (.aload_n 0, 1) := dk_42 (dk_at dksX2_laysUnits_0 13 rfl rfl)
theorem dX2_laysUnits_14 : decode cX2_laysUnits 14 = .ok (.iload_n 1, 1) := dk_27 (dk_at dksX2_laysUnits_0 14 rfl rfl)
theorem dX2_laysUnits_15 : decode cX2_laysUnits 15 = .ok (.invokevirtual 157, 3) := dk_182 0 157 (dk_at dksX2_laysUnits_0 15 rfl rfl)
theorem dX2_laysUnits_18 : decode cX2_laysUnits 18 = .ok (.istore_n 2, 1) := dk_61 (dk_at dksX2_laysUnits_0 18 rfl rfl)
theorem dX2_laysUnits_19 : decode cX2_laysUnits 19 = .ok (.aload_n 0, 1) := dk_42 (dk_at dksX2_laysUnits_0 19 rfl rfl)
theorem dX2_laysUnits_20 : decode cX2_laysUnits 20 = .ok (.getfield 16, 3) := dk_180 0 16 (dk_at dksX2_laysUnits_0 20 rfl rfl)
theorem dX2_laysUnits_23 : decode cX2_laysUnits 23 = .ok (.iload_n 1, 1) := dk_27 (dk_at dksX2_laysUnits_0 23 rfl rfl)
theorem dX2_laysUnits_24 : decode cX2_laysUnits 24 = .ok (.iload_n 2, 1) := dk_28 (dk_at dksX2_laysUnits_1 0 rfl rfl)
theorem dX2_laysUnits_25 : decode cX2_laysUnits 25 = .ok (.iastore, 1) := dk_79 (dk_at dksX2_laysUnits_1 1 rfl rfl)
theorem dX2_laysUnits_26 : decode cX2_laysUnits 26 = .ok (.aload_n 0, 1) := dk_42 (dk_at dksX2_laysUnits_1 2 rfl rfl)
theorem dX2_laysUnits_27 : decode cX2_laysUnits 27 = .ok (.getfield 31, 3) := dk_180 0 31 (dk_at dksX2_laysUnits_1 3 rfl rfl)
theorem dX2_laysUnits_30 : decode cX2_laysUnits 30 = .ok (.iload_n 1, 1) := dk_27 (dk_at dksX2_laysUnits_1 6 rfl rfl)
theorem dX2_laysUnits_31 : decode cX2_laysUnits 31 = .ok (.iconst 0, 1) := dk_3 (dk_at dksX2_laysUnits_1 7 rfl rfl)
theorem dX2_laysUnits_32 : decode cX2_laysUnits 32 = .ok (.bastore, 1) := dk_84 (dk_at dksX2_laysUnits_1 8 rfl rfl)
theorem dX2_laysUnits_33 : decode cX2_laysUnits 33 = .ok (.aload_n 0, 1) := dk_42 (dk_at dksX2_laysUnits_1 9 rfl rfl)
theorem dX2_laysUnits_34 : decode cX2_laysUnits 34 = .ok (.getfield 19, 3) := dk_180 0 19 (dk_at dksX2_laysUnits_1 10 rfl rfl)
theorem dX2_laysUnits_37 : decode cX2_laysUnits 37 = .ok (.iload_n 2, 1) := dk_28 (dk_at dksX2_laysUnits_1 13 rfl rfl)
theorem dX2_laysUnits_38 : decode cX2_laysUnits 38 = .ok (.iload_n 2, 1) := dk_28 (dk_at dksX2_laysUnits_1 14 rfl rfl)
theorem dX2_laysUnits_39 : decode cX2_laysUnits 39 = .ok (.iload_n 1, 1) := dk_27 (dk_at dksX2_laysUnits_1 15 rfl rfl)
theorem dX2_laysUnits_40 : decode cX2_laysUnits 40 = .ok (.if_icmp .eq 17, 3) := dk_159 0 17 (dk_at dksX2_laysUnits_1 16 rfl rfl)
theorem dX2_laysUnits_43 : decode cX2_laysUnits 43 = .ok (.aload_n 0, 1) := dk_42 (dk_at dksX2_laysUnits_1 19 rfl rfl)
theorem dX2_laysUnits_44 : decode cX2_laysUnits 44 = .ok (.iload_n 1, 1) := dk_27 (dk_at dksX2_laysUnits_1 20 rfl rfl)
theorem dX2_laysUnits_45 : decode cX2_laysUnits 45 = .ok (.invokevirtual 61, 3) := dk_182 0 61 (dk_at dksX2_laysUnits_1 21 rfl rfl)
theorem dX2_laysUnits_48 : decode cX2_laysUnits 48 = .ok (.aload_n 0, 1) := dk_42 (dk_at dksX2_laysUnits_2 0 rfl rfl)
theorem dX2_laysUnits_49 : decode cX2_laysUnits 49 = .ok (.getfield 19, 3) := dk_180 0 19 (dk_at dksX2_laysUnits_2 1 rfl rfl)
theorem dX2_laysUnits_52 : decode cX2_laysUnits 52 = .ok (.iload_n 2, 1) := dk_28 (dk_at dksX2_laysUnits_2 4 rfl rfl)
theorem dX2_laysUnits_53 : decode cX2_laysUnits 53 = .ok (.iaload, 1) := dk_46 (dk_at dksX2_laysUnits_2 5 rfl rfl)
theorem dX2_laysUnits_54 : decode cX2_laysUnits 54 = .ok (.if_icmp .ge 11, 3) := dk_162 0 11 (dk_at dksX2_laysUnits_2 6 rfl rfl)
theorem dX2_laysUnits_57 : decode cX2_laysUnits 57 = .ok (.aload_n 0, 1) := dk_42 (dk_at dksX2_laysUnits_2 9 rfl rfl)
theorem dX2_laysUnits_58 : decode cX2_laysUnits 58 = .ok (.iload_n 1, 1) := dk_27 (dk_at dksX2_laysUnits_2 10 rfl rfl)
theorem dX2_laysUnits_59 : decode cX2_laysUnits 59 = .ok (.invokevirtual 61, 3) := dk_182 0 61 (dk_at dksX2_laysUnits_2 11 rfl rfl)
theorem dX2_laysUnits_62 : decode cX2_laysUnits 62 = .ok (.goto 9, 3) := dk_167 0 9 (dk_at dksX2_laysUnits_2 14 rfl rfl)
theorem dX2_laysUnits_65 : decode cX2_laysUnits 65 = .ok (.aload_n 0, 1) := dk_42 (dk_at dksX2_laysUnits_2 17 rfl rfl)
theorem dX2_laysUnits_66 : decode cX2_laysUnits 66 = .ok (.getfield 19, 3) := dk_180 0 19 (dk_at dksX2_laysUnits_2 18 rfl rfl)
theorem dX2_laysUnits_69 : decode cX2_laysUnits 69 = .ok (.iload_n 2, 1) := dk_28 (dk_at dksX2_laysUnits_2 21 rfl rfl)
theorem dX2_laysUnits_70 : decode cX2_laysUnits 70 = .ok (.iaload, 1) := dk_46 (dk_at dksX2_laysUnits_2 22 rfl rfl)
theorem dX2_laysUnits_71 : decode cX2_laysUnits 71 = .ok (.iastore, 1) := dk_79 (dk_at dksX2_laysUnits_2 23 rfl rfl)
theorem dX2_laysUnits_72 : decode cX2_laysUnits 72 = .ok (.aload_n 0, 1) := dk_42 (dk_at dksX2_laysUnits_3 0 rfl rfl)
theorem dX2_laysUnits_73 : decode cX2_laysUnits 73 = .ok (.getfield 22, 3) := dk_180 0 22 (dk_at dksX2_laysUnits_3 1 rfl rfl)
theorem dX2_laysUnits_76 : decode cX2_laysUnits 76 = .ok (.iload_n 2, 1) := dk_28 (dk_at dksX2_laysUnits_3 4 rfl rfl)
theorem dX2_laysUnits_77 : decode cX2_laysUnits 77 = .ok (.iload_n 2, 1) := dk_28 (dk_at dksX2_laysUnits_3 5 rfl rfl)
theorem dX2_laysUnits_78 : decode cX2_laysUnits 78 = .ok (.iload_n 1, 1) := dk_27 (dk_at dksX2_laysUnits_3 6 rfl rfl)
theorem dX2_laysUnits_79 : decode cX2_laysUnits 79 = .ok (.if_icmp .eq 17, 3) := dk_159 0 17 (dk_at dksX2_laysUnits_3 7 rfl rfl)
theorem dX2_laysUnits_82 : decode cX2_laysUnits 82 = .ok (.aload_n 0, 1) := dk_42 (dk_at dksX2_laysUnits_3 10 rfl rfl)
theorem dX2_laysUnits_83 : decode cX2_laysUnits 83 = .ok (.iload_n 1, 1) := dk_27 (dk_at dksX2_laysUnits_3 11 rfl rfl)
theorem dX2_laysUnits_84 : decode cX2_laysUnits 84 = .ok (.invokevirtual 58, 3) := dk_182 0 58 (dk_at dksX2_laysUnits_3 12 rfl rfl)
theorem dX2_laysUnits_87 : decode cX2_laysUnits 87 = .ok (.aload_n 0, 1) := dk_42 (dk_at dksX2_laysUnits_3 15 rfl rfl)
theorem dX2_laysUnits_88 : decode cX2_laysUnits 88 = .ok (.getfield 22, 3) := dk_180 0 22 (dk_at dksX2_laysUnits_3 16 rfl rfl)
theorem dX2_laysUnits_91 : decode cX2_laysUnits 91 = .ok (.iload_n 2, 1) := dk_28 (dk_at dksX2_laysUnits_3 19 rfl rfl)
theorem dX2_laysUnits_92 : decode cX2_laysUnits 92 = .ok (.iaload, 1) := dk_46 (dk_at dksX2_laysUnits_3 20 rfl rfl)
theorem dX2_laysUnits_93 : decode cX2_laysUnits 93 = .ok (.if_icmp .le 11, 3) := dk_164 0 11 (dk_at dksX2_laysUnits_3 21 rfl rfl)
theorem dX2_laysUnits_96 : decode cX2_laysUnits 96 = .ok (.aload_n 0, 1) := dk_42 (dk_at dksX2_laysUnits_4 0 rfl rfl)
theorem dX2_laysUnits_97 : decode cX2_laysUnits 97 = .ok (.iload_n 1, 1) := dk_27 (dk_at dksX2_laysUnits_4 1 rfl rfl)
theorem dX2_laysUnits_98 : decode cX2_laysUnits 98 = .ok (.invokevirtual 58, 3) := dk_182 0 58 (dk_at dksX2_laysUnits_4 2 rfl rfl)
theorem dX2_laysUnits_101 : decode cX2_laysUnits 101 = .ok (.goto 9, 3) := dk_167 0 9 (dk_at dksX2_laysUnits_4 5 rfl rfl)
theorem dX2_laysUnits_104 : decode cX2_laysUnits 104 = .ok (.aload_n 0, 1) := dk_42 (dk_at dksX2_laysUnits_4 8 rfl rfl)
theorem dX2_laysUnits_105 : decode cX2_laysUnits 105 = .ok (.getfield 22, 3) := dk_180 0 22 (dk_at dksX2_laysUnits_4 9 rfl rfl)
theorem dX2_laysUnits_108 : decode cX2_laysUnits 108 = .ok (.iload_n 2, 1) := dk_28 (dk_at dksX2_laysUnits_4 12 rfl rfl)
theorem dX2_laysUnits_109 : decode cX2_laysUnits 109 = .ok (.iaload, 1) := dk_46 (dk_at dksX2_laysUnits_4 13 rfl rfl)
theorem dX2_laysUnits_110 : decode cX2_laysUnits 110 = .ok (.iastore, 1) := dk_79 (dk_at dksX2_laysUnits_4 14 rfl rfl)
theorem dX2_laysUnits_111 : decode cX2_laysUnits 111 = .ok (.aload_n 0, 1) := dk_42 (dk_at dksX2_laysUnits_4 15 rfl rfl)
theorem dX2_laysUnits_112 : decode cX2_laysUnits 112 = .ok (.getfield 25, 3) := dk_180 0 25 (dk_at dksX2_laysUnits_4 16 rfl rfl)
theorem dX2_laysUnits_115 : decode cX2_laysUnits 115 = .ok (.iload_n 2, 1) := dk_28 (dk_at dksX2_laysUnits_4 19 rfl rfl)
theorem dX2_laysUnits_116 : decode cX2_laysUnits 116 = .ok (.iload_n 2, 1) := dk_28 (dk_at dksX2_laysUnits_4 20 rfl rfl)
theorem dX2_laysUnits_117 : decode cX2_laysUnits 117 = .ok (.iload_n 1, 1) := dk_27 (dk_at dksX2_laysUnits_4 21 rfl rfl)
theorem dX2_laysUnits_118 : decode cX2_laysUnits 118 = .ok (.if_icmp .eq 18, 3) := dk_159 0 18 (dk_at dksX2_laysUnits_5 0 rfl rfl)
theorem dX2_laysUnits_121 : decode cX2_laysUnits 121 = .ok (.aload_n 0, 1) := dk_42 (dk_at dksX2_laysUnits_5 3 rfl rfl)
theorem dX2_laysUnits_122 : decode cX2_laysUnits 122 = .ok (.iload_n 1, 1) := dk_27 (dk_at dksX2_laysUnits_5 4 rfl rfl)
theorem dX2_laysUnits_123 : decode cX2_laysUnits 123 = .ok (.iconst 5, 1) := dk_8 (dk_at dksX2_laysUnits_5 5 rfl rfl)
theorem dX2_laysUnits_124 : decode cX2_laysUnits 124 = .ok (.invokevirtual 50, 3) := dk_182 0 50 (dk_at dksX2_laysUnits_5 6 rfl rfl)
theorem dX2_laysUnits_127 : decode cX2_laysUnits 127 = .ok (.aload_n 0, 1) := dk_42 (dk_at dksX2_laysUnits_5 9 rfl rfl)
theorem dX2_laysUnits_128 : decode cX2_laysUnits 128 = .ok (.getfield 25, 3) := dk_180 0 25 (dk_at dksX2_laysUnits_5 10 rfl rfl)
theorem dX2_laysUnits_131 : decode cX2_laysUnits 131 = .ok (.iload_n 2, 1) := dk_28 (dk_at dksX2_laysUnits_5 13 rfl rfl)
theorem dX2_laysUnits_132 : decode cX2_laysUnits 132 = .ok (.iaload, 1) := dk_46 (dk_at dksX2_laysUnits_5 14 rfl rfl)
theorem dX2_laysUnits_133 : decode cX2_laysUnits 133 = .ok (.if_icmp .le 12, 3) := dk_164 0 12 (dk_at dksX2_laysUnits_5 15 rfl rfl)
theorem dX2_laysUnits_136 : decode cX2_laysUnits 136 = .ok (.aload_n 0, 1) := dk_42 (dk_at dksX2_laysUnits_5 18 rfl rfl)
theorem dX2_laysUnits_137 : decode cX2_laysUnits 137 = .ok (.iload_n 1, 1) := dk_27 (dk_at dksX2_laysUnits_5 19 rfl rfl)
theorem dX2_laysUnits_138 : decode cX2_laysUnits 138 = .ok (.iconst 5, 1) := dk_8 (dk_at dksX2_laysUnits_5 20 rfl rfl)
theorem dX2_laysUnits_139 : decode cX2_laysUnits 139 = .ok (.invokevirtual 50, 3) := dk_182 0 50 (dk_at dksX2_laysUnits_5 21 rfl rfl)
theorem dX2_laysUnits_142 : decode cX2_laysUnits 142 = .ok (.goto 9, 3) := dk_167 0 9 (dk_at dksX2_laysUnits_6 0 rfl rfl)
theorem dX2_laysUnits_145 : decode cX2_laysUnits 145 = .ok (.aload_n 0, 1) := dk_42 (dk_at dksX2_laysUnits_6 3 rfl rfl)
theorem dX2_laysUnits_146 : decode cX2_laysUnits 146 = .ok (.getfield 25, 3) := dk_180 0 25 (dk_at dksX2_laysUnits_6 4 rfl rfl)
theorem dX2_laysUnits_149 : decode cX2_laysUnits 149 = .ok (.iload_n 2, 1) := dk_28 (dk_at dksX2_laysUnits_6 7 rfl rfl)
theorem dX2_laysUnits_150 : decode cX2_laysUnits 150 = .ok (.iaload, 1) := dk_46 (dk_at dksX2_laysUnits_6 8 rfl rfl)
theorem dX2_laysUnits_151 : decode cX2_laysUnits 151 = .ok (.iastore, 1) := dk_79 (dk_at dksX2_laysUnits_6 9 rfl rfl)
theorem dX2_laysUnits_152 : decode cX2_laysUnits 152 = .ok (.iinc 1 1, 3) := dk_132 1 1 (dk_at dksX2_laysUnits_6 10 rfl rfl)
theorem dX2_laysUnits_155 : decode cX2_laysUnits 155 = .ok (.goto (-153), 3) := dk_167 255 103 (dk_at dksX2_laysUnits_6 13 rfl rfl)
theorem dX2_laysUnits_158 : decode cX2_laysUnits 158 = .ok (.return_, 1) := dk_177 (dk_at dksX2_laysUnits_6 16 rfl rfl)
abbrev cX2_unitOf : ByteArray := prog_12_method_49_code
def yX2_unitOf : MethodName := ⟨RX2, "unitOf", "(I)I"⟩
def dkwX2_unitOf_1 : List UInt8 := [7, 182, 0, 50, 160, 0, 5, 28, 172, 132, 2, 1, 167, 255, 222, 27, 172]
abbrev dktX2_unitOf_1 : List UInt8 := dkwX2_unitOf_1 ++ []
def dkwX2_unitOf_0 : List UInt8 := [3, 61, 28, 27, 162, 0, 35, 42, 27, 7, 182, 0, 50, 158, 0, 20, 42, 28, 7, 182, 0, 50, 42, 27]
abbrev dktX2_unitOf_0 : List UInt8 := dkwX2_unitOf_0 ++ dktX2_unitOf_1
theorem dksX2_unitOf_0 : cX2_unitOf.data.toList.drop 0 = dktX2_unitOf_0 := by decide +kernel
theorem dksX2_unitOf_1 : cX2_unitOf.data.toList.drop 24 = dktX2_unitOf_1 := dk_seg dksX2_unitOf_0 24 rfl rfl
theorem dX2_unitOf_0 : decode cX2_unitOf 0 = .ok (.iconst 0, 1) := dk_3 (dk_at dksX2_unitOf_0 0 rfl rfl)
theorem dX2_unitOf_1 : decode cX2_unitOf 1 = .ok (.istore_n 2, 1) := dk_61 (dk_at dksX2_unitOf_0 1 rfl rfl)
theorem dX2_unitOf_2 : decode cX2_unitOf 2 = .ok (.iload_n 2, 1) := dk_28 (dk_at dksX2_unitOf_0 2 rfl rfl)
theorem dX2_unitOf_3 : decode cX2_unitOf 3 = .ok (.iload_n 1, 1) := dk_27 (dk_at dksX2_unitOf_0 3 rfl rfl)
theorem dX2_unitOf_4 : decode cX2_unitOf 4 = .ok (.if_icmp .ge 35, 3) := dk_162 0 35 (dk_at dksX2_unitOf_0 4 rfl rfl)
theorem dX2_unitOf_7 : decode cX2_unitOf 7 = .ok (.aload_n 0, 1) := dk_42 (dk_at dksX2_unitOf_0 7 rfl rfl)
theorem dX2_unitOf_8 : decode cX2_unitOf 8 = .ok (.iload_n 1, 1) := dk_27 (dk_at dksX2_unitOf_0 8 rfl rfl)
theorem dX2_unitOf_9 : decode cX2_unitOf 9 = .ok (.iconst 4, 1) := dk_7 (dk_at dksX2_unitOf_0 9 rfl rfl)
theorem dX2_unitOf_10 : decode cX2_unitOf 10 = .ok (.invokevirtual 50, 3) := dk_182 0 50 (dk_at dksX2_unitOf_0 10 rfl rfl)
theorem dX2_unitOf_13 : decode cX2_unitOf 13 = .ok (.ifCond .le 20, 3) := dk_158 0 20 (dk_at dksX2_unitOf_0 13 rfl rfl)
theorem dX2_unitOf_16 : decode cX2_unitOf 16 = .ok (.aload_n 0, 1) := dk_42 (dk_at dksX2_unitOf_0 16 rfl rfl)
theorem dX2_unitOf_17 : decode cX2_unitOf 17 = .ok (.iload_n 2, 1) := dk_28 (dk_at dksX2_unitOf_0 17 rfl rfl)
theorem dX2_unitOf_18 : decode cX2_unitOf 18 = .ok (.iconst 4, 1) := dk_7 (dk_at dksX2_unitOf_0 18 rfl rfl)
theorem dX2_unitOf_19 : decode cX2_unitOf 19 = .ok (.invokevirtual 50, 3) := dk_182 0 50 (dk_at dksX2_unitOf_0 19 rfl rfl)
theorem dX2_unitOf_22 : decode cX2_unitOf 22 = .ok (.aload_n 0, 1) := dk_42 (dk_at dksX2_unitOf_0 22 rfl rfl)
theorem dX2_unitOf_23 : decode cX2_unitOf 23 = .ok (.iload_n 1, 1) := dk_27 (dk_at dksX2_unitOf_0 23 rfl rfl)
theorem dX2_unitOf_24 : decode cX2_unitOf 24 = .ok (.iconst 4, 1) := dk_7 (dk_at dksX2_unitOf_1 0 rfl rfl)
theorem dX2_unitOf_25 : decode cX2_unitOf 25 = .ok (.invokevirtual 50, 3) := dk_182 0 50 (dk_at dksX2_unitOf_1 1 rfl rfl)
theorem dX2_unitOf_28 : decode cX2_unitOf 28 = .ok (.if_icmp .ne 5, 3) := dk_160 0 5 (dk_at dksX2_unitOf_1 4 rfl rfl)
theorem dX2_unitOf_31 : decode cX2_unitOf 31 = .ok (.iload_n 2, 1) := dk_28 (dk_at dksX2_unitOf_1 7 rfl rfl)
theorem dX2_unitOf_32 : decode cX2_unitOf 32 = .ok (.ireturn, 1) := dk_172 (dk_at dksX2_unitOf_1 8 rfl rfl)
theorem dX2_unitOf_33 : decode cX2_unitOf 33 = .ok (.iinc 2 1, 3) := dk_132 2 1 (dk_at dksX2_unitOf_1 9 rfl rfl)
theorem dX2_unitOf_36 : decode cX2_unitOf 36 = .ok (.goto (-34), 3) := dk_167 255 222 (dk_at dksX2_unitOf_1 12 rfl rfl)
theorem dX2_unitOf_39 : decode cX2_unitOf 39 = .ok (.iload_n 1, 1) := dk_27 (dk_at dksX2_unitOf_1 15 rfl rfl)
theorem dX2_unitOf_40 : decode cX2_unitOf 40 = .ok (.ireturn, 1) := dk_172 (dk_at dksX2_unitOf_1 16 rfl rfl)
abbrev cX2_nextUnit : ByteArray := prog_12_method_53_code
def yX2_nextUnit : MethodName := ⟨RX2, "nextUnit", "()I"⟩
def dkwX2_nextUnit_2 : List UInt8 := [182, 0, 163, 153, 0, 7, 28, 167, 0, 4, 27, 60, 132, 2, 1, 167, 255, 203, 27, 172]
abbrev dktX2_nextUnit_2 : List UInt8 := dkwX2_nextUnit_2 ++ []
def dkwX2_nextUnit_1 : List UInt8 := [153, 0, 32, 42, 180, 0, 31, 28, 51, 154, 0, 23, 27, 17, 252, 25, 159, 0, 12, 42, 28, 27]
abbrev dktX2_nextUnit_1 : List UInt8 := dkwX2_nextUnit_1 ++ dktX2_nextUnit_2
def dkwX2_nextUnit_0 : List UInt8 := [17, 252, 25, 60, 3, 61, 28, 42, 180, 0, 7, 16, 13, 46, 162, 0, 48, 42, 28, 182, 0, 160]
abbrev dktX2_nextUnit_0 : List UInt8 := dkwX2_nextUnit_0 ++ dktX2_nextUnit_1
theorem dksX2_nextUnit_0 : cX2_nextUnit.data.toList.drop 0 = dktX2_nextUnit_0 := by decide +kernel
theorem dksX2_nextUnit_1 : cX2_nextUnit.data.toList.drop 22 = dktX2_nextUnit_1 := dk_seg dksX2_nextUnit_0 22 rfl rfl
theorem dksX2_nextUnit_2 : cX2_nextUnit.data.toList.drop 44 = dktX2_nextUnit_2 := dk_seg dksX2_nextUnit_1 22 rfl rfl
theorem dX2_nextUnit_0 : decode cX2_nextUnit 0 = .ok (.sipush (-999), 3) := dk_17 252 25 (dk_at dksX2_nextUnit_0 0 rfl rfl)
theorem dX2_nextUnit_3 : decode cX2_nextUnit 3 = .ok (.istore_n 1, 1) := dk_60 (dk_at dksX2_nextUnit_0 3 rfl rfl)
theorem dX2_nextUnit_4 : decode cX2_nextUnit 4 = .ok (.iconst 0, 1) := dk_3 (dk_at dksX2_nextUnit_0 4 rfl rfl)
theorem dX2_nextUnit_5 : decode cX2_nextUnit 5 = .ok (.istore_n 2, 1) := dk_61 (dk_at dksX2_nextUnit_0 5 rfl rfl)
theorem dX2_nextUnit_6 : decode cX2_nextUnit 6 = .ok (.iload_n 2, 1) := dk_28 (dk_at dksX2_nextUnit_0 6 rfl rfl)
theorem dX2_nextUnit_7 : decode cX2_nextUnit 7 = .ok (.aload_n 0, 1) := dk_42 (dk_at dksX2_nextUnit_0 7 rfl rfl)
theorem dX2_nextUnit_8 : decode cX2_nextUnit 8 = .ok (.getfield 7, 3) := dk_180 0 7 (dk_at dksX2_nextUnit_0 8 rfl rfl)
theorem dX2_nextUnit_11 : decode cX2_nextUnit 11 = .ok (.bipush 13, 2) := dk_16 13 (dk_at dksX2_nextUnit_0 11 rfl rfl)
theorem dX2_nextUnit_13 : decode cX2_nextUnit 13 = .ok (.iaload, 1) := dk_46 (dk_at dksX2_nextUnit_0 13 rfl rfl)
theorem dX2_nextUnit_14 : decode cX2_nextUnit 14 = .ok (.if_icmp .ge 48, 3) := dk_162 0 48 (dk_at dksX2_nextUnit_0 14 rfl rfl)
theorem dX2_nextUnit_17 : decode cX2_nextUnit 17 = .ok (.aload_n 0, 1) := dk_42 (dk_at dksX2_nextUnit_0 17 rfl rfl)
theorem dX2_nextUnit_18 : decode cX2_nextUnit 18 = .ok (.iload_n 2, 1) := dk_28 (dk_at dksX2_nextUnit_0 18 rfl rfl)
theorem dX2_nextUnit_19 : decode cX2_nextUnit 19 = .ok (.invokevirtual 160, 3) := dk_182 0 160 (dk_at dksX2_nextUnit_0 19 rfl rfl)
theorem dX2_nextUnit_22 : decode cX2_nextUnit 22 = .ok (.ifCond .eq 32, 3) := dk_153 0 32 (dk_at dksX2_nextUnit_1 0 rfl rfl)
theorem dX2_nextUnit_25 : decode cX2_nextUnit 25 = .ok (.aload_n 0, 1) := dk_42 (dk_at dksX2_nextUnit_1 3 rfl rfl)
theorem dX2_nextUnit_26 : decode cX2_nextUnit 26 = .ok (.getfield 31, 3) := dk_180 0 31 (dk_at dksX2_nextUnit_1 4 rfl rfl)
theorem dX2_nextUnit_29 : decode cX2_nextUnit 29 = .ok (.iload_n 2, 1) := dk_28 (dk_at dksX2_nextUnit_1 7 rfl rfl)
theorem dX2_nextUnit_30 : decode cX2_nextUnit 30 = .ok (.baload, 1) := dk_51 (dk_at dksX2_nextUnit_1 8 rfl rfl)
theorem dX2_nextUnit_31 : decode cX2_nextUnit 31 = .ok (.ifCond .ne 23, 3) := dk_154 0 23 (dk_at dksX2_nextUnit_1 9 rfl rfl)
theorem dX2_nextUnit_34 : decode cX2_nextUnit 34 = .ok (.iload_n 1, 1) := dk_27 (dk_at dksX2_nextUnit_1 12 rfl rfl)
theorem dX2_nextUnit_35 : decode cX2_nextUnit 35 = .ok (.sipush (-999), 3) := dk_17 252 25 (dk_at dksX2_nextUnit_1 13 rfl rfl)
theorem dX2_nextUnit_38 : decode cX2_nextUnit 38 = .ok (.if_icmp .eq 12, 3) := dk_159 0 12 (dk_at dksX2_nextUnit_1 16 rfl rfl)
theorem dX2_nextUnit_41 : decode cX2_nextUnit 41 = .ok (.aload_n 0, 1) := dk_42 (dk_at dksX2_nextUnit_1 19 rfl rfl)
theorem dX2_nextUnit_42 : decode cX2_nextUnit 42 = .ok (.iload_n 2, 1) := dk_28 (dk_at dksX2_nextUnit_1 20 rfl rfl)
theorem dX2_nextUnit_43 : decode cX2_nextUnit 43 = .ok (.iload_n 1, 1) := dk_27 (dk_at dksX2_nextUnit_1 21 rfl rfl)
theorem dX2_nextUnit_44 : decode cX2_nextUnit 44 = .ok (.invokevirtual 163, 3) := dk_182 0 163 (dk_at dksX2_nextUnit_2 0 rfl rfl)
theorem dX2_nextUnit_47 : decode cX2_nextUnit 47 = .ok (.ifCond .eq 7, 3) := dk_153 0 7 (dk_at dksX2_nextUnit_2 3 rfl rfl)
theorem dX2_nextUnit_50 : decode cX2_nextUnit 50 = .ok (.iload_n 2, 1) := dk_28 (dk_at dksX2_nextUnit_2 6 rfl rfl)
theorem dX2_nextUnit_51 : decode cX2_nextUnit 51 = .ok (.goto 4, 3) := dk_167 0 4 (dk_at dksX2_nextUnit_2 7 rfl rfl)
theorem dX2_nextUnit_54 : decode cX2_nextUnit 54 = .ok (.iload_n 1, 1) := dk_27 (dk_at dksX2_nextUnit_2 10 rfl rfl)
theorem dX2_nextUnit_55 : decode cX2_nextUnit 55 = .ok (.istore_n 1, 1) := dk_60 (dk_at dksX2_nextUnit_2 11 rfl rfl)
theorem dX2_nextUnit_56 : decode cX2_nextUnit 56 = .ok (.iinc 2 1, 3) := dk_132 2 1 (dk_at dksX2_nextUnit_2 12 rfl rfl)
theorem dX2_nextUnit_59 : decode cX2_nextUnit 59 = .ok (.goto (-53), 3) := dk_167 255 203 (dk_at dksX2_nextUnit_2 15 rfl rfl)
theorem dX2_nextUnit_62 : decode cX2_nextUnit 62 = .ok (.iload_n 1, 1) := dk_27 (dk_at dksX2_nextUnit_2 18 rfl rfl)
theorem dX2_nextUnit_63 : decode cX2_nextUnit 63 = .ok (.ireturn, 1) := dk_172 (dk_at dksX2_nextUnit_2 19 rfl rfl)
abbrev cX2_isUnit : ByteArray := prog_12_method_51_code
def yX2_isUnit : MethodName := ⟨RX2, "isUnit", "(I)Z"⟩
def dkwX2_isUnit_0 : List UInt8 := [42, 180, 0, 16, 27, 46, 27, 160, 0, 7, 4, 167, 0, 4, 3, 172]
abbrev dktX2_isUnit_0 : List UInt8 := dkwX2_isUnit_0 ++ []
theorem dksX2_isUnit_0 : cX2_isUnit.data.toList.drop 0 = dktX2_isUnit_0 := by decide +kernel
theorem dX2_isUnit_0 : decode cX2_isUnit 0 = .ok (.aload_n 0, 1) := dk_42 (dk_at dksX2_isUnit_0 0 rfl rfl)
theorem dX2_isUnit_1 : decode cX2_isUnit 1 = .ok (.getfield 16, 3) := dk_180 0 16 (dk_at dksX2_isUnit_0 1 rfl rfl)
theorem dX2_isUnit_4 : decode cX2_isUnit 4 = .ok (.iload_n 1, 1) := dk_27 (dk_at dksX2_isUnit_0 4 rfl rfl)
theorem dX2_isUnit_5 : decode cX2_isUnit 5 = .ok (.iaload, 1) := dk_46 (dk_at dksX2_isUnit_0 5 rfl rfl)
theorem dX2_isUnit_6 : decode cX2_isUnit 6 = .ok (.iload_n 1, 1) := dk_27 (dk_at dksX2_isUnit_0 6 rfl rfl)
theorem dX2_isUnit_7 : decode cX2_isUnit 7 = .ok (.if_icmp .ne 7, 3) := dk_160 0 7 (dk_at dksX2_isUnit_0 7 rfl rfl)
theorem dX2_isUnit_10 : decode cX2_isUnit 10 = .ok (.iconst 1, 1) := dk_4 (dk_at dksX2_isUnit_0 10 rfl rfl)
theorem dX2_isUnit_11 : decode cX2_isUnit 11 = .ok (.goto 4, 3) := dk_167 0 4 (dk_at dksX2_isUnit_0 11 rfl rfl)
theorem dX2_isUnit_14 : decode cX2_isUnit 14 = .ok (.iconst 0, 1) := dk_3 (dk_at dksX2_isUnit_0 14 rfl rfl)
theorem dX2_isUnit_15 : decode cX2_isUnit 15 = .ok (.ireturn, 1) := dk_172 (dk_at dksX2_isUnit_0 15 rfl rfl)
abbrev cX2_isSooner : ByteArray := prog_12_method_52_code
def yX2_isSooner : MethodName := ⟨RX2, "isSooner", "(II)Z"⟩
def dkwX2_isSooner_4 : List UInt8 := [167, 0, 4, 3, 172]
abbrev dktX2_isSooner_4 : List UInt8 := dkwX2_isSooner_4 ++ []
def dkwX2_isSooner_3 : List UInt8 := [42, 180, 0, 19, 28, 46, 162, 0, 7, 4, 167, 0, 17, 3, 167, 0, 13, 27, 28, 162, 0, 7, 4]
abbrev dktX2_isSooner_3 : List UInt8 := dkwX2_isSooner_3 ++ dktX2_isSooner_4
def dkwX2_isSooner_2 : List UInt8 := [167, 0, 51, 42, 180, 0, 19, 27, 46, 42, 180, 0, 19, 28, 46, 159, 0, 26, 42, 180, 0, 19, 27, 46]
abbrev dktX2_isSooner_2 : List UInt8 := dkwX2_isSooner_2 ++ dktX2_isSooner_3
def dkwX2_isSooner_1 : List UInt8 := [28, 46, 100, 54, 4, 29, 21, 4, 159, 0, 17, 29, 21, 4, 162, 0, 7, 4, 167, 0, 55, 3]
abbrev dktX2_isSooner_1 : List UInt8 := dkwX2_isSooner_1 ++ dktX2_isSooner_2
def dkwX2_isSooner_0 : List UInt8 := [42, 180, 0, 22, 27, 46, 42, 180, 0, 19, 27, 46, 100, 62, 42, 180, 0, 22, 28, 46, 42, 180, 0, 19]
abbrev dktX2_isSooner_0 : List UInt8 := dkwX2_isSooner_0 ++ dktX2_isSooner_1
theorem dksX2_isSooner_0 : cX2_isSooner.data.toList.drop 0 = dktX2_isSooner_0 := by decide +kernel
theorem dksX2_isSooner_1 : cX2_isSooner.data.toList.drop 24 = dktX2_isSooner_1 := dk_seg dksX2_isSooner_0 24 rfl rfl
theorem dksX2_isSooner_2 : cX2_isSooner.data.toList.drop 46 = dktX2_isSooner_2 := dk_seg dksX2_isSooner_1 22 rfl rfl
theorem dksX2_isSooner_3 : cX2_isSooner.data.toList.drop 70 = dktX2_isSooner_3 := dk_seg dksX2_isSooner_2 24 rfl rfl
theorem dksX2_isSooner_4 : cX2_isSooner.data.toList.drop 93 = dktX2_isSooner_4 := dk_seg dksX2_isSooner_3 23 rfl rfl
theorem dX2_isSooner_0 : decode cX2_isSooner 0 = .ok (.aload_n 0, 1) := dk_42 (dk_at dksX2_isSooner_0 0 rfl rfl)
theorem dX2_isSooner_1 : decode cX2_isSooner 1 = .ok (.getfield 22, 3) := dk_180 0 22 (dk_at dksX2_isSooner_0 1 rfl rfl)
theorem dX2_isSooner_4 : decode cX2_isSooner 4 = .ok (.iload_n 1, 1) := dk_27 (dk_at dksX2_isSooner_0 4 rfl rfl)
theorem dX2_isSooner_5 : decode cX2_isSooner 5 = .ok (.iaload, 1) := dk_46 (dk_at dksX2_isSooner_0 5 rfl rfl)
theorem dX2_isSooner_6 : decode cX2_isSooner 6 = .ok (.aload_n 0, 1) := dk_42 (dk_at dksX2_isSooner_0 6 rfl rfl)
theorem dX2_isSooner_7 : decode cX2_isSooner 7 = .ok (.getfield 19, 3) := dk_180 0 19 (dk_at dksX2_isSooner_0 7 rfl rfl)
theorem dX2_isSooner_10 : decode cX2_isSooner 10 = .ok (.iload_n 1, 1) := dk_27 (dk_at dksX2_isSooner_0 10 rfl rfl)
theorem dX2_isSooner_11 : decode cX2_isSooner 11 = .ok (.iaload, 1) := dk_46 (dk_at dksX2_isSooner_0 11 rfl rfl)
theorem dX2_isSooner_12 : decode cX2_isSooner 12 = .ok (.isub, 1) := dk_100 (dk_at dksX2_isSooner_0 12 rfl rfl)
theorem dX2_isSooner_13 : decode cX2_isSooner 13 = .ok (.istore_n 3, 1) := dk_62 (dk_at dksX2_isSooner_0 13 rfl rfl)
theorem dX2_isSooner_14 : decode cX2_isSooner 14 = .ok (.aload_n 0, 1) := dk_42 (dk_at dksX2_isSooner_0 14 rfl rfl)
theorem dX2_isSooner_15 : decode cX2_isSooner 15 = .ok (.getfield 22, 3) := dk_180 0 22 (dk_at dksX2_isSooner_0 15 rfl rfl)
theorem dX2_isSooner_18 : decode cX2_isSooner 18 = .ok (.iload_n 2, 1) := dk_28 (dk_at dksX2_isSooner_0 18 rfl rfl)
theorem dX2_isSooner_19 : decode cX2_isSooner 19 = .ok (.iaload, 1) := dk_46 (dk_at dksX2_isSooner_0 19 rfl rfl)
theorem dX2_isSooner_20 : decode cX2_isSooner 20 = .ok (.aload_n 0, 1) := dk_42 (dk_at dksX2_isSooner_0 20 rfl rfl)
theorem dX2_isSooner_21 : decode cX2_isSooner 21 = .ok (.getfield 19, 3) := dk_180 0 19 (dk_at dksX2_isSooner_0 21 rfl rfl)
theorem dX2_isSooner_24 : decode cX2_isSooner 24 = .ok (.iload_n 2, 1) := dk_28 (dk_at dksX2_isSooner_1 0 rfl rfl)
theorem dX2_isSooner_25 : decode cX2_isSooner 25 = .ok (.iaload, 1) := dk_46 (dk_at dksX2_isSooner_1 1 rfl rfl)
theorem dX2_isSooner_26 : decode cX2_isSooner 26 = .ok (.isub, 1) := dk_100 (dk_at dksX2_isSooner_1 2 rfl rfl)
theorem dX2_isSooner_27 : decode cX2_isSooner 27 = .ok (.istore 4, 2) := dk_54 4 (dk_at dksX2_isSooner_1 3 rfl rfl)
theorem dX2_isSooner_29 : decode cX2_isSooner 29 = .ok (.iload_n 3, 1) := dk_29 (dk_at dksX2_isSooner_1 5 rfl rfl)
theorem dX2_isSooner_30 : decode cX2_isSooner 30 = .ok (.iload 4, 2) := dk_21 4 (dk_at dksX2_isSooner_1 6 rfl rfl)
theorem dX2_isSooner_32 : decode cX2_isSooner 32 = .ok (.if_icmp .eq 17, 3) := dk_159 0 17 (dk_at dksX2_isSooner_1 8 rfl rfl)
theorem dX2_isSooner_35 : decode cX2_isSooner 35 = .ok (.iload_n 3, 1) := dk_29 (dk_at dksX2_isSooner_1 11 rfl rfl)
theorem dX2_isSooner_36 : decode cX2_isSooner 36 = .ok (.iload 4, 2) := dk_21 4 (dk_at dksX2_isSooner_1 12 rfl rfl)
theorem dX2_isSooner_38 : decode cX2_isSooner 38 = .ok (.if_icmp .ge 7, 3) := dk_162 0 7 (dk_at dksX2_isSooner_1 14 rfl rfl)
theorem dX2_isSooner_41 : decode cX2_isSooner 41 = .ok (.iconst 1, 1) := dk_4 (dk_at dksX2_isSooner_1 17 rfl rfl)
theorem dX2_isSooner_42 : decode cX2_isSooner 42 = .ok (.goto 55, 3) := dk_167 0 55 (dk_at dksX2_isSooner_1 18 rfl rfl)
theorem dX2_isSooner_45 : decode cX2_isSooner 45 = .ok (.iconst 0, 1) := dk_3 (dk_at dksX2_isSooner_1 21 rfl rfl)
theorem dX2_isSooner_46 : decode cX2_isSooner 46 = .ok (.goto 51, 3) := dk_167 0 51 (dk_at dksX2_isSooner_2 0 rfl rfl)
theorem dX2_isSooner_49 : decode cX2_isSooner 49 = .ok (.aload_n 0, 1) := dk_42 (dk_at dksX2_isSooner_2 3 rfl rfl)
theorem dX2_isSooner_50 : decode cX2_isSooner 50 = .ok (.getfield 19, 3) := dk_180 0 19 (dk_at dksX2_isSooner_2 4 rfl rfl)
theorem dX2_isSooner_53 : decode cX2_isSooner 53 = .ok (.iload_n 1, 1) := dk_27 (dk_at dksX2_isSooner_2 7 rfl rfl)
theorem dX2_isSooner_54 : decode cX2_isSooner 54 = .ok (.iaload, 1) := dk_46 (dk_at dksX2_isSooner_2 8 rfl rfl)
theorem dX2_isSooner_55 : decode cX2_isSooner 55 = .ok (.aload_n 0, 1) := dk_42 (dk_at dksX2_isSooner_2 9 rfl rfl)
theorem dX2_isSooner_56 : decode cX2_isSooner 56 = .ok (.getfield 19, 3) := dk_180 0 19 (dk_at dksX2_isSooner_2 10 rfl rfl)
theorem dX2_isSooner_59 : decode cX2_isSooner 59 = .ok (.iload_n 2, 1) := dk_28 (dk_at dksX2_isSooner_2 13 rfl rfl)
theorem dX2_isSooner_60 : decode cX2_isSooner 60 = .ok (.iaload, 1) := dk_46 (dk_at dksX2_isSooner_2 14 rfl rfl)
theorem dX2_isSooner_61 : decode cX2_isSooner 61 = .ok (.if_icmp .eq 26, 3) := dk_159 0 26 (dk_at dksX2_isSooner_2 15 rfl rfl)
theorem dX2_isSooner_64 : decode cX2_isSooner 64 = .ok (.aload_n 0, 1) := dk_42 (dk_at dksX2_isSooner_2 18 rfl rfl)
theorem dX2_isSooner_65 : decode cX2_isSooner 65 = .ok (.getfield 19, 3) := dk_180 0 19 (dk_at dksX2_isSooner_2 19 rfl rfl)
theorem dX2_isSooner_68 : decode cX2_isSooner 68 = .ok (.iload_n 1, 1) := dk_27 (dk_at dksX2_isSooner_2 22 rfl rfl)
theorem dX2_isSooner_69 : decode cX2_isSooner 69 = .ok (.iaload, 1) := dk_46 (dk_at dksX2_isSooner_2 23 rfl rfl)
theorem dX2_isSooner_70 : decode cX2_isSooner 70 = .ok (.aload_n 0, 1) := dk_42 (dk_at dksX2_isSooner_3 0 rfl rfl)
theorem dX2_isSooner_71 : decode cX2_isSooner 71 = .ok (.getfield 19, 3) := dk_180 0 19 (dk_at dksX2_isSooner_3 1 rfl rfl)
theorem dX2_isSooner_74 : decode cX2_isSooner 74 = .ok (.iload_n 2, 1) := dk_28 (dk_at dksX2_isSooner_3 4 rfl rfl)
theorem dX2_isSooner_75 : decode cX2_isSooner 75 = .ok (.iaload, 1) := dk_46 (dk_at dksX2_isSooner_3 5 rfl rfl)
theorem dX2_isSooner_76 : decode cX2_isSooner 76 = .ok (.if_icmp .ge 7, 3) := dk_162 0 7 (dk_at dksX2_isSooner_3 6 rfl rfl)
theorem dX2_isSooner_79 : decode cX2_isSooner 79 = .ok (.iconst 1, 1) := dk_4 (dk_at dksX2_isSooner_3 9 rfl rfl)
theorem dX2_isSooner_80 : decode cX2_isSooner 80 = .ok (.goto 17, 3) := dk_167 0 17 (dk_at dksX2_isSooner_3 10 rfl rfl)
theorem dX2_isSooner_83 : decode cX2_isSooner 83 = .ok (.iconst 0, 1) := dk_3 (dk_at dksX2_isSooner_3 13 rfl rfl)
theorem dX2_isSooner_84 : decode cX2_isSooner 84 = .ok (.goto 13, 3) := dk_167 0 13 (dk_at dksX2_isSooner_3 14 rfl rfl)
theorem dX2_isSooner_87 : decode cX2_isSooner 87 = .ok (.iload_n 1, 1) := dk_27 (dk_at dksX2_isSooner_3 17 rfl rfl)
theorem dX2_isSooner_88 : decode cX2_isSooner 88 = .ok (.iload_n 2, 1) := dk_28 (dk_at dksX2_isSooner_3 18 rfl rfl)
theorem dX2_isSooner_89 : decode cX2_isSooner 89 = .ok (.if_icmp .ge 7, 3) := dk_162 0 7 (dk_at dksX2_isSooner_3 19 rfl rfl)
theorem dX2_isSooner_92 : decode cX2_isSooner 92 = .ok (.iconst 1, 1) := dk_4 (dk_at dksX2_isSooner_3 22 rfl rfl)
theorem dX2_isSooner_93 : decode cX2_isSooner 93 = .ok (.goto 4, 3) := dk_167 0 4 (dk_at dksX2_isSooner_4 0 rfl rfl)
theorem dX2_isSooner_96 : decode cX2_isSooner 96 = .ok (.iconst 0, 1) := dk_3 (dk_at dksX2_isSooner_4 3 rfl rfl)
theorem dX2_isSooner_97 : decode cX2_isSooner 97 = .ok (.ireturn, 1) := dk_172 (dk_at dksX2_isSooner_4 4 rfl rfl)
abbrev cX2_covers : ByteArray := prog_12_method_54_code
def yX2_covers : MethodName := ⟨RX2, "covers", "(II)Z"⟩
def dkwX2_covers_1 : List UInt8 := [180, 0, 22, 27, 46, 163, 0, 7, 4, 167, 0, 4, 3, 172]
abbrev dktX2_covers_1 : List UInt8 := dkwX2_covers_1 ++ []
def dkwX2_covers_0 : List UInt8 := [42, 180, 0, 19, 27, 46, 42, 180, 0, 19, 28, 46, 163, 0, 22, 42, 180, 0, 22, 28, 46, 42]
abbrev dktX2_covers_0 : List UInt8 := dkwX2_covers_0 ++ dktX2_covers_1
theorem dksX2_covers_0 : cX2_covers.data.toList.drop 0 = dktX2_covers_0 := by decide +kernel
theorem dksX2_covers_1 : cX2_covers.data.toList.drop 22 = dktX2_covers_1 := dk_seg dksX2_covers_0 22 rfl rfl
theorem dX2_covers_0 : decode cX2_covers 0 = .ok (.aload_n 0, 1) := dk_42 (dk_at dksX2_covers_0 0 rfl rfl)
theorem dX2_covers_1 : decode cX2_covers 1 = .ok (.getfield 19, 3) := dk_180 0 19 (dk_at dksX2_covers_0 1 rfl rfl)
theorem dX2_covers_4 : decode cX2_covers 4 = .ok (.iload_n 1, 1) := dk_27 (dk_at dksX2_covers_0 4 rfl rfl)
theorem dX2_covers_5 : decode cX2_covers 5 = .ok (.iaload, 1) := dk_46 (dk_at dksX2_covers_0 5 rfl rfl)
theorem dX2_covers_6 : decode cX2_covers 6 = .ok (.aload_n 0, 1) := dk_42 (dk_at dksX2_covers_0 6 rfl rfl)
theorem dX2_covers_7 : decode cX2_covers 7 = .ok (.getfield 19, 3) := dk_180 0 19 (dk_at dksX2_covers_0 7 rfl rfl)
theorem dX2_covers_10 : decode cX2_covers 10 = .ok (.iload_n 2, 1) := dk_28 (dk_at dksX2_covers_0 10 rfl rfl)
theorem dX2_covers_11 : decode cX2_covers 11 = .ok (.iaload, 1) := dk_46 (dk_at dksX2_covers_0 11 rfl rfl)
theorem dX2_covers_12 : decode cX2_covers 12 = .ok (.if_icmp .gt 22, 3) := dk_163 0 22 (dk_at dksX2_covers_0 12 rfl rfl)
theorem dX2_covers_15 : decode cX2_covers 15 = .ok (.aload_n 0, 1) := dk_42 (dk_at dksX2_covers_0 15 rfl rfl)
theorem dX2_covers_16 : decode cX2_covers 16 = .ok (.getfield 22, 3) := dk_180 0 22 (dk_at dksX2_covers_0 16 rfl rfl)
theorem dX2_covers_19 : decode cX2_covers 19 = .ok (.iload_n 2, 1) := dk_28 (dk_at dksX2_covers_0 19 rfl rfl)
theorem dX2_covers_20 : decode cX2_covers 20 = .ok (.iaload, 1) := dk_46 (dk_at dksX2_covers_0 20 rfl rfl)
theorem dX2_covers_21 : decode cX2_covers 21 = .ok (.aload_n 0, 1) := dk_42 (dk_at dksX2_covers_0 21 rfl rfl)
theorem dX2_covers_22 : decode cX2_covers 22 = .ok (.getfield 22, 3) := dk_180 0 22 (dk_at dksX2_covers_1 0 rfl rfl)
theorem dX2_covers_25 : decode cX2_covers 25 = .ok (.iload_n 1, 1) := dk_27 (dk_at dksX2_covers_1 3 rfl rfl)
theorem dX2_covers_26 : decode cX2_covers 26 = .ok (.iaload, 1) := dk_46 (dk_at dksX2_covers_1 4 rfl rfl)
theorem dX2_covers_27 : decode cX2_covers 27 = .ok (.if_icmp .gt 7, 3) := dk_163 0 7 (dk_at dksX2_covers_1 5 rfl rfl)
theorem dX2_covers_30 : decode cX2_covers 30 = .ok (.iconst 1, 1) := dk_4 (dk_at dksX2_covers_1 8 rfl rfl)
theorem dX2_covers_31 : decode cX2_covers 31 = .ok (.goto 4, 3) := dk_167 0 4 (dk_at dksX2_covers_1 9 rfl rfl)
theorem dX2_covers_34 : decode cX2_covers 34 = .ok (.iconst 0, 1) := dk_3 (dk_at dksX2_covers_1 12 rfl rfl)
theorem dX2_covers_35 : decode cX2_covers 35 = .ok (.ireturn, 1) := dk_172 (dk_at dksX2_covers_1 13 rfl rfl)
abbrev cX2_meets : ByteArray := prog_12_method_55_code
def yX2_meets : MethodName := ⟨RX2, "meets", "(II)Z"⟩
def dkwX2_meets_5 : List UInt8 := [163, 0, 7, 4, 167, 0, 4, 3, 62, 132, 5, 1, 167, 255, 147, 132, 4, 1, 167, 255, 126, 29, 172]
abbrev dktX2_meets_5 : List UInt8 := dkwX2_meets_5 ++ []
def dkwX2_meets_4 : List UInt8 := [182, 0, 166, 42, 21, 5, 182, 0, 169, 163, 0, 22, 42, 21, 5, 182, 0, 166, 42, 21, 4, 182, 0, 169]
abbrev dktX2_meets_4 : List UInt8 := dkwX2_meets_4 ++ dktX2_meets_5
def dkwX2_meets_3 : List UInt8 := [160, 0, 7, 4, 167, 0, 4, 3, 54, 6, 29, 154, 0, 38, 21, 6, 153, 0, 37, 42, 21, 4]
abbrev dktX2_meets_3 : List UInt8 := dkwX2_meets_3 ++ dktX2_meets_4
def dkwX2_meets_2 : List UInt8 := [42, 180, 0, 16, 21, 5, 46, 51, 153, 0, 23, 42, 180, 0, 28, 42, 180, 0, 16, 21, 5, 46, 46, 28]
abbrev dktX2_meets_2 : List UInt8 := dkwX2_meets_2 ++ dktX2_meets_3
def dkwX2_meets_1 : List UInt8 := [180, 0, 7, 16, 13, 46, 162, 0, 103, 42, 180, 0, 16, 21, 4, 46, 27, 160, 0, 92, 42, 180, 0, 31]
abbrev dktX2_meets_1 : List UInt8 := dkwX2_meets_1 ++ dktX2_meets_2
def dkwX2_meets_0 : List UInt8 := [3, 62, 3, 54, 4, 21, 4, 42, 180, 0, 7, 16, 13, 46, 162, 0, 124, 3, 54, 5, 21, 5, 42]
abbrev dktX2_meets_0 : List UInt8 := dkwX2_meets_0 ++ dktX2_meets_1
theorem dksX2_meets_0 : cX2_meets.data.toList.drop 0 = dktX2_meets_0 := by decide +kernel
theorem dksX2_meets_1 : cX2_meets.data.toList.drop 23 = dktX2_meets_1 := dk_seg dksX2_meets_0 23 rfl rfl
theorem dksX2_meets_2 : cX2_meets.data.toList.drop 47 = dktX2_meets_2 := dk_seg dksX2_meets_1 24 rfl rfl
theorem dksX2_meets_3 : cX2_meets.data.toList.drop 71 = dktX2_meets_3 := dk_seg dksX2_meets_2 24 rfl rfl
theorem dksX2_meets_4 : cX2_meets.data.toList.drop 93 = dktX2_meets_4 := dk_seg dksX2_meets_3 22 rfl rfl
theorem dksX2_meets_5 : cX2_meets.data.toList.drop 117 = dktX2_meets_5 := dk_seg dksX2_meets_4 24 rfl rfl
theorem dX2_meets_0 : decode cX2_meets 0 = .ok (.iconst 0, 1) := dk_3 (dk_at dksX2_meets_0 0 rfl rfl)
theorem dX2_meets_1 : decode cX2_meets 1 = .ok (.istore_n 3, 1) := dk_62 (dk_at dksX2_meets_0 1 rfl rfl)
theorem dX2_meets_2 : decode cX2_meets 2 = .ok (.iconst 0, 1) := dk_3 (dk_at dksX2_meets_0 2 rfl rfl)
theorem dX2_meets_3 : decode cX2_meets 3 = .ok (.istore 4, 2) := dk_54 4 (dk_at dksX2_meets_0 3 rfl rfl)
theorem dX2_meets_5 : decode cX2_meets 5 = .ok (.iload 4, 2) := dk_21 4 (dk_at dksX2_meets_0 5 rfl rfl)
theorem dX2_meets_7 : decode cX2_meets 7 = .ok (.aload_n 0, 1) := dk_42 (dk_at dksX2_meets_0 7 rfl rfl)
theorem dX2_meets_8 : decode cX2_meets 8 = .ok (.getfield 7, 3) := dk_180 0 7 (dk_at dksX2_meets_0 8 rfl rfl)
theorem dX2_meets_11 : decode cX2_meets 11 = .ok (.bipush 13, 2) := dk_16 13 (dk_at dksX2_meets_0 11 rfl rfl)
theorem dX2_meets_13 : decode cX2_meets 13 = .ok (.iaload, 1) := dk_46 (dk_at dksX2_meets_0 13 rfl rfl)
theorem dX2_meets_14 : decode cX2_meets 14 = .ok (.if_icmp .ge 124, 3) := dk_162 0 124 (dk_at dksX2_meets_0 14 rfl rfl)
theorem dX2_meets_17 : decode cX2_meets 17 = .ok (.iconst 0, 1) := dk_3 (dk_at dksX2_meets_0 17 rfl rfl)
theorem dX2_meets_18 : decode cX2_meets 18 = .ok (.istore 5, 2) := dk_54 5 (dk_at dksX2_meets_0 18 rfl rfl)
theorem dX2_meets_20 : decode cX2_meets 20 = .ok (.iload 5, 2) := dk_21 5 (dk_at dksX2_meets_0 20 rfl rfl)
theorem dX2_meets_22 : decode cX2_meets 22 = .ok (.aload_n 0, 1) := dk_42 (dk_at dksX2_meets_0 22 rfl rfl)
theorem dX2_meets_23 : decode cX2_meets 23 = .ok (.getfield 7, 3) := dk_180 0 7 (dk_at dksX2_meets_1 0 rfl rfl)
theorem dX2_meets_26 : decode cX2_meets 26 = .ok (.bipush 13, 2) := dk_16 13 (dk_at dksX2_meets_1 3 rfl rfl)
theorem dX2_meets_28 : decode cX2_meets 28 = .ok (.iaload, 1) := dk_46 (dk_at dksX2_meets_1 5 rfl rfl)
theorem dX2_meets_29 : decode cX2_meets 29 = .ok (.if_icmp .ge 103, 3) := dk_162 0 103 (dk_at dksX2_meets_1 6 rfl rfl)
theorem dX2_meets_32 : decode cX2_meets 32 = .ok (.aload_n 0, 1) := dk_42 (dk_at dksX2_meets_1 9 rfl rfl)
theorem dX2_meets_33 : decode cX2_meets 33 = .ok (.getfield 16, 3) := dk_180 0 16 (dk_at dksX2_meets_1 10 rfl rfl)
theorem dX2_meets_36 : decode cX2_meets 36 = .ok (.iload 4, 2) := dk_21 4 (dk_at dksX2_meets_1 13 rfl rfl)
theorem dX2_meets_38 : decode cX2_meets 38 = .ok (.iaload, 1) := dk_46 (dk_at dksX2_meets_1 15 rfl rfl)
theorem dX2_meets_39 : decode cX2_meets 39 = .ok (.iload_n 1, 1) := dk_27 (dk_at dksX2_meets_1 16 rfl rfl)
theorem dX2_meets_40 : decode cX2_meets 40 = .ok (.if_icmp .ne 92, 3) := dk_160 0 92 (dk_at dksX2_meets_1 17 rfl rfl)
theorem dX2_meets_43 : decode cX2_meets 43 = .ok (.aload_n 0, 1) := dk_42 (dk_at dksX2_meets_1 20 rfl rfl)
theorem dX2_meets_44 : decode cX2_meets 44 = .ok (.getfield 31, 3) := dk_180 0 31 (dk_at dksX2_meets_1 21 rfl rfl)
theorem dX2_meets_47 : decode cX2_meets 47 = .ok (.aload_n 0, 1) := dk_42 (dk_at dksX2_meets_2 0 rfl rfl)
theorem dX2_meets_48 : decode cX2_meets 48 = .ok (.getfield 16, 3) := dk_180 0 16 (dk_at dksX2_meets_2 1 rfl rfl)
theorem dX2_meets_51 : decode cX2_meets 51 = .ok (.iload 5, 2) := dk_21 5 (dk_at dksX2_meets_2 4 rfl rfl)
theorem dX2_meets_53 : decode cX2_meets 53 = .ok (.iaload, 1) := dk_46 (dk_at dksX2_meets_2 6 rfl rfl)
theorem dX2_meets_54 : decode cX2_meets 54 = .ok (.baload, 1) := dk_51 (dk_at dksX2_meets_2 7 rfl rfl)
theorem dX2_meets_55 : decode cX2_meets 55 = .ok (.ifCond .eq 23, 3) := dk_153 0 23 (dk_at dksX2_meets_2 8 rfl rfl)
theorem dX2_meets_58 : decode cX2_meets 58 = .ok (.aload_n 0, 1) := dk_42 (dk_at dksX2_meets_2 11 rfl rfl)
theorem dX2_meets_59 : decode cX2_meets 59 = .ok (.getfield 28, 3) := dk_180 0 28 (dk_at dksX2_meets_2 12 rfl rfl)
theorem dX2_meets_62 : decode cX2_meets 62 = .ok (.aload_n 0, 1) := dk_42 (dk_at dksX2_meets_2 15 rfl rfl)
theorem dX2_meets_63 : decode cX2_meets 63 = .ok (.getfield 16, 3) := dk_180 0 16 (dk_at dksX2_meets_2 16 rfl rfl)
theorem dX2_meets_66 : decode cX2_meets 66 = .ok (.iload 5, 2) := dk_21 5 (dk_at dksX2_meets_2 19 rfl rfl)
theorem dX2_meets_68 : decode cX2_meets 68 = .ok (.iaload, 1) := dk_46 (dk_at dksX2_meets_2 21 rfl rfl)
theorem dX2_meets_69 : decode cX2_meets 69 = .ok (.iaload, 1) := dk_46 (dk_at dksX2_meets_2 22 rfl rfl)
theorem dX2_meets_70 : decode cX2_meets 70 = .ok (.iload_n 2, 1) := dk_28 (dk_at dksX2_meets_2 23 rfl rfl)
theorem dX2_meets_71 : decode cX2_meets 71 = .ok (.if_icmp .ne 7, 3) := dk_160 0 7 (dk_at dksX2_meets_3 0 rfl rfl)
theorem dX2_meets_74 : decode cX2_meets 74 = .ok (.iconst 1, 1) := dk_4 (dk_at dksX2_meets_3 3 rfl rfl)
theorem dX2_meets_75 : decode cX2_meets 75 = .ok (.goto 4, 3) := dk_167 0 4 (dk_at dksX2_meets_3 4 rfl rfl)
theorem dX2_meets_78 : decode cX2_meets 78 = .ok (.iconst 0, 1) := dk_3 (dk_at dksX2_meets_3 7 rfl rfl)
theorem dX2_meets_79 : decode cX2_meets 79 = .ok (.istore 6, 2) := dk_54 6 (dk_at dksX2_meets_3 8 rfl rfl)
theorem dX2_meets_81 : decode cX2_meets 81 = .ok (.iload_n 3, 1) := dk_29 (dk_at dksX2_meets_3 10 rfl rfl)
theorem dX2_meets_82 : decode cX2_meets 82 = .ok (.ifCond .ne 38, 3) := dk_154 0 38 (dk_at dksX2_meets_3 11 rfl rfl)
theorem dX2_meets_85 : decode cX2_meets 85 = .ok (.iload 6, 2) := dk_21 6 (dk_at dksX2_meets_3 14 rfl rfl)
theorem dX2_meets_87 : decode cX2_meets 87 = .ok (.ifCond .eq 37, 3) := dk_153 0 37 (dk_at dksX2_meets_3 16 rfl rfl)
theorem dX2_meets_90 : decode cX2_meets 90 = .ok (.aload_n 0, 1) := dk_42 (dk_at dksX2_meets_3 19 rfl rfl)
theorem dX2_meets_91 : decode cX2_meets 91 = .ok (.iload 4, 2) := dk_21 4 (dk_at dksX2_meets_3 20 rfl rfl)
theorem dX2_meets_93 : decode cX2_meets 93 = .ok (.invokevirtual 166, 3) := dk_182 0 166 (dk_at dksX2_meets_4 0 rfl rfl)
theorem dX2_meets_96 : decode cX2_meets 96 = .ok (.aload_n 0, 1) := dk_42 (dk_at dksX2_meets_4 3 rfl rfl)
theorem dX2_meets_97 : decode cX2_meets 97 = .ok (.iload 5, 2) := dk_21 5 (dk_at dksX2_meets_4 4 rfl rfl)
theorem dX2_meets_99 : decode cX2_meets 99 = .ok (.invokevirtual 169, 3) := dk_182 0 169 (dk_at dksX2_meets_4 6 rfl rfl)
theorem dX2_meets_102 : decode cX2_meets 102 = .ok (.if_icmp .gt 22, 3) := dk_163 0 22 (dk_at dksX2_meets_4 9 rfl rfl)
theorem dX2_meets_105 : decode cX2_meets 105 = .ok (.aload_n 0, 1) := dk_42 (dk_at dksX2_meets_4 12 rfl rfl)
theorem dX2_meets_106 : decode cX2_meets 106 = .ok (.iload 5, 2) := dk_21 5 (dk_at dksX2_meets_4 13 rfl rfl)
theorem dX2_meets_108 : decode cX2_meets 108 = .ok (.invokevirtual 166, 3) := dk_182 0 166 (dk_at dksX2_meets_4 15 rfl rfl)
theorem dX2_meets_111 : decode cX2_meets 111 = .ok (.aload_n 0, 1) := dk_42 (dk_at dksX2_meets_4 18 rfl rfl)
theorem dX2_meets_112 : decode cX2_meets 112 = .ok (.iload 4, 2) := dk_21 4 (dk_at dksX2_meets_4 19 rfl rfl)
theorem dX2_meets_114 : decode cX2_meets 114 = .ok (.invokevirtual 169, 3) := dk_182 0 169 (dk_at dksX2_meets_4 21 rfl rfl)
theorem dX2_meets_117 : decode cX2_meets 117 = .ok (.if_icmp .gt 7, 3) := dk_163 0 7 (dk_at dksX2_meets_5 0 rfl rfl)
theorem dX2_meets_120 : decode cX2_meets 120 = .ok (.iconst 1, 1) := dk_4 (dk_at dksX2_meets_5 3 rfl rfl)
theorem dX2_meets_121 : decode cX2_meets 121 = .ok (.goto 4, 3) := dk_167 0 4 (dk_at dksX2_meets_5 4 rfl rfl)
theorem dX2_meets_124 : decode cX2_meets 124 = .ok (.iconst 0, 1) := dk_3 (dk_at dksX2_meets_5 7 rfl rfl)
theorem dX2_meets_125 : decode cX2_meets 125 = .ok (.istore_n 3, 1) := dk_62 (dk_at dksX2_meets_5 8 rfl rfl)
theorem dX2_meets_126 : decode cX2_meets 126 = .ok (.iinc 5 1, 3) := dk_132 5 1 (dk_at dksX2_meets_5 9 rfl rfl)
theorem dX2_meets_129 : decode cX2_meets 129 = .ok (.goto (-109), 3) := dk_167 255 147 (dk_at dksX2_meets_5 12 rfl rfl)
theorem dX2_meets_132 : decode cX2_meets 132 = .ok (.iinc 4 1, 3) := dk_132 4 1 (dk_at dksX2_meets_5 15 rfl rfl)
theorem dX2_meets_135 : decode cX2_meets 135 = .ok (.goto (-130), 3) := dk_167 255 126 (dk_at dksX2_meets_5 18 rfl rfl)
theorem dX2_meets_138 : decode cX2_meets 138 = .ok (.iload_n 3, 1) := dk_29 (dk_at dksX2_meets_5 21 rfl rfl)
theorem dX2_meets_139 : decode cX2_meets 139 = .ok (.ireturn, 1) := dk_172 (dk_at dksX2_meets_5 22 rfl rfl)
abbrev cX2_begins : ByteArray := prog_12_method_47_code
def yX2_begins : MethodName := ⟨RX2, "begins", "(I)I"⟩
def dkwX2_begins_1 : List UInt8 := [100, 172]
abbrev dktX2_begins_1 : List UInt8 := dkwX2_begins_1 ++ []
def dkwX2_begins_0 : List UInt8 := [42, 27, 182, 0, 61, 42, 27, 182, 0, 154, 154, 0, 7, 3, 167, 0, 10, 42, 180, 0, 7, 16, 111, 46]
abbrev dktX2_begins_0 : List UInt8 := dkwX2_begins_0 ++ dktX2_begins_1
theorem dksX2_begins_0 : cX2_begins.data.toList.drop 0 = dktX2_begins_0 := by decide +kernel
theorem dksX2_begins_1 : cX2_begins.data.toList.drop 24 = dktX2_begins_1 := dk_seg dksX2_begins_0 24 rfl rfl
theorem dX2_begins_0 : decode cX2_begins 0 = .ok (.aload_n 0, 1) := dk_42 (dk_at dksX2_begins_0 0 rfl rfl)
theorem dX2_begins_1 : decode cX2_begins 1 = .ok (.iload_n 1, 1) := dk_27 (dk_at dksX2_begins_0 1 rfl rfl)
theorem dX2_begins_2 : decode cX2_begins 2 = .ok (.invokevirtual 61, 3) := dk_182 0 61 (dk_at dksX2_begins_0 2 rfl rfl)
theorem dX2_begins_5 : decode cX2_begins 5 = .ok (.aload_n 0, 1) := dk_42 (dk_at dksX2_begins_0 5 rfl rfl)
theorem dX2_begins_6 : decode cX2_begins 6 = .ok (.iload_n 1, 1) := dk_27 (dk_at dksX2_begins_0 6 rfl rfl)
theorem dX2_begins_7 : decode cX2_begins 7 = .ok (.invokevirtual 154, 3) := dk_182 0 154 (dk_at dksX2_begins_0 7 rfl rfl)
theorem dX2_begins_10 : decode cX2_begins 10 = .ok (.ifCond .ne 7, 3) := dk_154 0 7 (dk_at dksX2_begins_0 10 rfl rfl)
theorem dX2_begins_13 : decode cX2_begins 13 = .ok (.iconst 0, 1) := dk_3 (dk_at dksX2_begins_0 13 rfl rfl)
theorem dX2_begins_14 : decode cX2_begins 14 = .ok (.goto 10, 3) := dk_167 0 10 (dk_at dksX2_begins_0 14 rfl rfl)
theorem dX2_begins_17 : decode cX2_begins 17 = .ok (.aload_n 0, 1) := dk_42 (dk_at dksX2_begins_0 17 rfl rfl)
theorem dX2_begins_18 : decode cX2_begins 18 = .ok (.getfield 7, 3) := dk_180 0 7 (dk_at dksX2_begins_0 18 rfl rfl)
theorem dX2_begins_21 : decode cX2_begins 21 = .ok (.bipush 111, 2) := dk_16 111 (dk_at dksX2_begins_0 21 rfl rfl)
theorem dX2_begins_23 : decode cX2_begins 23 = .ok (.iaload, 1) := dk_46 (dk_at dksX2_begins_0 23 rfl rfl)
theorem dX2_begins_24 : decode cX2_begins 24 = .ok (.isub, 1) := dk_100 (dk_at dksX2_begins_1 0 rfl rfl)
theorem dX2_begins_25 : decode cX2_begins 25 = .ok (.ireturn, 1) := dk_172 (dk_at dksX2_begins_1 1 rfl rfl)
abbrev cX2_form : ByteArray := prog_12_method_46_code
def yX2_form : MethodName := ⟨RX2, "form", "(I)I"⟩
def dkwX2_form_1 : List UInt8 := [167, 0, 21, 42, 27, 182, 0, 148, 42, 27, 182, 0, 151, 161, 0, 7, 4, 167, 0, 4, 5, 172]
abbrev dktX2_form_1 : List UInt8 := dkwX2_form_1 ++ []
def dkwX2_form_0 : List UInt8 := [42, 27, 182, 0, 148, 42, 27, 182, 0, 151, 5, 42, 180, 0, 7, 16, 111, 46, 104, 96, 161, 0, 7, 3]
abbrev dktX2_form_0 : List UInt8 := dkwX2_form_0 ++ dktX2_form_1
theorem dksX2_form_0 : cX2_form.data.toList.drop 0 = dktX2_form_0 := by decide +kernel
theorem dksX2_form_1 : cX2_form.data.toList.drop 24 = dktX2_form_1 := dk_seg dksX2_form_0 24 rfl rfl
theorem dX2_form_0 : decode cX2_form 0 = .ok (.aload_n 0, 1) := dk_42 (dk_at dksX2_form_0 0 rfl rfl)
theorem dX2_form_1 : decode cX2_form 1 = .ok (.iload_n 1, 1) := dk_27 (dk_at dksX2_form_0 1 rfl rfl)
theorem dX2_form_2 : decode cX2_form 2 = .ok (.invokevirtual 148, 3) := dk_182 0 148 (dk_at dksX2_form_0 2 rfl rfl)
theorem dX2_form_5 : decode cX2_form 5 = .ok (.aload_n 0, 1) := dk_42 (dk_at dksX2_form_0 5 rfl rfl)
theorem dX2_form_6 : decode cX2_form 6 = .ok (.iload_n 1, 1) := dk_27 (dk_at dksX2_form_0 6 rfl rfl)
theorem dX2_form_7 : decode cX2_form 7 = .ok (.invokevirtual 151, 3) := dk_182 0 151 (dk_at dksX2_form_0 7 rfl rfl)
theorem dX2_form_10 : decode cX2_form 10 = .ok (.iconst 2, 1) := dk_5 (dk_at dksX2_form_0 10 rfl rfl)
theorem dX2_form_11 : decode cX2_form 11 = .ok (.aload_n 0, 1) := dk_42 (dk_at dksX2_form_0 11 rfl rfl)
theorem dX2_form_12 : decode cX2_form 12 = .ok (.getfield 7, 3) := dk_180 0 7 (dk_at dksX2_form_0 12 rfl rfl)
theorem dX2_form_15 : decode cX2_form 15 = .ok (.bipush 111, 2) := dk_16 111 (dk_at dksX2_form_0 15 rfl rfl)
theorem dX2_form_17 : decode cX2_form 17 = .ok (.iaload, 1) := dk_46 (dk_at dksX2_form_0 17 rfl rfl)
theorem dX2_form_18 : decode cX2_form 18 = .ok (.imul, 1) := dk_104 (dk_at dksX2_form_0 18 rfl rfl)
theorem dX2_form_19 : decode cX2_form 19 = .ok (.iadd, 1) := dk_96 (dk_at dksX2_form_0 19 rfl rfl)
theorem dX2_form_20 : decode cX2_form 20 = .ok (.if_icmp .lt 7, 3) := dk_161 0 7 (dk_at dksX2_form_0 20 rfl rfl)
theorem dX2_form_23 : decode cX2_form 23 = .ok (.iconst 0, 1) := dk_3 (dk_at dksX2_form_0 23 rfl rfl)
theorem dX2_form_24 : decode cX2_form 24 = .ok (.goto 21, 3) := dk_167 0 21 (dk_at dksX2_form_1 0 rfl rfl)
theorem dX2_form_27 : decode cX2_form 27 = .ok (.aload_n 0, 1) := dk_42 (dk_at dksX2_form_1 3 rfl rfl)
theorem dX2_form_28 : decode cX2_form 28 = .ok (.iload_n 1, 1) := dk_27 (dk_at dksX2_form_1 4 rfl rfl)
theorem dX2_form_29 : decode cX2_form 29 = .ok (.invokevirtual 148, 3) := dk_182 0 148 (dk_at dksX2_form_1 5 rfl rfl)
theorem dX2_form_32 : decode cX2_form 32 = .ok (.aload_n 0, 1) := dk_42 (dk_at dksX2_form_1 8 rfl rfl)
theorem dX2_form_33 : decode cX2_form 33 = .ok (.iload_n 1, 1) := dk_27 (dk_at dksX2_form_1 9 rfl rfl)
theorem dX2_form_34 : decode cX2_form 34 = .ok (.invokevirtual 151, 3) := dk_182 0 151 (dk_at dksX2_form_1 10 rfl rfl)
theorem dX2_form_37 : decode cX2_form 37 = .ok (.if_icmp .lt 7, 3) := dk_161 0 7 (dk_at dksX2_form_1 13 rfl rfl)
theorem dX2_form_40 : decode cX2_form 40 = .ok (.iconst 1, 1) := dk_4 (dk_at dksX2_form_1 16 rfl rfl)
theorem dX2_form_41 : decode cX2_form 41 = .ok (.goto 4, 3) := dk_167 0 4 (dk_at dksX2_form_1 17 rfl rfl)
theorem dX2_form_44 : decode cX2_form 44 = .ok (.iconst 2, 1) := dk_5 (dk_at dksX2_form_1 20 rfl rfl)
theorem dX2_form_45 : decode cX2_form 45 = .ok (.ireturn, 1) := dk_172 (dk_at dksX2_form_1 21 rfl rfl)
abbrev cX2_width : ByteArray := prog_12_method_45_code
def yX2_width : MethodName := ⟨RX2, "width", "(I)I"⟩
def dkwX2_width_1 : List UInt8 := [16, 9, 164, 0, 7, 5, 167, 0, 4, 4, 104, 172]
abbrev dktX2_width_1 : List UInt8 := dkwX2_width_1 ++ []
def dkwX2_width_0 : List UInt8 := [42, 27, 182, 0, 148, 61, 42, 180, 0, 7, 16, 110, 46, 28, 16, 99, 164, 0, 7, 6, 167, 0, 14, 28]
abbrev dktX2_width_0 : List UInt8 := dkwX2_width_0 ++ dktX2_width_1
theorem dksX2_width_0 : cX2_width.data.toList.drop 0 = dktX2_width_0 := by decide +kernel
theorem dksX2_width_1 : cX2_width.data.toList.drop 24 = dktX2_width_1 := dk_seg dksX2_width_0 24 rfl rfl
theorem dX2_width_0 : decode cX2_width 0 = .ok (.aload_n 0, 1) := dk_42 (dk_at dksX2_width_0 0 rfl rfl)
theorem dX2_width_1 : decode cX2_width 1 = .ok (.iload_n 1, 1) := dk_27 (dk_at dksX2_width_0 1 rfl rfl)
theorem dX2_width_2 : decode cX2_width 2 = .ok (.invokevirtual 148, 3) := dk_182 0 148 (dk_at dksX2_width_0 2 rfl rfl)
theorem dX2_width_5 : decode cX2_width 5 = .ok (.istore_n 2, 1) := dk_61 (dk_at dksX2_width_0 5 rfl rfl)
theorem dX2_width_6 : decode cX2_width 6 = .ok (.aload_n 0, 1) := dk_42 (dk_at dksX2_width_0 6 rfl rfl)
theorem dX2_width_7 : decode cX2_width 7 = .ok (.getfield 7, 3) := dk_180 0 7 (dk_at dksX2_width_0 7 rfl rfl)
theorem dX2_width_10 : decode cX2_width 10 = .ok (.bipush 110, 2) := dk_16 110 (dk_at dksX2_width_0 10 rfl rfl)
theorem dX2_width_12 : decode cX2_width 12 = .ok (.iaload, 1) := dk_46 (dk_at dksX2_width_0 12 rfl rfl)
theorem dX2_width_13 : decode cX2_width 13 = .ok (.iload_n 2, 1) := dk_28 (dk_at dksX2_width_0 13 rfl rfl)
theorem dX2_width_14 : decode cX2_width 14 = .ok (.bipush 99, 2) := dk_16 99 (dk_at dksX2_width_0 14 rfl rfl)
theorem dX2_width_16 : decode cX2_width 16 = .ok (.if_icmp .le 7, 3) := dk_164 0 7 (dk_at dksX2_width_0 16 rfl rfl)
theorem dX2_width_19 : decode cX2_width 19 = .ok (.iconst 3, 1) := dk_6 (dk_at dksX2_width_0 19 rfl rfl)
theorem dX2_width_20 : decode cX2_width 20 = .ok (.goto 14, 3) := dk_167 0 14 (dk_at dksX2_width_0 20 rfl rfl)
theorem dX2_width_23 : decode cX2_width 23 = .ok (.iload_n 2, 1) := dk_28 (dk_at dksX2_width_0 23 rfl rfl)
theorem dX2_width_24 : decode cX2_width 24 = .ok (.bipush 9, 2) := dk_16 9 (dk_at dksX2_width_1 0 rfl rfl)
theorem dX2_width_26 : decode cX2_width 26 = .ok (.if_icmp .le 7, 3) := dk_164 0 7 (dk_at dksX2_width_1 2 rfl rfl)
theorem dX2_width_29 : decode cX2_width 29 = .ok (.iconst 2, 1) := dk_5 (dk_at dksX2_width_1 5 rfl rfl)
theorem dX2_width_30 : decode cX2_width 30 = .ok (.goto 4, 3) := dk_167 0 4 (dk_at dksX2_width_1 6 rfl rfl)
theorem dX2_width_33 : decode cX2_width 33 = .ok (.iconst 1, 1) := dk_4 (dk_at dksX2_width_1 9 rfl rfl)
theorem dX2_width_34 : decode cX2_width 34 = .ok (.imul, 1) := dk_104 (dk_at dksX2_width_1 10 rfl rfl)
theorem dX2_width_35 : decode cX2_width 35 = .ok (.ireturn, 1) := dk_172 (dk_at dksX2_width_1 11 rfl rfl)
abbrev cX2_reaches : ByteArray := prog_12_method_48_code
def yX2_reaches : MethodName := ⟨RX2, "reaches", "(I)I"⟩
def dkwX2_reaches_1 : List UInt8 := [96, 42, 27, 182, 0, 154, 5, 160, 0, 11, 42, 27, 182, 0, 151, 167, 0, 4, 3, 96, 172]
abbrev dktX2_reaches_1 : List UInt8 := dkwX2_reaches_1 ++ []
def dkwX2_reaches_0 : List UInt8 := [42, 27, 182, 0, 58, 42, 27, 182, 0, 154, 154, 0, 7, 3, 167, 0, 10, 42, 180, 0, 7, 16, 111, 46]
abbrev dktX2_reaches_0 : List UInt8 := dkwX2_reaches_0 ++ dktX2_reaches_1
theorem dksX2_reaches_0 : cX2_reaches.data.toList.drop 0 = dktX2_reaches_0 := by decide +kernel
theorem dksX2_reaches_1 : cX2_reaches.data.toList.drop 24 = dktX2_reaches_1 := dk_seg dksX2_reaches_0 24 rfl rfl
theorem dX2_reaches_0 : decode cX2_reaches 0 = .ok (.aload_n 0, 1) := dk_42 (dk_at dksX2_reaches_0 0 rfl rfl)
theorem dX2_reaches_1 : decode cX2_reaches 1 = .ok (.iload_n 1, 1) := dk_27 (dk_at dksX2_reaches_0 1 rfl rfl)
theorem dX2_reaches_2 : decode cX2_reaches 2 = .ok (.invokevirtual 58, 3) := dk_182 0 58 (dk_at dksX2_reaches_0 2 rfl rfl)
theorem dX2_reaches_5 : decode cX2_reaches 5 = .ok (.aload_n 0, 1) := dk_42 (dk_at dksX2_reaches_0 5 rfl rfl)
theorem dX2_reaches_6 : decode cX2_reaches 6 = .ok (.iload_n 1, 1) := dk_27 (dk_at dksX2_reaches_0 6 rfl rfl)
theorem dX2_reaches_7 : decode cX2_reaches 7 = .ok (.invokevirtual 154, 3) := dk_182 0 154 (dk_at dksX2_reaches_0 7 rfl rfl)
theorem dX2_reaches_10 : decode cX2_reaches 10 = .ok (.ifCond .ne 7, 3) := dk_154 0 7 (dk_at dksX2_reaches_0 10 rfl rfl)
theorem dX2_reaches_13 : decode cX2_reaches 13 = .ok (.iconst 0, 1) := dk_3 (dk_at dksX2_reaches_0 13 rfl rfl)
theorem dX2_reaches_14 : decode cX2_reaches 14 = .ok (.goto 10, 3) := dk_167 0 10 (dk_at dksX2_reaches_0 14 rfl rfl)
theorem dX2_reaches_17 : decode cX2_reaches 17 = .ok (.aload_n 0, 1) := dk_42 (dk_at dksX2_reaches_0 17 rfl rfl)
theorem dX2_reaches_18 : decode cX2_reaches 18 = .ok (.getfield 7, 3) := dk_180 0 7 (dk_at dksX2_reaches_0 18 rfl rfl)
theorem dX2_reaches_21 : decode cX2_reaches 21 = .ok (.bipush 111, 2) := dk_16 111 (dk_at dksX2_reaches_0 21 rfl rfl)
theorem dX2_reaches_23 : decode cX2_reaches 23 = .ok (.iaload, 1) := dk_46 (dk_at dksX2_reaches_0 23 rfl rfl)
theorem dX2_reaches_24 : decode cX2_reaches 24 = .ok (.iadd, 1) := dk_96 (dk_at dksX2_reaches_1 0 rfl rfl)
theorem dX2_reaches_25 : decode cX2_reaches 25 = .ok (.aload_n 0, 1) := dk_42 (dk_at dksX2_reaches_1 1 rfl rfl)
theorem dX2_reaches_26 : decode cX2_reaches 26 = .ok (.iload_n 1, 1) := dk_27 (dk_at dksX2_reaches_1 2 rfl rfl)
theorem dX2_reaches_27 : decode cX2_reaches 27 = .ok (.invokevirtual 154, 3) := dk_182 0 154 (dk_at dksX2_reaches_1 3 rfl rfl)
theorem dX2_reaches_30 : decode cX2_reaches 30 = .ok (.iconst 2, 1) := dk_5 (dk_at dksX2_reaches_1 6 rfl rfl)
theorem dX2_reaches_31 : decode cX2_reaches 31 = .ok (.if_icmp .ne 11, 3) := dk_160 0 11 (dk_at dksX2_reaches_1 7 rfl rfl)
theorem dX2_reaches_34 : decode cX2_reaches 34 = .ok (.aload_n 0, 1) := dk_42 (dk_at dksX2_reaches_1 10 rfl rfl)
theorem dX2_reaches_35 : decode cX2_reaches 35 = .ok (.iload_n 1, 1) := dk_27 (dk_at dksX2_reaches_1 11 rfl rfl)
theorem dX2_reaches_36 : decode cX2_reaches 36 = .ok (.invokevirtual 151, 3) := dk_182 0 151 (dk_at dksX2_reaches_1 12 rfl rfl)
theorem dX2_reaches_39 : decode cX2_reaches 39 = .ok (.goto 4, 3) := dk_167 0 4 (dk_at dksX2_reaches_1 15 rfl rfl)
theorem dX2_reaches_42 : decode cX2_reaches 42 = .ok (.iconst 0, 1) := dk_3 (dk_at dksX2_reaches_1 18 rfl rfl)
theorem dX2_reaches_43 : decode cX2_reaches 43 = .ok (.iadd, 1) := dk_96 (dk_at dksX2_reaches_1 19 rfl rfl)
theorem dX2_reaches_44 : decode cX2_reaches 44 = .ok (.ireturn, 1) := dk_172 (dk_at dksX2_reaches_1 20 rfl rfl)
abbrev cX2_witness : ByteArray := prog_12_method_59_code
def yX2_witness : MethodName := ⟨RX2, "witness", "(I)I"⟩
def dkwX2_witness_3 : List UInt8 := [132, 3, 1, 167, 255, 191, 28, 172]
abbrev dktX2_witness_3 : List UInt8 := dkwX2_witness_3 ++ []
def dkwX2_witness_2 : List UInt8 := [153, 0, 20, 42, 29, 182, 0, 184, 28, 164, 0, 11, 42, 29, 182, 0, 184, 167, 0, 4, 28, 61]
abbrev dktX2_witness_2 : List UInt8 := dkwX2_witness_2 ++ dktX2_witness_3
def dkwX2_witness_1 : List UInt8 := [159, 0, 13, 42, 29, 4, 182, 0, 50, 27, 160, 0, 7, 4, 167, 0, 4, 3, 54, 4, 21, 4]
abbrev dktX2_witness_1 : List UInt8 := dkwX2_witness_1 ++ dktX2_witness_2
def dkwX2_witness_0 : List UInt8 := [17, 252, 25, 61, 3, 62, 29, 42, 180, 0, 7, 16, 13, 46, 162, 0, 60, 42, 29, 3, 182, 0, 50, 27]
abbrev dktX2_witness_0 : List UInt8 := dkwX2_witness_0 ++ dktX2_witness_1
theorem dksX2_witness_0 : cX2_witness.data.toList.drop 0 = dktX2_witness_0 := by decide +kernel
theorem dksX2_witness_1 : cX2_witness.data.toList.drop 24 = dktX2_witness_1 := dk_seg dksX2_witness_0 24 rfl rfl
theorem dksX2_witness_2 : cX2_witness.data.toList.drop 46 = dktX2_witness_2 := dk_seg dksX2_witness_1 22 rfl rfl
theorem dksX2_witness_3 : cX2_witness.data.toList.drop 68 = dktX2_witness_3 := dk_seg dksX2_witness_2 22 rfl rfl
theorem dX2_witness_0 : decode cX2_witness 0 = .ok (.sipush (-999), 3) := dk_17 252 25 (dk_at dksX2_witness_0 0 rfl rfl)
theorem dX2_witness_3 : decode cX2_witness 3 = .ok (.istore_n 2, 1) := dk_61 (dk_at dksX2_witness_0 3 rfl rfl)
theorem dX2_witness_4 : decode cX2_witness 4 = .ok (.iconst 0, 1) := dk_3 (dk_at dksX2_witness_0 4 rfl rfl)
theorem dX2_witness_5 : decode cX2_witness 5 = .ok (.istore_n 3, 1) := dk_62 (dk_at dksX2_witness_0 5 rfl rfl)
theorem dX2_witness_6 : decode cX2_witness 6 = .ok (.iload_n 3, 1) := dk_29 (dk_at dksX2_witness_0 6 rfl rfl)
theorem dX2_witness_7 : decode cX2_witness 7 = .ok (.aload_n 0, 1) := dk_42 (dk_at dksX2_witness_0 7 rfl rfl)
theorem dX2_witness_8 : decode cX2_witness 8 = .ok (.getfield 7, 3) := dk_180 0 7 (dk_at dksX2_witness_0 8 rfl rfl)
theorem dX2_witness_11 : decode cX2_witness 11 = .ok (.bipush 13, 2) := dk_16 13 (dk_at dksX2_witness_0 11 rfl rfl)
theorem dX2_witness_13 : decode cX2_witness 13 = .ok (.iaload, 1) := dk_46 (dk_at dksX2_witness_0 13 rfl rfl)
theorem dX2_witness_14 : decode cX2_witness 14 = .ok (.if_icmp .ge 60, 3) := dk_162 0 60 (dk_at dksX2_witness_0 14 rfl rfl)
theorem dX2_witness_17 : decode cX2_witness 17 = .ok (.aload_n 0, 1) := dk_42 (dk_at dksX2_witness_0 17 rfl rfl)
theorem dX2_witness_18 : decode cX2_witness 18 = .ok (.iload_n 3, 1) := dk_29 (dk_at dksX2_witness_0 18 rfl rfl)
theorem dX2_witness_19 : decode cX2_witness 19 = .ok (.iconst 0, 1) := dk_3 (dk_at dksX2_witness_0 19 rfl rfl)
theorem dX2_witness_20 : decode cX2_witness 20 = .ok (.invokevirtual 50, 3) := dk_182 0 50 (dk_at dksX2_witness_0 20 rfl rfl)
theorem dX2_witness_23 : decode cX2_witness 23 = .ok (.iload_n 1, 1) := dk_27 (dk_at dksX2_witness_0 23 rfl rfl)
theorem dX2_witness_24 : decode cX2_witness 24 = .ok (.if_icmp .eq 13, 3) := dk_159 0 13 (dk_at dksX2_witness_1 0 rfl rfl)
theorem dX2_witness_27 : decode cX2_witness 27 = .ok (.aload_n 0, 1) := dk_42 (dk_at dksX2_witness_1 3 rfl rfl)
theorem dX2_witness_28 : decode cX2_witness 28 = .ok (.iload_n 3, 1) := dk_29 (dk_at dksX2_witness_1 4 rfl rfl)
theorem dX2_witness_29 : decode cX2_witness 29 = .ok (.iconst 1, 1) := dk_4 (dk_at dksX2_witness_1 5 rfl rfl)
theorem dX2_witness_30 : decode cX2_witness 30 = .ok (.invokevirtual 50, 3) := dk_182 0 50 (dk_at dksX2_witness_1 6 rfl rfl)
theorem dX2_witness_33 : decode cX2_witness 33 = .ok (.iload_n 1, 1) := dk_27 (dk_at dksX2_witness_1 9 rfl rfl)
theorem dX2_witness_34 : decode cX2_witness 34 = .ok (.if_icmp .ne 7, 3) := dk_160 0 7 (dk_at dksX2_witness_1 10 rfl rfl)
theorem dX2_witness_37 : decode cX2_witness 37 = .ok (.iconst 1, 1) := dk_4 (dk_at dksX2_witness_1 13 rfl rfl)
theorem dX2_witness_38 : decode cX2_witness 38 = .ok (.goto 4, 3) := dk_167 0 4 (dk_at dksX2_witness_1 14 rfl rfl)
theorem dX2_witness_41 : decode cX2_witness 41 = .ok (.iconst 0, 1) := dk_3 (dk_at dksX2_witness_1 17 rfl rfl)
theorem dX2_witness_42 : decode cX2_witness 42 = .ok (.istore 4, 2) := dk_54 4 (dk_at dksX2_witness_1 18 rfl rfl)
theorem dX2_witness_44 : decode cX2_witness 44 = .ok (.iload 4, 2) := dk_21 4 (dk_at dksX2_witness_1 20 rfl rfl)
theorem dX2_witness_46 : decode cX2_witness 46 = .ok (.ifCond .eq 20, 3) := dk_153 0 20 (dk_at dksX2_witness_2 0 rfl rfl)
theorem dX2_witness_49 : decode cX2_witness 49 = .ok (.aload_n 0, 1) := dk_42 (dk_at dksX2_witness_2 3 rfl rfl)
theorem dX2_witness_50 : decode cX2_witness 50 = .ok (.iload_n 3, 1) := dk_29 (dk_at dksX2_witness_2 4 rfl rfl)
theorem dX2_witness_51 : decode cX2_witness 51 = .ok (.invokevirtual 184, 3) := dk_182 0 184 (dk_at dksX2_witness_2 5 rfl rfl)
theorem dX2_witness_54 : decode cX2_witness 54 = .ok (.iload_n 2, 1) := dk_28 (dk_at dksX2_witness_2 8 rfl rfl)
theorem dX2_witness_55 : decode cX2_witness 55 = .ok (.if_icmp .le 11, 3) := dk_164 0 11 (dk_at dksX2_witness_2 9 rfl rfl)
theorem dX2_witness_58 : decode cX2_witness 58 = .ok (.aload_n 0, 1) := dk_42 (dk_at dksX2_witness_2 12 rfl rfl)
theorem dX2_witness_59 : decode cX2_witness 59 = .ok (.iload_n 3, 1) := dk_29 (dk_at dksX2_witness_2 13 rfl rfl)
theorem dX2_witness_60 : decode cX2_witness 60 = .ok (.invokevirtual 184, 3) := dk_182 0 184 (dk_at dksX2_witness_2 14 rfl rfl)
theorem dX2_witness_63 : decode cX2_witness 63 = .ok (.goto 4, 3) := dk_167 0 4 (dk_at dksX2_witness_2 17 rfl rfl)
theorem dX2_witness_66 : decode cX2_witness 66 = .ok (.iload_n 2, 1) := dk_28 (dk_at dksX2_witness_2 20 rfl rfl)
theorem dX2_witness_67 : decode cX2_witness 67 = .ok (.istore_n 2, 1) := dk_61 (dk_at dksX2_witness_2 21 rfl rfl)
theorem dX2_witness_68 : decode cX2_witness 68 = .ok (.iinc 3 1, 3) := dk_132 3 1 (dk_at dksX2_witness_3 0 rfl rfl)
theorem dX2_witness_71 : decode cX2_witness 71 = .ok (.goto (-65), 3) := dk_167 255 191 (dk_at dksX2_witness_3 3 rfl rfl)
theorem dX2_witness_74 : decode cX2_witness 74 = .ok (.iload_n 2, 1) := dk_28 (dk_at dksX2_witness_3 6 rfl rfl)
theorem dX2_witness_75 : decode cX2_witness 75 = .ok (.ireturn, 1) := dk_172 (dk_at dksX2_witness_3 7 rfl rfl)
abbrev cX2_laneOf : ByteArray := prog_12_method_57_code
def yX2_laneOf : MethodName := ⟨RX2, "laneOf", "(I)I"⟩
def dkwX2_laneOf_0 : List UInt8 := [42, 180, 0, 28, 42, 180, 0, 16, 27, 46, 46, 172]
abbrev dktX2_laneOf_0 : List UInt8 := dkwX2_laneOf_0 ++ []
theorem dksX2_laneOf_0 : cX2_laneOf.data.toList.drop 0 = dktX2_laneOf_0 := by decide +kernel
theorem dX2_laneOf_0 : decode cX2_laneOf 0 = .ok (.aload_n 0, 1) := dk_42 (dk_at dksX2_laneOf_0 0 rfl rfl)
theorem dX2_laneOf_1 : decode cX2_laneOf 1 = .ok (.getfield 28, 3) := dk_180 0 28 (dk_at dksX2_laneOf_0 1 rfl rfl)
theorem dX2_laneOf_4 : decode cX2_laneOf 4 = .ok (.aload_n 0, 1) := dk_42 (dk_at dksX2_laneOf_0 4 rfl rfl)
theorem dX2_laneOf_5 : decode cX2_laneOf 5 = .ok (.getfield 16, 3) := dk_180 0 16 (dk_at dksX2_laneOf_0 5 rfl rfl)
theorem dX2_laneOf_8 : decode cX2_laneOf 8 = .ok (.iload_n 1, 1) := dk_27 (dk_at dksX2_laneOf_0 8 rfl rfl)
theorem dX2_laneOf_9 : decode cX2_laneOf 9 = .ok (.iaload, 1) := dk_46 (dk_at dksX2_laneOf_0 9 rfl rfl)
theorem dX2_laneOf_10 : decode cX2_laneOf 10 = .ok (.iaload, 1) := dk_46 (dk_at dksX2_laneOf_0 10 rfl rfl)
theorem dX2_laneOf_11 : decode cX2_laneOf 11 = .ok (.ireturn, 1) := dk_172 (dk_at dksX2_laneOf_0 11 rfl rfl)
abbrev cX2_crossings : ByteArray := prog_12_method_61_code
def yX2_crossings : MethodName := ⟨RX2, "crossings", "(II)I"⟩
def dkwX2_crossings_4 : List UInt8 := [167, 255, 184, 132, 4, 1, 167, 255, 164, 29, 172]
abbrev dktX2_crossings_4 : List UInt8 := dkwX2_crossings_4 ++ []
def dkwX2_crossings_3 : List UInt8 := [153, 0, 18, 42, 21, 4, 21, 5, 182, 0, 190, 153, 0, 7, 4, 167, 0, 4, 3, 96, 62, 132, 5, 1]
abbrev dktX2_crossings_3 : List UInt8 := dkwX2_crossings_3 ++ dktX2_crossings_4
def dkwX2_crossings_2 : List UInt8 := [17, 252, 25, 159, 0, 9, 28, 21, 5, 160, 0, 7, 4, 167, 0, 4, 3, 54, 6, 29, 21, 6]
abbrev dktX2_crossings_2 : List UInt8 := dkwX2_crossings_2 ++ dktX2_crossings_3
def dkwX2_crossings_1 : List UInt8 := [180, 0, 7, 16, 13, 46, 162, 0, 66, 27, 17, 252, 25, 159, 0, 9, 27, 21, 4, 160, 0, 20, 28]
abbrev dktX2_crossings_1 : List UInt8 := dkwX2_crossings_1 ++ dktX2_crossings_2
def dkwX2_crossings_0 : List UInt8 := [3, 62, 3, 54, 4, 21, 4, 42, 180, 0, 7, 3, 46, 162, 0, 87, 3, 54, 5, 21, 5, 42]
abbrev dktX2_crossings_0 : List UInt8 := dkwX2_crossings_0 ++ dktX2_crossings_1
theorem dksX2_crossings_0 : cX2_crossings.data.toList.drop 0 = dktX2_crossings_0 := by decide +kernel
theorem dksX2_crossings_1 : cX2_crossings.data.toList.drop 22 = dktX2_crossings_1 := dk_seg dksX2_crossings_0 22 rfl rfl
theorem dksX2_crossings_2 : cX2_crossings.data.toList.drop 45 = dktX2_crossings_2 := dk_seg dksX2_crossings_1 23 rfl rfl
theorem dksX2_crossings_3 : cX2_crossings.data.toList.drop 67 = dktX2_crossings_3 := dk_seg dksX2_crossings_2 22 rfl rfl
theorem dksX2_crossings_4 : cX2_crossings.data.toList.drop 91 = dktX2_crossings_4 := dk_seg dksX2_crossings_3 24 rfl rfl
theorem dX2_crossings_0 : decode cX2_crossings 0 = .ok (.iconst 0, 1) := dk_3 (dk_at dksX2_crossings_0 0 rfl rfl)
theorem dX2_crossings_1 : decode cX2_crossings 1 = .ok (.istore_n 3, 1) := dk_62 (dk_at dksX2_crossings_0 1 rfl rfl)
theorem dX2_crossings_2 : decode cX2_crossings 2 = .ok (.iconst 0, 1) := dk_3 (dk_at dksX2_crossings_0 2 rfl rfl)
theorem dX2_crossings_3 : decode cX2_crossings 3 = .ok (.istore 4, 2) := dk_54 4 (dk_at dksX2_crossings_0 3 rfl rfl)
theorem dX2_crossings_5 : decode cX2_crossings 5 = .ok (.iload 4, 2) := dk_21 4 (dk_at dksX2_crossings_0 5 rfl rfl)
theorem dX2_crossings_7 : decode cX2_crossings 7 = .ok (.aload_n 0, 1) := dk_42 (dk_at dksX2_crossings_0 7 rfl rfl)
theorem dX2_crossings_8 : decode cX2_crossings 8 = .ok (.getfield 7, 3) := dk_180 0 7 (dk_at dksX2_crossings_0 8 rfl rfl)
theorem dX2_crossings_11 : decode cX2_crossings 11 = .ok (.iconst 0, 1) := dk_3 (dk_at dksX2_crossings_0 11 rfl rfl)
theorem dX2_crossings_12 : decode cX2_crossings 12 = .ok (.iaload, 1) := dk_46 (dk_at dksX2_crossings_0 12 rfl rfl)
theorem dX2_crossings_13 : decode cX2_crossings 13 = .ok (.if_icmp .ge 87, 3) := dk_162 0 87 (dk_at dksX2_crossings_0 13 rfl rfl)
theorem dX2_crossings_16 : decode cX2_crossings 16 = .ok (.iconst 0, 1) := dk_3 (dk_at dksX2_crossings_0 16 rfl rfl)
theorem dX2_crossings_17 : decode cX2_crossings 17 = .ok (.istore 5, 2) := dk_54 5 (dk_at dksX2_crossings_0 17 rfl rfl)
theorem dX2_crossings_19 : decode cX2_crossings 19 = .ok (.iload 5, 2) := dk_21 5 (dk_at dksX2_crossings_0 19 rfl rfl)
theorem dX2_crossings_21 : decode cX2_crossings 21 = .ok (.aload_n 0, 1) := dk_42 (dk_at dksX2_crossings_0 21 rfl rfl)
theorem dX2_crossings_22 : decode cX2_crossings 22 = .ok (.getfield 7, 3) := dk_180 0 7 (dk_at dksX2_crossings_1 0 rfl rfl)
theorem dX2_crossings_25 : decode cX2_crossings 25 = .ok (.bipush 13, 2) := dk_16 13 (dk_at dksX2_crossings_1 3 rfl rfl)
theorem dX2_crossings_27 : decode cX2_crossings 27 = .ok (.iaload, 1) := dk_46 (dk_at dksX2_crossings_1 5 rfl rfl)
theorem dX2_crossings_28 : decode cX2_crossings 28 = .ok (.if_icmp .ge 66, 3) := dk_162 0 66 (dk_at dksX2_crossings_1 6 rfl rfl)
theorem dX2_crossings_31 : decode cX2_crossings 31 = .ok (.iload_n 1, 1) := dk_27 (dk_at dksX2_crossings_1 9 rfl rfl)
theorem dX2_crossings_32 : decode cX2_crossings 32 = .ok (.sipush (-999), 3) := dk_17 252 25 (dk_at dksX2_crossings_1 10 rfl rfl)
theorem dX2_crossings_35 : decode cX2_crossings 35 = .ok (.if_icmp .eq 9, 3) := dk_159 0 9 (dk_at dksX2_crossings_1 13 rfl rfl)
theorem dX2_crossings_38 : decode cX2_crossings 38 = .ok (.iload_n 1, 1) := dk_27 (dk_at dksX2_crossings_1 16 rfl rfl)
theorem dX2_crossings_39 : decode cX2_crossings 39 = .ok (.iload 4, 2) := dk_21 4 (dk_at dksX2_crossings_1 17 rfl rfl)
theorem dX2_crossings_41 : decode cX2_crossings 41 = .ok (.if_icmp .ne 20, 3) := dk_160 0 20 (dk_at dksX2_crossings_1 19 rfl rfl)
theorem dX2_crossings_44 : decode cX2_crossings 44 = .ok (.iload_n 2, 1) := dk_28 (dk_at dksX2_crossings_1 22 rfl rfl)
theorem dX2_crossings_45 : decode cX2_crossings 45 = .ok (.sipush (-999), 3) := dk_17 252 25 (dk_at dksX2_crossings_2 0 rfl rfl)
theorem dX2_crossings_48 : decode cX2_crossings 48 = .ok (.if_icmp .eq 9, 3) := dk_159 0 9 (dk_at dksX2_crossings_2 3 rfl rfl)
theorem dX2_crossings_51 : decode cX2_crossings 51 = .ok (.iload_n 2, 1) := dk_28 (dk_at dksX2_crossings_2 6 rfl rfl)
theorem dX2_crossings_52 : decode cX2_crossings 52 = .ok (.iload 5, 2) := dk_21 5 (dk_at dksX2_crossings_2 7 rfl rfl)
theorem dX2_crossings_54 : decode cX2_crossings 54 = .ok (.if_icmp .ne 7, 3) := dk_160 0 7 (dk_at dksX2_crossings_2 9 rfl rfl)
theorem dX2_crossings_57 : decode cX2_crossings 57 = .ok (.iconst 1, 1) := dk_4 (dk_at dksX2_crossings_2 12 rfl rfl)
theorem dX2_crossings_58 : decode cX2_crossings 58 = .ok (.goto 4, 3) := dk_167 0 4 (dk_at dksX2_crossings_2 13 rfl rfl)
theorem dX2_crossings_61 : decode cX2_crossings 61 = .ok (.iconst 0, 1) := dk_3 (dk_at dksX2_crossings_2 16 rfl rfl)
theorem dX2_crossings_62 : decode cX2_crossings 62 = .ok (.istore 6, 2) := dk_54 6 (dk_at dksX2_crossings_2 17 rfl rfl)
theorem dX2_crossings_64 : decode cX2_crossings 64 = .ok (.iload_n 3, 1) := dk_29 (dk_at dksX2_crossings_2 19 rfl rfl)
theorem dX2_crossings_65 : decode cX2_crossings 65 = .ok (.iload 6, 2) := dk_21 6 (dk_at dksX2_crossings_2 20 rfl rfl)
theorem dX2_crossings_67 : decode cX2_crossings 67 = .ok (.ifCond .eq 18, 3) := dk_153 0 18 (dk_at dksX2_crossings_3 0 rfl rfl)
theorem dX2_crossings_70 : decode cX2_crossings 70 = .ok (.aload_n 0, 1) := dk_42 (dk_at dksX2_crossings_3 3 rfl rfl)
theorem dX2_crossings_71 : decode cX2_crossings 71 = .ok (.iload 4, 2) := dk_21 4 (dk_at dksX2_crossings_3 4 rfl rfl)
theorem dX2_crossings_73 : decode cX2_crossings 73 = .ok (.iload 5, 2) := dk_21 5 (dk_at dksX2_crossings_3 6 rfl rfl)
theorem dX2_crossings_75 : decode cX2_crossings 75 = .ok (.invokevirtual 190, 3) := dk_182 0 190 (dk_at dksX2_crossings_3 8 rfl rfl)
theorem dX2_crossings_78 : decode cX2_crossings 78 = .ok (.ifCond .eq 7, 3) := dk_153 0 7 (dk_at dksX2_crossings_3 11 rfl rfl)
theorem dX2_crossings_81 : decode cX2_crossings 81 = .ok (.iconst 1, 1) := dk_4 (dk_at dksX2_crossings_3 14 rfl rfl)
theorem dX2_crossings_82 : decode cX2_crossings 82 = .ok (.goto 4, 3) := dk_167 0 4 (dk_at dksX2_crossings_3 15 rfl rfl)
theorem dX2_crossings_85 : decode cX2_crossings 85 = .ok (.iconst 0, 1) := dk_3 (dk_at dksX2_crossings_3 18 rfl rfl)
theorem dX2_crossings_86 : decode cX2_crossings 86 = .ok (.iadd, 1) := dk_96 (dk_at dksX2_crossings_3 19 rfl rfl)
theorem dX2_crossings_87 : decode cX2_crossings 87 = .ok (.istore_n 3, 1) := dk_62 (dk_at dksX2_crossings_3 20 rfl rfl)
theorem dX2_crossings_88 : decode cX2_crossings 88 = .ok (.iinc 5 1, 3) := dk_132 5 1 (dk_at dksX2_crossings_3 21 rfl rfl)
theorem dX2_crossings_91 : decode cX2_crossings 91 = .ok (.goto (-72), 3) := dk_167 255 184 (dk_at dksX2_crossings_4 0 rfl rfl)
theorem dX2_crossings_94 : decode cX2_crossings 94 = .ok (.iinc 4 1, 3) := dk_132 4 1 (dk_at dksX2_crossings_4 3 rfl rfl)
theorem dX2_crossings_97 : decode cX2_crossings 97 = .ok (.goto (-92), 3) := dk_167 255 164 (dk_at dksX2_crossings_4 6 rfl rfl)
theorem dX2_crossings_100 : decode cX2_crossings 100 = .ok (.iload_n 3, 1) := dk_29 (dk_at dksX2_crossings_4 9 rfl rfl)
theorem dX2_crossings_101 : decode cX2_crossings 101 = .ok (.ireturn, 1) := dk_172 (dk_at dksX2_crossings_4 10 rfl rfl)
abbrev cX2_crosses : ByteArray := prog_12_method_60_code
def yX2_crosses : MethodName := ⟨RX2, "crosses", "(II)Z"⟩
def dkwX2_crosses_1 : List UInt8 := [164, 0, 20, 42, 27, 182, 0, 54, 42, 28, 182, 0, 58, 162, 0, 7, 4, 167, 0, 4, 3, 172]
abbrev dktX2_crosses_1 : List UInt8 := dkwX2_crosses_1 ++ []
def dkwX2_crosses_0 : List UInt8 := [42, 28, 182, 0, 184, 42, 27, 182, 0, 187, 162, 0, 33, 42, 27, 182, 0, 54, 42, 28, 182, 0, 61]
abbrev dktX2_crosses_0 : List UInt8 := dkwX2_crosses_0 ++ dktX2_crosses_1
theorem dksX2_crosses_0 : cX2_crosses.data.toList.drop 0 = dktX2_crosses_0 := by decide +kernel
theorem dksX2_crosses_1 : cX2_crosses.data.toList.drop 23 = dktX2_crosses_1 := dk_seg dksX2_crosses_0 23 rfl rfl
theorem dX2_crosses_0 : decode cX2_crosses 0 = .ok (.aload_n 0, 1) := dk_42 (dk_at dksX2_crosses_0 0 rfl rfl)
theorem dX2_crosses_1 : decode cX2_crosses 1 = .ok (.iload_n 2, 1) := dk_28 (dk_at dksX2_crosses_0 1 rfl rfl)
theorem dX2_crosses_2 : decode cX2_crosses 2 = .ok (.invokevirtual 184, 3) := dk_182 0 184 (dk_at dksX2_crosses_0 2 rfl rfl)
theorem dX2_crosses_5 : decode cX2_crosses 5 = .ok (.aload_n 0, 1) := dk_42 (dk_at dksX2_crosses_0 5 rfl rfl)
theorem dX2_crosses_6 : decode cX2_crosses 6 = .ok (.iload_n 1, 1) := dk_27 (dk_at dksX2_crosses_0 6 rfl rfl)
theorem dX2_crosses_7 : decode cX2_crosses 7 = .ok (.invokevirtual 187, 3) := dk_182 0 187 (dk_at dksX2_crosses_0 7 rfl rfl)
theorem dX2_crosses_10 : decode cX2_crosses 10 = .ok (.if_icmp .ge 33, 3) := dk_162 0 33 (dk_at dksX2_crosses_0 10 rfl rfl)
theorem dX2_crosses_13 : decode cX2_crosses 13 = .ok (.aload_n 0, 1) := dk_42 (dk_at dksX2_crosses_0 13 rfl rfl)
theorem dX2_crosses_14 : decode cX2_crosses 14 = .ok (.iload_n 1, 1) := dk_27 (dk_at dksX2_crosses_0 14 rfl rfl)
theorem dX2_crosses_15 : decode cX2_crosses 15 = .ok (.invokevirtual 54, 3) := dk_182 0 54 (dk_at dksX2_crosses_0 15 rfl rfl)
theorem dX2_crosses_18 : decode cX2_crosses 18 = .ok (.aload_n 0, 1) := dk_42 (dk_at dksX2_crosses_0 18 rfl rfl)
theorem dX2_crosses_19 : decode cX2_crosses 19 = .ok (.iload_n 2, 1) := dk_28 (dk_at dksX2_crosses_0 19 rfl rfl)
theorem dX2_crosses_20 : decode cX2_crosses 20 = .ok (.invokevirtual 61, 3) := dk_182 0 61 (dk_at dksX2_crosses_0 20 rfl rfl)
theorem dX2_crosses_23 : decode cX2_crosses 23 = .ok (.if_icmp .le 20, 3) := dk_164 0 20 (dk_at dksX2_crosses_1 0 rfl rfl)
theorem dX2_crosses_26 : decode cX2_crosses 26 = .ok (.aload_n 0, 1) := dk_42 (dk_at dksX2_crosses_1 3 rfl rfl)
theorem dX2_crosses_27 : decode cX2_crosses 27 = .ok (.iload_n 1, 1) := dk_27 (dk_at dksX2_crosses_1 4 rfl rfl)
theorem dX2_crosses_28 : decode cX2_crosses 28 = .ok (.invokevirtual 54, 3) := dk_182 0 54 (dk_at dksX2_crosses_1 5 rfl rfl)
theorem dX2_crosses_31 : decode cX2_crosses 31 = .ok (.aload_n 0, 1) := dk_42 (dk_at dksX2_crosses_1 8 rfl rfl)
theorem dX2_crosses_32 : decode cX2_crosses 32 = .ok (.iload_n 2, 1) := dk_28 (dk_at dksX2_crosses_1 9 rfl rfl)
theorem dX2_crosses_33 : decode cX2_crosses 33 = .ok (.invokevirtual 58, 3) := dk_182 0 58 (dk_at dksX2_crosses_1 10 rfl rfl)
theorem dX2_crosses_36 : decode cX2_crosses 36 = .ok (.if_icmp .ge 7, 3) := dk_162 0 7 (dk_at dksX2_crosses_1 13 rfl rfl)
theorem dX2_crosses_39 : decode cX2_crosses 39 = .ok (.iconst 1, 1) := dk_4 (dk_at dksX2_crosses_1 16 rfl rfl)
theorem dX2_crosses_40 : decode cX2_crosses 40 = .ok (.goto 4, 3) := dk_167 0 4 (dk_at dksX2_crosses_1 17 rfl rfl)
theorem dX2_crosses_43 : decode cX2_crosses 43 = .ok (.iconst 0, 1) := dk_3 (dk_at dksX2_crosses_1 20 rfl rfl)
theorem dX2_crosses_44 : decode cX2_crosses 44 = .ok (.ireturn, 1) := dk_172 (dk_at dksX2_crosses_1 21 rfl rfl)
abbrev cX2_dimension : ByteArray := prog_12_method_72_code
def yX2_dimension : MethodName := ⟨RX2, "dimension", "(II)I"⟩
def dkwX2_dimension_5 : List UInt8 := [167, 0, 4, 3, 172, 42, 17, 252, 25, 27, 182, 0, 215, 172, 42, 27, 28, 184, 0, 221, 182, 0, 50, 172]
abbrev dktX2_dimension_5 : List UInt8 := dkwX2_dimension_5 ++ []
def dkwX2_dimension_4 : List UInt8 := [172, 42, 27, 182, 0, 169, 172, 42, 27, 182, 0, 184, 172, 42, 27, 3, 182, 0, 218, 153, 0, 7, 4]
abbrev dktX2_dimension_4 : List UInt8 := dkwX2_dimension_4 ++ dktX2_dimension_5
def dkwX2_dimension_3 : List UInt8 := [42, 27, 28, 182, 0, 50, 172, 42, 27, 182, 0, 148, 172, 42, 27, 182, 0, 154, 172, 42, 27, 182, 0, 166]
abbrev dktX2_dimension_3 : List UInt8 := dkwX2_dimension_3 ++ dktX2_dimension_4
def dkwX2_dimension_2 : List UInt8 := [170, 0, 0, 0, 0, 0, 128, 0, 0, 0, 0, 0, 0, 0, 12, 0, 0, 0, 67, 0, 0, 0, 67, 0, 0, 0, 74, 0, 0, 0, 128, 0, 0, 0, 128, 0, 0, 0, 128, 0, 0, 0, 128, 0, 0, 0, 80, 0, 0, 0, 86, 0, 0, 0, 92, 0, 0, 0, 98, 0, 0, 0, 104, 0, 0, 0, 119]
abbrev dktX2_dimension_2 : List UInt8 := dkwX2_dimension_2 ++ dktX2_dimension_3
def dkwX2_dimension_1 : List UInt8 := [28]
abbrev dktX2_dimension_1 : List UInt8 := dkwX2_dimension_1 ++ dktX2_dimension_2
def dkwX2_dimension_0 : List UInt8 := [42, 27, 182, 0, 92, 153, 0, 13, 28, 3, 16, 12, 184, 0, 46, 154, 0, 5, 2, 172, 42, 182, 0, 212]
abbrev dktX2_dimension_0 : List UInt8 := dkwX2_dimension_0 ++ dktX2_dimension_1
theorem dksX2_dimension_0 : cX2_dimension.data.toList.drop 0 = dktX2_dimension_0 := by decide +kernel
theorem dksX2_dimension_1 : cX2_dimension.data.toList.drop 24 = dktX2_dimension_1 := dk_seg dksX2_dimension_0 24 rfl rfl
theorem dksX2_dimension_2 : cX2_dimension.data.toList.drop 25 = dktX2_dimension_2 := dk_seg dksX2_dimension_1 1 rfl rfl
theorem dksX2_dimension_3 : cX2_dimension.data.toList.drop 92 = dktX2_dimension_3 := dk_seg dksX2_dimension_2 67 rfl rfl
theorem dksX2_dimension_4 : cX2_dimension.data.toList.drop 116 = dktX2_dimension_4 := dk_seg dksX2_dimension_3 24 rfl rfl
theorem dksX2_dimension_5 : cX2_dimension.data.toList.drop 139 = dktX2_dimension_5 := dk_seg dksX2_dimension_4 23 rfl rfl
theorem dX2_dimension_0 : decode cX2_dimension 0 = .ok (.aload_n 0, 1) := dk_42 (dk_at dksX2_dimension_0 0 rfl rfl)
theorem dX2_dimension_1 : decode cX2_dimension 1 = .ok (.iload_n 1, 1) := dk_27 (dk_at dksX2_dimension_0 1 rfl rfl)
theorem dX2_dimension_2 : decode cX2_dimension 2 = .ok (.invokevirtual 92, 3) := dk_182 0 92 (dk_at dksX2_dimension_0 2 rfl rfl)
theorem dX2_dimension_5 : decode cX2_dimension 5 = .ok (.ifCond .eq 13, 3) := dk_153 0 13 (dk_at dksX2_dimension_0 5 rfl rfl)
theorem dX2_dimension_8 : decode cX2_dimension 8 = .ok (.iload_n 2, 1) := dk_28 (dk_at dksX2_dimension_0 8 rfl rfl)
theorem dX2_dimension_9 : decode cX2_dimension 9 = .ok (.iconst 0, 1) := dk_3 (dk_at dksX2_dimension_0 9 rfl rfl)
theorem dX2_dimension_10 : decode cX2_dimension 10 = .ok (.bipush 12, 2) := dk_16 12 (dk_at dksX2_dimension_0 10 rfl rfl)
theorem dX2_dimension_12 : decode cX2_dimension 12 = .ok (.invokestatic 46, 3) := dk_184 0 46 (dk_at dksX2_dimension_0 12 rfl rfl)
theorem dX2_dimension_15 : decode cX2_dimension 15 = .ok (.ifCond .ne 5, 3) := dk_154 0 5 (dk_at dksX2_dimension_0 15 rfl rfl)
theorem dX2_dimension_18 : decode cX2_dimension 18 = .ok (.iconst (-1), 1) := dk_2 (dk_at dksX2_dimension_0 18 rfl rfl)
theorem dX2_dimension_19 : decode cX2_dimension 19 = .ok (.ireturn, 1) := dk_172 (dk_at dksX2_dimension_0 19 rfl rfl)
theorem dX2_dimension_20 : decode cX2_dimension 20 = .ok (.aload_n 0, 1) := dk_42 (dk_at dksX2_dimension_0 20 rfl rfl)
theorem dX2_dimension_21 : decode cX2_dimension 21 = .ok (.invokevirtual 212, 3) := dk_182 0 212 (dk_at dksX2_dimension_0 21 rfl rfl)
theorem dX2_dimension_24 : decode cX2_dimension 24 = .ok (.iload_n 2, 1) := dk_28 (dk_at dksX2_dimension_1 0 rfl rfl)
theorem dX2_dimension_25 : decode cX2_dimension 25 = .ok (.tableswitch 128 0 12 #[67, 67, 74, 128, 128, 128, 128, 80, 86, 92, 98, 104, 119], 67) := by decide +kernel
theorem dX2_dimension_92 : decode cX2_dimension 92 = .ok (.aload_n 0, 1) := dk_42 (dk_at dksX2_dimension_3 0 rfl rfl)
theorem dX2_dimension_93 : decode cX2_dimension 93 = .ok (.iload_n 1, 1) := dk_27 (dk_at dksX2_dimension_3 1 rfl rfl)
theorem dX2_dimension_94 : decode cX2_dimension 94 = .ok (.iload_n 2, 1) := dk_28 (dk_at dksX2_dimension_3 2 rfl rfl)
theorem dX2_dimension_95 : decode cX2_dimension 95 = .ok (.invokevirtual 50, 3) := dk_182 0 50 (dk_at dksX2_dimension_3 3 rfl rfl)
theorem dX2_dimension_98 : decode cX2_dimension 98 = .ok (.ireturn, 1) := dk_172 (dk_at dksX2_dimension_3 6 rfl rfl)
theorem dX2_dimension_99 : decode cX2_dimension 99 = .ok (.aload_n 0, 1) := dk_42 (dk_at dksX2_dimension_3 7 rfl rfl)
theorem dX2_dimension_100 : decode cX2_dimension 100 = .ok (.iload_n 1, 1) := dk_27 (dk_at dksX2_dimension_3 8 rfl rfl)
theorem dX2_dimension_101 : decode cX2_dimension 101 = .ok (.invokevirtual 148, 3) := dk_182 0 148 (dk_at dksX2_dimension_3 9 rfl rfl)
theorem dX2_dimension_104 : decode cX2_dimension 104 = .ok (.ireturn, 1) := dk_172 (dk_at dksX2_dimension_3 12 rfl rfl)
theorem dX2_dimension_105 : decode cX2_dimension 105 = .ok (.aload_n 0, 1) := dk_42 (dk_at dksX2_dimension_3 13 rfl rfl)
theorem dX2_dimension_106 : decode cX2_dimension 106 = .ok (.iload_n 1, 1) := dk_27 (dk_at dksX2_dimension_3 14 rfl rfl)
theorem dX2_dimension_107 : decode cX2_dimension 107 = .ok (.invokevirtual 154, 3) := dk_182 0 154 (dk_at dksX2_dimension_3 15 rfl rfl)
theorem dX2_dimension_110 : decode cX2_dimension 110 = .ok (.ireturn, 1) := dk_172 (dk_at dksX2_dimension_3 18 rfl rfl)
theorem dX2_dimension_111 : decode cX2_dimension 111 = .ok (.aload_n 0, 1) := dk_42 (dk_at dksX2_dimension_3 19 rfl rfl)
theorem dX2_dimension_112 : decode cX2_dimension 112 = .ok (.iload_n 1, 1) := dk_27 (dk_at dksX2_dimension_3 20 rfl rfl)
theorem dX2_dimension_113 : decode cX2_dimension 113 = .ok (.invokevirtual 166, 3) := dk_182 0 166 (dk_at dksX2_dimension_3 21 rfl rfl)
theorem dX2_dimension_116 : decode cX2_dimension 116 = .ok (.ireturn, 1) := dk_172 (dk_at dksX2_dimension_4 0 rfl rfl)
theorem dX2_dimension_117 : decode cX2_dimension 117 = .ok (.aload_n 0, 1) := dk_42 (dk_at dksX2_dimension_4 1 rfl rfl)
theorem dX2_dimension_118 : decode cX2_dimension 118 = .ok (.iload_n 1, 1) := dk_27 (dk_at dksX2_dimension_4 2 rfl rfl)
theorem dX2_dimension_119 : decode cX2_dimension 119 = .ok (.invokevirtual 169, 3) := dk_182 0 169 (dk_at dksX2_dimension_4 3 rfl rfl)
theorem dX2_dimension_122 : decode cX2_dimension 122 = .ok (.ireturn, 1) := dk_172 (dk_at dksX2_dimension_4 6 rfl rfl)
theorem dX2_dimension_123 : decode cX2_dimension 123 = .ok (.aload_n 0, 1) := dk_42 (dk_at dksX2_dimension_4 7 rfl rfl)
theorem dX2_dimension_124 : decode cX2_dimension 124 = .ok (.iload_n 1, 1) := dk_27 (dk_at dksX2_dimension_4 8 rfl rfl)
theorem dX2_dimension_125 : decode cX2_dimension 125 = .ok (.invokevirtual 184, 3) := dk_182 0 184 (dk_at dksX2_dimension_4 9 rfl rfl)
theorem dX2_dimension_128 : decode cX2_dimension 128 = .ok (.ireturn, 1) := dk_172 (dk_at dksX2_dimension_4 12 rfl rfl)
theorem dX2_dimension_129 : decode cX2_dimension 129 = .ok (.aload_n 0, 1) := dk_42 (dk_at dksX2_dimension_4 13 rfl rfl)
theorem dX2_dimension_130 : decode cX2_dimension 130 = .ok (.iload_n 1, 1) := dk_27 (dk_at dksX2_dimension_4 14 rfl rfl)
theorem dX2_dimension_131 : decode cX2_dimension 131 = .ok (.iconst 0, 1) := dk_3 (dk_at dksX2_dimension_4 15 rfl rfl)
theorem dX2_dimension_132 : decode cX2_dimension 132 = .ok (.invokevirtual 218, 3) := dk_182 0 218 (dk_at dksX2_dimension_4 16 rfl rfl)
theorem dX2_dimension_135 : decode cX2_dimension 135 = .ok (.ifCond .eq 7, 3) := dk_153 0 7 (dk_at dksX2_dimension_4 19 rfl rfl)
theorem dX2_dimension_138 : decode cX2_dimension 138 = .ok (.iconst 1, 1) := dk_4 (dk_at dksX2_dimension_4 22 rfl rfl)
theorem dX2_dimension_139 : decode cX2_dimension 139 = .ok (.goto 4, 3) := dk_167 0 4 (dk_at dksX2_dimension_5 0 rfl rfl)
theorem dX2_dimension_142 : decode cX2_dimension 142 = .ok (.iconst 0, 1) := dk_3 (dk_at dksX2_dimension_5 3 rfl rfl)
theorem dX2_dimension_143 : decode cX2_dimension 143 = .ok (.ireturn, 1) := dk_172 (dk_at dksX2_dimension_5 4 rfl rfl)
theorem dX2_dimension_144 : decode cX2_dimension 144 = .ok (.aload_n 0, 1) := dk_42 (dk_at dksX2_dimension_5 5 rfl rfl)
theorem dX2_dimension_145 : decode cX2_dimension 145 = .ok (.sipush (-999), 3) := dk_17 252 25 (dk_at dksX2_dimension_5 6 rfl rfl)
theorem dX2_dimension_148 : decode cX2_dimension 148 = .ok (.iload_n 1, 1) := dk_27 (dk_at dksX2_dimension_5 9 rfl rfl)
theorem dX2_dimension_149 : decode cX2_dimension 149 = .ok (.invokevirtual 215, 3) := dk_182 0 215 (dk_at dksX2_dimension_5 10 rfl rfl)
theorem dX2_dimension_152 : decode cX2_dimension 152 = .ok (.ireturn, 1) := dk_172 (dk_at dksX2_dimension_5 13 rfl rfl)
theorem dX2_dimension_153 : decode cX2_dimension 153 = .ok (.aload_n 0, 1) := dk_42 (dk_at dksX2_dimension_5 14 rfl rfl)
theorem dX2_dimension_154 : decode cX2_dimension 154 = .ok (.iload_n 1, 1) := dk_27 (dk_at dksX2_dimension_5 15 rfl rfl)
theorem dX2_dimension_155 : decode cX2_dimension 155 = .ok (.iload_n 2, 1) := dk_28 (dk_at dksX2_dimension_5 16 rfl rfl)
theorem dX2_dimension_156 : decode cX2_dimension 156 = .ok (.invokestatic 221, 3) := dk_184 0 221 (dk_at dksX2_dimension_5 17 rfl rfl)
theorem dX2_dimension_159 : decode cX2_dimension 159 = .ok (.invokevirtual 50, 3) := dk_182 0 50 (dk_at dksX2_dimension_5 20 rfl rfl)
theorem dX2_dimension_162 : decode cX2_dimension 162 = .ok (.ireturn, 1) := dk_172 (dk_at dksX2_dimension_5 23 rfl rfl)
abbrev cX2_isSuperfluous : ByteArray := prog_12_method_66_code
def yX2_isSuperfluous : MethodName := ⟨RX2, "isSuperfluous", "(II)Z"⟩
def dkwX2_isSuperfluous_4 : List UInt8 := [4, 167, 0, 4, 3, 172]
abbrev dktX2_isSuperfluous_4 : List UInt8 := dkwX2_isSuperfluous_4 ++ []
def dkwX2_isSuperfluous_3 : List UInt8 := [16, 12, 21, 4, 104, 29, 96, 46, 116, 42, 27, 182, 0, 148, 42, 27, 5, 182, 0, 50, 100, 161, 0, 7]
abbrev dktX2_isSuperfluous_3 : List UInt8 := dkwX2_isSuperfluous_3 ++ dktX2_isSuperfluous_4
def dkwX2_isSuperfluous_2 : List UInt8 := [21, 4, 96, 46, 42, 27, 182, 0, 148, 42, 27, 6, 182, 0, 50, 96, 163, 0, 35, 42, 180, 0, 35]
abbrev dktX2_isSuperfluous_2 : List UInt8 := dkwX2_isSuperfluous_2 ++ dktX2_isSuperfluous_3
def dkwX2_isSuperfluous_1 : List UInt8 := [182, 0, 50, 54, 4, 42, 29, 21, 4, 182, 0, 200, 153, 0, 62, 42, 180, 0, 35, 16, 12, 29, 104]
abbrev dktX2_isSuperfluous_1 : List UInt8 := dkwX2_isSuperfluous_1 ++ dktX2_isSuperfluous_2
def dkwX2_isSuperfluous_0 : List UInt8 := [42, 28, 4, 27, 120, 128, 17, 252, 25, 182, 0, 197, 42, 27, 3, 182, 0, 50, 62, 42, 27, 4]
abbrev dktX2_isSuperfluous_0 : List UInt8 := dkwX2_isSuperfluous_0 ++ dktX2_isSuperfluous_1
theorem dksX2_isSuperfluous_0 : cX2_isSuperfluous.data.toList.drop 0 = dktX2_isSuperfluous_0 := by decide +kernel
theorem dksX2_isSuperfluous_1 : cX2_isSuperfluous.data.toList.drop 22 = dktX2_isSuperfluous_1 := dk_seg dksX2_isSuperfluous_0 22 rfl rfl
theorem dksX2_isSuperfluous_2 : cX2_isSuperfluous.data.toList.drop 45 = dktX2_isSuperfluous_2 := dk_seg dksX2_isSuperfluous_1 23 rfl rfl
theorem dksX2_isSuperfluous_3 : cX2_isSuperfluous.data.toList.drop 68 = dktX2_isSuperfluous_3 := dk_seg dksX2_isSuperfluous_2 23 rfl rfl
theorem dksX2_isSuperfluous_4 : cX2_isSuperfluous.data.toList.drop 92 = dktX2_isSuperfluous_4 := dk_seg dksX2_isSuperfluous_3 24 rfl rfl
theorem dX2_isSuperfluous_0 : decode cX2_isSuperfluous 0 = .ok (.aload_n 0, 1) := dk_42 (dk_at dksX2_isSuperfluous_0 0 rfl rfl)
theorem dX2_isSuperfluous_1 : decode cX2_isSuperfluous 1 = .ok (.iload_n 2, 1) := dk_28 (dk_at dksX2_isSuperfluous_0 1 rfl rfl)
theorem dX2_isSuperfluous_2 : decode cX2_isSuperfluous 2 = .ok (.iconst 1, 1) := dk_4 (dk_at dksX2_isSuperfluous_0 2 rfl rfl)
theorem dX2_isSuperfluous_3 : decode cX2_isSuperfluous 3 = .ok (.iload_n 1, 1) := dk_27 (dk_at dksX2_isSuperfluous_0 3 rfl rfl)
theorem dX2_isSuperfluous_4 : decode cX2_isSuperfluous 4 = .ok (.ishl, 1) := dk_120 (dk_at dksX2_isSuperfluous_0 4 rfl rfl)
theorem dX2_isSuperfluous_5 : decode cX2_isSuperfluous 5 = .ok (.ior, 1) := dk_128 (dk_at dksX2_isSuperfluous_0 5 rfl rfl)
theorem dX2_isSuperfluous_6 : decode cX2_isSuperfluous 6 = .ok (.sipush (-999), 3) := dk_17 252 25 (dk_at dksX2_isSuperfluous_0 6 rfl rfl)
theorem dX2_isSuperfluous_9 : decode cX2_isSuperfluous 9 = .ok (.invokevirtual 197, 3) := dk_182 0 197 (dk_at dksX2_isSuperfluous_0 9 rfl rfl)
theorem dX2_isSuperfluous_12 : decode cX2_isSuperfluous 12 = .ok (.aload_n 0, 1) := dk_42 (dk_at dksX2_isSuperfluous_0 12 rfl rfl)
theorem dX2_isSuperfluous_13 : decode cX2_isSuperfluous 13 = .ok (.iload_n 1, 1) := dk_27 (dk_at dksX2_isSuperfluous_0 13 rfl rfl)
theorem dX2_isSuperfluous_14 : decode cX2_isSuperfluous 14 = .ok (.iconst 0, 1) := dk_3 (dk_at dksX2_isSuperfluous_0 14 rfl rfl)
theorem dX2_isSuperfluous_15 : decode cX2_isSuperfluous 15 = .ok (.invokevirtual 50, 3) := dk_182 0 50 (dk_at dksX2_isSuperfluous_0 15 rfl rfl)
theorem dX2_isSuperfluous_18 : decode cX2_isSuperfluous 18 = .ok (.istore_n 3, 1) := dk_62 (dk_at dksX2_isSuperfluous_0 18 rfl rfl)
theorem dX2_isSuperfluous_19 : decode cX2_isSuperfluous 19 = .ok (.aload_n 0, 1) := dk_42 (dk_at dksX2_isSuperfluous_0 19 rfl rfl)
theorem dX2_isSuperfluous_20 : decode cX2_isSuperfluous 20 = .ok (.iload_n 1, 1) := dk_27 (dk_at dksX2_isSuperfluous_0 20 rfl rfl)
theorem dX2_isSuperfluous_21 : decode cX2_isSuperfluous 21 = .ok (.iconst 1, 1) := dk_4 (dk_at dksX2_isSuperfluous_0 21 rfl rfl)
theorem dX2_isSuperfluous_22 : decode cX2_isSuperfluous 22 = .ok (.invokevirtual 50, 3) := dk_182 0 50 (dk_at dksX2_isSuperfluous_1 0 rfl rfl)
theorem dX2_isSuperfluous_25 : decode cX2_isSuperfluous 25 = .ok (.istore 4, 2) := dk_54 4 (dk_at dksX2_isSuperfluous_1 3 rfl rfl)
theorem dX2_isSuperfluous_27 : decode cX2_isSuperfluous 27 = .ok (.aload_n 0, 1) := dk_42 (dk_at dksX2_isSuperfluous_1 5 rfl rfl)
theorem dX2_isSuperfluous_28 : decode cX2_isSuperfluous 28 = .ok (.iload_n 3, 1) := dk_29 (dk_at dksX2_isSuperfluous_1 6 rfl rfl)
theorem dX2_isSuperfluous_29 : decode cX2_isSuperfluous 29 = .ok (.iload 4, 2) := dk_21 4 (dk_at dksX2_isSuperfluous_1 7 rfl rfl)
theorem dX2_isSuperfluous_31 : decode cX2_isSuperfluous 31 = .ok (.invokevirtual 200, 3) := dk_182 0 200 (dk_at dksX2_isSuperfluous_1 9 rfl rfl)
theorem dX2_isSuperfluous_34 : decode cX2_isSuperfluous 34 = .ok (.ifCond .eq 62, 3) := dk_153 0 62 (dk_at dksX2_isSuperfluous_1 12 rfl rfl)
theorem dX2_isSuperfluous_37 : decode cX2_isSuperfluous 37 = .ok (.aload_n 0, 1) := dk_42 (dk_at dksX2_isSuperfluous_1 15 rfl rfl)
theorem dX2_isSuperfluous_38 : decode cX2_isSuperfluous 38 = .ok (.getfield 35, 3) := dk_180 0 35 (dk_at dksX2_isSuperfluous_1 16 rfl rfl)
theorem dX2_isSuperfluous_41 : decode cX2_isSuperfluous 41 = .ok (.bipush 12, 2) := dk_16 12 (dk_at dksX2_isSuperfluous_1 19 rfl rfl)
theorem dX2_isSuperfluous_43 : decode cX2_isSuperfluous 43 = .ok (.iload_n 3, 1) := dk_29 (dk_at dksX2_isSuperfluous_1 21 rfl rfl)
theorem dX2_isSuperfluous_44 : decode cX2_isSuperfluous 44 = .ok (.imul, 1) := dk_104 (dk_at dksX2_isSuperfluous_1 22 rfl rfl)
theorem dX2_isSuperfluous_45 : decode cX2_isSuperfluous 45 = .ok (.iload 4, 2) := dk_21 4 (dk_at dksX2_isSuperfluous_2 0 rfl rfl)
theorem dX2_isSuperfluous_47 : decode cX2_isSuperfluous 47 = .ok (.iadd, 1) := dk_96 (dk_at dksX2_isSuperfluous_2 2 rfl rfl)
theorem dX2_isSuperfluous_48 : decode cX2_isSuperfluous 48 = .ok (.iaload, 1) := dk_46 (dk_at dksX2_isSuperfluous_2 3 rfl rfl)
theorem dX2_isSuperfluous_49 : decode cX2_isSuperfluous 49 = .ok (.aload_n 0, 1) := dk_42 (dk_at dksX2_isSuperfluous_2 4 rfl rfl)
theorem dX2_isSuperfluous_50 : decode cX2_isSuperfluous 50 = .ok (.iload_n 1, 1) := dk_27 (dk_at dksX2_isSuperfluous_2 5 rfl rfl)
theorem dX2_isSuperfluous_51 : decode cX2_isSuperfluous 51 = .ok (.invokevirtual 148, 3) := dk_182 0 148 (dk_at dksX2_isSuperfluous_2 6 rfl rfl)
theorem dX2_isSuperfluous_54 : decode cX2_isSuperfluous 54 = .ok (.aload_n 0, 1) := dk_42 (dk_at dksX2_isSuperfluous_2 9 rfl rfl)
theorem dX2_isSuperfluous_55 : decode cX2_isSuperfluous 55 = .ok (.iload_n 1, 1) := dk_27 (dk_at dksX2_isSuperfluous_2 10 rfl rfl)
theorem dX2_isSuperfluous_56 : decode cX2_isSuperfluous 56 = .ok (.iconst 3, 1) := dk_6 (dk_at dksX2_isSuperfluous_2 11 rfl rfl)
theorem dX2_isSuperfluous_57 : decode cX2_isSuperfluous 57 = .ok (.invokevirtual 50, 3) := dk_182 0 50 (dk_at dksX2_isSuperfluous_2 12 rfl rfl)
theorem dX2_isSuperfluous_60 : decode cX2_isSuperfluous 60 = .ok (.iadd, 1) := dk_96 (dk_at dksX2_isSuperfluous_2 15 rfl rfl)
theorem dX2_isSuperfluous_61 : decode cX2_isSuperfluous 61 = .ok (.if_icmp .gt 35, 3) := dk_163 0 35 (dk_at dksX2_isSuperfluous_2 16 rfl rfl)
theorem dX2_isSuperfluous_64 : decode cX2_isSuperfluous 64 = .ok (.aload_n 0, 1) := dk_42 (dk_at dksX2_isSuperfluous_2 19 rfl rfl)
theorem dX2_isSuperfluous_65 : decode cX2_isSuperfluous 65 = .ok (.getfield 35, 3) := dk_180 0 35 (dk_at dksX2_isSuperfluous_2 20 rfl rfl)
theorem dX2_isSuperfluous_68 : decode cX2_isSuperfluous 68 = .ok (.bipush 12, 2) := dk_16 12 (dk_at dksX2_isSuperfluous_3 0 rfl rfl)
theorem dX2_isSuperfluous_70 : decode cX2_isSuperfluous 70 = .ok (.iload 4, 2) := dk_21 4 (dk_at dksX2_isSuperfluous_3 2 rfl rfl)
theorem dX2_isSuperfluous_72 : decode cX2_isSuperfluous 72 = .ok (.imul, 1) := dk_104 (dk_at dksX2_isSuperfluous_3 4 rfl rfl)
theorem dX2_isSuperfluous_73 : decode cX2_isSuperfluous 73 = .ok (.iload_n 3, 1) := dk_29 (dk_at dksX2_isSuperfluous_3 5 rfl rfl)
theorem dX2_isSuperfluous_74 : decode cX2_isSuperfluous 74 = .ok (.iadd, 1) := dk_96 (dk_at dksX2_isSuperfluous_3 6 rfl rfl)
theorem dX2_isSuperfluous_75 : decode cX2_isSuperfluous 75 = .ok (.iaload, 1) := dk_46 (dk_at dksX2_isSuperfluous_3 7 rfl rfl)
theorem dX2_isSuperfluous_76 : decode cX2_isSuperfluous 76 = .ok (.ineg, 1) := dk_116 (dk_at dksX2_isSuperfluous_3 8 rfl rfl)
theorem dX2_isSuperfluous_77 : decode cX2_isSuperfluous 77 = .ok (.aload_n 0, 1) := dk_42 (dk_at dksX2_isSuperfluous_3 9 rfl rfl)
theorem dX2_isSuperfluous_78 : decode cX2_isSuperfluous 78 = .ok (.iload_n 1, 1) := dk_27 (dk_at dksX2_isSuperfluous_3 10 rfl rfl)
theorem dX2_isSuperfluous_79 : decode cX2_isSuperfluous 79 = .ok (.invokevirtual 148, 3) := dk_182 0 148 (dk_at dksX2_isSuperfluous_3 11 rfl rfl)
theorem dX2_isSuperfluous_82 : decode cX2_isSuperfluous 82 = .ok (.aload_n 0, 1) := dk_42 (dk_at dksX2_isSuperfluous_3 14 rfl rfl)
theorem dX2_isSuperfluous_83 : decode cX2_isSuperfluous 83 = .ok (.iload_n 1, 1) := dk_27 (dk_at dksX2_isSuperfluous_3 15 rfl rfl)
theorem dX2_isSuperfluous_84 : decode cX2_isSuperfluous 84 = .ok (.iconst 2, 1) := dk_5 (dk_at dksX2_isSuperfluous_3 16 rfl rfl)
theorem dX2_isSuperfluous_85 : decode cX2_isSuperfluous 85 = .ok (.invokevirtual 50, 3) := dk_182 0 50 (dk_at dksX2_isSuperfluous_3 17 rfl rfl)
theorem dX2_isSuperfluous_88 : decode cX2_isSuperfluous 88 = .ok (.isub, 1) := dk_100 (dk_at dksX2_isSuperfluous_3 20 rfl rfl)
theorem dX2_isSuperfluous_89 : decode cX2_isSuperfluous 89 = .ok (.if_icmp .lt 7, 3) := dk_161 0 7 (dk_at dksX2_isSuperfluous_3 21 rfl rfl)
theorem dX2_isSuperfluous_92 : decode cX2_isSuperfluous 92 = .ok (.iconst 1, 1) := dk_4 (dk_at dksX2_isSuperfluous_4 0 rfl rfl)
theorem dX2_isSuperfluous_93 : decode cX2_isSuperfluous 93 = .ok (.goto 4, 3) := dk_167 0 4 (dk_at dksX2_isSuperfluous_4 1 rfl rfl)
theorem dX2_isSuperfluous_96 : decode cX2_isSuperfluous 96 = .ok (.iconst 0, 1) := dk_3 (dk_at dksX2_isSuperfluous_4 4 rfl rfl)
theorem dX2_isSuperfluous_97 : decode cX2_isSuperfluous 97 = .ok (.ireturn, 1) := dk_172 (dk_at dksX2_isSuperfluous_4 5 rfl rfl)
abbrev cX2_placeOf : ByteArray := prog_12_method_71_code
def yX2_placeOf : MethodName := ⟨RX2, "placeOf", "(I)I"⟩
def dkwX2_placeOf_2 : List UInt8 := [5, 172, 6, 172, 7, 172, 8, 172]
abbrev dktX2_placeOf_2 : List UInt8 := dkwX2_placeOf_2 ++ []
def dkwX2_placeOf_1 : List UInt8 := [170, 0, 0, 0, 0, 0, 33, 0, 0, 0, 3, 0, 0, 0, 5, 0, 0, 0, 27, 0, 0, 0, 29, 0, 0, 0, 31]
abbrev dktX2_placeOf_1 : List UInt8 := dkwX2_placeOf_1 ++ dktX2_placeOf_2
def dkwX2_placeOf_0 : List UInt8 := [26]
abbrev dktX2_placeOf_0 : List UInt8 := dkwX2_placeOf_0 ++ dktX2_placeOf_1
theorem dksX2_placeOf_0 : cX2_placeOf.data.toList.drop 0 = dktX2_placeOf_0 := by decide +kernel
theorem dksX2_placeOf_1 : cX2_placeOf.data.toList.drop 1 = dktX2_placeOf_1 := dk_seg dksX2_placeOf_0 1 rfl rfl
theorem dksX2_placeOf_2 : cX2_placeOf.data.toList.drop 28 = dktX2_placeOf_2 := dk_seg dksX2_placeOf_1 27 rfl rfl
theorem dX2_placeOf_0 : decode cX2_placeOf 0 = .ok (.iload_n 0, 1) := dk_26 (dk_at dksX2_placeOf_0 0 rfl rfl)
theorem dX2_placeOf_1 : decode cX2_placeOf 1 = .ok (.tableswitch 33 3 5 #[27, 29, 31], 27) := by decide +kernel
theorem dX2_placeOf_28 : decode cX2_placeOf 28 = .ok (.iconst 2, 1) := dk_5 (dk_at dksX2_placeOf_2 0 rfl rfl)
theorem dX2_placeOf_29 : decode cX2_placeOf 29 = .ok (.ireturn, 1) := dk_172 (dk_at dksX2_placeOf_2 1 rfl rfl)
theorem dX2_placeOf_30 : decode cX2_placeOf 30 = .ok (.iconst 3, 1) := dk_6 (dk_at dksX2_placeOf_2 2 rfl rfl)
theorem dX2_placeOf_31 : decode cX2_placeOf 31 = .ok (.ireturn, 1) := dk_172 (dk_at dksX2_placeOf_2 3 rfl rfl)
theorem dX2_placeOf_32 : decode cX2_placeOf 32 = .ok (.iconst 4, 1) := dk_7 (dk_at dksX2_placeOf_2 4 rfl rfl)
theorem dX2_placeOf_33 : decode cX2_placeOf 33 = .ok (.ireturn, 1) := dk_172 (dk_at dksX2_placeOf_2 5 rfl rfl)
theorem dX2_placeOf_34 : decode cX2_placeOf 34 = .ok (.iconst 5, 1) := dk_8 (dk_at dksX2_placeOf_2 6 rfl rfl)
theorem dX2_placeOf_35 : decode cX2_placeOf 35 = .ok (.ireturn, 1) := dk_172 (dk_at dksX2_placeOf_2 7 rfl rfl)
abbrev cX2_at : ByteArray := prog_12_method_73_code
def yX2_at : MethodName := ⟨RX2, "at", "(II)I"⟩
def dkwX2_at_3 : List UInt8 := [17, 252, 25, 172]
abbrev dktX2_at_3 : List UInt8 := dkwX2_at_3 ++ []
def dkwX2_at_2 : List UInt8 := [182, 0, 166, 42, 29, 182, 0, 169, 184, 0, 46, 153, 0, 5, 29, 172, 132, 3, 1, 167, 255, 214]
abbrev dktX2_at_2 : List UInt8 := dkwX2_at_2 ++ dktX2_at_3
def dkwX2_at_1 : List UInt8 := [29, 42, 180, 0, 7, 16, 13, 46, 162, 0, 37, 42, 29, 182, 0, 184, 27, 160, 0, 22, 28, 42, 29]
abbrev dktX2_at_1 : List UInt8 := dkwX2_at_1 ++ dktX2_at_2
def dkwX2_at_0 : List UInt8 := [27, 155, 0, 15, 28, 16, 247, 17, 1, 144, 184, 0, 46, 154, 0, 5, 2, 172, 42, 182, 0, 212, 3, 62]
abbrev dktX2_at_0 : List UInt8 := dkwX2_at_0 ++ dktX2_at_1
theorem dksX2_at_0 : cX2_at.data.toList.drop 0 = dktX2_at_0 := by decide +kernel
theorem dksX2_at_1 : cX2_at.data.toList.drop 24 = dktX2_at_1 := dk_seg dksX2_at_0 24 rfl rfl
theorem dksX2_at_2 : cX2_at.data.toList.drop 47 = dktX2_at_2 := dk_seg dksX2_at_1 23 rfl rfl
theorem dksX2_at_3 : cX2_at.data.toList.drop 69 = dktX2_at_3 := dk_seg dksX2_at_2 22 rfl rfl
theorem dX2_at_0 : decode cX2_at 0 = .ok (.iload_n 1, 1) := dk_27 (dk_at dksX2_at_0 0 rfl rfl)
theorem dX2_at_1 : decode cX2_at 1 = .ok (.ifCond .lt 15, 3) := dk_155 0 15 (dk_at dksX2_at_0 1 rfl rfl)
theorem dX2_at_4 : decode cX2_at 4 = .ok (.iload_n 2, 1) := dk_28 (dk_at dksX2_at_0 4 rfl rfl)
theorem dX2_at_5 : decode cX2_at 5 = .ok (.bipush (-9), 2) := dk_16 247 (dk_at dksX2_at_0 5 rfl rfl)
theorem dX2_at_7 : decode cX2_at 7 = .ok (.sipush 400, 3) := dk_17 1 144 (dk_at dksX2_at_0 7 rfl rfl)
theorem dX2_at_10 : decode cX2_at 10 = .ok (.invokestatic 46, 3) := dk_184 0 46 (dk_at dksX2_at_0 10 rfl rfl)
theorem dX2_at_13 : decode cX2_at 13 = .ok (.ifCond .ne 5, 3) := dk_154 0 5 (dk_at dksX2_at_0 13 rfl rfl)
theorem dX2_at_16 : decode cX2_at 16 = .ok (.iconst (-1), 1) := dk_2 (dk_at dksX2_at_0 16 rfl rfl)
theorem dX2_at_17 : decode cX2_at 17 = .ok (.ireturn, 1) := dk_172 (dk_at dksX2_at_0 17 rfl rfl)
theorem dX2_at_18 : decode cX2_at 18 = .ok (.aload_n 0, 1) := dk_42 (dk_at dksX2_at_0 18 rfl rfl)
theorem dX2_at_19 : decode cX2_at 19 = .ok (.invokevirtual 212, 3) := dk_182 0 212 (dk_at dksX2_at_0 19 rfl rfl)
theorem dX2_at_22 : decode cX2_at 22 = .ok (.iconst 0, 1) := dk_3 (dk_at dksX2_at_0 22 rfl rfl)
theorem dX2_at_23 : decode cX2_at 23 = .ok (.istore_n 3, 1) := dk_62 (dk_at dksX2_at_0 23 rfl rfl)
theorem dX2_at_24 : decode cX2_at 24 = .ok (.iload_n 3, 1) := dk_29 (dk_at dksX2_at_1 0 rfl rfl)
theorem dX2_at_25 : decode cX2_at 25 = .ok (.aload_n 0, 1) := dk_42 (dk_at dksX2_at_1 1 rfl rfl)
theorem dX2_at_26 : decode cX2_at 26 = .ok (.getfield 7, 3) := dk_180 0 7 (dk_at dksX2_at_1 2 rfl rfl)
theorem dX2_at_29 : decode cX2_at 29 = .ok (.bipush 13, 2) := dk_16 13 (dk_at dksX2_at_1 5 rfl rfl)
theorem dX2_at_31 : decode cX2_at 31 = .ok (.iaload, 1) := dk_46 (dk_at dksX2_at_1 7 rfl rfl)
theorem dX2_at_32 : decode cX2_at 32 = .ok (.if_icmp .ge 37, 3) := dk_162 0 37 (dk_at dksX2_at_1 8 rfl rfl)
theorem dX2_at_35 : decode cX2_at 35 = .ok (.aload_n 0, 1) := dk_42 (dk_at dksX2_at_1 11 rfl rfl)
theorem dX2_at_36 : decode cX2_at 36 = .ok (.iload_n 3, 1) := dk_29 (dk_at dksX2_at_1 12 rfl rfl)
theorem dX2_at_37 : decode cX2_at 37 = .ok (.invokevirtual 184, 3) := dk_182 0 184 (dk_at dksX2_at_1 13 rfl rfl)
theorem dX2_at_40 : decode cX2_at 40 = .ok (.iload_n 1, 1) := dk_27 (dk_at dksX2_at_1 16 rfl rfl)
theorem dX2_at_41 : decode cX2_at 41 = .ok (.if_icmp .ne 22, 3) := dk_160 0 22 (dk_at dksX2_at_1 17 rfl rfl)
theorem dX2_at_44 : decode cX2_at 44 = .ok (.iload_n 2, 1) := dk_28 (dk_at dksX2_at_1 20 rfl rfl)
theorem dX2_at_45 : decode cX2_at 45 = .ok (.aload_n 0, 1) := dk_42 (dk_at dksX2_at_1 21 rfl rfl)
theorem dX2_at_46 : decode cX2_at 46 = .ok (.iload_n 3, 1) := dk_29 (dk_at dksX2_at_1 22 rfl rfl)
theorem dX2_at_47 : decode cX2_at 47 = .ok (.invokevirtual 166, 3) := dk_182 0 166 (dk_at dksX2_at_2 0 rfl rfl)
theorem dX2_at_50 : decode cX2_at 50 = .ok (.aload_n 0, 1) := dk_42 (dk_at dksX2_at_2 3 rfl rfl)
theorem dX2_at_51 : decode cX2_at 51 = .ok (.iload_n 3, 1) := dk_29 (dk_at dksX2_at_2 4 rfl rfl)
theorem dX2_at_52 : decode cX2_at 52 = .ok (.invokevirtual 169, 3) := dk_182 0 169 (dk_at dksX2_at_2 5 rfl rfl)
theorem dX2_at_55 : decode cX2_at 55 = .ok (.invokestatic 46, 3) := dk_184 0 46 (dk_at dksX2_at_2 8 rfl rfl)
theorem dX2_at_58 : decode cX2_at 58 = .ok (.ifCond .eq 5, 3) := dk_153 0 5 (dk_at dksX2_at_2 11 rfl rfl)
theorem dX2_at_61 : decode cX2_at 61 = .ok (.iload_n 3, 1) := dk_29 (dk_at dksX2_at_2 14 rfl rfl)
theorem dX2_at_62 : decode cX2_at 62 = .ok (.ireturn, 1) := dk_172 (dk_at dksX2_at_2 15 rfl rfl)
theorem dX2_at_63 : decode cX2_at 63 = .ok (.iinc 3 1, 3) := dk_132 3 1 (dk_at dksX2_at_2 16 rfl rfl)
theorem dX2_at_66 : decode cX2_at 66 = .ok (.goto (-42), 3) := dk_167 255 214 (dk_at dksX2_at_2 19 rfl rfl)
theorem dX2_at_69 : decode cX2_at 69 = .ok (.sipush (-999), 3) := dk_17 252 25 (dk_at dksX2_at_3 0 rfl rfl)
theorem dX2_at_72 : decode cX2_at 72 = .ok (.ireturn, 1) := dk_172 (dk_at dksX2_at_3 3 rfl rfl)
abbrev cX2_distance : ByteArray := prog_12_method_75_code
def yX2_distance : MethodName := ⟨RX2, "distance", "(IIZ)I"⟩
def dkwX2_distance_2 : List UInt8 := [46, 167, 0, 15, 42, 180, 0, 35, 16, 12, 28, 104, 27, 96, 46, 116, 172]
abbrev dktX2_distance_2 : List UInt8 := dkwX2_distance_2 ++ []
def dkwX2_distance_1 : List UInt8 := [182, 0, 200, 154, 0, 7, 17, 252, 25, 172, 29, 153, 0, 17, 42, 180, 0, 35, 16, 12, 27, 104, 28, 96]
abbrev dktX2_distance_1 : List UInt8 := dkwX2_distance_1 ++ dktX2_distance_2
def dkwX2_distance_0 : List UInt8 := [42, 27, 28, 182, 0, 224, 154, 0, 5, 2, 172, 42, 3, 17, 252, 25, 182, 0, 197, 42, 27, 28]
abbrev dktX2_distance_0 : List UInt8 := dkwX2_distance_0 ++ dktX2_distance_1
theorem dksX2_distance_0 : cX2_distance.data.toList.drop 0 = dktX2_distance_0 := by decide +kernel
theorem dksX2_distance_1 : cX2_distance.data.toList.drop 22 = dktX2_distance_1 := dk_seg dksX2_distance_0 22 rfl rfl
theorem dksX2_distance_2 : cX2_distance.data.toList.drop 46 = dktX2_distance_2 := dk_seg dksX2_distance_1 24 rfl rfl
theorem dX2_distance_0 : decode cX2_distance 0 = .ok (.aload_n 0, 1) := dk_42 (dk_at dksX2_distance_0 0 rfl rfl)
theorem dX2_distance_1 : decode cX2_distance 1 = .ok (.iload_n 1, 1) := dk_27 (dk_at dksX2_distance_0 1 rfl rfl)
theorem dX2_distance_2 : decode cX2_distance 2 = .ok (.iload_n 2, 1) := dk_28 (dk_at dksX2_distance_0 2 rfl rfl)
theorem dX2_distance_3 : decode cX2_distance 3 = .ok (.invokevirtual 224, 3) := dk_182 0 224 (dk_at dksX2_distance_0 3 rfl rfl)
theorem dX2_distance_6 : decode cX2_distance 6 = .ok (.ifCond .ne 5, 3) := dk_154 0 5 (dk_at dksX2_distance_0 6 rfl rfl)
theorem dX2_distance_9 : decode cX2_distance 9 = .ok (.iconst (-1), 1) := dk_2 (dk_at dksX2_distance_0 9 rfl rfl)
theorem dX2_distance_10 : decode cX2_distance 10 = .ok (.ireturn, 1) := dk_172 (dk_at dksX2_distance_0 10 rfl rfl)
theorem dX2_distance_11 : decode cX2_distance 11 = .ok (.aload_n 0, 1) := dk_42 (dk_at dksX2_distance_0 11 rfl rfl)
theorem dX2_distance_12 : decode cX2_distance 12 = .ok (.iconst 0, 1) := dk_3 (dk_at dksX2_distance_0 12 rfl rfl)
theorem dX2_distance_13 : decode cX2_distance 13 = .ok (.sipush (-999), 3) := dk_17 252 25 (dk_at dksX2_distance_0 13 rfl rfl)
theorem dX2_distance_16 : decode cX2_distance 16 = .ok (.invokevirtual 197, 3) := dk_182 0 197 (dk_at dksX2_distance_0 16 rfl rfl)
theorem dX2_distance_19 : decode cX2_distance 19 = .ok (.aload_n 0, 1) := dk_42 (dk_at dksX2_distance_0 19 rfl rfl)
theorem dX2_distance_20 : decode cX2_distance 20 = .ok (.iload_n 1, 1) := dk_27 (dk_at dksX2_distance_0 20 rfl rfl)
theorem dX2_distance_21 : decode cX2_distance 21 = .ok (.iload_n 2, 1) := dk_28 (dk_at dksX2_distance_0 21 rfl rfl)
theorem dX2_distance_22 : decode cX2_distance 22 = .ok (.invokevirtual 200, 3) := dk_182 0 200 (dk_at dksX2_distance_1 0 rfl rfl)
theorem dX2_distance_25 : decode cX2_distance 25 = .ok (.ifCond .ne 7, 3) := dk_154 0 7 (dk_at dksX2_distance_1 3 rfl rfl)
theorem dX2_distance_28 : decode cX2_distance 28 = .ok (.sipush (-999), 3) := dk_17 252 25 (dk_at dksX2_distance_1 6 rfl rfl)
theorem dX2_distance_31 : decode cX2_distance 31 = .ok (.ireturn, 1) := dk_172 (dk_at dksX2_distance_1 9 rfl rfl)
theorem dX2_distance_32 : decode cX2_distance 32 = .ok (.iload_n 3, 1) := dk_29 (dk_at dksX2_distance_1 10 rfl rfl)
theorem dX2_distance_33 : decode cX2_distance 33 = .ok (.ifCond .eq 17, 3) := dk_153 0 17 (dk_at dksX2_distance_1 11 rfl rfl)
theorem dX2_distance_36 : decode cX2_distance 36 = .ok (.aload_n 0, 1) := dk_42 (dk_at dksX2_distance_1 14 rfl rfl)
theorem dX2_distance_37 : decode cX2_distance 37 = .ok (.getfield 35, 3) := dk_180 0 35 (dk_at dksX2_distance_1 15 rfl rfl)
theorem dX2_distance_40 : decode cX2_distance 40 = .ok (.bipush 12, 2) := dk_16 12 (dk_at dksX2_distance_1 18 rfl rfl)
theorem dX2_distance_42 : decode cX2_distance 42 = .ok (.iload_n 1, 1) := dk_27 (dk_at dksX2_distance_1 20 rfl rfl)
theorem dX2_distance_43 : decode cX2_distance 43 = .ok (.imul, 1) := dk_104 (dk_at dksX2_distance_1 21 rfl rfl)
theorem dX2_distance_44 : decode cX2_distance 44 = .ok (.iload_n 2, 1) := dk_28 (dk_at dksX2_distance_1 22 rfl rfl)
theorem dX2_distance_45 : decode cX2_distance 45 = .ok (.iadd, 1) := dk_96 (dk_at dksX2_distance_1 23 rfl rfl)
theorem dX2_distance_46 : decode cX2_distance 46 = .ok (.iaload, 1) := dk_46 (dk_at dksX2_distance_2 0 rfl rfl)
theorem dX2_distance_47 : decode cX2_distance 47 = .ok (.goto 15, 3) := dk_167 0 15 (dk_at dksX2_distance_2 1 rfl rfl)
theorem dX2_distance_50 : decode cX2_distance 50 = .ok (.aload_n 0, 1) := dk_42 (dk_at dksX2_distance_2 4 rfl rfl)
theorem dX2_distance_51 : decode cX2_distance 51 = .ok (.getfield 35, 3) := dk_180 0 35 (dk_at dksX2_distance_2 5 rfl rfl)
theorem dX2_distance_54 : decode cX2_distance 54 = .ok (.bipush 12, 2) := dk_16 12 (dk_at dksX2_distance_2 8 rfl rfl)
theorem dX2_distance_56 : decode cX2_distance 56 = .ok (.iload_n 2, 1) := dk_28 (dk_at dksX2_distance_2 10 rfl rfl)
theorem dX2_distance_57 : decode cX2_distance 57 = .ok (.imul, 1) := dk_104 (dk_at dksX2_distance_2 11 rfl rfl)
theorem dX2_distance_58 : decode cX2_distance 58 = .ok (.iload_n 1, 1) := dk_27 (dk_at dksX2_distance_2 12 rfl rfl)
theorem dX2_distance_59 : decode cX2_distance 59 = .ok (.iadd, 1) := dk_96 (dk_at dksX2_distance_2 13 rfl rfl)
theorem dX2_distance_60 : decode cX2_distance 60 = .ok (.iaload, 1) := dk_46 (dk_at dksX2_distance_2 14 rfl rfl)
theorem dX2_distance_61 : decode cX2_distance 61 = .ok (.ineg, 1) := dk_116 (dk_at dksX2_distance_2 15 rfl rfl)
theorem dX2_distance_62 : decode cX2_distance 62 = .ok (.ireturn, 1) := dk_172 (dk_at dksX2_distance_2 16 rfl rfl)
abbrev cX2_arePoints : ByteArray := prog_12_method_74_code
def yX2_arePoints : MethodName := ⟨RX2, "arePoints", "(II)Z"⟩
def dkwX2_arePoints_1 : List UInt8 := [167, 0, 4, 3, 172]
abbrev dktX2_arePoints_1 : List UInt8 := dkwX2_arePoints_1 ++ []
def dkwX2_arePoints_0 : List UInt8 := [42, 27, 182, 0, 77, 153, 0, 20, 42, 28, 182, 0, 77, 153, 0, 12, 27, 28, 159, 0, 7, 4]
abbrev dktX2_arePoints_0 : List UInt8 := dkwX2_arePoints_0 ++ dktX2_arePoints_1
theorem dksX2_arePoints_0 : cX2_arePoints.data.toList.drop 0 = dktX2_arePoints_0 := by decide +kernel
theorem dksX2_arePoints_1 : cX2_arePoints.data.toList.drop 22 = dktX2_arePoints_1 := dk_seg dksX2_arePoints_0 22 rfl rfl
theorem dX2_arePoints_0 : decode cX2_arePoints 0 = .ok (.aload_n 0, 1) := dk_42 (dk_at dksX2_arePoints_0 0 rfl rfl)
theorem dX2_arePoints_1 : decode cX2_arePoints 1 = .ok (.iload_n 1, 1) := dk_27 (dk_at dksX2_arePoints_0 1 rfl rfl)
theorem dX2_arePoints_2 : decode cX2_arePoints 2 = .ok (.invokevirtual 77, 3) := dk_182 0 77 (dk_at dksX2_arePoints_0 2 rfl rfl)
theorem dX2_arePoints_5 : decode cX2_arePoints 5 = .ok (.ifCond .eq 20, 3) := dk_153 0 20 (dk_at dksX2_arePoints_0 5 rfl rfl)
theorem dX2_arePoints_8 : decode cX2_arePoints 8 = .ok (.aload_n 0, 1) := dk_42 (dk_at dksX2_arePoints_0 8 rfl rfl)
theorem dX2_arePoints_9 : decode cX2_arePoints 9 = .ok (.iload_n 2, 1) := dk_28 (dk_at dksX2_arePoints_0 9 rfl rfl)
theorem dX2_arePoints_10 : decode cX2_arePoints 10 = .ok (.invokevirtual 77, 3) := dk_182 0 77 (dk_at dksX2_arePoints_0 10 rfl rfl)
theorem dX2_arePoints_13 : decode cX2_arePoints 13 = .ok (.ifCond .eq 12, 3) := dk_153 0 12 (dk_at dksX2_arePoints_0 13 rfl rfl)
theorem dX2_arePoints_16 : decode cX2_arePoints 16 = .ok (.iload_n 1, 1) := dk_27 (dk_at dksX2_arePoints_0 16 rfl rfl)
theorem dX2_arePoints_17 : decode cX2_arePoints 17 = .ok (.iload_n 2, 1) := dk_28 (dk_at dksX2_arePoints_0 17 rfl rfl)
theorem dX2_arePoints_18 : decode cX2_arePoints 18 = .ok (.if_icmp .eq 7, 3) := dk_159 0 7 (dk_at dksX2_arePoints_0 18 rfl rfl)
theorem dX2_arePoints_21 : decode cX2_arePoints 21 = .ok (.iconst 1, 1) := dk_4 (dk_at dksX2_arePoints_0 21 rfl rfl)
theorem dX2_arePoints_22 : decode cX2_arePoints 22 = .ok (.goto 4, 3) := dk_167 0 4 (dk_at dksX2_arePoints_1 0 rfl rfl)
theorem dX2_arePoints_25 : decode cX2_arePoints 25 = .ok (.iconst 0, 1) := dk_3 (dk_at dksX2_arePoints_1 3 rfl rfl)
theorem dX2_arePoints_26 : decode cX2_arePoints 26 = .ok (.ireturn, 1) := dk_172 (dk_at dksX2_arePoints_1 4 rfl rfl)
abbrev cX2_ifExact : ByteArray := prog_12_method_77_code
def yX2_ifExact : MethodName := ⟨RX2, "ifExact", "(III)I"⟩
def dkwX2_ifExact_2 : List UInt8 := [17, 252, 25, 172]
abbrev dktX2_ifExact_2 : List UInt8 := dkwX2_ifExact_2 ++ []
def dkwX2_ifExact_1 : List UInt8 := [182, 0, 197, 42, 28, 29, 182, 0, 200, 153, 0, 13, 42, 27, 28, 29, 182, 0, 230, 167, 0, 6]
abbrev dktX2_ifExact_1 : List UInt8 := dkwX2_ifExact_1 ++ dktX2_ifExact_2
def dkwX2_ifExact_0 : List UInt8 := [42, 27, 182, 0, 92, 153, 0, 12, 42, 28, 29, 182, 0, 224, 154, 0, 5, 2, 172, 42, 3, 17, 252, 25]
abbrev dktX2_ifExact_0 : List UInt8 := dkwX2_ifExact_0 ++ dktX2_ifExact_1
theorem dksX2_ifExact_0 : cX2_ifExact.data.toList.drop 0 = dktX2_ifExact_0 := by decide +kernel
theorem dksX2_ifExact_1 : cX2_ifExact.data.toList.drop 24 = dktX2_ifExact_1 := dk_seg dksX2_ifExact_0 24 rfl rfl
theorem dksX2_ifExact_2 : cX2_ifExact.data.toList.drop 46 = dktX2_ifExact_2 := dk_seg dksX2_ifExact_1 22 rfl rfl
theorem dX2_ifExact_0 : decode cX2_ifExact 0 = .ok (.aload_n 0, 1) := dk_42 (dk_at dksX2_ifExact_0 0 rfl rfl)
theorem dX2_ifExact_1 : decode cX2_ifExact 1 = .ok (.iload_n 1, 1) := dk_27 (dk_at dksX2_ifExact_0 1 rfl rfl)
theorem dX2_ifExact_2 : decode cX2_ifExact 2 = .ok (.invokevirtual 92, 3) := dk_182 0 92 (dk_at dksX2_ifExact_0 2 rfl rfl)
theorem dX2_ifExact_5 : decode cX2_ifExact 5 = .ok (.ifCond .eq 12, 3) := dk_153 0 12 (dk_at dksX2_ifExact_0 5 rfl rfl)
theorem dX2_ifExact_8 : decode cX2_ifExact 8 = .ok (.aload_n 0, 1) := dk_42 (dk_at dksX2_ifExact_0 8 rfl rfl)
theorem dX2_ifExact_9 : decode cX2_ifExact 9 = .ok (.iload_n 2, 1) := dk_28 (dk_at dksX2_ifExact_0 9 rfl rfl)
theorem dX2_ifExact_10 : decode cX2_ifExact 10 = .ok (.iload_n 3, 1) := dk_29 (dk_at dksX2_ifExact_0 10 rfl rfl)
theorem dX2_ifExact_11 : decode cX2_ifExact 11 = .ok (.invokevirtual 224, 3) := dk_182 0 224 (dk_at dksX2_ifExact_0 11 rfl rfl)
theorem dX2_ifExact_14 : decode cX2_ifExact 14 = .ok (.ifCond .ne 5, 3) := dk_154 0 5 (dk_at dksX2_ifExact_0 14 rfl rfl)
theorem dX2_ifExact_17 : decode cX2_ifExact 17 = .ok (.iconst (-1), 1) := dk_2 (dk_at dksX2_ifExact_0 17 rfl rfl)
theorem dX2_ifExact_18 : decode cX2_ifExact 18 = .ok (.ireturn, 1) := dk_172 (dk_at dksX2_ifExact_0 18 rfl rfl)
theorem dX2_ifExact_19 : decode cX2_ifExact 19 = .ok (.aload_n 0, 1) := dk_42 (dk_at dksX2_ifExact_0 19 rfl rfl)
theorem dX2_ifExact_20 : decode cX2_ifExact 20 = .ok (.iconst 0, 1) := dk_3 (dk_at dksX2_ifExact_0 20 rfl rfl)
theorem dX2_ifExact_21 : decode cX2_ifExact 21 = .ok (.sipush (-999), 3) := dk_17 252 25 (dk_at dksX2_ifExact_0 21 rfl rfl)
theorem dX2_ifExact_24 : decode cX2_ifExact 24 = .ok (.invokevirtual 197, 3) := dk_182 0 197 (dk_at dksX2_ifExact_1 0 rfl rfl)
theorem dX2_ifExact_27 : decode cX2_ifExact 27 = .ok (.aload_n 0, 1) := dk_42 (dk_at dksX2_ifExact_1 3 rfl rfl)
theorem dX2_ifExact_28 : decode cX2_ifExact 28 = .ok (.iload_n 2, 1) := dk_28 (dk_at dksX2_ifExact_1 4 rfl rfl)
theorem dX2_ifExact_29 : decode cX2_ifExact 29 = .ok (.iload_n 3, 1) := dk_29 (dk_at dksX2_ifExact_1 5 rfl rfl)
theorem dX2_ifExact_30 : decode cX2_ifExact 30 = .ok (.invokevirtual 200, 3) := dk_182 0 200 (dk_at dksX2_ifExact_1 6 rfl rfl)
theorem dX2_ifExact_33 : decode cX2_ifExact 33 = .ok (.ifCond .eq 13, 3) := dk_153 0 13 (dk_at dksX2_ifExact_1 9 rfl rfl)
theorem dX2_ifExact_36 : decode cX2_ifExact 36 = .ok (.aload_n 0, 1) := dk_42 (dk_at dksX2_ifExact_1 12 rfl rfl)
theorem dX2_ifExact_37 : decode cX2_ifExact 37 = .ok (.iload_n 1, 1) := dk_27 (dk_at dksX2_ifExact_1 13 rfl rfl)
theorem dX2_ifExact_38 : decode cX2_ifExact 38 = .ok (.iload_n 2, 1) := dk_28 (dk_at dksX2_ifExact_1 14 rfl rfl)
theorem dX2_ifExact_39 : decode cX2_ifExact 39 = .ok (.iload_n 3, 1) := dk_29 (dk_at dksX2_ifExact_1 15 rfl rfl)
theorem dX2_ifExact_40 : decode cX2_ifExact 40 = .ok (.invokevirtual 230, 3) := dk_182 0 230 (dk_at dksX2_ifExact_1 16 rfl rfl)
theorem dX2_ifExact_43 : decode cX2_ifExact 43 = .ok (.goto 6, 3) := dk_167 0 6 (dk_at dksX2_ifExact_1 19 rfl rfl)
theorem dX2_ifExact_46 : decode cX2_ifExact 46 = .ok (.sipush (-999), 3) := dk_17 252 25 (dk_at dksX2_ifExact_2 0 rfl rfl)
theorem dX2_ifExact_49 : decode cX2_ifExact 49 = .ok (.ireturn, 1) := dk_172 (dk_at dksX2_ifExact_2 3 rfl rfl)
abbrev cX2_adds : ByteArray := prog_12_method_76_code
def yX2_adds : MethodName := ⟨RX2, "adds", "(III)I"⟩
def dkwX2_adds_1 : List UInt8 := [42, 28, 29, 182, 0, 227, 100, 172]
abbrev dktX2_adds_1 : List UInt8 := dkwX2_adds_1 ++ []
def dkwX2_adds_0 : List UInt8 := [42, 3, 17, 252, 25, 182, 0, 197, 42, 28, 29, 182, 0, 227, 54, 4, 42, 3, 27, 182, 0, 197, 21, 4]
abbrev dktX2_adds_0 : List UInt8 := dkwX2_adds_0 ++ dktX2_adds_1
theorem dksX2_adds_0 : cX2_adds.data.toList.drop 0 = dktX2_adds_0 := by decide +kernel
theorem dksX2_adds_1 : cX2_adds.data.toList.drop 24 = dktX2_adds_1 := dk_seg dksX2_adds_0 24 rfl rfl
theorem dX2_adds_0 : decode cX2_adds 0 = .ok (.aload_n 0, 1) := dk_42 (dk_at dksX2_adds_0 0 rfl rfl)
theorem dX2_adds_1 : decode cX2_adds 1 = .ok (.iconst 0, 1) := dk_3 (dk_at dksX2_adds_0 1 rfl rfl)
theorem dX2_adds_2 : decode cX2_adds 2 = .ok (.sipush (-999), 3) := dk_17 252 25 (dk_at dksX2_adds_0 2 rfl rfl)
theorem dX2_adds_5 : decode cX2_adds 5 = .ok (.invokevirtual 197, 3) := dk_182 0 197 (dk_at dksX2_adds_0 5 rfl rfl)
theorem dX2_adds_8 : decode cX2_adds 8 = .ok (.aload_n 0, 1) := dk_42 (dk_at dksX2_adds_0 8 rfl rfl)
theorem dX2_adds_9 : decode cX2_adds 9 = .ok (.iload_n 2, 1) := dk_28 (dk_at dksX2_adds_0 9 rfl rfl)
theorem dX2_adds_10 : decode cX2_adds 10 = .ok (.iload_n 3, 1) := dk_29 (dk_at dksX2_adds_0 10 rfl rfl)
theorem dX2_adds_11 : decode cX2_adds 11 = .ok (.invokevirtual 227, 3) := dk_182 0 227 (dk_at dksX2_adds_0 11 rfl rfl)
theorem dX2_adds_14 : decode cX2_adds 14 = .ok (.istore 4, 2) := dk_54 4 (dk_at dksX2_adds_0 14 rfl rfl)
theorem dX2_adds_16 : decode cX2_adds 16 = .ok (.aload_n 0, 1) := dk_42 (dk_at dksX2_adds_0 16 rfl rfl)
theorem dX2_adds_17 : decode cX2_adds 17 = .ok (.iconst 0, 1) := dk_3 (dk_at dksX2_adds_0 17 rfl rfl)
theorem dX2_adds_18 : decode cX2_adds 18 = .ok (.iload_n 1, 1) := dk_27 (dk_at dksX2_adds_0 18 rfl rfl)
theorem dX2_adds_19 : decode cX2_adds 19 = .ok (.invokevirtual 197, 3) := dk_182 0 197 (dk_at dksX2_adds_0 19 rfl rfl)
theorem dX2_adds_22 : decode cX2_adds 22 = .ok (.iload 4, 2) := dk_21 4 (dk_at dksX2_adds_0 22 rfl rfl)
theorem dX2_adds_24 : decode cX2_adds 24 = .ok (.aload_n 0, 1) := dk_42 (dk_at dksX2_adds_1 0 rfl rfl)
theorem dX2_adds_25 : decode cX2_adds 25 = .ok (.iload_n 2, 1) := dk_28 (dk_at dksX2_adds_1 1 rfl rfl)
theorem dX2_adds_26 : decode cX2_adds 26 = .ok (.iload_n 3, 1) := dk_29 (dk_at dksX2_adds_1 2 rfl rfl)
theorem dX2_adds_27 : decode cX2_adds 27 = .ok (.invokevirtual 227, 3) := dk_182 0 227 (dk_at dksX2_adds_1 3 rfl rfl)
theorem dX2_adds_30 : decode cX2_adds 30 = .ok (.isub, 1) := dk_100 (dk_at dksX2_adds_1 6 rfl rfl)
theorem dX2_adds_31 : decode cX2_adds 31 = .ok (.ireturn, 1) := dk_172 (dk_at dksX2_adds_1 7 rfl rfl)
abbrev cX2_range : ByteArray := prog_12_method_65_code
def yX2_range : MethodName := ⟨RX2, "range", "(II)I"⟩
def dkwX2_range_0 : List UInt8 := [42, 180, 0, 35, 16, 12, 27, 104, 28, 96, 46, 42, 180, 0, 35, 16, 12, 28, 104, 27, 96, 46, 96, 172]
abbrev dktX2_range_0 : List UInt8 := dkwX2_range_0 ++ []
theorem dksX2_range_0 : cX2_range.data.toList.drop 0 = dktX2_range_0 := by decide +kernel
theorem dX2_range_0 : decode cX2_range 0 = .ok (.aload_n 0, 1) := dk_42 (dk_at dksX2_range_0 0 rfl rfl)
theorem dX2_range_1 : decode cX2_range 1 = .ok (.getfield 35, 3) := dk_180 0 35 (dk_at dksX2_range_0 1 rfl rfl)
theorem dX2_range_4 : decode cX2_range 4 = .ok (.bipush 12, 2) := dk_16 12 (dk_at dksX2_range_0 4 rfl rfl)
theorem dX2_range_6 : decode cX2_range 6 = .ok (.iload_n 1, 1) := dk_27 (dk_at dksX2_range_0 6 rfl rfl)
theorem dX2_range_7 : decode cX2_range 7 = .ok (.imul, 1) := dk_104 (dk_at dksX2_range_0 7 rfl rfl)
theorem dX2_range_8 : decode cX2_range 8 = .ok (.iload_n 2, 1) := dk_28 (dk_at dksX2_range_0 8 rfl rfl)
theorem dX2_range_9 : decode cX2_range 9 = .ok (.iadd, 1) := dk_96 (dk_at dksX2_range_0 9 rfl rfl)
theorem dX2_range_10 : decode cX2_range 10 = .ok (.iaload, 1) := dk_46 (dk_at dksX2_range_0 10 rfl rfl)
theorem dX2_range_11 : decode cX2_range 11 = .ok (.aload_n 0, 1) := dk_42 (dk_at dksX2_range_0 11 rfl rfl)
theorem dX2_range_12 : decode cX2_range 12 = .ok (.getfield 35, 3) := dk_180 0 35 (dk_at dksX2_range_0 12 rfl rfl)
theorem dX2_range_15 : decode cX2_range 15 = .ok (.bipush 12, 2) := dk_16 12 (dk_at dksX2_range_0 15 rfl rfl)
theorem dX2_range_17 : decode cX2_range 17 = .ok (.iload_n 2, 1) := dk_28 (dk_at dksX2_range_0 17 rfl rfl)
theorem dX2_range_18 : decode cX2_range 18 = .ok (.imul, 1) := dk_104 (dk_at dksX2_range_0 18 rfl rfl)
theorem dX2_range_19 : decode cX2_range 19 = .ok (.iload_n 1, 1) := dk_27 (dk_at dksX2_range_0 19 rfl rfl)
theorem dX2_range_20 : decode cX2_range 20 = .ok (.iadd, 1) := dk_96 (dk_at dksX2_range_0 20 rfl rfl)
theorem dX2_range_21 : decode cX2_range 21 = .ok (.iaload, 1) := dk_46 (dk_at dksX2_range_0 21 rfl rfl)
theorem dX2_range_22 : decode cX2_range 22 = .ok (.iadd, 1) := dk_96 (dk_at dksX2_range_0 22 rfl rfl)
theorem dX2_range_23 : decode cX2_range 23 = .ok (.ireturn, 1) := dk_172 (dk_at dksX2_range_0 23 rfl rfl)
abbrev cX2_critical : ByteArray := prog_12_method_78_code
def yX2_critical : MethodName := ⟨RX2, "critical", "(II)I"⟩
def dkwX2_critical_5 : List UInt8 := [167, 255, 184, 29, 172]
abbrev dktX2_critical_5 : List UInt8 := dkwX2_critical_5 ++ []
def dkwX2_critical_4 : List UInt8 := [167, 0, 4, 29, 62, 21, 7, 153, 0, 8, 21, 6, 167, 0, 5, 21, 4, 54, 4, 132, 5, 1]
abbrev dktX2_critical_4 : List UInt8 := dkwX2_critical_4 ++ dktX2_critical_5
def dkwX2_critical_3 : List UInt8 := [159, 0, 10, 21, 6, 21, 4, 164, 0, 7, 4, 167, 0, 4, 3, 54, 7, 21, 7, 153, 0, 8, 21, 5]
abbrev dktX2_critical_3 : List UInt8 := dkwX2_critical_3 ++ dktX2_critical_4
def dkwX2_critical_2 : List UInt8 := [180, 0, 7, 16, 13, 46, 162, 0, 66, 42, 21, 5, 27, 28, 182, 0, 230, 54, 6, 29, 17, 252, 25]
abbrev dktX2_critical_2 : List UInt8 := dkwX2_critical_2 ++ dktX2_critical_3
def dkwX2_critical_1 : List UInt8 := [182, 0, 200, 154, 0, 7, 17, 252, 25, 172, 17, 252, 25, 62, 3, 54, 4, 3, 54, 5, 21, 5, 42]
abbrev dktX2_critical_1 : List UInt8 := dkwX2_critical_1 ++ dktX2_critical_2
def dkwX2_critical_0 : List UInt8 := [42, 27, 28, 182, 0, 224, 154, 0, 5, 2, 172, 42, 3, 17, 252, 25, 182, 0, 197, 42, 27, 28]
abbrev dktX2_critical_0 : List UInt8 := dkwX2_critical_0 ++ dktX2_critical_1
theorem dksX2_critical_0 : cX2_critical.data.toList.drop 0 = dktX2_critical_0 := by decide +kernel
theorem dksX2_critical_1 : cX2_critical.data.toList.drop 22 = dktX2_critical_1 := dk_seg dksX2_critical_0 22 rfl rfl
theorem dksX2_critical_2 : cX2_critical.data.toList.drop 45 = dktX2_critical_2 := dk_seg dksX2_critical_1 23 rfl rfl
theorem dksX2_critical_3 : cX2_critical.data.toList.drop 68 = dktX2_critical_3 := dk_seg dksX2_critical_2 23 rfl rfl
theorem dksX2_critical_4 : cX2_critical.data.toList.drop 92 = dktX2_critical_4 := dk_seg dksX2_critical_3 24 rfl rfl
theorem dksX2_critical_5 : cX2_critical.data.toList.drop 114 = dktX2_critical_5 := dk_seg dksX2_critical_4 22 rfl rfl
theorem dX2_critical_0 : decode cX2_critical 0 = .ok (.aload_n 0, 1) := dk_42 (dk_at dksX2_critical_0 0 rfl rfl)
theorem dX2_critical_1 : decode cX2_critical 1 = .ok (.iload_n 1, 1) := dk_27 (dk_at dksX2_critical_0 1 rfl rfl)
theorem dX2_critical_2 : decode cX2_critical 2 = .ok (.iload_n 2, 1) := dk_28 (dk_at dksX2_critical_0 2 rfl rfl)
theorem dX2_critical_3 : decode cX2_critical 3 = .ok (.invokevirtual 224, 3) := dk_182 0 224 (dk_at dksX2_critical_0 3 rfl rfl)
theorem dX2_critical_6 : decode cX2_critical 6 = .ok (.ifCond .ne 5, 3) := dk_154 0 5 (dk_at dksX2_critical_0 6 rfl rfl)
theorem dX2_critical_9 : decode cX2_critical 9 = .ok (.iconst (-1), 1) := dk_2 (dk_at dksX2_critical_0 9 rfl rfl)
theorem dX2_critical_10 : decode cX2_critical 10 = .ok (.ireturn, 1) := dk_172 (dk_at dksX2_critical_0 10 rfl rfl)
theorem dX2_critical_11 : decode cX2_critical 11 = .ok (.aload_n 0, 1) := dk_42 (dk_at dksX2_critical_0 11 rfl rfl)
theorem dX2_critical_12 : decode cX2_critical 12 = .ok (.iconst 0, 1) := dk_3 (dk_at dksX2_critical_0 12 rfl rfl)
theorem dX2_critical_13 : decode cX2_critical 13 = .ok (.sipush (-999), 3) := dk_17 252 25 (dk_at dksX2_critical_0 13 rfl rfl)
theorem dX2_critical_16 : decode cX2_critical 16 = .ok (.invokevirtual 197, 3) := dk_182 0 197 (dk_at dksX2_critical_0 16 rfl rfl)
theorem dX2_critical_19 : decode cX2_critical 19 = .ok (.aload_n 0, 1) := dk_42 (dk_at dksX2_critical_0 19 rfl rfl)
theorem dX2_critical_20 : decode cX2_critical 20 = .ok (.iload_n 1, 1) := dk_27 (dk_at dksX2_critical_0 20 rfl rfl)
theorem dX2_critical_21 : decode cX2_critical 21 = .ok (.iload_n 2, 1) := dk_28 (dk_at dksX2_critical_0 21 rfl rfl)
theorem dX2_critical_22 : decode cX2_critical 22 = .ok (.invokevirtual 200, 3) := dk_182 0 200 (dk_at dksX2_critical_1 0 rfl rfl)
theorem dX2_critical_25 : decode cX2_critical 25 = .ok (.ifCond .ne 7, 3) := dk_154 0 7 (dk_at dksX2_critical_1 3 rfl rfl)
theorem dX2_critical_28 : decode cX2_critical 28 = .ok (.sipush (-999), 3) := dk_17 252 25 (dk_at dksX2_critical_1 6 rfl rfl)
theorem dX2_critical_31 : decode cX2_critical 31 = .ok (.ireturn, 1) := dk_172 (dk_at dksX2_critical_1 9 rfl rfl)
theorem dX2_critical_32 : decode cX2_critical 32 = .ok (.sipush (-999), 3) := dk_17 252 25 (dk_at dksX2_critical_1 10 rfl rfl)
theorem dX2_critical_35 : decode cX2_critical 35 = .ok (.istore_n 3, 1) := dk_62 (dk_at dksX2_critical_1 13 rfl rfl)
theorem dX2_critical_36 : decode cX2_critical 36 = .ok (.iconst 0, 1) := dk_3 (dk_at dksX2_critical_1 14 rfl rfl)
theorem dX2_critical_37 : decode cX2_critical 37 = .ok (.istore 4, 2) := dk_54 4 (dk_at dksX2_critical_1 15 rfl rfl)
theorem dX2_critical_39 : decode cX2_critical 39 = .ok (.iconst 0, 1) := dk_3 (dk_at dksX2_critical_1 17 rfl rfl)
theorem dX2_critical_40 : decode cX2_critical 40 = .ok (.istore 5, 2) := dk_54 5 (dk_at dksX2_critical_1 18 rfl rfl)
theorem dX2_critical_42 : decode cX2_critical 42 = .ok (.iload 5, 2) := dk_21 5 (dk_at dksX2_critical_1 20 rfl rfl)
theorem dX2_critical_44 : decode cX2_critical 44 = .ok (.aload_n 0, 1) := dk_42 (dk_at dksX2_critical_1 22 rfl rfl)
theorem dX2_critical_45 : decode cX2_critical 45 = .ok (.getfield 7, 3) := dk_180 0 7 (dk_at dksX2_critical_2 0 rfl rfl)
theorem dX2_critical_48 : decode cX2_critical 48 = .ok (.bipush 13, 2) := dk_16 13 (dk_at dksX2_critical_2 3 rfl rfl)
theorem dX2_critical_50 : decode cX2_critical 50 = .ok (.iaload, 1) := dk_46 (dk_at dksX2_critical_2 5 rfl rfl)
theorem dX2_critical_51 : decode cX2_critical 51 = .ok (.if_icmp .ge 66, 3) := dk_162 0 66 (dk_at dksX2_critical_2 6 rfl rfl)
theorem dX2_critical_54 : decode cX2_critical 54 = .ok (.aload_n 0, 1) := dk_42 (dk_at dksX2_critical_2 9 rfl rfl)
theorem dX2_critical_55 : decode cX2_critical 55 = .ok (.iload 5, 2) := dk_21 5 (dk_at dksX2_critical_2 10 rfl rfl)
theorem dX2_critical_57 : decode cX2_critical 57 = .ok (.iload_n 1, 1) := dk_27 (dk_at dksX2_critical_2 12 rfl rfl)
theorem dX2_critical_58 : decode cX2_critical 58 = .ok (.iload_n 2, 1) := dk_28 (dk_at dksX2_critical_2 13 rfl rfl)
theorem dX2_critical_59 : decode cX2_critical 59 = .ok (.invokevirtual 230, 3) := dk_182 0 230 (dk_at dksX2_critical_2 14 rfl rfl)
theorem dX2_critical_62 : decode cX2_critical 62 = .ok (.istore 6, 2) := dk_54 6 (dk_at dksX2_critical_2 17 rfl rfl)
theorem dX2_critical_64 : decode cX2_critical 64 = .ok (.iload_n 3, 1) := dk_29 (dk_at dksX2_critical_2 19 rfl rfl)
theorem dX2_critical_65 : decode cX2_critical 65 = .ok (.sipush (-999), 3) := dk_17 252 25 (dk_at dksX2_critical_2 20 rfl rfl)
theorem dX2_critical_68 : decode cX2_critical 68 = .ok (.if_icmp .eq 10, 3) := dk_159 0 10 (dk_at dksX2_critical_3 0 rfl rfl)
theorem dX2_critical_71 : decode cX2_critical 71 = .ok (.iload 6, 2) := dk_21 6 (dk_at dksX2_critical_3 3 rfl rfl)
theorem dX2_critical_73 : decode cX2_critical 73 = .ok (.iload 4, 2) := dk_21 4 (dk_at dksX2_critical_3 5 rfl rfl)
theorem dX2_critical_75 : decode cX2_critical 75 = .ok (.if_icmp .le 7, 3) := dk_164 0 7 (dk_at dksX2_critical_3 7 rfl rfl)
theorem dX2_critical_78 : decode cX2_critical 78 = .ok (.iconst 1, 1) := dk_4 (dk_at dksX2_critical_3 10 rfl rfl)
theorem dX2_critical_79 : decode cX2_critical 79 = .ok (.goto 4, 3) := dk_167 0 4 (dk_at dksX2_critical_3 11 rfl rfl)
theorem dX2_critical_82 : decode cX2_critical 82 = .ok (.iconst 0, 1) := dk_3 (dk_at dksX2_critical_3 14 rfl rfl)
theorem dX2_critical_83 : decode cX2_critical 83 = .ok (.istore 7, 2) := dk_54 7 (dk_at dksX2_critical_3 15 rfl rfl)
theorem dX2_critical_85 : decode cX2_critical 85 = .ok (.iload 7, 2) := dk_21 7 (dk_at dksX2_critical_3 17 rfl rfl)
theorem dX2_critical_87 : decode cX2_critical 87 = .ok (.ifCond .eq 8, 3) := dk_153 0 8 (dk_at dksX2_critical_3 19 rfl rfl)
theorem dX2_critical_90 : decode cX2_critical 90 = .ok (.iload 5, 2) := dk_21 5 (dk_at dksX2_critical_3 22 rfl rfl)
theorem dX2_critical_92 : decode cX2_critical 92 = .ok (.goto 4, 3) := dk_167 0 4 (dk_at dksX2_critical_4 0 rfl rfl)
theorem dX2_critical_95 : decode cX2_critical 95 = .ok (.iload_n 3, 1) := dk_29 (dk_at dksX2_critical_4 3 rfl rfl)
theorem dX2_critical_96 : decode cX2_critical 96 = .ok (.istore_n 3, 1) := dk_62 (dk_at dksX2_critical_4 4 rfl rfl)
theorem dX2_critical_97 : decode cX2_critical 97 = .ok (.iload 7, 2) := dk_21 7 (dk_at dksX2_critical_4 5 rfl rfl)
theorem dX2_critical_99 : decode cX2_critical 99 = .ok (.ifCond .eq 8, 3) := dk_153 0 8 (dk_at dksX2_critical_4 7 rfl rfl)
theorem dX2_critical_102 : decode cX2_critical 102 = .ok (.iload 6, 2) := dk_21 6 (dk_at dksX2_critical_4 10 rfl rfl)
theorem dX2_critical_104 : decode cX2_critical 104 = .ok (.goto 5, 3) := dk_167 0 5 (dk_at dksX2_critical_4 12 rfl rfl)
theorem dX2_critical_107 : decode cX2_critical 107 = .ok (.iload 4, 2) := dk_21 4 (dk_at dksX2_critical_4 15 rfl rfl)
theorem dX2_critical_109 : decode cX2_critical 109 = .ok (.istore 4, 2) := dk_54 4 (dk_at dksX2_critical_4 17 rfl rfl)
theorem dX2_critical_111 : decode cX2_critical 111 = .ok (.iinc 5 1, 3) := dk_132 5 1 (dk_at dksX2_critical_4 19 rfl rfl)
theorem dX2_critical_114 : decode cX2_critical 114 = .ok (.goto (-72), 3) := dk_167 255 184 (dk_at dksX2_critical_5 0 rfl rfl)
theorem dX2_critical_117 : decode cX2_critical 117 = .ok (.iload_n 3, 1) := dk_29 (dk_at dksX2_critical_5 3 rfl rfl)
theorem dX2_critical_118 : decode cX2_critical 118 = .ok (.ireturn, 1) := dk_172 (dk_at dksX2_critical_5 4 rfl rfl)
abbrev cX2_needed : ByteArray := prog_12_method_79_code
def yX2_needed : MethodName := ⟨RX2, "needed", "()I"⟩
def dkwX2_needed_4 : List UInt8 := [167, 255, 172, 28, 172]
abbrev dktX2_needed_4 : List UInt8 := dkwX2_needed_4 ++ []
def dkwX2_needed_3 : List UInt8 := [167, 0, 4, 3, 128, 60, 28, 29, 153, 0, 7, 4, 167, 0, 4, 3, 100, 61, 132, 4, 255, 167, 255, 192]
abbrev dktX2_needed_3 : List UInt8 := dkwX2_needed_3 ++ dktX2_needed_4
def dkwX2_needed_2 : List UInt8 := [21, 4, 27, 182, 0, 218, 153, 0, 7, 4, 167, 0, 4, 3, 62, 27, 29, 153, 0, 10, 4, 21, 4, 120]
abbrev dktX2_needed_2 : List UInt8 := dkwX2_needed_2 ++ dktX2_needed_3
def dkwX2_needed_1 : List UInt8 := [46, 4, 100, 54, 4, 21, 4, 155, 0, 65, 29, 154, 0, 61, 27, 21, 4, 122, 4, 126, 154, 0, 17, 42]
abbrev dktX2_needed_1 : List UInt8 := dkwX2_needed_1 ++ dktX2_needed_2
def dkwX2_needed_0 : List UInt8 := [3, 60, 42, 180, 0, 7, 16, 13, 46, 61, 4, 62, 29, 153, 0, 86, 3, 62, 42, 180, 0, 7, 16, 13]
abbrev dktX2_needed_0 : List UInt8 := dkwX2_needed_0 ++ dktX2_needed_1
theorem dksX2_needed_0 : cX2_needed.data.toList.drop 0 = dktX2_needed_0 := by decide +kernel
theorem dksX2_needed_1 : cX2_needed.data.toList.drop 24 = dktX2_needed_1 := dk_seg dksX2_needed_0 24 rfl rfl
theorem dksX2_needed_2 : cX2_needed.data.toList.drop 48 = dktX2_needed_2 := dk_seg dksX2_needed_1 24 rfl rfl
theorem dksX2_needed_3 : cX2_needed.data.toList.drop 72 = dktX2_needed_3 := dk_seg dksX2_needed_2 24 rfl rfl
theorem dksX2_needed_4 : cX2_needed.data.toList.drop 96 = dktX2_needed_4 := dk_seg dksX2_needed_3 24 rfl rfl
theorem dX2_needed_0 : decode cX2_needed 0 = .ok (.iconst 0, 1) := dk_3 (dk_at dksX2_needed_0 0 rfl rfl)
theorem dX2_needed_1 : decode cX2_needed 1 = .ok (.istore_n 1, 1) := dk_60 (dk_at dksX2_needed_0 1 rfl rfl)
theorem dX2_needed_2 : decode cX2_needed 2 = .ok (.aload_n 0, 1) := dk_42 (dk_at dksX2_needed_0 2 rfl rfl)
theorem dX2_needed_3 : decode cX2_needed 3 = .ok (.getfield 7, 3) := dk_180 0 7 (dk_at dksX2_needed_0 3 rfl rfl)
theorem dX2_needed_6 : decode cX2_needed 6 = .ok (.bipush 13, 2) := dk_16 13 (dk_at dksX2_needed_0 6 rfl rfl)
theorem dX2_needed_8 : decode cX2_needed 8 = .ok (.iaload, 1) := dk_46 (dk_at dksX2_needed_0 8 rfl rfl)
theorem dX2_needed_9 : decode cX2_needed 9 = .ok (.istore_n 2, 1) := dk_61 (dk_at dksX2_needed_0 9 rfl rfl)
theorem dX2_needed_10 : decode cX2_needed 10 = .ok (.iconst 1, 1) := dk_4 (dk_at dksX2_needed_0 10 rfl rfl)
theorem dX2_needed_11 : decode cX2_needed 11 = .ok (.istore_n 3, 1) := dk_62 (dk_at dksX2_needed_0 11 rfl rfl)
theorem dX2_needed_12 : decode cX2_needed 12 = .ok (.iload_n 3, 1) := dk_29 (dk_at dksX2_needed_0 12 rfl rfl)
theorem dX2_needed_13 : decode cX2_needed 13 = .ok (.ifCond .eq 86, 3) := dk_153 0 86 (dk_at dksX2_needed_0 13 rfl rfl)
theorem dX2_needed_16 : decode cX2_needed 16 = .ok (.iconst 0, 1) := dk_3 (dk_at dksX2_needed_0 16 rfl rfl)
theorem dX2_needed_17 : decode cX2_needed 17 = .ok (.istore_n 3, 1) := dk_62 (dk_at dksX2_needed_0 17 rfl rfl)
theorem dX2_needed_18 : decode cX2_needed 18 = .ok (.aload_n 0, 1) := dk_42 (dk_at dksX2_needed_0 18 rfl rfl)
theorem dX2_needed_19 : decode cX2_needed 19 = .ok (.getfield 7, 3) := dk_180 0 7 (dk_at dksX2_needed_0 19 rfl rfl)
theorem dX2_needed_22 : decode cX2_needed 22 = .ok (.bipush 13, 2) := dk_16 13 (dk_at dksX2_needed_0 22 rfl rfl)
theorem dX2_needed_24 : decode cX2_needed 24 = .ok (.iaload, 1) := dk_46 (dk_at dksX2_needed_1 0 rfl rfl)
theorem dX2_needed_25 : decode cX2_needed 25 = .ok (.iconst 1, 1) := dk_4 (dk_at dksX2_needed_1 1 rfl rfl)
theorem dX2_needed_26 : decode cX2_needed 26 = .ok (.isub, 1) := dk_100 (dk_at dksX2_needed_1 2 rfl rfl)
theorem dX2_needed_27 : decode cX2_needed 27 = .ok (.istore 4, 2) := dk_54 4 (dk_at dksX2_needed_1 3 rfl rfl)
theorem dX2_needed_29 : decode cX2_needed 29 = .ok (.iload 4, 2) := dk_21 4 (dk_at dksX2_needed_1 5 rfl rfl)
theorem dX2_needed_31 : decode cX2_needed 31 = .ok (.ifCond .lt 65, 3) := dk_155 0 65 (dk_at dksX2_needed_1 7 rfl rfl)
theorem dX2_needed_34 : decode cX2_needed 34 = .ok (.iload_n 3, 1) := dk_29 (dk_at dksX2_needed_1 10 rfl rfl)
theorem dX2_needed_35 : decode cX2_needed 35 = .ok (.ifCond .ne 61, 3) := dk_154 0 61 (dk_at dksX2_needed_1 11 rfl rfl)
theorem dX2_needed_38 : decode cX2_needed 38 = .ok (.iload_n 1, 1) := dk_27 (dk_at dksX2_needed_1 14 rfl rfl)
theorem dX2_needed_39 : decode cX2_needed 39 = .ok (.iload 4, 2) := dk_21 4 (dk_at dksX2_needed_1 15 rfl rfl)
theorem dX2_needed_41 : decode cX2_needed 41 = .ok (.ishr, 1) := dk_122 (dk_at dksX2_needed_1 17 rfl rfl)
theorem dX2_needed_42 : decode cX2_needed 42 = .ok (.iconst 1, 1) := dk_4 (dk_at dksX2_needed_1 18 rfl rfl)
theorem dX2_needed_43 : decode cX2_needed 43 = .ok (.iand, 1) := dk_126 (dk_at dksX2_needed_1 19 rfl rfl)
theorem dX2_needed_44 : decode cX2_needed 44 = .ok (.ifCond .ne 17, 3) := dk_154 0 17 (dk_at dksX2_needed_1 20 rfl rfl)
theorem dX2_needed_47 : decode cX2_needed 47 = .ok (.aload_n 0, 1) := dk_42 (dk_at dksX2_needed_1 23 rfl rfl)
theorem dX2_needed_48 : decode cX2_needed 48 = .ok (.iload 4, 2) := dk_21 4 (dk_at dksX2_needed_2 0 rfl rfl)
theorem dX2_needed_50 : decode cX2_needed 50 = .ok (.iload_n 1, 1) := dk_27 (dk_at dksX2_needed_2 2 rfl rfl)
theorem dX2_needed_51 : decode cX2_needed 51 = .ok (.invokevirtual 218, 3) := dk_182 0 218 (dk_at dksX2_needed_2 3 rfl rfl)
theorem dX2_needed_54 : decode cX2_needed 54 = .ok (.ifCond .eq 7, 3) := dk_153 0 7 (dk_at dksX2_needed_2 6 rfl rfl)
theorem dX2_needed_57 : decode cX2_needed 57 = .ok (.iconst 1, 1) := dk_4 (dk_at dksX2_needed_2 9 rfl rfl)
theorem dX2_needed_58 : decode cX2_needed 58 = .ok (.goto 4, 3) := dk_167 0 4 (dk_at dksX2_needed_2 10 rfl rfl)
theorem dX2_needed_61 : decode cX2_needed 61 = .ok (.iconst 0, 1) := dk_3 (dk_at dksX2_needed_2 13 rfl rfl)
theorem dX2_needed_62 : decode cX2_needed 62 = .ok (.istore_n 3, 1) := dk_62 (dk_at dksX2_needed_2 14 rfl rfl)
theorem dX2_needed_63 : decode cX2_needed 63 = .ok (.iload_n 1, 1) := dk_27 (dk_at dksX2_needed_2 15 rfl rfl)
theorem dX2_needed_64 : decode cX2_needed 64 = .ok (.iload_n 3, 1) := dk_29 (dk_at dksX2_needed_2 16 rfl rfl)
theorem dX2_needed_65 : decode cX2_needed 65 = .ok (.ifCond .eq 10, 3) := dk_153 0 10 (dk_at dksX2_needed_2 17 rfl rfl)
theorem dX2_needed_68 : decode cX2_needed 68 = .ok (.iconst 1, 1) := dk_4 (dk_at dksX2_needed_2 20 rfl rfl)
theorem dX2_needed_69 : decode cX2_needed 69 = .ok (.iload 4, 2) := dk_21 4 (dk_at dksX2_needed_2 21 rfl rfl)
theorem dX2_needed_71 : decode cX2_needed 71 = .ok (.ishl, 1) := dk_120 (dk_at dksX2_needed_2 23 rfl rfl)
theorem dX2_needed_72 : decode cX2_needed 72 = .ok (.goto 4, 3) := dk_167 0 4 (dk_at dksX2_needed_3 0 rfl rfl)
theorem dX2_needed_75 : decode cX2_needed 75 = .ok (.iconst 0, 1) := dk_3 (dk_at dksX2_needed_3 3 rfl rfl)
theorem dX2_needed_76 : decode cX2_needed 76 = .ok (.ior, 1) := dk_128 (dk_at dksX2_needed_3 4 rfl rfl)
theorem dX2_needed_77 : decode cX2_needed 77 = .ok (.istore_n 1, 1) := dk_60 (dk_at dksX2_needed_3 5 rfl rfl)
theorem dX2_needed_78 : decode cX2_needed 78 = .ok (.iload_n 2, 1) := dk_28 (dk_at dksX2_needed_3 6 rfl rfl)
theorem dX2_needed_79 : decode cX2_needed 79 = .ok (.iload_n 3, 1) := dk_29 (dk_at dksX2_needed_3 7 rfl rfl)
theorem dX2_needed_80 : decode cX2_needed 80 = .ok (.ifCond .eq 7, 3) := dk_153 0 7 (dk_at dksX2_needed_3 8 rfl rfl)
theorem dX2_needed_83 : decode cX2_needed 83 = .ok (.iconst 1, 1) := dk_4 (dk_at dksX2_needed_3 11 rfl rfl)
theorem dX2_needed_84 : decode cX2_needed 84 = .ok (.goto 4, 3) := dk_167 0 4 (dk_at dksX2_needed_3 12 rfl rfl)
theorem dX2_needed_87 : decode cX2_needed 87 = .ok (.iconst 0, 1) := dk_3 (dk_at dksX2_needed_3 15 rfl rfl)
theorem dX2_needed_88 : decode cX2_needed 88 = .ok (.isub, 1) := dk_100 (dk_at dksX2_needed_3 16 rfl rfl)
theorem dX2_needed_89 : decode cX2_needed 89 = .ok (.istore_n 2, 1) := dk_61 (dk_at dksX2_needed_3 17 rfl rfl)
theorem dX2_needed_90 : decode cX2_needed 90 = .ok (.iinc 4 (-1), 3) := dk_132 4 255 (dk_at dksX2_needed_3 18 rfl rfl)
theorem dX2_needed_93 : decode cX2_needed 93 = .ok (.goto (-64), 3) := dk_167 255 192 (dk_at dksX2_needed_3 21 rfl rfl)
theorem dX2_needed_96 : decode cX2_needed 96 = .ok (.goto (-84), 3) := dk_167 255 172 (dk_at dksX2_needed_4 0 rfl rfl)
theorem dX2_needed_99 : decode cX2_needed 99 = .ok (.iload_n 2, 1) := dk_28 (dk_at dksX2_needed_4 3 rfl rfl)
theorem dX2_needed_100 : decode cX2_needed 100 = .ok (.ireturn, 1) := dk_172 (dk_at dksX2_needed_4 4 rfl rfl)
abbrev cX2_chain : ByteArray := prog_12_method_85_code
def yX2_chain : MethodName := ⟨RX2, "chain", "(II)I"⟩
def dkwX2_chain_5 : List UInt8 := [182, 0, 240, 153, 0, 7, 4, 167, 0, 4, 3, 172, 42, 27, 182, 0, 243, 172, 42, 27, 182, 0, 246, 172]
abbrev dktX2_chain_5 : List UInt8 := dkwX2_chain_5 ++ []
def dkwX2_chain_4 : List UInt8 := [42, 42, 27, 3, 182, 0, 233, 182, 0, 54, 172, 42, 42, 27, 4, 182, 0, 233, 182, 0, 54, 172, 42, 27]
abbrev dktX2_chain_4 : List UInt8 := dkwX2_chain_4 ++ dktX2_chain_5
def dkwX2_chain_3 : List UInt8 := [170, 0, 0, 0, 0, 0, 0, 86, 0, 0, 0, 1, 0, 0, 0, 7, 0, 0, 0, 44, 0, 0, 0, 55, 0, 0, 0, 66, 0, 0, 0, 86, 0, 0, 0, 86, 0, 0, 0, 86, 0, 0, 0, 80]
abbrev dktX2_chain_3 : List UInt8 := dkwX2_chain_3 ++ dktX2_chain_4
def dkwX2_chain_2 : List UInt8 := [182, 0, 237, 154, 0, 7, 17, 252, 25, 172, 28]
abbrev dktX2_chain_2 : List UInt8 := dkwX2_chain_2 ++ dktX2_chain_3
def dkwX2_chain_1 : List UInt8 := [153, 0, 13, 28, 7, 16, 6, 184, 0, 46, 153, 0, 10, 42, 27, 28, 182, 0, 237, 172, 42, 27, 3]
abbrev dktX2_chain_1 : List UInt8 := dkwX2_chain_1 ++ dktX2_chain_2
def dkwX2_chain_0 : List UInt8 := [27, 4, 8, 184, 0, 46, 153, 0, 13, 28, 3, 16, 8, 184, 0, 46, 154, 0, 5, 2, 172, 28]
abbrev dktX2_chain_0 : List UInt8 := dkwX2_chain_0 ++ dktX2_chain_1
theorem dksX2_chain_0 : cX2_chain.data.toList.drop 0 = dktX2_chain_0 := by decide +kernel
theorem dksX2_chain_1 : cX2_chain.data.toList.drop 22 = dktX2_chain_1 := dk_seg dksX2_chain_0 22 rfl rfl
theorem dksX2_chain_2 : cX2_chain.data.toList.drop 45 = dktX2_chain_2 := dk_seg dksX2_chain_1 23 rfl rfl
theorem dksX2_chain_3 : cX2_chain.data.toList.drop 56 = dktX2_chain_3 := dk_seg dksX2_chain_2 11 rfl rfl
theorem dksX2_chain_4 : cX2_chain.data.toList.drop 100 = dktX2_chain_4 := dk_seg dksX2_chain_3 44 rfl rfl
theorem dksX2_chain_5 : cX2_chain.data.toList.drop 124 = dktX2_chain_5 := dk_seg dksX2_chain_4 24 rfl rfl
theorem dX2_chain_0 : decode cX2_chain 0 = .ok (.iload_n 1, 1) := dk_27 (dk_at dksX2_chain_0 0 rfl rfl)
theorem dX2_chain_1 : decode cX2_chain 1 = .ok (.iconst 1, 1) := dk_4 (dk_at dksX2_chain_0 1 rfl rfl)
theorem dX2_chain_2 : decode cX2_chain 2 = .ok (.iconst 5, 1) := dk_8 (dk_at dksX2_chain_0 2 rfl rfl)
theorem dX2_chain_3 : decode cX2_chain 3 = .ok (.invokestatic 46, 3) := dk_184 0 46 (dk_at dksX2_chain_0 3 rfl rfl)
theorem dX2_chain_6 : decode cX2_chain 6 = .ok (.ifCond .eq 13, 3) := dk_153 0 13 (dk_at dksX2_chain_0 6 rfl rfl)
theorem dX2_chain_9 : decode cX2_chain 9 = .ok (.iload_n 2, 1) := dk_28 (dk_at dksX2_chain_0 9 rfl rfl)
theorem dX2_chain_10 : decode cX2_chain 10 = .ok (.iconst 0, 1) := dk_3 (dk_at dksX2_chain_0 10 rfl rfl)
theorem dX2_chain_11 : decode cX2_chain 11 = .ok (.bipush 8, 2) := dk_16 8 (dk_at dksX2_chain_0 11 rfl rfl)
theorem dX2_chain_13 : decode cX2_chain 13 = .ok (.invokestatic 46, 3) := dk_184 0 46 (dk_at dksX2_chain_0 13 rfl rfl)
theorem dX2_chain_16 : decode cX2_chain 16 = .ok (.ifCond .ne 5, 3) := dk_154 0 5 (dk_at dksX2_chain_0 16 rfl rfl)
theorem dX2_chain_19 : decode cX2_chain 19 = .ok (.iconst (-1), 1) := dk_2 (dk_at dksX2_chain_0 19 rfl rfl)
theorem dX2_chain_20 : decode cX2_chain 20 = .ok (.ireturn, 1) := dk_172 (dk_at dksX2_chain_0 20 rfl rfl)
theorem dX2_chain_21 : decode cX2_chain 21 = .ok (.iload_n 2, 1) := dk_28 (dk_at dksX2_chain_0 21 rfl rfl)
theorem dX2_chain_22 : decode cX2_chain 22 = .ok (.ifCond .eq 13, 3) := dk_153 0 13 (dk_at dksX2_chain_1 0 rfl rfl)
theorem dX2_chain_25 : decode cX2_chain 25 = .ok (.iload_n 2, 1) := dk_28 (dk_at dksX2_chain_1 3 rfl rfl)
theorem dX2_chain_26 : decode cX2_chain 26 = .ok (.iconst 4, 1) := dk_7 (dk_at dksX2_chain_1 4 rfl rfl)
theorem dX2_chain_27 : decode cX2_chain 27 = .ok (.bipush 6, 2) := dk_16 6 (dk_at dksX2_chain_1 5 rfl rfl)
theorem dX2_chain_29 : decode cX2_chain 29 = .ok (.invokestatic 46, 3) := dk_184 0 46 (dk_at dksX2_chain_1 7 rfl rfl)
theorem dX2_chain_32 : decode cX2_chain 32 = .ok (.ifCond .eq 10, 3) := dk_153 0 10 (dk_at dksX2_chain_1 10 rfl rfl)
theorem dX2_chain_35 : decode cX2_chain 35 = .ok (.aload_n 0, 1) := dk_42 (dk_at dksX2_chain_1 13 rfl rfl)
theorem dX2_chain_36 : decode cX2_chain 36 = .ok (.iload_n 1, 1) := dk_27 (dk_at dksX2_chain_1 14 rfl rfl)
theorem dX2_chain_37 : decode cX2_chain 37 = .ok (.iload_n 2, 1) := dk_28 (dk_at dksX2_chain_1 15 rfl rfl)
theorem dX2_chain_38 : decode cX2_chain 38 = .ok (.invokevirtual 237, 3) := dk_182 0 237 (dk_at dksX2_chain_1 16 rfl rfl)
theorem dX2_chain_41 : decode cX2_chain 41 = .ok (.ireturn, 1) := dk_172 (dk_at dksX2_chain_1 19 rfl rfl)
theorem dX2_chain_42 : decode cX2_chain 42 = .ok (.aload_n 0, 1) := dk_42 (dk_at dksX2_chain_1 20 rfl rfl)
theorem dX2_chain_43 : decode cX2_chain 43 = .ok (.iload_n 1, 1) := dk_27 (dk_at dksX2_chain_1 21 rfl rfl)
theorem dX2_chain_44 : decode cX2_chain 44 = .ok (.iconst 0, 1) := dk_3 (dk_at dksX2_chain_1 22 rfl rfl)
theorem dX2_chain_45 : decode cX2_chain 45 = .ok (.invokevirtual 237, 3) := dk_182 0 237 (dk_at dksX2_chain_2 0 rfl rfl)
theorem dX2_chain_48 : decode cX2_chain 48 = .ok (.ifCond .ne 7, 3) := dk_154 0 7 (dk_at dksX2_chain_2 3 rfl rfl)
theorem dX2_chain_51 : decode cX2_chain 51 = .ok (.sipush (-999), 3) := dk_17 252 25 (dk_at dksX2_chain_2 6 rfl rfl)
theorem dX2_chain_54 : decode cX2_chain 54 = .ok (.ireturn, 1) := dk_172 (dk_at dksX2_chain_2 9 rfl rfl)
theorem dX2_chain_55 : decode cX2_chain 55 = .ok (.iload_n 2, 1) := dk_28 (dk_at dksX2_chain_2 10 rfl rfl)
theorem dX2_chain_56 : decode cX2_chain 56 = .ok (.tableswitch 86 1 7 #[44, 55, 66, 86, 86, 86, 80], 44) := by decide +kernel
theorem dX2_chain_100 : decode cX2_chain 100 = .ok (.aload_n 0, 1) := dk_42 (dk_at dksX2_chain_4 0 rfl rfl)
theorem dX2_chain_101 : decode cX2_chain 101 = .ok (.aload_n 0, 1) := dk_42 (dk_at dksX2_chain_4 1 rfl rfl)
theorem dX2_chain_102 : decode cX2_chain 102 = .ok (.iload_n 1, 1) := dk_27 (dk_at dksX2_chain_4 2 rfl rfl)
theorem dX2_chain_103 : decode cX2_chain 103 = .ok (.iconst 0, 1) := dk_3 (dk_at dksX2_chain_4 3 rfl rfl)
theorem dX2_chain_104 : decode cX2_chain 104 = .ok (.invokevirtual 233, 3) := dk_182 0 233 (dk_at dksX2_chain_4 4 rfl rfl)
theorem dX2_chain_107 : decode cX2_chain 107 = .ok (.invokevirtual 54, 3) := dk_182 0 54 (dk_at dksX2_chain_4 7 rfl rfl)
theorem dX2_chain_110 : decode cX2_chain 110 = .ok (.ireturn, 1) := dk_172 (dk_at dksX2_chain_4 10 rfl rfl)
theorem dX2_chain_111 : decode cX2_chain 111 = .ok (.aload_n 0, 1) := dk_42 (dk_at dksX2_chain_4 11 rfl rfl)
theorem dX2_chain_112 : decode cX2_chain 112 = .ok (.aload_n 0, 1) := dk_42 (dk_at dksX2_chain_4 12 rfl rfl)
theorem dX2_chain_113 : decode cX2_chain 113 = .ok (.iload_n 1, 1) := dk_27 (dk_at dksX2_chain_4 13 rfl rfl)
theorem dX2_chain_114 : decode cX2_chain 114 = .ok (.iconst 1, 1) := dk_4 (dk_at dksX2_chain_4 14 rfl rfl)
theorem dX2_chain_115 : decode cX2_chain 115 = .ok (.invokevirtual 233, 3) := dk_182 0 233 (dk_at dksX2_chain_4 15 rfl rfl)
theorem dX2_chain_118 : decode cX2_chain 118 = .ok (.invokevirtual 54, 3) := dk_182 0 54 (dk_at dksX2_chain_4 18 rfl rfl)
theorem dX2_chain_121 : decode cX2_chain 121 = .ok (.ireturn, 1) := dk_172 (dk_at dksX2_chain_4 21 rfl rfl)
theorem dX2_chain_122 : decode cX2_chain 122 = .ok (.aload_n 0, 1) := dk_42 (dk_at dksX2_chain_4 22 rfl rfl)
theorem dX2_chain_123 : decode cX2_chain 123 = .ok (.iload_n 1, 1) := dk_27 (dk_at dksX2_chain_4 23 rfl rfl)
theorem dX2_chain_124 : decode cX2_chain 124 = .ok (.invokevirtual 240, 3) := dk_182 0 240 (dk_at dksX2_chain_5 0 rfl rfl)
theorem dX2_chain_127 : decode cX2_chain 127 = .ok (.ifCond .eq 7, 3) := dk_153 0 7 (dk_at dksX2_chain_5 3 rfl rfl)
theorem dX2_chain_130 : decode cX2_chain 130 = .ok (.iconst 1, 1) := dk_4 (dk_at dksX2_chain_5 6 rfl rfl)
theorem dX2_chain_131 : decode cX2_chain 131 = .ok (.goto 4, 3) := dk_167 0 4 (dk_at dksX2_chain_5 7 rfl rfl)
theorem dX2_chain_134 : decode cX2_chain 134 = .ok (.iconst 0, 1) := dk_3 (dk_at dksX2_chain_5 10 rfl rfl)
theorem dX2_chain_135 : decode cX2_chain 135 = .ok (.ireturn, 1) := dk_172 (dk_at dksX2_chain_5 11 rfl rfl)
theorem dX2_chain_136 : decode cX2_chain 136 = .ok (.aload_n 0, 1) := dk_42 (dk_at dksX2_chain_5 12 rfl rfl)
theorem dX2_chain_137 : decode cX2_chain 137 = .ok (.iload_n 1, 1) := dk_27 (dk_at dksX2_chain_5 13 rfl rfl)
theorem dX2_chain_138 : decode cX2_chain 138 = .ok (.invokevirtual 243, 3) := dk_182 0 243 (dk_at dksX2_chain_5 14 rfl rfl)
theorem dX2_chain_141 : decode cX2_chain 141 = .ok (.ireturn, 1) := dk_172 (dk_at dksX2_chain_5 17 rfl rfl)
theorem dX2_chain_142 : decode cX2_chain 142 = .ok (.aload_n 0, 1) := dk_42 (dk_at dksX2_chain_5 18 rfl rfl)
theorem dX2_chain_143 : decode cX2_chain 143 = .ok (.iload_n 1, 1) := dk_27 (dk_at dksX2_chain_5 19 rfl rfl)
theorem dX2_chain_144 : decode cX2_chain 144 = .ok (.invokevirtual 246, 3) := dk_182 0 246 (dk_at dksX2_chain_5 20 rfl rfl)
theorem dX2_chain_147 : decode cX2_chain 147 = .ok (.ireturn, 1) := dk_172 (dk_at dksX2_chain_5 23 rfl rfl)
abbrev cX2_sumOf : ByteArray := prog_12_method_80_code
def yX2_sumOf : MethodName := ⟨RX2, "sumOf", "(II)I"⟩
def dkwX2_sumOf_3 : List UInt8 := [160, 0, 8, 21, 5, 167, 0, 4, 3, 96, 62, 132, 4, 1, 167, 255, 181, 29, 172]
abbrev dktX2_sumOf_3 : List UInt8 := dkwX2_sumOf_3 ++ []
def dkwX2_sumOf_2 : List UInt8 := [160, 0, 7, 5, 167, 0, 4, 6, 182, 0, 50, 54, 5, 29, 42, 21, 4, 7, 182, 0, 50, 27]
abbrev dktX2_sumOf_2 : List UInt8 := dkwX2_sumOf_2 ++ dktX2_sumOf_3
def dkwX2_sumOf_1 : List UInt8 := [167, 0, 33, 28, 7, 160, 0, 12, 42, 21, 4, 182, 0, 148, 167, 0, 19, 42, 21, 4, 28, 8]
abbrev dktX2_sumOf_1 : List UInt8 := dkwX2_sumOf_1 ++ dktX2_sumOf_2
def dkwX2_sumOf_0 : List UInt8 := [3, 62, 3, 54, 4, 21, 4, 42, 180, 0, 7, 16, 13, 46, 162, 0, 69, 28, 154, 0, 7, 4]
abbrev dktX2_sumOf_0 : List UInt8 := dkwX2_sumOf_0 ++ dktX2_sumOf_1
theorem dksX2_sumOf_0 : cX2_sumOf.data.toList.drop 0 = dktX2_sumOf_0 := by decide +kernel
theorem dksX2_sumOf_1 : cX2_sumOf.data.toList.drop 22 = dktX2_sumOf_1 := dk_seg dksX2_sumOf_0 22 rfl rfl
theorem dksX2_sumOf_2 : cX2_sumOf.data.toList.drop 44 = dktX2_sumOf_2 := dk_seg dksX2_sumOf_1 22 rfl rfl
theorem dksX2_sumOf_3 : cX2_sumOf.data.toList.drop 66 = dktX2_sumOf_3 := dk_seg dksX2_sumOf_2 22 rfl rfl
theorem dX2_sumOf_0 : decode cX2_sumOf 0 = .ok (.iconst 0, 1) := dk_3 (dk_at dksX2_sumOf_0 0 rfl rfl)
theorem dX2_sumOf_1 : decode cX2_sumOf 1 = .ok (.istore_n 3, 1) := dk_62 (dk_at dksX2_sumOf_0 1 rfl rfl)
theorem dX2_sumOf_2 : decode cX2_sumOf 2 = .ok (.iconst 0, 1) := dk_3 (dk_at dksX2_sumOf_0 2 rfl rfl)
theorem dX2_sumOf_3 : decode cX2_sumOf 3 = .ok (.istore 4, 2) := dk_54 4 (dk_at dksX2_sumOf_0 3 rfl rfl)
theorem dX2_sumOf_5 : decode cX2_sumOf 5 = .ok (.iload 4, 2) := dk_21 4 (dk_at dksX2_sumOf_0 5 rfl rfl)
theorem dX2_sumOf_7 : decode cX2_sumOf 7 = .ok (.aload_n 0, 1) := dk_42 (dk_at dksX2_sumOf_0 7 rfl rfl)
theorem dX2_sumOf_8 : decode cX2_sumOf 8 = .ok (.getfield 7, 3) := dk_180 0 7 (dk_at dksX2_sumOf_0 8 rfl rfl)
theorem dX2_sumOf_11 : decode cX2_sumOf 11 = .ok (.bipush 13, 2) := dk_16 13 (dk_at dksX2_sumOf_0 11 rfl rfl)
theorem dX2_sumOf_13 : decode cX2_sumOf 13 = .ok (.iaload, 1) := dk_46 (dk_at dksX2_sumOf_0 13 rfl rfl)
theorem dX2_sumOf_14 : decode cX2_sumOf 14 = .ok (.if_icmp .ge 69, 3) := dk_162 0 69 (dk_at dksX2_sumOf_0 14 rfl rfl)
theorem dX2_sumOf_17 : decode cX2_sumOf 17 = .ok (.iload_n 2, 1) := dk_28 (dk_at dksX2_sumOf_0 17 rfl rfl)
theorem dX2_sumOf_18 : decode cX2_sumOf 18 = .ok (.ifCond .ne 7, 3) := dk_154 0 7 (dk_at dksX2_sumOf_0 18 rfl rfl)
theorem dX2_sumOf_21 : decode cX2_sumOf 21 = .ok (.iconst 1, 1) := dk_4 (dk_at dksX2_sumOf_0 21 rfl rfl)
theorem dX2_sumOf_22 : decode cX2_sumOf 22 = .ok (.goto 33, 3) := dk_167 0 33 (dk_at dksX2_sumOf_1 0 rfl rfl)
theorem dX2_sumOf_25 : decode cX2_sumOf 25 = .ok (.iload_n 2, 1) := dk_28 (dk_at dksX2_sumOf_1 3 rfl rfl)
theorem dX2_sumOf_26 : decode cX2_sumOf 26 = .ok (.iconst 4, 1) := dk_7 (dk_at dksX2_sumOf_1 4 rfl rfl)
theorem dX2_sumOf_27 : decode cX2_sumOf 27 = .ok (.if_icmp .ne 12, 3) := dk_160 0 12 (dk_at dksX2_sumOf_1 5 rfl rfl)
theorem dX2_sumOf_30 : decode cX2_sumOf 30 = .ok (.aload_n 0, 1) := dk_42 (dk_at dksX2_sumOf_1 8 rfl rfl)
theorem dX2_sumOf_31 : decode cX2_sumOf 31 = .ok (.iload 4, 2) := dk_21 4 (dk_at dksX2_sumOf_1 9 rfl rfl)
theorem dX2_sumOf_33 : decode cX2_sumOf 33 = .ok (.invokevirtual 148, 3) := dk_182 0 148 (dk_at dksX2_sumOf_1 11 rfl rfl)
theorem dX2_sumOf_36 : decode cX2_sumOf 36 = .ok (.goto 19, 3) := dk_167 0 19 (dk_at dksX2_sumOf_1 14 rfl rfl)
theorem dX2_sumOf_39 : decode cX2_sumOf 39 = .ok (.aload_n 0, 1) := dk_42 (dk_at dksX2_sumOf_1 17 rfl rfl)
theorem dX2_sumOf_40 : decode cX2_sumOf 40 = .ok (.iload 4, 2) := dk_21 4 (dk_at dksX2_sumOf_1 18 rfl rfl)
theorem dX2_sumOf_42 : decode cX2_sumOf 42 = .ok (.iload_n 2, 1) := dk_28 (dk_at dksX2_sumOf_1 20 rfl rfl)
theorem dX2_sumOf_43 : decode cX2_sumOf 43 = .ok (.iconst 5, 1) := dk_8 (dk_at dksX2_sumOf_1 21 rfl rfl)
theorem dX2_sumOf_44 : decode cX2_sumOf 44 = .ok (.if_icmp .ne 7, 3) := dk_160 0 7 (dk_at dksX2_sumOf_2 0 rfl rfl)
theorem dX2_sumOf_47 : decode cX2_sumOf 47 = .ok (.iconst 2, 1) := dk_5 (dk_at dksX2_sumOf_2 3 rfl rfl)
theorem dX2_sumOf_48 : decode cX2_sumOf 48 = .ok (.goto 4, 3) := dk_167 0 4 (dk_at dksX2_sumOf_2 4 rfl rfl)
theorem dX2_sumOf_51 : decode cX2_sumOf 51 = .ok (.iconst 3, 1) := dk_6 (dk_at dksX2_sumOf_2 7 rfl rfl)
theorem dX2_sumOf_52 : decode cX2_sumOf 52 = .ok (.invokevirtual 50, 3) := dk_182 0 50 (dk_at dksX2_sumOf_2 8 rfl rfl)
theorem dX2_sumOf_55 : decode cX2_sumOf 55 = .ok (.istore 5, 2) := dk_54 5 (dk_at dksX2_sumOf_2 11 rfl rfl)
theorem dX2_sumOf_57 : decode cX2_sumOf 57 = .ok (.iload_n 3, 1) := dk_29 (dk_at dksX2_sumOf_2 13 rfl rfl)
theorem dX2_sumOf_58 : decode cX2_sumOf 58 = .ok (.aload_n 0, 1) := dk_42 (dk_at dksX2_sumOf_2 14 rfl rfl)
theorem dX2_sumOf_59 : decode cX2_sumOf 59 = .ok (.iload 4, 2) := dk_21 4 (dk_at dksX2_sumOf_2 15 rfl rfl)
theorem dX2_sumOf_61 : decode cX2_sumOf 61 = .ok (.iconst 4, 1) := dk_7 (dk_at dksX2_sumOf_2 17 rfl rfl)
theorem dX2_sumOf_62 : decode cX2_sumOf 62 = .ok (.invokevirtual 50, 3) := dk_182 0 50 (dk_at dksX2_sumOf_2 18 rfl rfl)
theorem dX2_sumOf_65 : decode cX2_sumOf 65 = .ok (.iload_n 1, 1) := dk_27 (dk_at dksX2_sumOf_2 21 rfl rfl)
theorem dX2_sumOf_66 : decode cX2_sumOf 66 = .ok (.if_icmp .ne 8, 3) := dk_160 0 8 (dk_at dksX2_sumOf_3 0 rfl rfl)
theorem dX2_sumOf_69 : decode cX2_sumOf 69 = .ok (.iload 5, 2) := dk_21 5 (dk_at dksX2_sumOf_3 3 rfl rfl)
theorem dX2_sumOf_71 : decode cX2_sumOf 71 = .ok (.goto 4, 3) := dk_167 0 4 (dk_at dksX2_sumOf_3 5 rfl rfl)
theorem dX2_sumOf_74 : decode cX2_sumOf 74 = .ok (.iconst 0, 1) := dk_3 (dk_at dksX2_sumOf_3 8 rfl rfl)
theorem dX2_sumOf_75 : decode cX2_sumOf 75 = .ok (.iadd, 1) := dk_96 (dk_at dksX2_sumOf_3 9 rfl rfl)
theorem dX2_sumOf_76 : decode cX2_sumOf 76 = .ok (.istore_n 3, 1) := dk_62 (dk_at dksX2_sumOf_3 10 rfl rfl)
theorem dX2_sumOf_77 : decode cX2_sumOf 77 = .ok (.iinc 4 1, 3) := dk_132 4 1 (dk_at dksX2_sumOf_3 11 rfl rfl)
theorem dX2_sumOf_80 : decode cX2_sumOf 80 = .ok (.goto (-75), 3) := dk_167 255 181 (dk_at dksX2_sumOf_3 14 rfl rfl)
theorem dX2_sumOf_83 : decode cX2_sumOf 83 = .ok (.iload_n 3, 1) := dk_29 (dk_at dksX2_sumOf_3 17 rfl rfl)
theorem dX2_sumOf_84 : decode cX2_sumOf 84 = .ok (.ireturn, 1) := dk_172 (dk_at dksX2_sumOf_3 18 rfl rfl)
abbrev cX2_endOf : ByteArray := prog_12_method_81_code
def yX2_endOf : MethodName := ⟨RX2, "endOf", "(IZ)I"⟩
def dkwX2_endOf_3 : List UInt8 := [162, 0, 8, 21, 5, 167, 0, 4, 29, 62, 132, 4, 1, 167, 255, 180, 29, 172]
abbrev dktX2_endOf_3 : List UInt8 := dkwX2_endOf_3 ++ []
def dkwX2_endOf_2 : List UInt8 := [29, 17, 252, 25, 159, 0, 22, 28, 153, 0, 12, 21, 5, 29, 164, 0, 17, 167, 0, 9, 21, 5, 29]
abbrev dktX2_endOf_2 : List UInt8 := dkwX2_endOf_2 ++ dktX2_endOf_3
def dkwX2_endOf_1 : List UInt8 := [153, 0, 7, 4, 167, 0, 4, 3, 182, 0, 50, 54, 5, 42, 21, 4, 7, 182, 0, 50, 27, 160, 0, 34]
abbrev dktX2_endOf_1 : List UInt8 := dkwX2_endOf_1 ++ dktX2_endOf_2
def dkwX2_endOf_0 : List UInt8 := [17, 252, 25, 62, 3, 54, 4, 21, 4, 42, 180, 0, 7, 16, 13, 46, 162, 0, 70, 42, 21, 4, 28]
abbrev dktX2_endOf_0 : List UInt8 := dkwX2_endOf_0 ++ dktX2_endOf_1
theorem dksX2_endOf_0 : cX2_endOf.data.toList.drop 0 = dktX2_endOf_0 := by decide +kernel
theorem dksX2_endOf_1 : cX2_endOf.data.toList.drop 23 = dktX2_endOf_1 := dk_seg dksX2_endOf_0 23 rfl rfl
theorem dksX2_endOf_2 : cX2_endOf.data.toList.drop 47 = dktX2_endOf_2 := dk_seg dksX2_endOf_1 24 rfl rfl
theorem dksX2_endOf_3 : cX2_endOf.data.toList.drop 70 = dktX2_endOf_3 := dk_seg dksX2_endOf_2 23 rfl rfl
theorem dX2_endOf_0 : decode cX2_endOf 0 = .ok (.sipush (-999), 3) := dk_17 252 25 (dk_at dksX2_endOf_0 0 rfl rfl)
theorem dX2_endOf_3 : decode cX2_endOf 3 = .ok (.istore_n 3, 1) := dk_62 (dk_at dksX2_endOf_0 3 rfl rfl)
theorem dX2_endOf_4 : decode cX2_endOf 4 = .ok (.iconst 0, 1) := dk_3 (dk_at dksX2_endOf_0 4 rfl rfl)
theorem dX2_endOf_5 : decode cX2_endOf 5 = .ok (.istore 4, 2) := dk_54 4 (dk_at dksX2_endOf_0 5 rfl rfl)
theorem dX2_endOf_7 : decode cX2_endOf 7 = .ok (.iload 4, 2) := dk_21 4 (dk_at dksX2_endOf_0 7 rfl rfl)
theorem dX2_endOf_9 : decode cX2_endOf 9 = .ok (.aload_n 0, 1) := dk_42 (dk_at dksX2_endOf_0 9 rfl rfl)
theorem dX2_endOf_10 : decode cX2_endOf 10 = .ok (.getfield 7, 3) := dk_180 0 7 (dk_at dksX2_endOf_0 10 rfl rfl)
theorem dX2_endOf_13 : decode cX2_endOf 13 = .ok (.bipush 13, 2) := dk_16 13 (dk_at dksX2_endOf_0 13 rfl rfl)
theorem dX2_endOf_15 : decode cX2_endOf 15 = .ok (.iaload, 1) := dk_46 (dk_at dksX2_endOf_0 15 rfl rfl)
theorem dX2_endOf_16 : decode cX2_endOf 16 = .ok (.if_icmp .ge 70, 3) := dk_162 0 70 (dk_at dksX2_endOf_0 16 rfl rfl)
theorem dX2_endOf_19 : decode cX2_endOf 19 = .ok (.aload_n 0, 1) := dk_42 (dk_at dksX2_endOf_0 19 rfl rfl)
theorem dX2_endOf_20 : decode cX2_endOf 20 = .ok (.iload 4, 2) := dk_21 4 (dk_at dksX2_endOf_0 20 rfl rfl)
theorem dX2_endOf_22 : decode cX2_endOf 22 = .ok (.iload_n 2, 1) := dk_28 (dk_at dksX2_endOf_0 22 rfl rfl)
theorem dX2_endOf_23 : decode cX2_endOf 23 = .ok (.ifCond .eq 7, 3) := dk_153 0 7 (dk_at dksX2_endOf_1 0 rfl rfl)
theorem dX2_endOf_26 : decode cX2_endOf 26 = .ok (.iconst 1, 1) := dk_4 (dk_at dksX2_endOf_1 3 rfl rfl)
theorem dX2_endOf_27 : decode cX2_endOf 27 = .ok (.goto 4, 3) := dk_167 0 4 (dk_at dksX2_endOf_1 4 rfl rfl)
theorem dX2_endOf_30 : decode cX2_endOf 30 = .ok (.iconst 0, 1) := dk_3 (dk_at dksX2_endOf_1 7 rfl rfl)
theorem dX2_endOf_31 : decode cX2_endOf 31 = .ok (.invokevirtual 50, 3) := dk_182 0 50 (dk_at dksX2_endOf_1 8 rfl rfl)
theorem dX2_endOf_34 : decode cX2_endOf 34 = .ok (.istore 5, 2) := dk_54 5 (dk_at dksX2_endOf_1 11 rfl rfl)
theorem dX2_endOf_36 : decode cX2_endOf 36 = .ok (.aload_n 0, 1) := dk_42 (dk_at dksX2_endOf_1 13 rfl rfl)
theorem dX2_endOf_37 : decode cX2_endOf 37 = .ok (.iload 4, 2) := dk_21 4 (dk_at dksX2_endOf_1 14 rfl rfl)
theorem dX2_endOf_39 : decode cX2_endOf 39 = .ok (.iconst 4, 1) := dk_7 (dk_at dksX2_endOf_1 16 rfl rfl)
theorem dX2_endOf_40 : decode cX2_endOf 40 = .ok (.invokevirtual 50, 3) := dk_182 0 50 (dk_at dksX2_endOf_1 17 rfl rfl)
theorem dX2_endOf_43 : decode cX2_endOf 43 = .ok (.iload_n 1, 1) := dk_27 (dk_at dksX2_endOf_1 20 rfl rfl)
theorem dX2_endOf_44 : decode cX2_endOf 44 = .ok (.if_icmp .ne 34, 3) := dk_160 0 34 (dk_at dksX2_endOf_1 21 rfl rfl)
theorem dX2_endOf_47 : decode cX2_endOf 47 = .ok (.iload_n 3, 1) := dk_29 (dk_at dksX2_endOf_2 0 rfl rfl)
theorem dX2_endOf_48 : decode cX2_endOf 48 = .ok (.sipush (-999), 3) := dk_17 252 25 (dk_at dksX2_endOf_2 1 rfl rfl)
theorem dX2_endOf_51 : decode cX2_endOf 51 = .ok (.if_icmp .eq 22, 3) := dk_159 0 22 (dk_at dksX2_endOf_2 4 rfl rfl)
theorem dX2_endOf_54 : decode cX2_endOf 54 = .ok (.iload_n 2, 1) := dk_28 (dk_at dksX2_endOf_2 7 rfl rfl)
theorem dX2_endOf_55 : decode cX2_endOf 55 = .ok (.ifCond .eq 12, 3) := dk_153 0 12 (dk_at dksX2_endOf_2 8 rfl rfl)
theorem dX2_endOf_58 : decode cX2_endOf 58 = .ok (.iload 5, 2) := dk_21 5 (dk_at dksX2_endOf_2 11 rfl rfl)
theorem dX2_endOf_60 : decode cX2_endOf 60 = .ok (.iload_n 3, 1) := dk_29 (dk_at dksX2_endOf_2 13 rfl rfl)
theorem dX2_endOf_61 : decode cX2_endOf 61 = .ok (.if_icmp .le 17, 3) := dk_164 0 17 (dk_at dksX2_endOf_2 14 rfl rfl)
theorem dX2_endOf_64 : decode cX2_endOf 64 = .ok (.goto 9, 3) := dk_167 0 9 (dk_at dksX2_endOf_2 17 rfl rfl)
theorem dX2_endOf_67 : decode cX2_endOf 67 = .ok (.iload 5, 2) := dk_21 5 (dk_at dksX2_endOf_2 20 rfl rfl)
theorem dX2_endOf_69 : decode cX2_endOf 69 = .ok (.iload_n 3, 1) := dk_29 (dk_at dksX2_endOf_2 22 rfl rfl)
theorem dX2_endOf_70 : decode cX2_endOf 70 = .ok (.if_icmp .ge 8, 3) := dk_162 0 8 (dk_at dksX2_endOf_3 0 rfl rfl)
theorem dX2_endOf_73 : decode cX2_endOf 73 = .ok (.iload 5, 2) := dk_21 5 (dk_at dksX2_endOf_3 3 rfl rfl)
theorem dX2_endOf_75 : decode cX2_endOf 75 = .ok (.goto 4, 3) := dk_167 0 4 (dk_at dksX2_endOf_3 5 rfl rfl)
theorem dX2_endOf_78 : decode cX2_endOf 78 = .ok (.iload_n 3, 1) := dk_29 (dk_at dksX2_endOf_3 8 rfl rfl)
theorem dX2_endOf_79 : decode cX2_endOf 79 = .ok (.istore_n 3, 1) := dk_62 (dk_at dksX2_endOf_3 9 rfl rfl)
theorem dX2_endOf_80 : decode cX2_endOf 80 = .ok (.iinc 4 1, 3) := dk_132 4 1 (dk_at dksX2_endOf_3 10 rfl rfl)
theorem dX2_endOf_83 : decode cX2_endOf 83 = .ok (.goto (-76), 3) := dk_167 255 180 (dk_at dksX2_endOf_3 13 rfl rfl)
theorem dX2_endOf_86 : decode cX2_endOf 86 = .ok (.iload_n 3, 1) := dk_29 (dk_at dksX2_endOf_3 16 rfl rfl)
theorem dX2_endOf_87 : decode cX2_endOf 87 = .ok (.ireturn, 1) := dk_172 (dk_at dksX2_endOf_3 17 rfl rfl)
abbrev cX2_isClosed : ByteArray := prog_12_method_82_code
def yX2_isClosed : MethodName := ⟨RX2, "isClosed", "(I)Z"⟩
def dkwX2_isClosed_6 : List UInt8 := [167, 0, 4, 28, 61, 167, 255, 121, 29, 42, 27, 3, 182, 0, 237, 160, 0, 7, 4, 167, 0, 4, 3, 172]
abbrev dktX2_isClosed_6 : List UInt8 := dkwX2_isClosed_6 ++ []
def dkwX2_isClosed_5 : List UInt8 := [21, 4, 153, 0, 7, 4, 167, 0, 4, 3, 96, 62, 21, 4, 153, 0, 13, 42, 21, 5, 4, 182, 0, 50]
abbrev dktX2_isClosed_5 : List UInt8 := dkwX2_isClosed_5 ++ dktX2_isClosed_6
def dkwX2_isClosed_4 : List UInt8 := [96, 54, 6, 132, 7, 1, 167, 255, 183, 21, 6, 4, 160, 0, 7, 4, 167, 0, 4, 3, 54, 4, 29]
abbrev dktX2_isClosed_4 : List UInt8 := dkwX2_isClosed_4 ++ dktX2_isClosed_5
def dkwX2_isClosed_3 : List UInt8 := [153, 0, 8, 21, 7, 167, 0, 5, 21, 5, 54, 5, 21, 6, 21, 8, 153, 0, 7, 4, 167, 0, 4, 3]
abbrev dktX2_isClosed_3 : List UInt8 := dkwX2_isClosed_3 ++ dktX2_isClosed_4
def dkwX2_isClosed_2 : List UInt8 := [27, 160, 0, 18, 42, 21, 7, 3, 182, 0, 50, 28, 160, 0, 7, 4, 167, 0, 4, 3, 54, 8, 21, 8]
abbrev dktX2_isClosed_2 : List UInt8 := dkwX2_isClosed_2 ++ dktX2_isClosed_3
def dkwX2_isClosed_1 : List UInt8 := [54, 6, 3, 54, 7, 21, 7, 42, 180, 0, 7, 16, 13, 46, 162, 0, 67, 42, 21, 7, 7, 182, 0, 50]
abbrev dktX2_isClosed_1 : List UInt8 := dkwX2_isClosed_1 ++ dktX2_isClosed_2
def dkwX2_isClosed_0 : List UInt8 := [42, 27, 3, 182, 0, 233, 61, 3, 62, 4, 54, 4, 21, 4, 153, 0, 136, 17, 252, 25, 54, 5, 3]
abbrev dktX2_isClosed_0 : List UInt8 := dkwX2_isClosed_0 ++ dktX2_isClosed_1
theorem dksX2_isClosed_0 : cX2_isClosed.data.toList.drop 0 = dktX2_isClosed_0 := by decide +kernel
theorem dksX2_isClosed_1 : cX2_isClosed.data.toList.drop 23 = dktX2_isClosed_1 := dk_seg dksX2_isClosed_0 23 rfl rfl
theorem dksX2_isClosed_2 : cX2_isClosed.data.toList.drop 47 = dktX2_isClosed_2 := dk_seg dksX2_isClosed_1 24 rfl rfl
theorem dksX2_isClosed_3 : cX2_isClosed.data.toList.drop 71 = dktX2_isClosed_3 := dk_seg dksX2_isClosed_2 24 rfl rfl
theorem dksX2_isClosed_4 : cX2_isClosed.data.toList.drop 95 = dktX2_isClosed_4 := dk_seg dksX2_isClosed_3 24 rfl rfl
theorem dksX2_isClosed_5 : cX2_isClosed.data.toList.drop 118 = dktX2_isClosed_5 := dk_seg dksX2_isClosed_4 23 rfl rfl
theorem dksX2_isClosed_6 : cX2_isClosed.data.toList.drop 142 = dktX2_isClosed_6 := dk_seg dksX2_isClosed_5 24 rfl rfl
theorem dX2_isClosed_0 : decode cX2_isClosed 0 = .ok (.aload_n 0, 1) := dk_42 (dk_at dksX2_isClosed_0 0 rfl rfl)
theorem dX2_isClosed_1 : decode cX2_isClosed 1 = .ok (.iload_n 1, 1) := dk_27 (dk_at dksX2_isClosed_0 1 rfl rfl)
theorem dX2_isClosed_2 : decode cX2_isClosed 2 = .ok (.iconst 0, 1) := dk_3 (dk_at dksX2_isClosed_0 2 rfl rfl)
theorem dX2_isClosed_3 : decode cX2_isClosed 3 = .ok (.invokevirtual 233, 3) := dk_182 0 233 (dk_at dksX2_isClosed_0 3 rfl rfl)
theorem dX2_isClosed_6 : decode cX2_isClosed 6 = .ok (.istore_n 2, 1) := dk_61 (dk_at dksX2_isClosed_0 6 rfl rfl)
theorem dX2_isClosed_7 : decode cX2_isClosed 7 = .ok (.iconst 0, 1) := dk_3 (dk_at dksX2_isClosed_0 7 rfl rfl)
theorem dX2_isClosed_8 : decode cX2_isClosed 8 = .ok (.istore_n 3, 1) := dk_62 (dk_at dksX2_isClosed_0 8 rfl rfl)
theorem dX2_isClosed_9 : decode cX2_isClosed 9 = .ok (.iconst 1, 1) := dk_4 (dk_at dksX2_isClosed_0 9 rfl rfl)
theorem dX2_isClosed_10 : decode cX2_isClosed 10 = .ok (.istore 4, 2) := dk_54 4 (dk_at dksX2_isClosed_0 10 rfl rfl)
theorem dX2_isClosed_12 : decode cX2_isClosed 12 = .ok (.iload 4, 2) := dk_21 4 (dk_at dksX2_isClosed_0 12 rfl rfl)
theorem dX2_isClosed_14 : decode cX2_isClosed 14 = .ok (.ifCond .eq 136, 3) := dk_153 0 136 (dk_at dksX2_isClosed_0 14 rfl rfl)
theorem dX2_isClosed_17 : decode cX2_isClosed 17 = .ok (.sipush (-999), 3) := dk_17 252 25 (dk_at dksX2_isClosed_0 17 rfl rfl)
theorem dX2_isClosed_20 : decode cX2_isClosed 20 = .ok (.istore 5, 2) := dk_54 5 (dk_at dksX2_isClosed_0 20 rfl rfl)
theorem dX2_isClosed_22 : decode cX2_isClosed 22 = .ok (.iconst 0, 1) := dk_3 (dk_at dksX2_isClosed_0 22 rfl rfl)
theorem dX2_isClosed_23 : decode cX2_isClosed 23 = .ok (.istore 6, 2) := dk_54 6 (dk_at dksX2_isClosed_1 0 rfl rfl)
theorem dX2_isClosed_25 : decode cX2_isClosed 25 = .ok (.iconst 0, 1) := dk_3 (dk_at dksX2_isClosed_1 2 rfl rfl)
theorem dX2_isClosed_26 : decode cX2_isClosed 26 = .ok (.istore 7, 2) := dk_54 7 (dk_at dksX2_isClosed_1 3 rfl rfl)
theorem dX2_isClosed_28 : decode cX2_isClosed 28 = .ok (.iload 7, 2) := dk_21 7 (dk_at dksX2_isClosed_1 5 rfl rfl)
theorem dX2_isClosed_30 : decode cX2_isClosed 30 = .ok (.aload_n 0, 1) := dk_42 (dk_at dksX2_isClosed_1 7 rfl rfl)
theorem dX2_isClosed_31 : decode cX2_isClosed 31 = .ok (.getfield 7, 3) := dk_180 0 7 (dk_at dksX2_isClosed_1 8 rfl rfl)
theorem dX2_isClosed_34 : decode cX2_isClosed 34 = .ok (.bipush 13, 2) := dk_16 13 (dk_at dksX2_isClosed_1 11 rfl rfl)
theorem dX2_isClosed_36 : decode cX2_isClosed 36 = .ok (.iaload, 1) := dk_46 (dk_at dksX2_isClosed_1 13 rfl rfl)
theorem dX2_isClosed_37 : decode cX2_isClosed 37 = .ok (.if_icmp .ge 67, 3) := dk_162 0 67 (dk_at dksX2_isClosed_1 14 rfl rfl)
theorem dX2_isClosed_40 : decode cX2_isClosed 40 = .ok (.aload_n 0, 1) := dk_42 (dk_at dksX2_isClosed_1 17 rfl rfl)
theorem dX2_isClosed_41 : decode cX2_isClosed 41 = .ok (.iload 7, 2) := dk_21 7 (dk_at dksX2_isClosed_1 18 rfl rfl)
theorem dX2_isClosed_43 : decode cX2_isClosed 43 = .ok (.iconst 4, 1) := dk_7 (dk_at dksX2_isClosed_1 20 rfl rfl)
theorem dX2_isClosed_44 : decode cX2_isClosed 44 = .ok (.invokevirtual 50, 3) := dk_182 0 50 (dk_at dksX2_isClosed_1 21 rfl rfl)
theorem dX2_isClosed_47 : decode cX2_isClosed 47 = .ok (.iload_n 1, 1) := dk_27 (dk_at dksX2_isClosed_2 0 rfl rfl)
theorem dX2_isClosed_48 : decode cX2_isClosed 48 = .ok (.if_icmp .ne 18, 3) := dk_160 0 18 (dk_at dksX2_isClosed_2 1 rfl rfl)
theorem dX2_isClosed_51 : decode cX2_isClosed 51 = .ok (.aload_n 0, 1) := dk_42 (dk_at dksX2_isClosed_2 4 rfl rfl)
theorem dX2_isClosed_52 : decode cX2_isClosed 52 = .ok (.iload 7, 2) := dk_21 7 (dk_at dksX2_isClosed_2 5 rfl rfl)
theorem dX2_isClosed_54 : decode cX2_isClosed 54 = .ok (.iconst 0, 1) := dk_3 (dk_at dksX2_isClosed_2 7 rfl rfl)
theorem dX2_isClosed_55 : decode cX2_isClosed 55 = .ok (.invokevirtual 50, 3) := dk_182 0 50 (dk_at dksX2_isClosed_2 8 rfl rfl)
theorem dX2_isClosed_58 : decode cX2_isClosed 58 = .ok (.iload_n 2, 1) := dk_28 (dk_at dksX2_isClosed_2 11 rfl rfl)
theorem dX2_isClosed_59 : decode cX2_isClosed 59 = .ok (.if_icmp .ne 7, 3) := dk_160 0 7 (dk_at dksX2_isClosed_2 12 rfl rfl)
theorem dX2_isClosed_62 : decode cX2_isClosed 62 = .ok (.iconst 1, 1) := dk_4 (dk_at dksX2_isClosed_2 15 rfl rfl)
theorem dX2_isClosed_63 : decode cX2_isClosed 63 = .ok (.goto 4, 3) := dk_167 0 4 (dk_at dksX2_isClosed_2 16 rfl rfl)
theorem dX2_isClosed_66 : decode cX2_isClosed 66 = .ok (.iconst 0, 1) := dk_3 (dk_at dksX2_isClosed_2 19 rfl rfl)
theorem dX2_isClosed_67 : decode cX2_isClosed 67 = .ok (.istore 8, 2) := dk_54 8 (dk_at dksX2_isClosed_2 20 rfl rfl)
theorem dX2_isClosed_69 : decode cX2_isClosed 69 = .ok (.iload 8, 2) := dk_21 8 (dk_at dksX2_isClosed_2 22 rfl rfl)
theorem dX2_isClosed_71 : decode cX2_isClosed 71 = .ok (.ifCond .eq 8, 3) := dk_153 0 8 (dk_at dksX2_isClosed_3 0 rfl rfl)
theorem dX2_isClosed_74 : decode cX2_isClosed 74 = .ok (.iload 7, 2) := dk_21 7 (dk_at dksX2_isClosed_3 3 rfl rfl)
theorem dX2_isClosed_76 : decode cX2_isClosed 76 = .ok (.goto 5, 3) := dk_167 0 5 (dk_at dksX2_isClosed_3 5 rfl rfl)
theorem dX2_isClosed_79 : decode cX2_isClosed 79 = .ok (.iload 5, 2) := dk_21 5 (dk_at dksX2_isClosed_3 8 rfl rfl)
theorem dX2_isClosed_81 : decode cX2_isClosed 81 = .ok (.istore 5, 2) := dk_54 5 (dk_at dksX2_isClosed_3 10 rfl rfl)
theorem dX2_isClosed_83 : decode cX2_isClosed 83 = .ok (.iload 6, 2) := dk_21 6 (dk_at dksX2_isClosed_3 12 rfl rfl)
theorem dX2_isClosed_85 : decode cX2_isClosed 85 = .ok (.iload 8, 2) := dk_21 8 (dk_at dksX2_isClosed_3 14 rfl rfl)
theorem dX2_isClosed_87 : decode cX2_isClosed 87 = .ok (.ifCond .eq 7, 3) := dk_153 0 7 (dk_at dksX2_isClosed_3 16 rfl rfl)
theorem dX2_isClosed_90 : decode cX2_isClosed 90 = .ok (.iconst 1, 1) := dk_4 (dk_at dksX2_isClosed_3 19 rfl rfl)
theorem dX2_isClosed_91 : decode cX2_isClosed 91 = .ok (.goto 4, 3) := dk_167 0 4 (dk_at dksX2_isClosed_3 20 rfl rfl)
theorem dX2_isClosed_94 : decode cX2_isClosed 94 = .ok (.iconst 0, 1) := dk_3 (dk_at dksX2_isClosed_3 23 rfl rfl)
theorem dX2_isClosed_95 : decode cX2_isClosed 95 = .ok (.iadd, 1) := dk_96 (dk_at dksX2_isClosed_4 0 rfl rfl)
theorem dX2_isClosed_96 : decode cX2_isClosed 96 = .ok (.istore 6, 2) := dk_54 6 (dk_at dksX2_isClosed_4 1 rfl rfl)
theorem dX2_isClosed_98 : decode cX2_isClosed 98 = .ok (.iinc 7 1, 3) := dk_132 7 1 (dk_at dksX2_isClosed_4 3 rfl rfl)
theorem dX2_isClosed_101 : decode cX2_isClosed 101 = .ok (.goto (-73), 3) := dk_167 255 183 (dk_at dksX2_isClosed_4 6 rfl rfl)
theorem dX2_isClosed_104 : decode cX2_isClosed 104 = .ok (.iload 6, 2) := dk_21 6 (dk_at dksX2_isClosed_4 9 rfl rfl)
theorem dX2_isClosed_106 : decode cX2_isClosed 106 = .ok (.iconst 1, 1) := dk_4 (dk_at dksX2_isClosed_4 11 rfl rfl)
theorem dX2_isClosed_107 : decode cX2_isClosed 107 = .ok (.if_icmp .ne 7, 3) := dk_160 0 7 (dk_at dksX2_isClosed_4 12 rfl rfl)
theorem dX2_isClosed_110 : decode cX2_isClosed 110 = .ok (.iconst 1, 1) := dk_4 (dk_at dksX2_isClosed_4 15 rfl rfl)
theorem dX2_isClosed_111 : decode cX2_isClosed 111 = .ok (.goto 4, 3) := dk_167 0 4 (dk_at dksX2_isClosed_4 16 rfl rfl)
theorem dX2_isClosed_114 : decode cX2_isClosed 114 = .ok (.iconst 0, 1) := dk_3 (dk_at dksX2_isClosed_4 19 rfl rfl)
theorem dX2_isClosed_115 : decode cX2_isClosed 115 = .ok (.istore 4, 2) := dk_54 4 (dk_at dksX2_isClosed_4 20 rfl rfl)
theorem dX2_isClosed_117 : decode cX2_isClosed 117 = .ok (.iload_n 3, 1) := dk_29 (dk_at dksX2_isClosed_4 22 rfl rfl)
theorem dX2_isClosed_118 : decode cX2_isClosed 118 = .ok (.iload 4, 2) := dk_21 4 (dk_at dksX2_isClosed_5 0 rfl rfl)
theorem dX2_isClosed_120 : decode cX2_isClosed 120 = .ok (.ifCond .eq 7, 3) := dk_153 0 7 (dk_at dksX2_isClosed_5 2 rfl rfl)
theorem dX2_isClosed_123 : decode cX2_isClosed 123 = .ok (.iconst 1, 1) := dk_4 (dk_at dksX2_isClosed_5 5 rfl rfl)
theorem dX2_isClosed_124 : decode cX2_isClosed 124 = .ok (.goto 4, 3) := dk_167 0 4 (dk_at dksX2_isClosed_5 6 rfl rfl)
theorem dX2_isClosed_127 : decode cX2_isClosed 127 = .ok (.iconst 0, 1) := dk_3 (dk_at dksX2_isClosed_5 9 rfl rfl)
theorem dX2_isClosed_128 : decode cX2_isClosed 128 = .ok (.iadd, 1) := dk_96 (dk_at dksX2_isClosed_5 10 rfl rfl)
theorem dX2_isClosed_129 : decode cX2_isClosed 129 = .ok (.istore_n 3, 1) := dk_62 (dk_at dksX2_isClosed_5 11 rfl rfl)
theorem dX2_isClosed_130 : decode cX2_isClosed 130 = .ok (.iload 4, 2) := dk_21 4 (dk_at dksX2_isClosed_5 12 rfl rfl)
theorem dX2_isClosed_132 : decode cX2_isClosed 132 = .ok (.ifCond .eq 13, 3) := dk_153 0 13 (dk_at dksX2_isClosed_5 14 rfl rfl)
theorem dX2_isClosed_135 : decode cX2_isClosed 135 = .ok (.aload_n 0, 1) := dk_42 (dk_at dksX2_isClosed_5 17 rfl rfl)
theorem dX2_isClosed_136 : decode cX2_isClosed 136 = .ok (.iload 5, 2) := dk_21 5 (dk_at dksX2_isClosed_5 18 rfl rfl)
theorem dX2_isClosed_138 : decode cX2_isClosed 138 = .ok (.iconst 1, 1) := dk_4 (dk_at dksX2_isClosed_5 20 rfl rfl)
theorem dX2_isClosed_139 : decode cX2_isClosed 139 = .ok (.invokevirtual 50, 3) := dk_182 0 50 (dk_at dksX2_isClosed_5 21 rfl rfl)
theorem dX2_isClosed_142 : decode cX2_isClosed 142 = .ok (.goto 4, 3) := dk_167 0 4 (dk_at dksX2_isClosed_6 0 rfl rfl)
theorem dX2_isClosed_145 : decode cX2_isClosed 145 = .ok (.iload_n 2, 1) := dk_28 (dk_at dksX2_isClosed_6 3 rfl rfl)
theorem dX2_isClosed_146 : decode cX2_isClosed 146 = .ok (.istore_n 2, 1) := dk_61 (dk_at dksX2_isClosed_6 4 rfl rfl)
theorem dX2_isClosed_147 : decode cX2_isClosed 147 = .ok (.goto (-135), 3) := dk_167 255 121 (dk_at dksX2_isClosed_6 5 rfl rfl)
theorem dX2_isClosed_150 : decode cX2_isClosed 150 = .ok (.iload_n 3, 1) := dk_29 (dk_at dksX2_isClosed_6 8 rfl rfl)
theorem dX2_isClosed_151 : decode cX2_isClosed 151 = .ok (.aload_n 0, 1) := dk_42 (dk_at dksX2_isClosed_6 9 rfl rfl)
theorem dX2_isClosed_152 : decode cX2_isClosed 152 = .ok (.iload_n 1, 1) := dk_27 (dk_at dksX2_isClosed_6 10 rfl rfl)
theorem dX2_isClosed_153 : decode cX2_isClosed 153 = .ok (.iconst 0, 1) := dk_3 (dk_at dksX2_isClosed_6 11 rfl rfl)
theorem dX2_isClosed_154 : decode cX2_isClosed 154 = .ok (.invokevirtual 237, 3) := dk_182 0 237 (dk_at dksX2_isClosed_6 12 rfl rfl)
theorem dX2_isClosed_157 : decode cX2_isClosed 157 = .ok (.if_icmp .ne 7, 3) := dk_160 0 7 (dk_at dksX2_isClosed_6 15 rfl rfl)
theorem dX2_isClosed_160 : decode cX2_isClosed 160 = .ok (.iconst 1, 1) := dk_4 (dk_at dksX2_isClosed_6 18 rfl rfl)
theorem dX2_isClosed_161 : decode cX2_isClosed 161 = .ok (.goto 4, 3) := dk_167 0 4 (dk_at dksX2_isClosed_6 19 rfl rfl)
theorem dX2_isClosed_164 : decode cX2_isClosed 164 = .ok (.iconst 0, 1) := dk_3 (dk_at dksX2_isClosed_6 22 rfl rfl)
theorem dX2_isClosed_165 : decode cX2_isClosed 165 = .ok (.ireturn, 1) := dk_172 (dk_at dksX2_isClosed_6 23 rfl rfl)
abbrev cX2_over : ByteArray := prog_12_method_83_code
def yX2_over : MethodName := ⟨RX2, "over", "(I)I"⟩
def dkwX2_over_2 : List UInt8 := [182, 0, 233, 160, 0, 5, 28, 172, 132, 2, 1, 167, 255, 200, 17, 252, 25, 172]
abbrev dktX2_over_2 : List UInt8 := dkwX2_over_2 ++ []
def dkwX2_over_1 : List UInt8 := [28, 3, 182, 0, 50, 42, 27, 3, 182, 0, 233, 160, 0, 20, 42, 28, 4, 182, 0, 50, 42, 27, 4]
abbrev dktX2_over_1 : List UInt8 := dkwX2_over_1 ++ dktX2_over_2
def dkwX2_over_0 : List UInt8 := [3, 61, 28, 42, 180, 0, 7, 16, 13, 46, 162, 0, 51, 42, 28, 7, 182, 0, 50, 27, 159, 0, 35, 42]
abbrev dktX2_over_0 : List UInt8 := dkwX2_over_0 ++ dktX2_over_1
theorem dksX2_over_0 : cX2_over.data.toList.drop 0 = dktX2_over_0 := by decide +kernel
theorem dksX2_over_1 : cX2_over.data.toList.drop 24 = dktX2_over_1 := dk_seg dksX2_over_0 24 rfl rfl
theorem dksX2_over_2 : cX2_over.data.toList.drop 47 = dktX2_over_2 := dk_seg dksX2_over_1 23 rfl rfl
theorem dX2_over_0 : decode cX2_over 0 = .ok (.iconst 0, 1) := dk_3 (dk_at dksX2_over_0 0 rfl rfl)
theorem dX2_over_1 : decode cX2_over 1 = .ok (.istore_n 2, 1) := dk_61 (dk_at dksX2_over_0 1 rfl rfl)
theorem dX2_over_2 : decode cX2_over 2 = .ok (.iload_n 2, 1) := dk_28 (dk_at dksX2_over_0 2 rfl rfl)
theorem dX2_over_3 : decode cX2_over 3 = .ok (.aload_n 0, 1) := dk_42 (dk_at dksX2_over_0 3 rfl rfl)
theorem dX2_over_4 : decode cX2_over 4 = .ok (.getfield 7, 3) := dk_180 0 7 (dk_at dksX2_over_0 4 rfl rfl)
theorem dX2_over_7 : decode cX2_over 7 = .ok (.bipush 13, 2) := dk_16 13 (dk_at dksX2_over_0 7 rfl rfl)
theorem dX2_over_9 : decode cX2_over 9 = .ok (.iaload, 1) := dk_46 (dk_at dksX2_over_0 9 rfl rfl)
theorem dX2_over_10 : decode cX2_over 10 = .ok (.if_icmp .ge 51, 3) := dk_162 0 51 (dk_at dksX2_over_0 10 rfl rfl)
theorem dX2_over_13 : decode cX2_over 13 = .ok (.aload_n 0, 1) := dk_42 (dk_at dksX2_over_0 13 rfl rfl)
theorem dX2_over_14 : decode cX2_over 14 = .ok (.iload_n 2, 1) := dk_28 (dk_at dksX2_over_0 14 rfl rfl)
theorem dX2_over_15 : decode cX2_over 15 = .ok (.iconst 4, 1) := dk_7 (dk_at dksX2_over_0 15 rfl rfl)
theorem dX2_over_16 : decode cX2_over 16 = .ok (.invokevirtual 50, 3) := dk_182 0 50 (dk_at dksX2_over_0 16 rfl rfl)
theorem dX2_over_19 : decode cX2_over 19 = .ok (.iload_n 1, 1) := dk_27 (dk_at dksX2_over_0 19 rfl rfl)
theorem dX2_over_20 : decode cX2_over 20 = .ok (.if_icmp .eq 35, 3) := dk_159 0 35 (dk_at dksX2_over_0 20 rfl rfl)
theorem dX2_over_23 : decode cX2_over 23 = .ok (.aload_n 0, 1) := dk_42 (dk_at dksX2_over_0 23 rfl rfl)
theorem dX2_over_24 : decode cX2_over 24 = .ok (.iload_n 2, 1) := dk_28 (dk_at dksX2_over_1 0 rfl rfl)
theorem dX2_over_25 : decode cX2_over 25 = .ok (.iconst 0, 1) := dk_3 (dk_at dksX2_over_1 1 rfl rfl)
theorem dX2_over_26 : decode cX2_over 26 = .ok (.invokevirtual 50, 3) := dk_182 0 50 (dk_at dksX2_over_1 2 rfl rfl)
theorem dX2_over_29 : decode cX2_over 29 = .ok (.aload_n 0, 1) := dk_42 (dk_at dksX2_over_1 5 rfl rfl)
theorem dX2_over_30 : decode cX2_over 30 = .ok (.iload_n 1, 1) := dk_27 (dk_at dksX2_over_1 6 rfl rfl)
theorem dX2_over_31 : decode cX2_over 31 = .ok (.iconst 0, 1) := dk_3 (dk_at dksX2_over_1 7 rfl rfl)
theorem dX2_over_32 : decode cX2_over 32 = .ok (.invokevirtual 233, 3) := dk_182 0 233 (dk_at dksX2_over_1 8 rfl rfl)
theorem dX2_over_35 : decode cX2_over 35 = .ok (.if_icmp .ne 20, 3) := dk_160 0 20 (dk_at dksX2_over_1 11 rfl rfl)
theorem dX2_over_38 : decode cX2_over 38 = .ok (.aload_n 0, 1) := dk_42 (dk_at dksX2_over_1 14 rfl rfl)
theorem dX2_over_39 : decode cX2_over 39 = .ok (.iload_n 2, 1) := dk_28 (dk_at dksX2_over_1 15 rfl rfl)
theorem dX2_over_40 : decode cX2_over 40 = .ok (.iconst 1, 1) := dk_4 (dk_at dksX2_over_1 16 rfl rfl)
theorem dX2_over_41 : decode cX2_over 41 = .ok (.invokevirtual 50, 3) := dk_182 0 50 (dk_at dksX2_over_1 17 rfl rfl)
theorem dX2_over_44 : decode cX2_over 44 = .ok (.aload_n 0, 1) := dk_42 (dk_at dksX2_over_1 20 rfl rfl)
theorem dX2_over_45 : decode cX2_over 45 = .ok (.iload_n 1, 1) := dk_27 (dk_at dksX2_over_1 21 rfl rfl)
theorem dX2_over_46 : decode cX2_over 46 = .ok (.iconst 1, 1) := dk_4 (dk_at dksX2_over_1 22 rfl rfl)
theorem dX2_over_47 : decode cX2_over 47 = .ok (.invokevirtual 233, 3) := dk_182 0 233 (dk_at dksX2_over_2 0 rfl rfl)
theorem dX2_over_50 : decode cX2_over 50 = .ok (.if_icmp .ne 5, 3) := dk_160 0 5 (dk_at dksX2_over_2 3 rfl rfl)
theorem dX2_over_53 : decode cX2_over 53 = .ok (.iload_n 2, 1) := dk_28 (dk_at dksX2_over_2 6 rfl rfl)
theorem dX2_over_54 : decode cX2_over 54 = .ok (.ireturn, 1) := dk_172 (dk_at dksX2_over_2 7 rfl rfl)
theorem dX2_over_55 : decode cX2_over 55 = .ok (.iinc 2 1, 3) := dk_132 2 1 (dk_at dksX2_over_2 8 rfl rfl)
theorem dX2_over_58 : decode cX2_over 58 = .ok (.goto (-56), 3) := dk_167 255 200 (dk_at dksX2_over_2 11 rfl rfl)
theorem dX2_over_61 : decode cX2_over 61 = .ok (.sipush (-999), 3) := dk_17 252 25 (dk_at dksX2_over_2 14 rfl rfl)
theorem dX2_over_64 : decode cX2_over 64 = .ok (.ireturn, 1) := dk_172 (dk_at dksX2_over_2 17 rfl rfl)
abbrev cX2_laneOfChain : ByteArray := prog_12_method_84_code
def yX2_laneOfChain : MethodName := ⟨RX2, "laneOfChain", "(I)I"⟩
def dkwX2_laneOfChain_1 : List UInt8 := [182, 0, 184, 172]
abbrev dktX2_laneOfChain_1 : List UInt8 := dkwX2_laneOfChain_1 ++ []
def dkwX2_laneOfChain_0 : List UInt8 := [42, 182, 0, 212, 3, 61, 42, 28, 7, 182, 0, 50, 27, 159, 0, 9, 132, 2, 1, 167, 255, 243, 42, 28]
abbrev dktX2_laneOfChain_0 : List UInt8 := dkwX2_laneOfChain_0 ++ dktX2_laneOfChain_1
theorem dksX2_laneOfChain_0 : cX2_laneOfChain.data.toList.drop 0 = dktX2_laneOfChain_0 := by decide +kernel
theorem dksX2_laneOfChain_1 : cX2_laneOfChain.data.toList.drop 24 = dktX2_laneOfChain_1 := dk_seg dksX2_laneOfChain_0 24 rfl rfl
theorem dX2_laneOfChain_0 : decode cX2_laneOfChain 0 = .ok (.aload_n 0, 1) := dk_42 (dk_at dksX2_laneOfChain_0 0 rfl rfl)
theorem dX2_laneOfChain_1 : decode cX2_laneOfChain 1 = .ok (.invokevirtual 212, 3) := dk_182 0 212 (dk_at dksX2_laneOfChain_0 1 rfl rfl)
theorem dX2_laneOfChain_4 : decode cX2_laneOfChain 4 = .ok (.iconst 0, 1) := dk_3 (dk_at dksX2_laneOfChain_0 4 rfl rfl)
theorem dX2_laneOfChain_5 : decode cX2_laneOfChain 5 = .ok (.istore_n 2, 1) := dk_61 (dk_at dksX2_laneOfChain_0 5 rfl rfl)
theorem dX2_laneOfChain_6 : decode cX2_laneOfChain 6 = .ok (.aload_n 0, 1) := dk_42 (dk_at dksX2_laneOfChain_0 6 rfl rfl)
theorem dX2_laneOfChain_7 : decode cX2_laneOfChain 7 = .ok (.iload_n 2, 1) := dk_28 (dk_at dksX2_laneOfChain_0 7 rfl rfl)
theorem dX2_laneOfChain_8 : decode cX2_laneOfChain 8 = .ok (.iconst 4, 1) := dk_7 (dk_at dksX2_laneOfChain_0 8 rfl rfl)
theorem dX2_laneOfChain_9 : decode cX2_laneOfChain 9 = .ok (.invokevirtual 50, 3) := dk_182 0 50 (dk_at dksX2_laneOfChain_0 9 rfl rfl)
theorem dX2_laneOfChain_12 : decode cX2_laneOfChain 12 = .ok (.iload_n 1, 1) := dk_27 (dk_at dksX2_laneOfChain_0 12 rfl rfl)
theorem dX2_laneOfChain_13 : decode cX2_laneOfChain 13 = .ok (.if_icmp .eq 9, 3) := dk_159 0 9 (dk_at dksX2_laneOfChain_0 13 rfl rfl)
theorem dX2_laneOfChain_16 : decode cX2_laneOfChain 16 = .ok (.iinc 2 1, 3) := dk_132 2 1 (dk_at dksX2_laneOfChain_0 16 rfl rfl)
theorem dX2_laneOfChain_19 : decode cX2_laneOfChain 19 = .ok (.goto (-13), 3) := dk_167 255 243 (dk_at dksX2_laneOfChain_0 19 rfl rfl)
theorem dX2_laneOfChain_22 : decode cX2_laneOfChain 22 = .ok (.aload_n 0, 1) := dk_42 (dk_at dksX2_laneOfChain_0 22 rfl rfl)
theorem dX2_laneOfChain_23 : decode cX2_laneOfChain 23 = .ok (.iload_n 2, 1) := dk_28 (dk_at dksX2_laneOfChain_0 23 rfl rfl)
theorem dX2_laneOfChain_24 : decode cX2_laneOfChain 24 = .ok (.invokevirtual 184, 3) := dk_182 0 184 (dk_at dksX2_laneOfChain_1 0 rfl rfl)
theorem dX2_laneOfChain_27 : decode cX2_laneOfChain 27 = .ok (.ireturn, 1) := dk_172 (dk_at dksX2_laneOfChain_1 3 rfl rfl)
abbrev cX2_ifArrow : ByteArray := prog_12_method_86_code
def yX2_ifArrow : MethodName := ⟨RX2, "ifArrow", "(I)I"⟩
def dkwX2_ifArrow_1 : List UInt8 := [16, 111, 27, 79, 42, 182, 0, 212, 42, 180, 0, 7, 16, 111, 28, 79, 42, 182, 0, 249, 172]
abbrev dktX2_ifArrow_1 : List UInt8 := dkwX2_ifArrow_1 ++ []
def dkwX2_ifArrow_0 : List UInt8 := [27, 4, 16, 9, 184, 0, 46, 154, 0, 5, 2, 172, 42, 180, 0, 7, 16, 111, 46, 61, 42, 180, 0, 7]
abbrev dktX2_ifArrow_0 : List UInt8 := dkwX2_ifArrow_0 ++ dktX2_ifArrow_1
theorem dksX2_ifArrow_0 : cX2_ifArrow.data.toList.drop 0 = dktX2_ifArrow_0 := by decide +kernel
theorem dksX2_ifArrow_1 : cX2_ifArrow.data.toList.drop 24 = dktX2_ifArrow_1 := dk_seg dksX2_ifArrow_0 24 rfl rfl
theorem dX2_ifArrow_0 : decode cX2_ifArrow 0 = .ok (.iload_n 1, 1) := dk_27 (dk_at dksX2_ifArrow_0 0 rfl rfl)
theorem dX2_ifArrow_1 : decode cX2_ifArrow 1 = .ok (.iconst 1, 1) := dk_4 (dk_at dksX2_ifArrow_0 1 rfl rfl)
theorem dX2_ifArrow_2 : decode cX2_ifArrow 2 = .ok (.bipush 9, 2) := dk_16 9 (dk_at dksX2_ifArrow_0 2 rfl rfl)
theorem dX2_ifArrow_4 : decode cX2_ifArrow 4 = .ok (.invokestatic 46, 3) := dk_184 0 46 (dk_at dksX2_ifArrow_0 4 rfl rfl)
theorem dX2_ifArrow_7 : decode cX2_ifArrow 7 = .ok (.ifCond .ne 5, 3) := dk_154 0 5 (dk_at dksX2_ifArrow_0 7 rfl rfl)
theorem dX2_ifArrow_10 : decode cX2_ifArrow 10 = .ok (.iconst (-1), 1) := dk_2 (dk_at dksX2_ifArrow_0 10 rfl rfl)
theorem dX2_ifArrow_11 : decode cX2_ifArrow 11 = .ok (.ireturn, 1) := dk_172 (dk_at dksX2_ifArrow_0 11 rfl rfl)
theorem dX2_ifArrow_12 : decode cX2_ifArrow 12 = .ok (.aload_n 0, 1) := dk_42 (dk_at dksX2_ifArrow_0 12 rfl rfl)
theorem dX2_ifArrow_13 : decode cX2_ifArrow 13 = .ok (.getfield 7, 3) := dk_180 0 7 (dk_at dksX2_ifArrow_0 13 rfl rfl)
theorem dX2_ifArrow_16 : decode cX2_ifArrow 16 = .ok (.bipush 111, 2) := dk_16 111 (dk_at dksX2_ifArrow_0 16 rfl rfl)
theorem dX2_ifArrow_18 : decode cX2_ifArrow 18 = .ok (.iaload, 1) := dk_46 (dk_at dksX2_ifArrow_0 18 rfl rfl)
theorem dX2_ifArrow_19 : decode cX2_ifArrow 19 = .ok (.istore_n 2, 1) := dk_61 (dk_at dksX2_ifArrow_0 19 rfl rfl)
theorem dX2_ifArrow_20 : decode cX2_ifArrow 20 = .ok (.aload_n 0, 1) := dk_42 (dk_at dksX2_ifArrow_0 20 rfl rfl)
theorem dX2_ifArrow_21 : decode cX2_ifArrow 21 = .ok (.getfield 7, 3) := dk_180 0 7 (dk_at dksX2_ifArrow_0 21 rfl rfl)
theorem dX2_ifArrow_24 : decode cX2_ifArrow 24 = .ok (.bipush 111, 2) := dk_16 111 (dk_at dksX2_ifArrow_1 0 rfl rfl)
theorem dX2_ifArrow_26 : decode cX2_ifArrow 26 = .ok (.iload_n 1, 1) := dk_27 (dk_at dksX2_ifArrow_1 2 rfl rfl)
theorem dX2_ifArrow_27 : decode cX2_ifArrow 27 = .ok (.iastore, 1) := dk_79 (dk_at dksX2_ifArrow_1 3 rfl rfl)
theorem dX2_ifArrow_28 : decode cX2_ifArrow 28 = .ok (.aload_n 0, 1) := dk_42 (dk_at dksX2_ifArrow_1 4 rfl rfl)
theorem dX2_ifArrow_29 : decode cX2_ifArrow 29 = .ok (.invokevirtual 212, 3) := dk_182 0 212 (dk_at dksX2_ifArrow_1 5 rfl rfl)
theorem dX2_ifArrow_32 : decode cX2_ifArrow 32 = .ok (.aload_n 0, 1) := dk_42 (dk_at dksX2_ifArrow_1 8 rfl rfl)
theorem dX2_ifArrow_33 : decode cX2_ifArrow 33 = .ok (.getfield 7, 3) := dk_180 0 7 (dk_at dksX2_ifArrow_1 9 rfl rfl)
theorem dX2_ifArrow_36 : decode cX2_ifArrow 36 = .ok (.bipush 111, 2) := dk_16 111 (dk_at dksX2_ifArrow_1 12 rfl rfl)
theorem dX2_ifArrow_38 : decode cX2_ifArrow 38 = .ok (.iload_n 2, 1) := dk_28 (dk_at dksX2_ifArrow_1 14 rfl rfl)
theorem dX2_ifArrow_39 : decode cX2_ifArrow 39 = .ok (.iastore, 1) := dk_79 (dk_at dksX2_ifArrow_1 15 rfl rfl)
theorem dX2_ifArrow_40 : decode cX2_ifArrow 40 = .ok (.aload_n 0, 1) := dk_42 (dk_at dksX2_ifArrow_1 16 rfl rfl)
theorem dX2_ifArrow_41 : decode cX2_ifArrow 41 = .ok (.invokevirtual 249, 3) := dk_182 0 249 (dk_at dksX2_ifArrow_1 17 rfl rfl)
theorem dX2_ifArrow_44 : decode cX2_ifArrow 44 = .ok (.ireturn, 1) := dk_172 (dk_at dksX2_ifArrow_1 20 rfl rfl)
abbrev cX2_lanes : ByteArray := prog_12_method_58_code
def yX2_lanes : MethodName := ⟨RX2, "lanes", "()I"⟩
def dkwX2_lanes_1 : List UInt8 := [42, 28, 182, 0, 184, 4, 96, 167, 0, 4, 27, 60, 132, 2, 1, 167, 255, 221, 27, 172]
abbrev dktX2_lanes_1 : List UInt8 := dkwX2_lanes_1 ++ []
def dkwX2_lanes_0 : List UInt8 := [3, 60, 3, 61, 28, 42, 180, 0, 7, 16, 13, 46, 162, 0, 30, 42, 28, 182, 0, 184, 27, 161, 0, 13]
abbrev dktX2_lanes_0 : List UInt8 := dkwX2_lanes_0 ++ dktX2_lanes_1
theorem dksX2_lanes_0 : cX2_lanes.data.toList.drop 0 = dktX2_lanes_0 := by decide +kernel
theorem dksX2_lanes_1 : cX2_lanes.data.toList.drop 24 = dktX2_lanes_1 := dk_seg dksX2_lanes_0 24 rfl rfl
theorem dX2_lanes_0 : decode cX2_lanes 0 = .ok (.iconst 0, 1) := dk_3 (dk_at dksX2_lanes_0 0 rfl rfl)
theorem dX2_lanes_1 : decode cX2_lanes 1 = .ok (.istore_n 1, 1) := dk_60 (dk_at dksX2_lanes_0 1 rfl rfl)
theorem dX2_lanes_2 : decode cX2_lanes 2 = .ok (.iconst 0, 1) := dk_3 (dk_at dksX2_lanes_0 2 rfl rfl)
theorem dX2_lanes_3 : decode cX2_lanes 3 = .ok (.istore_n 2, 1) := dk_61 (dk_at dksX2_lanes_0 3 rfl rfl)
theorem dX2_lanes_4 : decode cX2_lanes 4 = .ok (.iload_n 2, 1) := dk_28 (dk_at dksX2_lanes_0 4 rfl rfl)
theorem dX2_lanes_5 : decode cX2_lanes 5 = .ok (.aload_n 0, 1) := dk_42 (dk_at dksX2_lanes_0 5 rfl rfl)
theorem dX2_lanes_6 : decode cX2_lanes 6 = .ok (.getfield 7, 3) := dk_180 0 7 (dk_at dksX2_lanes_0 6 rfl rfl)
theorem dX2_lanes_9 : decode cX2_lanes 9 = .ok (.bipush 13, 2) := dk_16 13 (dk_at dksX2_lanes_0 9 rfl rfl)
theorem dX2_lanes_11 : decode cX2_lanes 11 = .ok (.iaload, 1) := dk_46 (dk_at dksX2_lanes_0 11 rfl rfl)
theorem dX2_lanes_12 : decode cX2_lanes 12 = .ok (.if_icmp .ge 30, 3) := dk_162 0 30 (dk_at dksX2_lanes_0 12 rfl rfl)
theorem dX2_lanes_15 : decode cX2_lanes 15 = .ok (.aload_n 0, 1) := dk_42 (dk_at dksX2_lanes_0 15 rfl rfl)
theorem dX2_lanes_16 : decode cX2_lanes 16 = .ok (.iload_n 2, 1) := dk_28 (dk_at dksX2_lanes_0 16 rfl rfl)
theorem dX2_lanes_17 : decode cX2_lanes 17 = .ok (.invokevirtual 184, 3) := dk_182 0 184 (dk_at dksX2_lanes_0 17 rfl rfl)
theorem dX2_lanes_20 : decode cX2_lanes 20 = .ok (.iload_n 1, 1) := dk_27 (dk_at dksX2_lanes_0 20 rfl rfl)
theorem dX2_lanes_21 : decode cX2_lanes 21 = .ok (.if_icmp .lt 13, 3) := dk_161 0 13 (dk_at dksX2_lanes_0 21 rfl rfl)
theorem dX2_lanes_24 : decode cX2_lanes 24 = .ok (.aload_n 0, 1) := dk_42 (dk_at dksX2_lanes_1 0 rfl rfl)
theorem dX2_lanes_25 : decode cX2_lanes 25 = .ok (.iload_n 2, 1) := dk_28 (dk_at dksX2_lanes_1 1 rfl rfl)
theorem dX2_lanes_26 : decode cX2_lanes 26 = .ok (.invokevirtual 184, 3) := dk_182 0 184 (dk_at dksX2_lanes_1 2 rfl rfl)
theorem dX2_lanes_29 : decode cX2_lanes 29 = .ok (.iconst 1, 1) := dk_4 (dk_at dksX2_lanes_1 5 rfl rfl)
theorem dX2_lanes_30 : decode cX2_lanes 30 = .ok (.iadd, 1) := dk_96 (dk_at dksX2_lanes_1 6 rfl rfl)
theorem dX2_lanes_31 : decode cX2_lanes 31 = .ok (.goto 4, 3) := dk_167 0 4 (dk_at dksX2_lanes_1 7 rfl rfl)
theorem dX2_lanes_34 : decode cX2_lanes 34 = .ok (.iload_n 1, 1) := dk_27 (dk_at dksX2_lanes_1 10 rfl rfl)
theorem dX2_lanes_35 : decode cX2_lanes 35 = .ok (.istore_n 1, 1) := dk_60 (dk_at dksX2_lanes_1 11 rfl rfl)
theorem dX2_lanes_36 : decode cX2_lanes 36 = .ok (.iinc 2 1, 3) := dk_132 2 1 (dk_at dksX2_lanes_1 12 rfl rfl)
theorem dX2_lanes_39 : decode cX2_lanes 39 = .ok (.goto (-35), 3) := dk_167 255 221 (dk_at dksX2_lanes_1 15 rfl rfl)
theorem dX2_lanes_42 : decode cX2_lanes 42 = .ok (.iload_n 1, 1) := dk_27 (dk_at dksX2_lanes_1 18 rfl rfl)
theorem dX2_lanes_43 : decode cX2_lanes 43 = .ok (.ireturn, 1) := dk_172 (dk_at dksX2_lanes_1 19 rfl rfl)
abbrev cX2_count : ByteArray := prog_12_method_90_code
def yX2_count : MethodName := ⟨RX2, "count", "(I)I"⟩
def dkwX2_count_5 : List UInt8 := [172, 2, 172]
abbrev dktX2_count_5 : List UInt8 := dkwX2_count_5 ++ []
def dkwX2_count_4 : List UInt8 := [180, 0, 7, 16, 110, 46, 172, 42, 180, 0, 7, 16, 111, 46, 172, 42, 180, 0, 102, 172, 42, 180, 0, 38]
abbrev dktX2_count_4 : List UInt8 := dkwX2_count_4 ++ dktX2_count_5
def dkwX2_count_3 : List UInt8 := [172, 42, 17, 252, 25, 17, 252, 25, 182, 0, 215, 172, 42, 182, 0, 255, 172, 42, 182, 1, 2, 172, 42]
abbrev dktX2_count_3 : List UInt8 := dkwX2_count_3 ++ dktX2_count_4
def dkwX2_count_2 : List UInt8 := [42, 180, 0, 7, 3, 46, 172, 42, 180, 0, 7, 16, 13, 46, 172, 42, 182, 0, 252, 172, 42, 182, 0, 249]
abbrev dktX2_count_2 : List UInt8 := dkwX2_count_2 ++ dktX2_count_3
def dkwX2_count_1 : List UInt8 := [170, 0, 0, 0, 0, 0, 131, 0, 0, 0, 0, 0, 0, 0, 10, 0, 0, 0, 59, 0, 0, 0, 66, 0, 0, 0, 74, 0, 0, 0, 79, 0, 0, 0, 84, 0, 0, 0, 95, 0, 0, 0, 100, 0, 0, 0, 105, 0, 0, 0, 113, 0, 0, 0, 121, 0, 0, 0, 126]
abbrev dktX2_count_1 : List UInt8 := dkwX2_count_1 ++ dktX2_count_2
def dkwX2_count_0 : List UInt8 := [42, 182, 0, 212, 27]
abbrev dktX2_count_0 : List UInt8 := dkwX2_count_0 ++ dktX2_count_1
theorem dksX2_count_0 : cX2_count.data.toList.drop 0 = dktX2_count_0 := by decide +kernel
theorem dksX2_count_1 : cX2_count.data.toList.drop 5 = dktX2_count_1 := dk_seg dksX2_count_0 5 rfl rfl
theorem dksX2_count_2 : cX2_count.data.toList.drop 64 = dktX2_count_2 := dk_seg dksX2_count_1 59 rfl rfl
theorem dksX2_count_3 : cX2_count.data.toList.drop 88 = dktX2_count_3 := dk_seg dksX2_count_2 24 rfl rfl
theorem dksX2_count_4 : cX2_count.data.toList.drop 111 = dktX2_count_4 := dk_seg dksX2_count_3 23 rfl rfl
theorem dksX2_count_5 : cX2_count.data.toList.drop 135 = dktX2_count_5 := dk_seg dksX2_count_4 24 rfl rfl
theorem dX2_count_0 : decode cX2_count 0 = .ok (.aload_n 0, 1) := dk_42 (dk_at dksX2_count_0 0 rfl rfl)
theorem dX2_count_1 : decode cX2_count 1 = .ok (.invokevirtual 212, 3) := dk_182 0 212 (dk_at dksX2_count_0 1 rfl rfl)
theorem dX2_count_4 : decode cX2_count 4 = .ok (.iload_n 1, 1) := dk_27 (dk_at dksX2_count_0 4 rfl rfl)
theorem dX2_count_5 : decode cX2_count 5 = .ok (.tableswitch 131 0 10 #[59, 66, 74, 79, 84, 95, 100, 105, 113, 121, 126], 59) := by decide +kernel
theorem dX2_count_64 : decode cX2_count 64 = .ok (.aload_n 0, 1) := dk_42 (dk_at dksX2_count_2 0 rfl rfl)
theorem dX2_count_65 : decode cX2_count 65 = .ok (.getfield 7, 3) := dk_180 0 7 (dk_at dksX2_count_2 1 rfl rfl)
theorem dX2_count_68 : decode cX2_count 68 = .ok (.iconst 0, 1) := dk_3 (dk_at dksX2_count_2 4 rfl rfl)
theorem dX2_count_69 : decode cX2_count 69 = .ok (.iaload, 1) := dk_46 (dk_at dksX2_count_2 5 rfl rfl)
theorem dX2_count_70 : decode cX2_count 70 = .ok (.ireturn, 1) := dk_172 (dk_at dksX2_count_2 6 rfl rfl)
theorem dX2_count_71 : decode cX2_count 71 = .ok (.aload_n 0, 1) := dk_42 (dk_at dksX2_count_2 7 rfl rfl)
theorem dX2_count_72 : decode cX2_count 72 = .ok (.getfield 7, 3) := dk_180 0 7 (dk_at dksX2_count_2 8 rfl rfl)
theorem dX2_count_75 : decode cX2_count 75 = .ok (.bipush 13, 2) := dk_16 13 (dk_at dksX2_count_2 11 rfl rfl)
theorem dX2_count_77 : decode cX2_count 77 = .ok (.iaload, 1) := dk_46 (dk_at dksX2_count_2 13 rfl rfl)
theorem dX2_count_78 : decode cX2_count 78 = .ok (.ireturn, 1) := dk_172 (dk_at dksX2_count_2 14 rfl rfl)
theorem dX2_count_79 : decode cX2_count 79 = .ok (.aload_n 0, 1) := dk_42 (dk_at dksX2_count_2 15 rfl rfl)
theorem dX2_count_80 : decode cX2_count 80 = .ok (.invokevirtual 252, 3) := dk_182 0 252 (dk_at dksX2_count_2 16 rfl rfl)
theorem dX2_count_83 : decode cX2_count 83 = .ok (.ireturn, 1) := dk_172 (dk_at dksX2_count_2 19 rfl rfl)
theorem dX2_count_84 : decode cX2_count 84 = .ok (.aload_n 0, 1) := dk_42 (dk_at dksX2_count_2 20 rfl rfl)
theorem dX2_count_85 : decode cX2_count 85 = .ok (.invokevirtual 249, 3) := dk_182 0 249 (dk_at dksX2_count_2 21 rfl rfl)
theorem dX2_count_88 : decode cX2_count 88 = .ok (.ireturn, 1) := dk_172 (dk_at dksX2_count_3 0 rfl rfl)
theorem dX2_count_89 : decode cX2_count 89 = .ok (.aload_n 0, 1) := dk_42 (dk_at dksX2_count_3 1 rfl rfl)
theorem dX2_count_90 : decode cX2_count 90 = .ok (.sipush (-999), 3) := dk_17 252 25 (dk_at dksX2_count_3 2 rfl rfl)
theorem dX2_count_93 : decode cX2_count 93 = .ok (.sipush (-999), 3) := dk_17 252 25 (dk_at dksX2_count_3 5 rfl rfl)
theorem dX2_count_96 : decode cX2_count 96 = .ok (.invokevirtual 215, 3) := dk_182 0 215 (dk_at dksX2_count_3 8 rfl rfl)
theorem dX2_count_99 : decode cX2_count 99 = .ok (.ireturn, 1) := dk_172 (dk_at dksX2_count_3 11 rfl rfl)
theorem dX2_count_100 : decode cX2_count 100 = .ok (.aload_n 0, 1) := dk_42 (dk_at dksX2_count_3 12 rfl rfl)
theorem dX2_count_101 : decode cX2_count 101 = .ok (.invokevirtual 255, 3) := dk_182 0 255 (dk_at dksX2_count_3 13 rfl rfl)
theorem dX2_count_104 : decode cX2_count 104 = .ok (.ireturn, 1) := dk_172 (dk_at dksX2_count_3 16 rfl rfl)
theorem dX2_count_105 : decode cX2_count 105 = .ok (.aload_n 0, 1) := dk_42 (dk_at dksX2_count_3 17 rfl rfl)
theorem dX2_count_106 : decode cX2_count 106 = .ok (.invokevirtual 258, 3) := dk_182 1 2 (dk_at dksX2_count_3 18 rfl rfl)
theorem dX2_count_109 : decode cX2_count 109 = .ok (.ireturn, 1) := dk_172 (dk_at dksX2_count_3 21 rfl rfl)
theorem dX2_count_110 : decode cX2_count 110 = .ok (.aload_n 0, 1) := dk_42 (dk_at dksX2_count_3 22 rfl rfl)
theorem dX2_count_111 : decode cX2_count 111 = .ok (.getfield 7, 3) := dk_180 0 7 (dk_at dksX2_count_4 0 rfl rfl)
theorem dX2_count_114 : decode cX2_count 114 = .ok (.bipush 110, 2) := dk_16 110 (dk_at dksX2_count_4 3 rfl rfl)
theorem dX2_count_116 : decode cX2_count 116 = .ok (.iaload, 1) := dk_46 (dk_at dksX2_count_4 5 rfl rfl)
theorem dX2_count_117 : decode cX2_count 117 = .ok (.ireturn, 1) := dk_172 (dk_at dksX2_count_4 6 rfl rfl)
theorem dX2_count_118 : decode cX2_count 118 = .ok (.aload_n 0, 1) := dk_42 (dk_at dksX2_count_4 7 rfl rfl)
theorem dX2_count_119 : decode cX2_count 119 = .ok (.getfield 7, 3) := dk_180 0 7 (dk_at dksX2_count_4 8 rfl rfl)
theorem dX2_count_122 : decode cX2_count 122 = .ok (.bipush 111, 2) := dk_16 111 (dk_at dksX2_count_4 11 rfl rfl)
theorem dX2_count_124 : decode cX2_count 124 = .ok (.iaload, 1) := dk_46 (dk_at dksX2_count_4 13 rfl rfl)
theorem dX2_count_125 : decode cX2_count 125 = .ok (.ireturn, 1) := dk_172 (dk_at dksX2_count_4 14 rfl rfl)
theorem dX2_count_126 : decode cX2_count 126 = .ok (.aload_n 0, 1) := dk_42 (dk_at dksX2_count_4 15 rfl rfl)
theorem dX2_count_127 : decode cX2_count 127 = .ok (.getfield 102, 3) := dk_180 0 102 (dk_at dksX2_count_4 16 rfl rfl)
theorem dX2_count_130 : decode cX2_count 130 = .ok (.ireturn, 1) := dk_172 (dk_at dksX2_count_4 19 rfl rfl)
theorem dX2_count_131 : decode cX2_count 131 = .ok (.aload_n 0, 1) := dk_42 (dk_at dksX2_count_4 20 rfl rfl)
theorem dX2_count_132 : decode cX2_count 132 = .ok (.getfield 38, 3) := dk_180 0 38 (dk_at dksX2_count_4 21 rfl rfl)
theorem dX2_count_135 : decode cX2_count 135 = .ok (.ireturn, 1) := dk_172 (dk_at dksX2_count_5 0 rfl rfl)
theorem dX2_count_136 : decode cX2_count 136 = .ok (.iconst (-1), 1) := dk_2 (dk_at dksX2_count_5 1 rfl rfl)
theorem dX2_count_137 : decode cX2_count 137 = .ok (.ireturn, 1) := dk_172 (dk_at dksX2_count_5 2 rfl rfl)
abbrev cX2_units : ByteArray := prog_12_method_87_code
def yX2_units : MethodName := ⟨RX2, "units", "()I"⟩
def dkwX2_units_1 : List UInt8 := [160, 0, 7, 4, 167, 0, 4, 3, 96, 60, 132, 2, 1, 167, 255, 225, 27, 172]
abbrev dktX2_units_1 : List UInt8 := dkwX2_units_1 ++ []
def dkwX2_units_0 : List UInt8 := [3, 60, 3, 61, 28, 42, 180, 0, 7, 16, 13, 46, 162, 0, 26, 27, 42, 28, 182, 0, 157, 28]
abbrev dktX2_units_0 : List UInt8 := dkwX2_units_0 ++ dktX2_units_1
theorem dksX2_units_0 : cX2_units.data.toList.drop 0 = dktX2_units_0 := by decide +kernel
theorem dksX2_units_1 : cX2_units.data.toList.drop 22 = dktX2_units_1 := dk_seg dksX2_units_0 22 rfl rfl
theorem dX2_units_0 : decode cX2_units 0 = .ok (.iconst 0, 1) := dk_3 (dk_at dksX2_units_0 0 rfl rfl)
theorem dX2_units_1 : decode cX2_units 1 = .ok (.istore_n 1, 1) := dk_60 (dk_at dksX2_units_0 1 rfl rfl)
theorem dX2_units_2 : decode cX2_units 2 = .ok (.iconst 0, 1) := dk_3 (dk_at dksX2_units_0 2 rfl rfl)
theorem dX2_units_3 : decode cX2_units 3 = .ok (.istore_n 2, 1) := dk_61 (dk_at dksX2_units_0 3 rfl rfl)
theorem dX2_units_4 : decode cX2_units 4 = .ok (.iload_n 2, 1) := dk_28 (dk_at dksX2_units_0 4 rfl rfl)
theorem dX2_units_5 : decode cX2_units 5 = .ok (.aload_n 0, 1) := dk_42 (dk_at dksX2_units_0 5 rfl rfl)
theorem dX2_units_6 : decode cX2_units 6 = .ok (.getfield 7, 3) := dk_180 0 7 (dk_at dksX2_units_0 6 rfl rfl)
theorem dX2_units_9 : decode cX2_units 9 = .ok (.bipush 13, 2) := dk_16 13 (dk_at dksX2_units_0 9 rfl rfl)
theorem dX2_units_11 : decode cX2_units 11 = .ok (.iaload, 1) := dk_46 (dk_at dksX2_units_0 11 rfl rfl)
theorem dX2_units_12 : decode cX2_units 12 = .ok (.if_icmp .ge 26, 3) := dk_162 0 26 (dk_at dksX2_units_0 12 rfl rfl)
theorem dX2_units_15 : decode cX2_units 15 = .ok (.iload_n 1, 1) := dk_27 (dk_at dksX2_units_0 15 rfl rfl)
theorem dX2_units_16 : decode cX2_units 16 = .ok (.aload_n 0, 1) := dk_42 (dk_at dksX2_units_0 16 rfl rfl)
theorem dX2_units_17 : decode cX2_units 17 = .ok (.iload_n 2, 1) := dk_28 (dk_at dksX2_units_0 17 rfl rfl)
theorem dX2_units_18 : decode cX2_units 18 = .ok (.invokevirtual 157, 3) := dk_182 0 157 (dk_at dksX2_units_0 18 rfl rfl)
theorem dX2_units_21 : decode cX2_units 21 = .ok (.iload_n 2, 1) := dk_28 (dk_at dksX2_units_0 21 rfl rfl)
theorem dX2_units_22 : decode cX2_units 22 = .ok (.if_icmp .ne 7, 3) := dk_160 0 7 (dk_at dksX2_units_1 0 rfl rfl)
theorem dX2_units_25 : decode cX2_units 25 = .ok (.iconst 1, 1) := dk_4 (dk_at dksX2_units_1 3 rfl rfl)
theorem dX2_units_26 : decode cX2_units 26 = .ok (.goto 4, 3) := dk_167 0 4 (dk_at dksX2_units_1 4 rfl rfl)
theorem dX2_units_29 : decode cX2_units 29 = .ok (.iconst 0, 1) := dk_3 (dk_at dksX2_units_1 7 rfl rfl)
theorem dX2_units_30 : decode cX2_units 30 = .ok (.iadd, 1) := dk_96 (dk_at dksX2_units_1 8 rfl rfl)
theorem dX2_units_31 : decode cX2_units 31 = .ok (.istore_n 1, 1) := dk_60 (dk_at dksX2_units_1 9 rfl rfl)
theorem dX2_units_32 : decode cX2_units 32 = .ok (.iinc 2 1, 3) := dk_132 2 1 (dk_at dksX2_units_1 10 rfl rfl)
theorem dX2_units_35 : decode cX2_units 35 = .ok (.goto (-31), 3) := dk_167 255 225 (dk_at dksX2_units_1 13 rfl rfl)
theorem dX2_units_38 : decode cX2_units 38 = .ok (.iload_n 1, 1) := dk_27 (dk_at dksX2_units_1 16 rfl rfl)
theorem dX2_units_39 : decode cX2_units 39 = .ok (.ireturn, 1) := dk_172 (dk_at dksX2_units_1 17 rfl rfl)
abbrev cX2_groups : ByteArray := prog_12_method_88_code
def yX2_groups : MethodName := ⟨RX2, "groups", "()I"⟩
def dkwX2_groups_1 : List UInt8 := [28, 182, 0, 206, 153, 0, 7, 4, 167, 0, 4, 3, 96, 60, 132, 2, 1, 167, 255, 227, 27, 172]
abbrev dktX2_groups_1 : List UInt8 := dkwX2_groups_1 ++ []
def dkwX2_groups_0 : List UInt8 := [42, 3, 17, 252, 25, 182, 0, 197, 3, 60, 3, 61, 28, 42, 180, 0, 7, 3, 46, 162, 0, 25, 27, 42]
abbrev dktX2_groups_0 : List UInt8 := dkwX2_groups_0 ++ dktX2_groups_1
theorem dksX2_groups_0 : cX2_groups.data.toList.drop 0 = dktX2_groups_0 := by decide +kernel
theorem dksX2_groups_1 : cX2_groups.data.toList.drop 24 = dktX2_groups_1 := dk_seg dksX2_groups_0 24 rfl rfl
theorem dX2_groups_0 : decode cX2_groups 0 = .ok (.aload_n 0, 1) := dk_42 (dk_at dksX2_groups_0 0 rfl rfl)
theorem dX2_groups_1 : decode cX2_groups 1 = .ok (.iconst 0, 1) := dk_3 (dk_at dksX2_groups_0 1 rfl rfl)
theorem dX2_groups_2 : decode cX2_groups 2 = .ok (.sipush (-999), 3) := dk_17 252 25 (dk_at dksX2_groups_0 2 rfl rfl)
theorem dX2_groups_5 : decode cX2_groups 5 = .ok (.invokevirtual 197, 3) := dk_182 0 197 (dk_at dksX2_groups_0 5 rfl rfl)
theorem dX2_groups_8 : decode cX2_groups 8 = .ok (.iconst 0, 1) := dk_3 (dk_at dksX2_groups_0 8 rfl rfl)
theorem dX2_groups_9 : decode cX2_groups 9 = .ok (.istore_n 1, 1) := dk_60 (dk_at dksX2_groups_0 9 rfl rfl)
theorem dX2_groups_10 : decode cX2_groups 10 = .ok (.iconst 0, 1) := dk_3 (dk_at dksX2_groups_0 10 rfl rfl)
theorem dX2_groups_11 : decode cX2_groups 11 = .ok (.istore_n 2, 1) := dk_61 (dk_at dksX2_groups_0 11 rfl rfl)
theorem dX2_groups_12 : decode cX2_groups 12 = .ok (.iload_n 2, 1) := dk_28 (dk_at dksX2_groups_0 12 rfl rfl)
theorem dX2_groups_13 : decode cX2_groups 13 = .ok (.aload_n 0, 1) := dk_42 (dk_at dksX2_groups_0 13 rfl rfl)
theorem dX2_groups_14 : decode cX2_groups 14 = .ok (.getfield 7, 3) := dk_180 0 7 (dk_at dksX2_groups_0 14 rfl rfl)
theorem dX2_groups_17 : decode cX2_groups 17 = .ok (.iconst 0, 1) := dk_3 (dk_at dksX2_groups_0 17 rfl rfl)
theorem dX2_groups_18 : decode cX2_groups 18 = .ok (.iaload, 1) := dk_46 (dk_at dksX2_groups_0 18 rfl rfl)
theorem dX2_groups_19 : decode cX2_groups 19 = .ok (.if_icmp .ge 25, 3) := dk_162 0 25 (dk_at dksX2_groups_0 19 rfl rfl)
theorem dX2_groups_22 : decode cX2_groups 22 = .ok (.iload_n 1, 1) := dk_27 (dk_at dksX2_groups_0 22 rfl rfl)
theorem dX2_groups_23 : decode cX2_groups 23 = .ok (.aload_n 0, 1) := dk_42 (dk_at dksX2_groups_0 23 rfl rfl)
theorem dX2_groups_24 : decode cX2_groups 24 = .ok (.iload_n 2, 1) := dk_28 (dk_at dksX2_groups_1 0 rfl rfl)
theorem dX2_groups_25 : decode cX2_groups 25 = .ok (.invokevirtual 206, 3) := dk_182 0 206 (dk_at dksX2_groups_1 1 rfl rfl)
theorem dX2_groups_28 : decode cX2_groups 28 = .ok (.ifCond .eq 7, 3) := dk_153 0 7 (dk_at dksX2_groups_1 4 rfl rfl)
theorem dX2_groups_31 : decode cX2_groups 31 = .ok (.iconst 1, 1) := dk_4 (dk_at dksX2_groups_1 7 rfl rfl)
theorem dX2_groups_32 : decode cX2_groups 32 = .ok (.goto 4, 3) := dk_167 0 4 (dk_at dksX2_groups_1 8 rfl rfl)
theorem dX2_groups_35 : decode cX2_groups 35 = .ok (.iconst 0, 1) := dk_3 (dk_at dksX2_groups_1 11 rfl rfl)
theorem dX2_groups_36 : decode cX2_groups 36 = .ok (.iadd, 1) := dk_96 (dk_at dksX2_groups_1 12 rfl rfl)
theorem dX2_groups_37 : decode cX2_groups 37 = .ok (.istore_n 1, 1) := dk_60 (dk_at dksX2_groups_1 13 rfl rfl)
theorem dX2_groups_38 : decode cX2_groups 38 = .ok (.iinc 2 1, 3) := dk_132 2 1 (dk_at dksX2_groups_1 14 rfl rfl)
theorem dX2_groups_41 : decode cX2_groups 41 = .ok (.goto (-29), 3) := dk_167 255 227 (dk_at dksX2_groups_1 17 rfl rfl)
theorem dX2_groups_44 : decode cX2_groups 44 = .ok (.iload_n 1, 1) := dk_27 (dk_at dksX2_groups_1 20 rfl rfl)
theorem dX2_groups_45 : decode cX2_groups 45 = .ok (.ireturn, 1) := dk_172 (dk_at dksX2_groups_1 21 rfl rfl)
abbrev cX2_superfluous : ByteArray := prog_12_method_89_code
def yX2_superfluous : MethodName := ⟨RX2, "superfluous", "()I"⟩
def dkwX2_superfluous_1 : List UInt8 := [153, 0, 7, 4, 167, 0, 4, 3, 96, 60, 132, 2, 1, 167, 255, 225, 27, 172]
abbrev dktX2_superfluous_1 : List UInt8 := dkwX2_superfluous_1 ++ []
def dkwX2_superfluous_0 : List UInt8 := [3, 60, 3, 61, 28, 42, 180, 0, 7, 16, 13, 46, 162, 0, 26, 27, 42, 28, 3, 182, 0, 218]
abbrev dktX2_superfluous_0 : List UInt8 := dkwX2_superfluous_0 ++ dktX2_superfluous_1
theorem dksX2_superfluous_0 : cX2_superfluous.data.toList.drop 0 = dktX2_superfluous_0 := by decide +kernel
theorem dksX2_superfluous_1 : cX2_superfluous.data.toList.drop 22 = dktX2_superfluous_1 := dk_seg dksX2_superfluous_0 22 rfl rfl
theorem dX2_superfluous_0 : decode cX2_superfluous 0 = .ok (.iconst 0, 1) := dk_3 (dk_at dksX2_superfluous_0 0 rfl rfl)
theorem dX2_superfluous_1 : decode cX2_superfluous 1 = .ok (.istore_n 1, 1) := dk_60 (dk_at dksX2_superfluous_0 1 rfl rfl)
theorem dX2_superfluous_2 : decode cX2_superfluous 2 = .ok (.iconst 0, 1) := dk_3 (dk_at dksX2_superfluous_0 2 rfl rfl)
theorem dX2_superfluous_3 : decode cX2_superfluous 3 = .ok (.istore_n 2, 1) := dk_61 (dk_at dksX2_superfluous_0 3 rfl rfl)
theorem dX2_superfluous_4 : decode cX2_superfluous 4 = .ok (.iload_n 2, 1) := dk_28 (dk_at dksX2_superfluous_0 4 rfl rfl)
theorem dX2_superfluous_5 : decode cX2_superfluous 5 = .ok (.aload_n 0, 1) := dk_42 (dk_at dksX2_superfluous_0 5 rfl rfl)
theorem dX2_superfluous_6 : decode cX2_superfluous 6 = .ok (.getfield 7, 3) := dk_180 0 7 (dk_at dksX2_superfluous_0 6 rfl rfl)
theorem dX2_superfluous_9 : decode cX2_superfluous 9 = .ok (.bipush 13, 2) := dk_16 13 (dk_at dksX2_superfluous_0 9 rfl rfl)
theorem dX2_superfluous_11 : decode cX2_superfluous 11 = .ok (.iaload, 1) := dk_46 (dk_at dksX2_superfluous_0 11 rfl rfl)
theorem dX2_superfluous_12 : decode cX2_superfluous 12 = .ok (.if_icmp .ge 26, 3) := dk_162 0 26 (dk_at dksX2_superfluous_0 12 rfl rfl)
theorem dX2_superfluous_15 : decode cX2_superfluous 15 = .ok (.iload_n 1, 1) := dk_27 (dk_at dksX2_superfluous_0 15 rfl rfl)
theorem dX2_superfluous_16 : decode cX2_superfluous 16 = .ok (.aload_n 0, 1) := dk_42 (dk_at dksX2_superfluous_0 16 rfl rfl)
theorem dX2_superfluous_17 : decode cX2_superfluous 17 = .ok (.iload_n 2, 1) := dk_28 (dk_at dksX2_superfluous_0 17 rfl rfl)
theorem dX2_superfluous_18 : decode cX2_superfluous 18 = .ok (.iconst 0, 1) := dk_3 (dk_at dksX2_superfluous_0 18 rfl rfl)
theorem dX2_superfluous_19 : decode cX2_superfluous 19 = .ok (.invokevirtual 218, 3) := dk_182 0 218 (dk_at dksX2_superfluous_0 19 rfl rfl)
theorem dX2_superfluous_22 : decode cX2_superfluous 22 = .ok (.ifCond .eq 7, 3) := dk_153 0 7 (dk_at dksX2_superfluous_1 0 rfl rfl)
theorem dX2_superfluous_25 : decode cX2_superfluous 25 = .ok (.iconst 1, 1) := dk_4 (dk_at dksX2_superfluous_1 3 rfl rfl)
theorem dX2_superfluous_26 : decode cX2_superfluous 26 = .ok (.goto 4, 3) := dk_167 0 4 (dk_at dksX2_superfluous_1 4 rfl rfl)
theorem dX2_superfluous_29 : decode cX2_superfluous 29 = .ok (.iconst 0, 1) := dk_3 (dk_at dksX2_superfluous_1 7 rfl rfl)
theorem dX2_superfluous_30 : decode cX2_superfluous 30 = .ok (.iadd, 1) := dk_96 (dk_at dksX2_superfluous_1 8 rfl rfl)
theorem dX2_superfluous_31 : decode cX2_superfluous 31 = .ok (.istore_n 1, 1) := dk_60 (dk_at dksX2_superfluous_1 9 rfl rfl)
theorem dX2_superfluous_32 : decode cX2_superfluous 32 = .ok (.iinc 2 1, 3) := dk_132 2 1 (dk_at dksX2_superfluous_1 10 rfl rfl)
theorem dX2_superfluous_35 : decode cX2_superfluous 35 = .ok (.goto (-31), 3) := dk_167 255 225 (dk_at dksX2_superfluous_1 13 rfl rfl)
theorem dX2_superfluous_38 : decode cX2_superfluous 38 = .ok (.iload_n 1, 1) := dk_27 (dk_at dksX2_superfluous_1 16 rfl rfl)
theorem dX2_superfluous_39 : decode cX2_superfluous 39 = .ok (.ireturn, 1) := dk_172 (dk_at dksX2_superfluous_1 17 rfl rfl)
abbrev cX2_digest : ByteArray := prog_12_method_92_code
def yX2_digest : MethodName := ⟨RX2, "digest", "()J"⟩
def dkwX2_digest_9 : List UInt8 := [167, 255, 237, 132, 1, 1, 167, 255, 224, 42, 42, 182, 1, 35, 182, 1, 16, 42, 180, 1, 7, 173]
abbrev dktX2_digest_9 : List UInt8 := dkwX2_digest_9 ++ []
def dkwX2_digest_8 : List UInt8 := [163, 0, 33, 3, 61, 28, 16, 9, 162, 0, 19, 42, 42, 27, 28, 182, 1, 32, 182, 1, 16, 132, 2, 1]
abbrev dktX2_digest_8 : List UInt8 := dkwX2_digest_8 ++ dktX2_digest_9
def dkwX2_digest_7 : List UInt8 := [27, 28, 182, 1, 29, 182, 1, 16, 132, 2, 1, 167, 255, 211, 132, 1, 1, 167, 255, 191, 4, 60, 27, 8]
abbrev dktX2_digest_7 : List UInt8 := dkwX2_digest_7 ++ dktX2_digest_8
def dkwX2_digest_6 : List UInt8 := [42, 42, 27, 28, 3, 182, 1, 25, 182, 1, 16, 42, 42, 27, 28, 4, 182, 1, 25, 182, 1, 16, 42, 42]
abbrev dktX2_digest_6 : List UInt8 := dkwX2_digest_6 ++ dktX2_digest_7
def dkwX2_digest_5 : List UInt8 := [27, 42, 180, 0, 7, 3, 46, 162, 0, 61, 27, 4, 96, 61, 28, 42, 180, 0, 7, 3, 46, 162, 0, 41]
abbrev dktX2_digest_5 : List UInt8 := dkwX2_digest_5 ++ dktX2_digest_6
def dkwX2_digest_4 : List UInt8 := [42, 42, 27, 28, 182, 1, 22, 182, 1, 16, 132, 2, 1, 167, 255, 237, 132, 1, 1, 167, 255, 218, 3, 60]
abbrev dktX2_digest_4 : List UInt8 := dkwX2_digest_4 ++ dktX2_digest_5
def dkwX2_digest_3 : List UInt8 := [167, 255, 220, 3, 60, 27, 42, 180, 0, 7, 16, 13, 46, 162, 0, 33, 3, 61, 28, 16, 13, 162, 0, 19]
abbrev dktX2_digest_3 : List UInt8 := dkwX2_digest_3 ++ dktX2_digest_4
def dkwX2_digest_2 : List UInt8 := [162, 0, 19, 42, 42, 27, 28, 182, 1, 19, 182, 1, 16, 132, 2, 1, 167, 255, 238, 132, 1, 1]
abbrev dktX2_digest_2 : List UInt8 := dkwX2_digest_2 ++ dktX2_digest_3
def dkwX2_digest_1 : List UInt8 := [132, 1, 1, 167, 255, 238, 3, 60, 27, 42, 180, 0, 7, 3, 46, 162, 0, 32, 3, 61, 28, 8]
abbrev dktX2_digest_1 : List UInt8 := dkwX2_digest_1 ++ dktX2_digest_2
def dkwX2_digest_0 : List UInt8 := [42, 20, 1, 11, 181, 1, 7, 3, 60, 27, 16, 11, 162, 0, 18, 42, 42, 27, 182, 1, 13, 182, 1, 16]
abbrev dktX2_digest_0 : List UInt8 := dkwX2_digest_0 ++ dktX2_digest_1
theorem dksX2_digest_0 : cX2_digest.data.toList.drop 0 = dktX2_digest_0 := by decide +kernel
theorem dksX2_digest_1 : cX2_digest.data.toList.drop 24 = dktX2_digest_1 := dk_seg dksX2_digest_0 24 rfl rfl
theorem dksX2_digest_2 : cX2_digest.data.toList.drop 46 = dktX2_digest_2 := dk_seg dksX2_digest_1 22 rfl rfl
theorem dksX2_digest_3 : cX2_digest.data.toList.drop 68 = dktX2_digest_3 := dk_seg dksX2_digest_2 22 rfl rfl
theorem dksX2_digest_4 : cX2_digest.data.toList.drop 92 = dktX2_digest_4 := dk_seg dksX2_digest_3 24 rfl rfl
theorem dksX2_digest_5 : cX2_digest.data.toList.drop 116 = dktX2_digest_5 := dk_seg dksX2_digest_4 24 rfl rfl
theorem dksX2_digest_6 : cX2_digest.data.toList.drop 140 = dktX2_digest_6 := dk_seg dksX2_digest_5 24 rfl rfl
theorem dksX2_digest_7 : cX2_digest.data.toList.drop 164 = dktX2_digest_7 := dk_seg dksX2_digest_6 24 rfl rfl
theorem dksX2_digest_8 : cX2_digest.data.toList.drop 188 = dktX2_digest_8 := dk_seg dksX2_digest_7 24 rfl rfl
theorem dksX2_digest_9 : cX2_digest.data.toList.drop 212 = dktX2_digest_9 := dk_seg dksX2_digest_8 24 rfl rfl
theorem dX2_digest_0 : decode cX2_digest 0 = .ok (.aload_n 0, 1) := dk_42 (dk_at dksX2_digest_0 0 rfl rfl)
theorem dX2_digest_1 : decode cX2_digest 1 = .ok (.ldc2_w 267, 3) := dk_20 1 11 (dk_at dksX2_digest_0 1 rfl rfl)
theorem dX2_digest_4 : decode cX2_digest 4 = .ok (.putfield 263, 3) := dk_181 1 7 (dk_at dksX2_digest_0 4 rfl rfl)
theorem dX2_digest_7 : decode cX2_digest 7 = .ok (.iconst 0, 1) := dk_3 (dk_at dksX2_digest_0 7 rfl rfl)
theorem dX2_digest_8 : decode cX2_digest 8 = .ok (.istore_n 1, 1) := dk_60 (dk_at dksX2_digest_0 8 rfl rfl)
theorem dX2_digest_9 : decode cX2_digest 9 = .ok (.iload_n 1, 1) := dk_27 (dk_at dksX2_digest_0 9 rfl rfl)
theorem dX2_digest_10 : decode cX2_digest 10 = .ok (.bipush 11, 2) := dk_16 11 (dk_at dksX2_digest_0 10 rfl rfl)
theorem dX2_digest_12 : decode cX2_digest 12 = .ok (.if_icmp .ge 18, 3) := dk_162 0 18 (dk_at dksX2_digest_0 12 rfl rfl)
theorem dX2_digest_15 : decode cX2_digest 15 = .ok (.aload_n 0, 1) := dk_42 (dk_at dksX2_digest_0 15 rfl rfl)
theorem dX2_digest_16 : decode cX2_digest 16 = .ok (.aload_n 0, 1) := dk_42 (dk_at dksX2_digest_0 16 rfl rfl)
theorem dX2_digest_17 : decode cX2_digest 17 = .ok (.iload_n 1, 1) := dk_27 (dk_at dksX2_digest_0 17 rfl rfl)
theorem dX2_digest_18 : decode cX2_digest 18 = .ok (.invokevirtual 269, 3) := dk_182 1 13 (dk_at dksX2_digest_0 18 rfl rfl)
theorem dX2_digest_21 : decode cX2_digest 21 = .ok (.invokevirtual 272, 3) := dk_182 1 16 (dk_at dksX2_digest_0 21 rfl rfl)
theorem dX2_digest_24 : decode cX2_digest 24 = .ok (.iinc 1 1, 3) := dk_132 1 1 (dk_at dksX2_digest_1 0 rfl rfl)
theorem dX2_digest_27 : decode cX2_digest 27 = .ok (.goto (-18), 3) := dk_167 255 238 (dk_at dksX2_digest_1 3 rfl rfl)
theorem dX2_digest_30 : decode cX2_digest 30 = .ok (.iconst 0, 1) := dk_3 (dk_at dksX2_digest_1 6 rfl rfl)
theorem dX2_digest_31 : decode cX2_digest 31 = .ok (.istore_n 1, 1) := dk_60 (dk_at dksX2_digest_1 7 rfl rfl)
theorem dX2_digest_32 : decode cX2_digest 32 = .ok (.iload_n 1, 1) := dk_27 (dk_at dksX2_digest_1 8 rfl rfl)
theorem dX2_digest_33 : decode cX2_digest 33 = .ok (.aload_n 0, 1) := dk_42 (dk_at dksX2_digest_1 9 rfl rfl)
theorem dX2_digest_34 : decode cX2_digest 34 = .ok (.getfield 7, 3) := dk_180 0 7 (dk_at dksX2_digest_1 10 rfl rfl)
theorem dX2_digest_37 : decode cX2_digest 37 = .ok (.iconst 0, 1) := dk_3 (dk_at dksX2_digest_1 13 rfl rfl)
theorem dX2_digest_38 : decode cX2_digest 38 = .ok (.iaload, 1) := dk_46 (dk_at dksX2_digest_1 14 rfl rfl)
theorem dX2_digest_39 : decode cX2_digest 39 = .ok (.if_icmp .ge 32, 3) := dk_162 0 32 (dk_at dksX2_digest_1 15 rfl rfl)
theorem dX2_digest_42 : decode cX2_digest 42 = .ok (.iconst 0, 1) := dk_3 (dk_at dksX2_digest_1 18 rfl rfl)
theorem dX2_digest_43 : decode cX2_digest 43 = .ok (.istore_n 2, 1) := dk_61 (dk_at dksX2_digest_1 19 rfl rfl)
theorem dX2_digest_44 : decode cX2_digest 44 = .ok (.iload_n 2, 1) := dk_28 (dk_at dksX2_digest_1 20 rfl rfl)
theorem dX2_digest_45 : decode cX2_digest 45 = .ok (.iconst 5, 1) := dk_8 (dk_at dksX2_digest_1 21 rfl rfl)
theorem dX2_digest_46 : decode cX2_digest 46 = .ok (.if_icmp .ge 19, 3) := dk_162 0 19 (dk_at dksX2_digest_2 0 rfl rfl)
theorem dX2_digest_49 : decode cX2_digest 49 = .ok (.aload_n 0, 1) := dk_42 (dk_at dksX2_digest_2 3 rfl rfl)
theorem dX2_digest_50 : decode cX2_digest 50 = .ok (.aload_n 0, 1) := dk_42 (dk_at dksX2_digest_2 4 rfl rfl)
theorem dX2_digest_51 : decode cX2_digest 51 = .ok (.iload_n 1, 1) := dk_27 (dk_at dksX2_digest_2 5 rfl rfl)
theorem dX2_digest_52 : decode cX2_digest 52 = .ok (.iload_n 2, 1) := dk_28 (dk_at dksX2_digest_2 6 rfl rfl)
theorem dX2_digest_53 : decode cX2_digest 53 = .ok (.invokevirtual 275, 3) := dk_182 1 19 (dk_at dksX2_digest_2 7 rfl rfl)
theorem dX2_digest_56 : decode cX2_digest 56 = .ok (.invokevirtual 272, 3) := dk_182 1 16 (dk_at dksX2_digest_2 10 rfl rfl)
theorem dX2_digest_59 : decode cX2_digest 59 = .ok (.iinc 2 1, 3) := dk_132 2 1 (dk_at dksX2_digest_2 13 rfl rfl)
theorem dX2_digest_62 : decode cX2_digest 62 = .ok (.goto (-18), 3) := dk_167 255 238 (dk_at dksX2_digest_2 16 rfl rfl)
theorem dX2_digest_65 : decode cX2_digest 65 = .ok (.iinc 1 1, 3) := dk_132 1 1 (dk_at dksX2_digest_2 19 rfl rfl)
theorem dX2_digest_68 : decode cX2_digest 68 = .ok (.goto (-36), 3) := dk_167 255 220 (dk_at dksX2_digest_3 0 rfl rfl)
theorem dX2_digest_71 : decode cX2_digest 71 = .ok (.iconst 0, 1) := dk_3 (dk_at dksX2_digest_3 3 rfl rfl)
theorem dX2_digest_72 : decode cX2_digest 72 = .ok (.istore_n 1, 1) := dk_60 (dk_at dksX2_digest_3 4 rfl rfl)
theorem dX2_digest_73 : decode cX2_digest 73 = .ok (.iload_n 1, 1) := dk_27 (dk_at dksX2_digest_3 5 rfl rfl)
theorem dX2_digest_74 : decode cX2_digest 74 = .ok (.aload_n 0, 1) := dk_42 (dk_at dksX2_digest_3 6 rfl rfl)
theorem dX2_digest_75 : decode cX2_digest 75 = .ok (.getfield 7, 3) := dk_180 0 7 (dk_at dksX2_digest_3 7 rfl rfl)
theorem dX2_digest_78 : decode cX2_digest 78 = .ok (.bipush 13, 2) := dk_16 13 (dk_at dksX2_digest_3 10 rfl rfl)
theorem dX2_digest_80 : decode cX2_digest 80 = .ok (.iaload, 1) := dk_46 (dk_at dksX2_digest_3 12 rfl rfl)
theorem dX2_digest_81 : decode cX2_digest 81 = .ok (.if_icmp .ge 33, 3) := dk_162 0 33 (dk_at dksX2_digest_3 13 rfl rfl)
theorem dX2_digest_84 : decode cX2_digest 84 = .ok (.iconst 0, 1) := dk_3 (dk_at dksX2_digest_3 16 rfl rfl)
theorem dX2_digest_85 : decode cX2_digest 85 = .ok (.istore_n 2, 1) := dk_61 (dk_at dksX2_digest_3 17 rfl rfl)
theorem dX2_digest_86 : decode cX2_digest 86 = .ok (.iload_n 2, 1) := dk_28 (dk_at dksX2_digest_3 18 rfl rfl)
theorem dX2_digest_87 : decode cX2_digest 87 = .ok (.bipush 13, 2) := dk_16 13 (dk_at dksX2_digest_3 19 rfl rfl)
theorem dX2_digest_89 : decode cX2_digest 89 = .ok (.if_icmp .ge 19, 3) := dk_162 0 19 (dk_at dksX2_digest_3 21 rfl rfl)
theorem dX2_digest_92 : decode cX2_digest 92 = .ok (.aload_n 0, 1) := dk_42 (dk_at dksX2_digest_4 0 rfl rfl)
theorem dX2_digest_93 : decode cX2_digest 93 = .ok (.aload_n 0, 1) := dk_42 (dk_at dksX2_digest_4 1 rfl rfl)
theorem dX2_digest_94 : decode cX2_digest 94 = .ok (.iload_n 1, 1) := dk_27 (dk_at dksX2_digest_4 2 rfl rfl)
theorem dX2_digest_95 : decode cX2_digest 95 = .ok (.iload_n 2, 1) := dk_28 (dk_at dksX2_digest_4 3 rfl rfl)
theorem dX2_digest_96 : decode cX2_digest 96 = .ok (.invokevirtual 278, 3) := dk_182 1 22 (dk_at dksX2_digest_4 4 rfl rfl)
theorem dX2_digest_99 : decode cX2_digest 99 = .ok (.invokevirtual 272, 3) := dk_182 1 16 (dk_at dksX2_digest_4 7 rfl rfl)
theorem dX2_digest_102 : decode cX2_digest 102 = .ok (.iinc 2 1, 3) := dk_132 2 1 (dk_at dksX2_digest_4 10 rfl rfl)
theorem dX2_digest_105 : decode cX2_digest 105 = .ok (.goto (-19), 3) := dk_167 255 237 (dk_at dksX2_digest_4 13 rfl rfl)
theorem dX2_digest_108 : decode cX2_digest 108 = .ok (.iinc 1 1, 3) := dk_132 1 1 (dk_at dksX2_digest_4 16 rfl rfl)
theorem dX2_digest_111 : decode cX2_digest 111 = .ok (.goto (-38), 3) := dk_167 255 218 (dk_at dksX2_digest_4 19 rfl rfl)
theorem dX2_digest_114 : decode cX2_digest 114 = .ok (.iconst 0, 1) := dk_3 (dk_at dksX2_digest_4 22 rfl rfl)
theorem dX2_digest_115 : decode cX2_digest 115 = .ok (.istore_n 1, 1) := dk_60 (dk_at dksX2_digest_4 23 rfl rfl)
theorem dX2_digest_116 : decode cX2_digest 116 = .ok (.iload_n 1, 1) := dk_27 (dk_at dksX2_digest_5 0 rfl rfl)
theorem dX2_digest_117 : decode cX2_digest 117 = .ok (.aload_n 0, 1) := dk_42 (dk_at dksX2_digest_5 1 rfl rfl)
theorem dX2_digest_118 : decode cX2_digest 118 = .ok (.getfield 7, 3) := dk_180 0 7 (dk_at dksX2_digest_5 2 rfl rfl)
theorem dX2_digest_121 : decode cX2_digest 121 = .ok (.iconst 0, 1) := dk_3 (dk_at dksX2_digest_5 5 rfl rfl)
theorem dX2_digest_122 : decode cX2_digest 122 = .ok (.iaload, 1) := dk_46 (dk_at dksX2_digest_5 6 rfl rfl)
theorem dX2_digest_123 : decode cX2_digest 123 = .ok (.if_icmp .ge 61, 3) := dk_162 0 61 (dk_at dksX2_digest_5 7 rfl rfl)
theorem dX2_digest_126 : decode cX2_digest 126 = .ok (.iload_n 1, 1) := dk_27 (dk_at dksX2_digest_5 10 rfl rfl)
theorem dX2_digest_127 : decode cX2_digest 127 = .ok (.iconst 1, 1) := dk_4 (dk_at dksX2_digest_5 11 rfl rfl)
theorem dX2_digest_128 : decode cX2_digest 128 = .ok (.iadd, 1) := dk_96 (dk_at dksX2_digest_5 12 rfl rfl)
theorem dX2_digest_129 : decode cX2_digest 129 = .ok (.istore_n 2, 1) := dk_61 (dk_at dksX2_digest_5 13 rfl rfl)
theorem dX2_digest_130 : decode cX2_digest 130 = .ok (.iload_n 2, 1) := dk_28 (dk_at dksX2_digest_5 14 rfl rfl)
theorem dX2_digest_131 : decode cX2_digest 131 = .ok (.aload_n 0, 1) := dk_42 (dk_at dksX2_digest_5 15 rfl rfl)
theorem dX2_digest_132 : decode cX2_digest 132 = .ok (.getfield 7, 3) := dk_180 0 7 (dk_at dksX2_digest_5 16 rfl rfl)
theorem dX2_digest_135 : decode cX2_digest 135 = .ok (.iconst 0, 1) := dk_3 (dk_at dksX2_digest_5 19 rfl rfl)
theorem dX2_digest_136 : decode cX2_digest 136 = .ok (.iaload, 1) := dk_46 (dk_at dksX2_digest_5 20 rfl rfl)
theorem dX2_digest_137 : decode cX2_digest 137 = .ok (.if_icmp .ge 41, 3) := dk_162 0 41 (dk_at dksX2_digest_5 21 rfl rfl)
theorem dX2_digest_140 : decode cX2_digest 140 = .ok (.aload_n 0, 1) := dk_42 (dk_at dksX2_digest_6 0 rfl rfl)
theorem dX2_digest_141 : decode cX2_digest 141 = .ok (.aload_n 0, 1) := dk_42 (dk_at dksX2_digest_6 1 rfl rfl)
theorem dX2_digest_142 : decode cX2_digest 142 = .ok (.iload_n 1, 1) := dk_27 (dk_at dksX2_digest_6 2 rfl rfl)
theorem dX2_digest_143 : decode cX2_digest 143 = .ok (.iload_n 2, 1) := dk_28 (dk_at dksX2_digest_6 3 rfl rfl)
theorem dX2_digest_144 : decode cX2_digest 144 = .ok (.iconst 0, 1) := dk_3 (dk_at dksX2_digest_6 4 rfl rfl)
theorem dX2_digest_145 : decode cX2_digest 145 = .ok (.invokevirtual 281, 3) := dk_182 1 25 (dk_at dksX2_digest_6 5 rfl rfl)
theorem dX2_digest_148 : decode cX2_digest 148 = .ok (.invokevirtual 272, 3) := dk_182 1 16 (dk_at dksX2_digest_6 8 rfl rfl)
theorem dX2_digest_151 : decode cX2_digest 151 = .ok (.aload_n 0, 1) := dk_42 (dk_at dksX2_digest_6 11 rfl rfl)
theorem dX2_digest_152 : decode cX2_digest 152 = .ok (.aload_n 0, 1) := dk_42 (dk_at dksX2_digest_6 12 rfl rfl)
theorem dX2_digest_153 : decode cX2_digest 153 = .ok (.iload_n 1, 1) := dk_27 (dk_at dksX2_digest_6 13 rfl rfl)
theorem dX2_digest_154 : decode cX2_digest 154 = .ok (.iload_n 2, 1) := dk_28 (dk_at dksX2_digest_6 14 rfl rfl)
theorem dX2_digest_155 : decode cX2_digest 155 = .ok (.iconst 1, 1) := dk_4 (dk_at dksX2_digest_6 15 rfl rfl)
theorem dX2_digest_156 : decode cX2_digest 156 = .ok (.invokevirtual 281, 3) := dk_182 1 25 (dk_at dksX2_digest_6 16 rfl rfl)
theorem dX2_digest_159 : decode cX2_digest 159 = .ok (.invokevirtual 272, 3) := dk_182 1 16 (dk_at dksX2_digest_6 19 rfl rfl)
theorem dX2_digest_162 : decode cX2_digest 162 = .ok (.aload_n 0, 1) := dk_42 (dk_at dksX2_digest_6 22 rfl rfl)
theorem dX2_digest_163 : decode cX2_digest 163 = .ok (.aload_n 0, 1) := dk_42 (dk_at dksX2_digest_6 23 rfl rfl)
theorem dX2_digest_164 : decode cX2_digest 164 = .ok (.iload_n 1, 1) := dk_27 (dk_at dksX2_digest_7 0 rfl rfl)
theorem dX2_digest_165 : decode cX2_digest 165 = .ok (.iload_n 2, 1) := dk_28 (dk_at dksX2_digest_7 1 rfl rfl)
theorem dX2_digest_166 : decode cX2_digest 166 = .ok (.invokevirtual 285, 3) := dk_182 1 29 (dk_at dksX2_digest_7 2 rfl rfl)
theorem dX2_digest_169 : decode cX2_digest 169 = .ok (.invokevirtual 272, 3) := dk_182 1 16 (dk_at dksX2_digest_7 5 rfl rfl)
theorem dX2_digest_172 : decode cX2_digest 172 = .ok (.iinc 2 1, 3) := dk_132 2 1 (dk_at dksX2_digest_7 8 rfl rfl)
theorem dX2_digest_175 : decode cX2_digest 175 = .ok (.goto (-45), 3) := dk_167 255 211 (dk_at dksX2_digest_7 11 rfl rfl)
theorem dX2_digest_178 : decode cX2_digest 178 = .ok (.iinc 1 1, 3) := dk_132 1 1 (dk_at dksX2_digest_7 14 rfl rfl)
theorem dX2_digest_181 : decode cX2_digest 181 = .ok (.goto (-65), 3) := dk_167 255 191 (dk_at dksX2_digest_7 17 rfl rfl)
theorem dX2_digest_184 : decode cX2_digest 184 = .ok (.iconst 1, 1) := dk_4 (dk_at dksX2_digest_7 20 rfl rfl)
theorem dX2_digest_185 : decode cX2_digest 185 = .ok (.istore_n 1, 1) := dk_60 (dk_at dksX2_digest_7 21 rfl rfl)
theorem dX2_digest_186 : decode cX2_digest 186 = .ok (.iload_n 1, 1) := dk_27 (dk_at dksX2_digest_7 22 rfl rfl)
theorem dX2_digest_187 : decode cX2_digest 187 = .ok (.iconst 5, 1) := dk_8 (dk_at dksX2_digest_7 23 rfl rfl)
theorem dX2_digest_188 : decode cX2_digest 188 = .ok (.if_icmp .gt 33, 3) := dk_163 0 33 (dk_at dksX2_digest_8 0 rfl rfl)
theorem dX2_digest_191 : decode cX2_digest 191 = .ok (.iconst 0, 1) := dk_3 (dk_at dksX2_digest_8 3 rfl rfl)
theorem dX2_digest_192 : decode cX2_digest 192 = .ok (.istore_n 2, 1) := dk_61 (dk_at dksX2_digest_8 4 rfl rfl)
theorem dX2_digest_193 : decode cX2_digest 193 = .ok (.iload_n 2, 1) := dk_28 (dk_at dksX2_digest_8 5 rfl rfl)
theorem dX2_digest_194 : decode cX2_digest 194 = .ok (.bipush 9, 2) := dk_16 9 (dk_at dksX2_digest_8 6 rfl rfl)
theorem dX2_digest_196 : decode cX2_digest 196 = .ok (.if_icmp .ge 19, 3) := dk_162 0 19 (dk_at dksX2_digest_8 8 rfl rfl)
theorem dX2_digest_199 : decode cX2_digest 199 = .ok (.aload_n 0, 1) := dk_42 (dk_at dksX2_digest_8 11 rfl rfl)
theorem dX2_digest_200 : decode cX2_digest 200 = .ok (.aload_n 0, 1) := dk_42 (dk_at dksX2_digest_8 12 rfl rfl)
theorem dX2_digest_201 : decode cX2_digest 201 = .ok (.iload_n 1, 1) := dk_27 (dk_at dksX2_digest_8 13 rfl rfl)
theorem dX2_digest_202 : decode cX2_digest 202 = .ok (.iload_n 2, 1) := dk_28 (dk_at dksX2_digest_8 14 rfl rfl)
theorem dX2_digest_203 : decode cX2_digest 203 = .ok (.invokevirtual 288, 3) := dk_182 1 32 (dk_at dksX2_digest_8 15 rfl rfl)
theorem dX2_digest_206 : decode cX2_digest 206 = .ok (.invokevirtual 272, 3) := dk_182 1 16 (dk_at dksX2_digest_8 18 rfl rfl)
theorem dX2_digest_209 : decode cX2_digest 209 = .ok (.iinc 2 1, 3) := dk_132 2 1 (dk_at dksX2_digest_8 21 rfl rfl)
theorem dX2_digest_212 : decode cX2_digest 212 = .ok (.goto (-19), 3) := dk_167 255 237 (dk_at dksX2_digest_9 0 rfl rfl)
theorem dX2_digest_215 : decode cX2_digest 215 = .ok (.iinc 1 1, 3) := dk_132 1 1 (dk_at dksX2_digest_9 3 rfl rfl)
theorem dX2_digest_218 : decode cX2_digest 218 = .ok (.goto (-32), 3) := dk_167 255 224 (dk_at dksX2_digest_9 6 rfl rfl)
theorem dX2_digest_221 : decode cX2_digest 221 = .ok (.aload_n 0, 1) := dk_42 (dk_at dksX2_digest_9 9 rfl rfl)
theorem dX2_digest_222 : decode cX2_digest 222 = .ok (.aload_n 0, 1) := dk_42 (dk_at dksX2_digest_9 10 rfl rfl)
theorem dX2_digest_223 : decode cX2_digest 223 = .ok (.invokevirtual 291, 3) := dk_182 1 35 (dk_at dksX2_digest_9 11 rfl rfl)
theorem dX2_digest_226 : decode cX2_digest 226 = .ok (.invokevirtual 272, 3) := dk_182 1 16 (dk_at dksX2_digest_9 14 rfl rfl)
theorem dX2_digest_229 : decode cX2_digest 229 = .ok (.aload_n 0, 1) := dk_42 (dk_at dksX2_digest_9 17 rfl rfl)
theorem dX2_digest_230 : decode cX2_digest 230 = .ok (.getfield 263, 3) := dk_180 1 7 (dk_at dksX2_digest_9 18 rfl rfl)
theorem dX2_digest_233 : decode cX2_digest 233 = .ok (.lreturn, 1) := dk_173 (dk_at dksX2_digest_9 21 rfl rfl)
abbrev cX2_mixes : ByteArray := prog_12_method_91_code
def yX2_mixes : MethodName := ⟨RX2, "mixes", "(I)V"⟩
def dkwX2_mixes_0 : List UInt8 := [42, 20, 1, 5, 42, 180, 1, 7, 105, 27, 133, 97, 181, 1, 7, 177]
abbrev dktX2_mixes_0 : List UInt8 := dkwX2_mixes_0 ++ []
theorem dksX2_mixes_0 : cX2_mixes.data.toList.drop 0 = dktX2_mixes_0 := by decide +kernel
theorem dX2_mixes_0 : decode cX2_mixes 0 = .ok (.aload_n 0, 1) := dk_42 (dk_at dksX2_mixes_0 0 rfl rfl)
theorem dX2_mixes_1 : decode cX2_mixes 1 = .ok (.ldc2_w 261, 3) := dk_20 1 5 (dk_at dksX2_mixes_0 1 rfl rfl)
theorem dX2_mixes_4 : decode cX2_mixes 4 = .ok (.aload_n 0, 1) := dk_42 (dk_at dksX2_mixes_0 4 rfl rfl)
theorem dX2_mixes_5 : decode cX2_mixes 5 = .ok (.getfield 263, 3) := dk_180 1 7 (dk_at dksX2_mixes_0 5 rfl rfl)
theorem dX2_mixes_8 : decode cX2_mixes 8 = .ok (.lmul, 1) := dk_105 (dk_at dksX2_mixes_0 8 rfl rfl)
theorem dX2_mixes_9 : decode cX2_mixes 9 = .ok (.iload_n 1, 1) := dk_27 (dk_at dksX2_mixes_0 9 rfl rfl)
theorem dX2_mixes_10 : decode cX2_mixes 10 = .ok (.i2l, 1) := dk_133 (dk_at dksX2_mixes_0 10 rfl rfl)
theorem dX2_mixes_11 : decode cX2_mixes 11 = .ok (.ladd, 1) := dk_97 (dk_at dksX2_mixes_0 11 rfl rfl)
theorem dX2_mixes_12 : decode cX2_mixes 12 = .ok (.putfield 263, 3) := dk_181 1 7 (dk_at dksX2_mixes_0 12 rfl rfl)
theorem dX2_mixes_15 : decode cX2_mixes 15 = .ok (.return_, 1) := dk_177 (dk_at dksX2_mixes_0 15 rfl rfl)
theorem q91 : (Jvm.Cond.initialized "DimensionLinesModel") ∈ lw_all := lw_g (lw_at lw_m1 6 rfl) rfl
theorem q551 : (Jvm.Cond.selects "DimensionLinesModel" ({ cls := "java/lang/Object", name := "getClass", desc := "()Ljava/lang/Class;" } : Jvm.MethodName) ({ cls := "java/lang/Object", name := "getClass", desc := "()Ljava/lang/Class;" } : Jvm.MethodName)) ∈ lw_all := lw_g (lw_at lw_m2 226 rfl) rfl
theorem q694 : (Jvm.Cond.selects "DimensionLinesModel" ({ cls := "java/lang/Object", name := "equals", desc := "(Ljava/lang/Object;)Z" } : Jvm.MethodName) ({ cls := "java/lang/Object", name := "equals", desc := "(Ljava/lang/Object;)Z" } : Jvm.MethodName)) ∈ lw_all := lw_g (lw_at lw_m3 129 rfl) rfl
theorem q1164 : (Jvm.Cond.instantiable "DimensionLinesModel" (16 : Nat)) ∈ lw_all := lw_g (lw_at lw_m5 119 rfl) rfl
theorem q1166 : (Jvm.Cond.instanceMethod ({ cls := "DimensionLinesModel", name := "<init>", desc := "()V" } : Jvm.MethodName)) ∈ lw_all := lw_g (lw_at lw_m5 121 rfl) rfl
theorem q1167 : (Jvm.Cond.code ({ cls := "DimensionLinesModel", name := "<init>", desc := "()V" } : Jvm.MethodName) prog_12_method_1_code (1 : Nat) (Option.none : Option Jvm.ClassFile.FieldType)) ∈ lw_all := lw_g (lw_at lw_m5 122 rfl) rfl
theorem q1168 : (Jvm.Cond.methodLink "DimensionLinesModel" (1 : Nat) ({ cls := "java/lang/Object", name := "<init>", desc := "()V" } : Jvm.MethodName)) ∈ lw_all := lw_g (lw_at lw_m5 123 rfl) rfl
theorem q1169 : (Jvm.Cond.fieldLink "DimensionLinesModel" (7 : Nat) "DimensionLinesModel" "page" "[I") ∈ lw_all := lw_g (lw_at lw_m5 124 rfl) rfl
theorem q1170 : (Jvm.Cond.fieldLink "DimensionLinesModel" (38 : Nat) "DimensionLinesModel" "backMany" "I") ∈ lw_all := lw_g (lw_at lw_m5 125 rfl) rfl
theorem q1171 : (Jvm.Cond.fieldLink "DimensionLinesModel" (13 : Nat) "DimensionLinesModel" "text" "[I") ∈ lw_all := lw_g (lw_at lw_m5 126 rfl) rfl
theorem q1172 : (Jvm.Cond.fieldLink "DimensionLinesModel" (102 : Nat) "DimensionLinesModel" "typed" "I") ∈ lw_all := lw_g (lw_at lw_m5 127 rfl) rfl
theorem q1173 : (Jvm.Cond.fieldLink "DimensionLinesModel" (112 : Nat) "DimensionLinesModel" "fault" "I") ∈ lw_all := lw_g (lw_at lw_m5 128 rfl) rfl
theorem q1174 : (Jvm.Cond.fieldLink "DimensionLinesModel" (115 : Nat) "DimensionLinesModel" "faultAt" "I") ∈ lw_all := lw_g (lw_at lw_m5 129 rfl) rfl
theorem q1175 : (Jvm.Cond.fieldLink "DimensionLinesModel" (105 : Nat) "DimensionLinesModel" "spot" "I") ∈ lw_all := lw_g (lw_at lw_m5 130 rfl) rfl
theorem q1176 : (Jvm.Cond.fieldLink "DimensionLinesModel" (118 : Nat) "DimensionLinesModel" "number" "I") ∈ lw_all := lw_g (lw_at lw_m5 131 rfl) rfl
theorem q1177 : (Jvm.Cond.fieldLink "DimensionLinesModel" (16 : Nat) "DimensionLinesModel" "unit" "[I") ∈ lw_all := lw_g (lw_at lw_m5 132 rfl) rfl
theorem q1178 : (Jvm.Cond.fieldLink "DimensionLinesModel" (19 : Nat) "DimensionLinesModel" "spanFrom" "[I") ∈ lw_all := lw_g (lw_at lw_m5 133 rfl) rfl
theorem q1179 : (Jvm.Cond.fieldLink "DimensionLinesModel" (22 : Nat) "DimensionLinesModel" "spanTo" "[I") ∈ lw_all := lw_g (lw_at lw_m5 134 rfl) rfl
theorem q1180 : (Jvm.Cond.fieldLink "DimensionLinesModel" (25 : Nat) "DimensionLinesModel" "leastLane" "[I") ∈ lw_all := lw_g (lw_at lw_m5 135 rfl) rfl
theorem q1181 : (Jvm.Cond.fieldLink "DimensionLinesModel" (28 : Nat) "DimensionLinesModel" "lane" "[I") ∈ lw_all := lw_g (lw_at lw_m5 136 rfl) rfl
theorem q1182 : (Jvm.Cond.fieldLink "DimensionLinesModel" (31 : Nat) "DimensionLinesModel" "isPlaced" "[Z") ∈ lw_all := lw_g (lw_at lw_m5 137 rfl) rfl
theorem q1183 : (Jvm.Cond.fieldLink "DimensionLinesModel" (35 : Nat) "DimensionLinesModel" "greatest" "[I") ∈ lw_all := lw_g (lw_at lw_m5 138 rfl) rfl
theorem q1184 : (Jvm.Cond.fieldLink "DimensionLinesModel" (263 : Nat) "DimensionLinesModel" "hash" "J") ∈ lw_all := lw_g (lw_at lw_m5 139 rfl) rfl
theorem q1185 : (Jvm.Cond.laysFinal "DimensionLinesModel" "DimensionLinesModel" "page" "[I") ∈ lw_all := lw_g (lw_at lw_m5 140 rfl) rfl
theorem q1186 : (Jvm.Cond.soleField "DimensionLinesModel" "page") ∈ lw_all := lw_g (lw_at lw_m5 141 rfl) rfl
theorem q1187 : (Jvm.Cond.lays "DimensionLinesModel" "DimensionLinesModel" "backMany" "I") ∈ lw_all := lw_g (lw_at lw_m5 142 rfl) rfl
theorem q1188 : (Jvm.Cond.soleField "DimensionLinesModel" "backMany") ∈ lw_all := lw_g (lw_at lw_m5 143 rfl) rfl
theorem q1189 : (Jvm.Cond.laysFinal "DimensionLinesModel" "DimensionLinesModel" "text" "[I") ∈ lw_all := lw_g (lw_at lw_m5 144 rfl) rfl
theorem q1190 : (Jvm.Cond.soleField "DimensionLinesModel" "text") ∈ lw_all := lw_g (lw_at lw_m5 145 rfl) rfl
theorem q1191 : (Jvm.Cond.lays "DimensionLinesModel" "DimensionLinesModel" "typed" "I") ∈ lw_all := lw_g (lw_at lw_m5 146 rfl) rfl
theorem q1192 : (Jvm.Cond.soleField "DimensionLinesModel" "typed") ∈ lw_all := lw_g (lw_at lw_m5 147 rfl) rfl
theorem q1193 : (Jvm.Cond.lays "DimensionLinesModel" "DimensionLinesModel" "fault" "I") ∈ lw_all := lw_g (lw_at lw_m5 148 rfl) rfl
theorem q1194 : (Jvm.Cond.soleField "DimensionLinesModel" "fault") ∈ lw_all := lw_g (lw_at lw_m5 149 rfl) rfl
theorem q1195 : (Jvm.Cond.lays "DimensionLinesModel" "DimensionLinesModel" "faultAt" "I") ∈ lw_all := lw_g (lw_at lw_m5 150 rfl) rfl
theorem q1196 : (Jvm.Cond.soleField "DimensionLinesModel" "faultAt") ∈ lw_all := lw_g (lw_at lw_m5 151 rfl) rfl
theorem q1197 : (Jvm.Cond.lays "DimensionLinesModel" "DimensionLinesModel" "spot" "I") ∈ lw_all := lw_g (lw_at lw_m5 152 rfl) rfl
theorem q1198 : (Jvm.Cond.soleField "DimensionLinesModel" "spot") ∈ lw_all := lw_g (lw_at lw_m5 153 rfl) rfl
theorem q1199 : (Jvm.Cond.lays "DimensionLinesModel" "DimensionLinesModel" "number" "I") ∈ lw_all := lw_g (lw_at lw_m5 154 rfl) rfl
theorem q1200 : (Jvm.Cond.soleField "DimensionLinesModel" "number") ∈ lw_all := lw_g (lw_at lw_m5 155 rfl) rfl
theorem q1201 : (Jvm.Cond.laysFinal "DimensionLinesModel" "DimensionLinesModel" "unit" "[I") ∈ lw_all := lw_g (lw_at lw_m5 156 rfl) rfl
theorem q1202 : (Jvm.Cond.soleField "DimensionLinesModel" "unit") ∈ lw_all := lw_g (lw_at lw_m5 157 rfl) rfl
theorem q1203 : (Jvm.Cond.laysFinal "DimensionLinesModel" "DimensionLinesModel" "spanFrom" "[I") ∈ lw_all := lw_g (lw_at lw_m5 158 rfl) rfl
theorem q1204 : (Jvm.Cond.soleField "DimensionLinesModel" "spanFrom") ∈ lw_all := lw_g (lw_at lw_m5 159 rfl) rfl
theorem q1205 : (Jvm.Cond.laysFinal "DimensionLinesModel" "DimensionLinesModel" "spanTo" "[I") ∈ lw_all := lw_g (lw_at lw_m5 160 rfl) rfl
theorem q1206 : (Jvm.Cond.soleField "DimensionLinesModel" "spanTo") ∈ lw_all := lw_g (lw_at lw_m5 161 rfl) rfl
theorem q1207 : (Jvm.Cond.laysFinal "DimensionLinesModel" "DimensionLinesModel" "leastLane" "[I") ∈ lw_all := lw_g (lw_at lw_m5 162 rfl) rfl
theorem q1208 : (Jvm.Cond.soleField "DimensionLinesModel" "leastLane") ∈ lw_all := lw_g (lw_at lw_m5 163 rfl) rfl
theorem q1209 : (Jvm.Cond.laysFinal "DimensionLinesModel" "DimensionLinesModel" "lane" "[I") ∈ lw_all := lw_g (lw_at lw_m5 164 rfl) rfl
theorem q1210 : (Jvm.Cond.soleField "DimensionLinesModel" "lane") ∈ lw_all := lw_g (lw_at lw_m5 165 rfl) rfl
theorem q1211 : (Jvm.Cond.laysFinal "DimensionLinesModel" "DimensionLinesModel" "isPlaced" "[Z") ∈ lw_all := lw_g (lw_at lw_m5 166 rfl) rfl
theorem q1212 : (Jvm.Cond.soleField "DimensionLinesModel" "isPlaced") ∈ lw_all := lw_g (lw_at lw_m5 167 rfl) rfl
theorem q1213 : (Jvm.Cond.laysFinal "DimensionLinesModel" "DimensionLinesModel" "greatest" "[I") ∈ lw_all := lw_g (lw_at lw_m5 168 rfl) rfl
theorem q1214 : (Jvm.Cond.soleField "DimensionLinesModel" "greatest") ∈ lw_all := lw_g (lw_at lw_m5 169 rfl) rfl
theorem q1215 : (Jvm.Cond.lays "DimensionLinesModel" "DimensionLinesModel" "hash" "J") ∈ lw_all := lw_g (lw_at lw_m5 170 rfl) rfl
theorem q1216 : (Jvm.Cond.soleField "DimensionLinesModel" "hash") ∈ lw_all := lw_g (lw_at lw_m5 171 rfl) rfl
theorem q1217 : (Jvm.Cond.superclass "DimensionLinesModel" "java/lang/Object") ∈ lw_all := lw_g (lw_at lw_m5 172 rfl) rfl
theorem q1220 : (Jvm.Cond.instanceMethod ({ cls := "DimensionLinesModel", name := "undo", desc := "()I" } : Jvm.MethodName)) ∈ lw_all := lw_g (lw_at lw_m5 175 rfl) rfl
theorem q1221 : (Jvm.Cond.selects "DimensionLinesModel" ({ cls := "DimensionLinesModel", name := "undo", desc := "()I" } : Jvm.MethodName) ({ cls := "DimensionLinesModel", name := "undo", desc := "()I" } : Jvm.MethodName)) ∈ lw_all := lw_g (lw_at lw_m5 176 rfl) rfl
theorem q1222 : (Jvm.Cond.code ({ cls := "DimensionLinesModel", name := "undo", desc := "()I" } : Jvm.MethodName) prog_12_method_6_code (1 : Nat) (Option.some Jvm.ClassFile.FieldType.int)) ∈ lw_all := lw_g (lw_at lw_m5 177 rfl) rfl
theorem q1223 : (Jvm.Cond.methodLink "DimensionLinesModel" (42 : Nat) ({ cls := "DimensionLinesModel", name := "copies", desc := "(II)V" } : Jvm.MethodName)) ∈ lw_all := lw_g (lw_at lw_m5 178 rfl) rfl
theorem q1224 : (Jvm.Cond.privateMethod ({ cls := "DimensionLinesModel", name := "copies", desc := "(II)V" } : Jvm.MethodName)) ∈ lw_tbl := lw_at lw_m5 179 rfl
theorem q1225 : (Jvm.Cond.instanceMethod ({ cls := "DimensionLinesModel", name := "copies", desc := "(II)V" } : Jvm.MethodName)) ∈ lw_all := lw_g (lw_at lw_m5 180 rfl) rfl
theorem q1226 : (Jvm.Cond.code ({ cls := "DimensionLinesModel", name := "copies", desc := "(II)V" } : Jvm.MethodName) prog_12_method_4_code (4 : Nat) (Option.none : Option Jvm.ClassFile.FieldType)) ∈ lw_all := lw_g (lw_at lw_m5 181 rfl) rfl
theorem q1228 : (Jvm.Cond.instanceMethod ({ cls := "DimensionLinesModel", name := "addPoint", desc := "(I)I" } : Jvm.MethodName)) ∈ lw_all := lw_g (lw_at lw_m5 183 rfl) rfl
theorem q1229 : (Jvm.Cond.selects "DimensionLinesModel" ({ cls := "DimensionLinesModel", name := "addPoint", desc := "(I)I" } : Jvm.MethodName) ({ cls := "DimensionLinesModel", name := "addPoint", desc := "(I)I" } : Jvm.MethodName)) ∈ lw_all := lw_g (lw_at lw_m5 184 rfl) rfl
theorem q1230 : (Jvm.Cond.code ({ cls := "DimensionLinesModel", name := "addPoint", desc := "(I)I" } : Jvm.MethodName) prog_12_method_17_code (2 : Nat) (Option.some Jvm.ClassFile.FieldType.int)) ∈ lw_all := lw_g (lw_at lw_m5 185 rfl) rfl
theorem q1231 : (Jvm.Cond.methodLink "DimensionLinesModel" (46 : Nat) ({ cls := "DimensionLinesModel", name := "in", desc := "(III)Z" } : Jvm.MethodName)) ∈ lw_all := lw_g (lw_at lw_m5 186 rfl) rfl
theorem q1232 : (Jvm.Cond.static ({ cls := "DimensionLinesModel", name := "in", desc := "(III)Z" } : Jvm.MethodName)) ∈ lw_all := lw_g (lw_at lw_m5 187 rfl) rfl
theorem q1233 : (Jvm.Cond.code ({ cls := "DimensionLinesModel", name := "in", desc := "(III)Z" } : Jvm.MethodName) prog_12_method_3_code (3 : Nat) (Option.some Jvm.ClassFile.FieldType.boolean)) ∈ lw_all := lw_g (lw_at lw_m5 188 rfl) rfl
theorem q1234 : (Jvm.Cond.methodLink "DimensionLinesModel" (68 : Nat) ({ cls := "DimensionLinesModel", name := "pointWith", desc := "(I)I" } : Jvm.MethodName)) ∈ lw_all := lw_g (lw_at lw_m5 189 rfl) rfl
theorem q1235 : (Jvm.Cond.privateMethod ({ cls := "DimensionLinesModel", name := "pointWith", desc := "(I)I" } : Jvm.MethodName)) ∈ lw_tbl := lw_at lw_m5 190 rfl
theorem q1236 : (Jvm.Cond.instanceMethod ({ cls := "DimensionLinesModel", name := "pointWith", desc := "(I)I" } : Jvm.MethodName)) ∈ lw_all := lw_g (lw_at lw_m5 191 rfl) rfl
theorem q1237 : (Jvm.Cond.code ({ cls := "DimensionLinesModel", name := "pointWith", desc := "(I)I" } : Jvm.MethodName) prog_12_method_15_code (3 : Nat) (Option.some Jvm.ClassFile.FieldType.int)) ∈ lw_all := lw_g (lw_at lw_m5 192 rfl) rfl
theorem q1238 : (Jvm.Cond.methodLink "DimensionLinesModel" (54 : Nat) ({ cls := "DimensionLinesModel", name := "position", desc := "(I)I" } : Jvm.MethodName)) ∈ lw_all := lw_g (lw_at lw_m5 193 rfl) rfl
theorem q1239 : (Jvm.Cond.privateMethod ({ cls := "DimensionLinesModel", name := "position", desc := "(I)I" } : Jvm.MethodName)) ∈ lw_tbl := lw_at lw_m5 194 rfl
theorem q1240 : (Jvm.Cond.instanceMethod ({ cls := "DimensionLinesModel", name := "position", desc := "(I)I" } : Jvm.MethodName)) ∈ lw_all := lw_g (lw_at lw_m5 195 rfl) rfl
theorem q1241 : (Jvm.Cond.code ({ cls := "DimensionLinesModel", name := "position", desc := "(I)I" } : Jvm.MethodName) prog_12_method_11_code (2 : Nat) (Option.some Jvm.ClassFile.FieldType.int)) ∈ lw_all := lw_g (lw_at lw_m5 196 rfl) rfl
theorem q1242 : (Jvm.Cond.methodLink "DimensionLinesModel" (71 : Nat) ({ cls := "DimensionLinesModel", name := "records", desc := "()V" } : Jvm.MethodName)) ∈ lw_all := lw_g (lw_at lw_m5 197 rfl) rfl
theorem q1243 : (Jvm.Cond.privateMethod ({ cls := "DimensionLinesModel", name := "records", desc := "()V" } : Jvm.MethodName)) ∈ lw_tbl := lw_at lw_m5 198 rfl
theorem q1244 : (Jvm.Cond.instanceMethod ({ cls := "DimensionLinesModel", name := "records", desc := "()V" } : Jvm.MethodName)) ∈ lw_all := lw_g (lw_at lw_m5 199 rfl) rfl
theorem q1245 : (Jvm.Cond.code ({ cls := "DimensionLinesModel", name := "records", desc := "()V" } : Jvm.MethodName) prog_12_method_5_code (2 : Nat) (Option.none : Option Jvm.ClassFile.FieldType)) ∈ lw_all := lw_g (lw_at lw_m5 200 rfl) rfl
theorem q1246 : (Jvm.Cond.methodLink "DimensionLinesModel" (74 : Nat) ({ cls := "DimensionLinesModel", name := "comes", desc := "(I)I" } : Jvm.MethodName)) ∈ lw_all := lw_g (lw_at lw_m5 201 rfl) rfl
theorem q1247 : (Jvm.Cond.privateMethod ({ cls := "DimensionLinesModel", name := "comes", desc := "(I)I" } : Jvm.MethodName)) ∈ lw_tbl := lw_at lw_m5 202 rfl
theorem q1248 : (Jvm.Cond.instanceMethod ({ cls := "DimensionLinesModel", name := "comes", desc := "(I)I" } : Jvm.MethodName)) ∈ lw_all := lw_g (lw_at lw_m5 203 rfl) rfl
theorem q1249 : (Jvm.Cond.code ({ cls := "DimensionLinesModel", name := "comes", desc := "(I)I" } : Jvm.MethodName) prog_12_method_16_code (5 : Nat) (Option.some Jvm.ClassFile.FieldType.int)) ∈ lw_all := lw_g (lw_at lw_m5 204 rfl) rfl
theorem q1250 : (Jvm.Cond.methodLink "DimensionLinesModel" (50 : Nat) ({ cls := "DimensionLinesModel", name := "of", desc := "(II)I" } : Jvm.MethodName)) ∈ lw_all := lw_g (lw_at lw_m5 205 rfl) rfl
theorem q1251 : (Jvm.Cond.privateMethod ({ cls := "DimensionLinesModel", name := "of", desc := "(II)I" } : Jvm.MethodName)) ∈ lw_tbl := lw_at lw_m5 206 rfl
theorem q1252 : (Jvm.Cond.instanceMethod ({ cls := "DimensionLinesModel", name := "of", desc := "(II)I" } : Jvm.MethodName)) ∈ lw_all := lw_g (lw_at lw_m5 207 rfl) rfl
theorem q1253 : (Jvm.Cond.code ({ cls := "DimensionLinesModel", name := "of", desc := "(II)I" } : Jvm.MethodName) prog_12_method_9_code (3 : Nat) (Option.some Jvm.ClassFile.FieldType.int)) ∈ lw_all := lw_g (lw_at lw_m5 208 rfl) rfl
theorem q1254 : (Jvm.Cond.methodLink "DimensionLinesModel" (64 : Nat) ({ cls := "DimensionLinesModel", name := "sets", desc := "(III)V" } : Jvm.MethodName)) ∈ lw_all := lw_g (lw_at lw_m5 209 rfl) rfl
theorem q1255 : (Jvm.Cond.privateMethod ({ cls := "DimensionLinesModel", name := "sets", desc := "(III)V" } : Jvm.MethodName)) ∈ lw_tbl := lw_at lw_m5 210 rfl
theorem q1256 : (Jvm.Cond.instanceMethod ({ cls := "DimensionLinesModel", name := "sets", desc := "(III)V" } : Jvm.MethodName)) ∈ lw_all := lw_g (lw_at lw_m5 211 rfl) rfl
theorem q1257 : (Jvm.Cond.code ({ cls := "DimensionLinesModel", name := "sets", desc := "(III)V" } : Jvm.MethodName) prog_12_method_10_code (4 : Nat) (Option.none : Option Jvm.ClassFile.FieldType)) ∈ lw_all := lw_g (lw_at lw_m5 212 rfl) rfl
theorem q1259 : (Jvm.Cond.instanceMethod ({ cls := "DimensionLinesModel", name := "movePoint", desc := "(II)I" } : Jvm.MethodName)) ∈ lw_all := lw_g (lw_at lw_m5 214 rfl) rfl
theorem q1260 : (Jvm.Cond.selects "DimensionLinesModel" ({ cls := "DimensionLinesModel", name := "movePoint", desc := "(II)I" } : Jvm.MethodName) ({ cls := "DimensionLinesModel", name := "movePoint", desc := "(II)I" } : Jvm.MethodName)) ∈ lw_all := lw_g (lw_at lw_m5 215 rfl) rfl
theorem q1261 : (Jvm.Cond.code ({ cls := "DimensionLinesModel", name := "movePoint", desc := "(II)I" } : Jvm.MethodName) prog_12_method_19_code (8 : Nat) (Option.some Jvm.ClassFile.FieldType.int)) ∈ lw_all := lw_g (lw_at lw_m5 216 rfl) rfl
theorem q1262 : (Jvm.Cond.methodLink "DimensionLinesModel" (77 : Nat) ({ cls := "DimensionLinesModel", name := "isPoint", desc := "(I)Z" } : Jvm.MethodName)) ∈ lw_all := lw_g (lw_at lw_m5 217 rfl) rfl
theorem q1263 : (Jvm.Cond.privateMethod ({ cls := "DimensionLinesModel", name := "isPoint", desc := "(I)Z" } : Jvm.MethodName)) ∈ lw_tbl := lw_at lw_m5 218 rfl
theorem q1264 : (Jvm.Cond.instanceMethod ({ cls := "DimensionLinesModel", name := "isPoint", desc := "(I)Z" } : Jvm.MethodName)) ∈ lw_all := lw_g (lw_at lw_m5 219 rfl) rfl
theorem q1265 : (Jvm.Cond.code ({ cls := "DimensionLinesModel", name := "isPoint", desc := "(I)Z" } : Jvm.MethodName) prog_12_method_7_code (2 : Nat) (Option.some Jvm.ClassFile.FieldType.boolean)) ∈ lw_all := lw_g (lw_at lw_m5 220 rfl) rfl
theorem q1266 : (Jvm.Cond.methodLink "DimensionLinesModel" (81 : Nat) ({ cls := "DimensionLinesModel", name := "goes", desc := "(I)V" } : Jvm.MethodName)) ∈ lw_all := lw_g (lw_at lw_m5 221 rfl) rfl
theorem q1267 : (Jvm.Cond.privateMethod ({ cls := "DimensionLinesModel", name := "goes", desc := "(I)V" } : Jvm.MethodName)) ∈ lw_tbl := lw_at lw_m5 222 rfl
theorem q1268 : (Jvm.Cond.instanceMethod ({ cls := "DimensionLinesModel", name := "goes", desc := "(I)V" } : Jvm.MethodName)) ∈ lw_all := lw_g (lw_at lw_m5 223 rfl) rfl
theorem q1269 : (Jvm.Cond.code ({ cls := "DimensionLinesModel", name := "goes", desc := "(I)V" } : Jvm.MethodName) prog_12_method_18_code (4 : Nat) (Option.none : Option Jvm.ClassFile.FieldType)) ∈ lw_all := lw_g (lw_at lw_m5 224 rfl) rfl
theorem q1271 : (Jvm.Cond.instanceMethod ({ cls := "DimensionLinesModel", name := "dropPoint", desc := "(I)I" } : Jvm.MethodName)) ∈ lw_all := lw_g (lw_at lw_m5 226 rfl) rfl
theorem q1272 : (Jvm.Cond.selects "DimensionLinesModel" ({ cls := "DimensionLinesModel", name := "dropPoint", desc := "(I)I" } : Jvm.MethodName) ({ cls := "DimensionLinesModel", name := "dropPoint", desc := "(I)I" } : Jvm.MethodName)) ∈ lw_all := lw_g (lw_at lw_m5 227 rfl) rfl
theorem q1273 : (Jvm.Cond.code ({ cls := "DimensionLinesModel", name := "dropPoint", desc := "(I)I" } : Jvm.MethodName) prog_12_method_21_code (2 : Nat) (Option.some Jvm.ClassFile.FieldType.int)) ∈ lw_all := lw_g (lw_at lw_m5 228 rfl) rfl
theorem q1274 : (Jvm.Cond.methodLink "DimensionLinesModel" (85 : Nat) ({ cls := "DimensionLinesModel", name := "ends", desc := "(I)I" } : Jvm.MethodName)) ∈ lw_all := lw_g (lw_at lw_m5 229 rfl) rfl
theorem q1275 : (Jvm.Cond.privateMethod ({ cls := "DimensionLinesModel", name := "ends", desc := "(I)I" } : Jvm.MethodName)) ∈ lw_tbl := lw_at lw_m5 230 rfl
theorem q1276 : (Jvm.Cond.instanceMethod ({ cls := "DimensionLinesModel", name := "ends", desc := "(I)I" } : Jvm.MethodName)) ∈ lw_all := lw_g (lw_at lw_m5 231 rfl) rfl
theorem q1277 : (Jvm.Cond.code ({ cls := "DimensionLinesModel", name := "ends", desc := "(I)I" } : Jvm.MethodName) prog_12_method_20_code (4 : Nat) (Option.some Jvm.ClassFile.FieldType.int)) ∈ lw_all := lw_g (lw_at lw_m5 232 rfl) rfl
theorem q1279 : (Jvm.Cond.instanceMethod ({ cls := "DimensionLinesModel", name := "add", desc := "(II)I" } : Jvm.MethodName)) ∈ lw_all := lw_g (lw_at lw_m5 234 rfl) rfl
theorem q1280 : (Jvm.Cond.selects "DimensionLinesModel" ({ cls := "DimensionLinesModel", name := "add", desc := "(II)I" } : Jvm.MethodName) ({ cls := "DimensionLinesModel", name := "add", desc := "(II)I" } : Jvm.MethodName)) ∈ lw_all := lw_g (lw_at lw_m5 235 rfl) rfl
theorem q1281 : (Jvm.Cond.code ({ cls := "DimensionLinesModel", name := "add", desc := "(II)I" } : Jvm.MethodName) prog_12_method_23_code (3 : Nat) (Option.some Jvm.ClassFile.FieldType.int)) ∈ lw_all := lw_g (lw_at lw_m5 236 rfl) rfl
theorem q1282 : (Jvm.Cond.methodLink "DimensionLinesModel" (88 : Nat) ({ cls := "DimensionLinesModel", name := "lays", desc := "(IIIII)V" } : Jvm.MethodName)) ∈ lw_all := lw_g (lw_at lw_m5 237 rfl) rfl
theorem q1283 : (Jvm.Cond.privateMethod ({ cls := "DimensionLinesModel", name := "lays", desc := "(IIIII)V" } : Jvm.MethodName)) ∈ lw_tbl := lw_at lw_m5 238 rfl
theorem q1284 : (Jvm.Cond.instanceMethod ({ cls := "DimensionLinesModel", name := "lays", desc := "(IIIII)V" } : Jvm.MethodName)) ∈ lw_all := lw_g (lw_at lw_m5 239 rfl) rfl
theorem q1285 : (Jvm.Cond.code ({ cls := "DimensionLinesModel", name := "lays", desc := "(IIIII)V" } : Jvm.MethodName) prog_12_method_22_code (7 : Nat) (Option.none : Option Jvm.ClassFile.FieldType)) ∈ lw_all := lw_g (lw_at lw_m6 0 rfl) rfl
theorem q1287 : (Jvm.Cond.instanceMethod ({ cls := "DimensionLinesModel", name := "drop", desc := "(I)I" } : Jvm.MethodName)) ∈ lw_all := lw_g (lw_at lw_m6 2 rfl) rfl
theorem q1288 : (Jvm.Cond.selects "DimensionLinesModel" ({ cls := "DimensionLinesModel", name := "drop", desc := "(I)I" } : Jvm.MethodName) ({ cls := "DimensionLinesModel", name := "drop", desc := "(I)I" } : Jvm.MethodName)) ∈ lw_all := lw_g (lw_at lw_m6 3 rfl) rfl
theorem q1289 : (Jvm.Cond.code ({ cls := "DimensionLinesModel", name := "drop", desc := "(I)I" } : Jvm.MethodName) prog_12_method_24_code (3 : Nat) (Option.some Jvm.ClassFile.FieldType.int)) ∈ lw_all := lw_g (lw_at lw_m6 4 rfl) rfl
theorem q1290 : (Jvm.Cond.methodLink "DimensionLinesModel" (92 : Nat) ({ cls := "DimensionLinesModel", name := "isDimension", desc := "(I)Z" } : Jvm.MethodName)) ∈ lw_all := lw_g (lw_at lw_m6 5 rfl) rfl
theorem q1291 : (Jvm.Cond.privateMethod ({ cls := "DimensionLinesModel", name := "isDimension", desc := "(I)Z" } : Jvm.MethodName)) ∈ lw_tbl := lw_at lw_m6 6 rfl
theorem q1292 : (Jvm.Cond.instanceMethod ({ cls := "DimensionLinesModel", name := "isDimension", desc := "(I)Z" } : Jvm.MethodName)) ∈ lw_all := lw_g (lw_at lw_m6 7 rfl) rfl
theorem q1293 : (Jvm.Cond.code ({ cls := "DimensionLinesModel", name := "isDimension", desc := "(I)Z" } : Jvm.MethodName) prog_12_method_8_code (2 : Nat) (Option.some Jvm.ClassFile.FieldType.boolean)) ∈ lw_all := lw_g (lw_at lw_m6 8 rfl) rfl
theorem q1295 : (Jvm.Cond.instanceMethod ({ cls := "DimensionLinesModel", name := "setTolerance", desc := "(III)I" } : Jvm.MethodName)) ∈ lw_all := lw_g (lw_at lw_m6 10 rfl) rfl
theorem q1296 : (Jvm.Cond.selects "DimensionLinesModel" ({ cls := "DimensionLinesModel", name := "setTolerance", desc := "(III)I" } : Jvm.MethodName) ({ cls := "DimensionLinesModel", name := "setTolerance", desc := "(III)I" } : Jvm.MethodName)) ∈ lw_all := lw_g (lw_at lw_m6 11 rfl) rfl
theorem q1297 : (Jvm.Cond.code ({ cls := "DimensionLinesModel", name := "setTolerance", desc := "(III)I" } : Jvm.MethodName) prog_12_method_25_code (5 : Nat) (Option.some Jvm.ClassFile.FieldType.int)) ∈ lw_all := lw_g (lw_at lw_m6 12 rfl) rfl
theorem q1299 : (Jvm.Cond.instanceMethod ({ cls := "DimensionLinesModel", name := "setChain", desc := "(II)I" } : Jvm.MethodName)) ∈ lw_all := lw_g (lw_at lw_m6 14 rfl) rfl
theorem q1300 : (Jvm.Cond.selects "DimensionLinesModel" ({ cls := "DimensionLinesModel", name := "setChain", desc := "(II)I" } : Jvm.MethodName) ({ cls := "DimensionLinesModel", name := "setChain", desc := "(II)I" } : Jvm.MethodName)) ∈ lw_all := lw_g (lw_at lw_m6 15 rfl) rfl
theorem q1301 : (Jvm.Cond.code ({ cls := "DimensionLinesModel", name := "setChain", desc := "(II)I" } : Jvm.MethodName) prog_12_method_27_code (3 : Nat) (Option.some Jvm.ClassFile.FieldType.int)) ∈ lw_all := lw_g (lw_at lw_m6 16 rfl) rfl
theorem q1302 : (Jvm.Cond.methodLink "DimensionLinesModel" (95 : Nat) ({ cls := "DimensionLinesModel", name := "becomes", desc := "(III)I" } : Jvm.MethodName)) ∈ lw_all := lw_g (lw_at lw_m6 17 rfl) rfl
theorem q1303 : (Jvm.Cond.privateMethod ({ cls := "DimensionLinesModel", name := "becomes", desc := "(III)I" } : Jvm.MethodName)) ∈ lw_tbl := lw_at lw_m6 18 rfl
theorem q1304 : (Jvm.Cond.instanceMethod ({ cls := "DimensionLinesModel", name := "becomes", desc := "(III)I" } : Jvm.MethodName)) ∈ lw_all := lw_g (lw_at lw_m6 19 rfl) rfl
theorem q1305 : (Jvm.Cond.code ({ cls := "DimensionLinesModel", name := "becomes", desc := "(III)I" } : Jvm.MethodName) prog_12_method_26_code (5 : Nat) (Option.some Jvm.ClassFile.FieldType.int)) ∈ lw_all := lw_g (lw_at lw_m6 20 rfl) rfl
theorem q1307 : (Jvm.Cond.instanceMethod ({ cls := "DimensionLinesModel", name := "setLeast", desc := "(II)I" } : Jvm.MethodName)) ∈ lw_all := lw_g (lw_at lw_m6 22 rfl) rfl
theorem q1308 : (Jvm.Cond.selects "DimensionLinesModel" ({ cls := "DimensionLinesModel", name := "setLeast", desc := "(II)I" } : Jvm.MethodName) ({ cls := "DimensionLinesModel", name := "setLeast", desc := "(II)I" } : Jvm.MethodName)) ∈ lw_all := lw_g (lw_at lw_m6 23 rfl) rfl
theorem q1309 : (Jvm.Cond.code ({ cls := "DimensionLinesModel", name := "setLeast", desc := "(II)I" } : Jvm.MethodName) prog_12_method_28_code (3 : Nat) (Option.some Jvm.ClassFile.FieldType.int)) ∈ lw_all := lw_g (lw_at lw_m6 24 rfl) rfl
theorem q1311 : (Jvm.Cond.instanceMethod ({ cls := "DimensionLinesModel", name := "setLetter", desc := "(I)I" } : Jvm.MethodName)) ∈ lw_all := lw_g (lw_at lw_m6 26 rfl) rfl
theorem q1312 : (Jvm.Cond.selects "DimensionLinesModel" ({ cls := "DimensionLinesModel", name := "setLetter", desc := "(I)I" } : Jvm.MethodName) ({ cls := "DimensionLinesModel", name := "setLetter", desc := "(I)I" } : Jvm.MethodName)) ∈ lw_all := lw_g (lw_at lw_m6 27 rfl) rfl
theorem q1313 : (Jvm.Cond.code ({ cls := "DimensionLinesModel", name := "setLetter", desc := "(I)I" } : Jvm.MethodName) prog_12_method_30_code (2 : Nat) (Option.some Jvm.ClassFile.FieldType.int)) ∈ lw_all := lw_g (lw_at lw_m6 28 rfl) rfl
theorem q1314 : (Jvm.Cond.methodLink "DimensionLinesModel" (99 : Nat) ({ cls := "DimensionLinesModel", name := "setting", desc := "(II)I" } : Jvm.MethodName)) ∈ lw_all := lw_g (lw_at lw_m6 29 rfl) rfl
theorem q1315 : (Jvm.Cond.privateMethod ({ cls := "DimensionLinesModel", name := "setting", desc := "(II)I" } : Jvm.MethodName)) ∈ lw_tbl := lw_at lw_m6 30 rfl
theorem q1316 : (Jvm.Cond.instanceMethod ({ cls := "DimensionLinesModel", name := "setting", desc := "(II)I" } : Jvm.MethodName)) ∈ lw_all := lw_g (lw_at lw_m6 31 rfl) rfl
theorem q1317 : (Jvm.Cond.code ({ cls := "DimensionLinesModel", name := "setting", desc := "(II)I" } : Jvm.MethodName) prog_12_method_29_code (4 : Nat) (Option.some Jvm.ClassFile.FieldType.int)) ∈ lw_all := lw_g (lw_at lw_m6 32 rfl) rfl
theorem q1319 : (Jvm.Cond.instanceMethod ({ cls := "DimensionLinesModel", name := "setArrow", desc := "(I)I" } : Jvm.MethodName)) ∈ lw_all := lw_g (lw_at lw_m6 34 rfl) rfl
theorem q1320 : (Jvm.Cond.selects "DimensionLinesModel" ({ cls := "DimensionLinesModel", name := "setArrow", desc := "(I)I" } : Jvm.MethodName) ({ cls := "DimensionLinesModel", name := "setArrow", desc := "(I)I" } : Jvm.MethodName)) ∈ lw_all := lw_g (lw_at lw_m6 35 rfl) rfl
theorem q1321 : (Jvm.Cond.code ({ cls := "DimensionLinesModel", name := "setArrow", desc := "(I)I" } : Jvm.MethodName) prog_12_method_31_code (2 : Nat) (Option.some Jvm.ClassFile.FieldType.int)) ∈ lw_all := lw_g (lw_at lw_m6 36 rfl) rfl
theorem q1323 : (Jvm.Cond.instanceMethod ({ cls := "DimensionLinesModel", name := "type", desc := "(I)I" } : Jvm.MethodName)) ∈ lw_all := lw_g (lw_at lw_m6 38 rfl) rfl
theorem q1324 : (Jvm.Cond.selects "DimensionLinesModel" ({ cls := "DimensionLinesModel", name := "type", desc := "(I)I" } : Jvm.MethodName) ({ cls := "DimensionLinesModel", name := "type", desc := "(I)I" } : Jvm.MethodName)) ∈ lw_all := lw_g (lw_at lw_m6 39 rfl) rfl
theorem q1325 : (Jvm.Cond.code ({ cls := "DimensionLinesModel", name := "type", desc := "(I)I" } : Jvm.MethodName) prog_12_method_32_code (2 : Nat) (Option.some Jvm.ClassFile.FieldType.int)) ∈ lw_all := lw_g (lw_at lw_m6 40 rfl) rfl
theorem q1327 : (Jvm.Cond.instanceMethod ({ cls := "DimensionLinesModel", name := "clearText", desc := "()I" } : Jvm.MethodName)) ∈ lw_all := lw_g (lw_at lw_m6 42 rfl) rfl
theorem q1328 : (Jvm.Cond.selects "DimensionLinesModel" ({ cls := "DimensionLinesModel", name := "clearText", desc := "()I" } : Jvm.MethodName) ({ cls := "DimensionLinesModel", name := "clearText", desc := "()I" } : Jvm.MethodName)) ∈ lw_all := lw_g (lw_at lw_m6 43 rfl) rfl
theorem q1329 : (Jvm.Cond.code ({ cls := "DimensionLinesModel", name := "clearText", desc := "()I" } : Jvm.MethodName) prog_12_method_33_code (2 : Nat) (Option.some Jvm.ClassFile.FieldType.int)) ∈ lw_all := lw_g (lw_at lw_m6 44 rfl) rfl
theorem q1331 : (Jvm.Cond.instanceMethod ({ cls := "DimensionLinesModel", name := "load", desc := "()I" } : Jvm.MethodName)) ∈ lw_all := lw_g (lw_at lw_m6 46 rfl) rfl
theorem q1332 : (Jvm.Cond.selects "DimensionLinesModel" ({ cls := "DimensionLinesModel", name := "load", desc := "()I" } : Jvm.MethodName) ({ cls := "DimensionLinesModel", name := "load", desc := "()I" } : Jvm.MethodName)) ∈ lw_all := lw_g (lw_at lw_m6 47 rfl) rfl
theorem q1333 : (Jvm.Cond.code ({ cls := "DimensionLinesModel", name := "load", desc := "()I" } : Jvm.MethodName) prog_12_method_43_code (3 : Nat) (Option.some Jvm.ClassFile.FieldType.int)) ∈ lw_all := lw_g (lw_at lw_m6 48 rfl) rfl
theorem q1334 : (Jvm.Cond.methodLink "DimensionLinesModel" (145 : Nat) ({ cls := "DimensionLinesModel", name := "readsAll", desc := "()V" } : Jvm.MethodName)) ∈ lw_all := lw_g (lw_at lw_m6 49 rfl) rfl
theorem q1335 : (Jvm.Cond.privateMethod ({ cls := "DimensionLinesModel", name := "readsAll", desc := "()V" } : Jvm.MethodName)) ∈ lw_tbl := lw_at lw_m6 50 rfl
theorem q1336 : (Jvm.Cond.instanceMethod ({ cls := "DimensionLinesModel", name := "readsAll", desc := "()V" } : Jvm.MethodName)) ∈ lw_all := lw_g (lw_at lw_m6 51 rfl) rfl
theorem q1337 : (Jvm.Cond.code ({ cls := "DimensionLinesModel", name := "readsAll", desc := "()V" } : Jvm.MethodName) prog_12_method_42_code (2 : Nat) (Option.none : Option Jvm.ClassFile.FieldType)) ∈ lw_all := lw_g (lw_at lw_m6 52 rfl) rfl
theorem q1338 : (Jvm.Cond.methodLink "DimensionLinesModel" (139 : Nat) ({ cls := "DimensionLinesModel", name := "readsPositions", desc := "()Z" } : Jvm.MethodName)) ∈ lw_all := lw_g (lw_at lw_m6 53 rfl) rfl
theorem q1339 : (Jvm.Cond.privateMethod ({ cls := "DimensionLinesModel", name := "readsPositions", desc := "()Z" } : Jvm.MethodName)) ∈ lw_tbl := lw_at lw_m6 54 rfl
theorem q1340 : (Jvm.Cond.instanceMethod ({ cls := "DimensionLinesModel", name := "readsPositions", desc := "()Z" } : Jvm.MethodName)) ∈ lw_all := lw_g (lw_at lw_m6 55 rfl) rfl
theorem q1341 : (Jvm.Cond.code ({ cls := "DimensionLinesModel", name := "readsPositions", desc := "()Z" } : Jvm.MethodName) prog_12_method_39_code (3 : Nat) (Option.some Jvm.ClassFile.FieldType.boolean)) ∈ lw_all := lw_g (lw_at lw_m6 56 rfl) rfl
theorem q1342 : (Jvm.Cond.methodLink "DimensionLinesModel" (129 : Nat) ({ cls := "DimensionLinesModel", name := "reads", desc := "(I)Z" } : Jvm.MethodName)) ∈ lw_all := lw_g (lw_at lw_m6 57 rfl) rfl
theorem q1343 : (Jvm.Cond.privateMethod ({ cls := "DimensionLinesModel", name := "reads", desc := "(I)Z" } : Jvm.MethodName)) ∈ lw_tbl := lw_at lw_m6 58 rfl
theorem q1344 : (Jvm.Cond.instanceMethod ({ cls := "DimensionLinesModel", name := "reads", desc := "(I)Z" } : Jvm.MethodName)) ∈ lw_all := lw_g (lw_at lw_m6 59 rfl) rfl
theorem q1345 : (Jvm.Cond.code ({ cls := "DimensionLinesModel", name := "reads", desc := "(I)Z" } : Jvm.MethodName) prog_12_method_38_code (2 : Nat) (Option.some Jvm.ClassFile.FieldType.boolean)) ∈ lw_all := lw_g (lw_at lw_m6 60 rfl) rfl
theorem q1346 : (Jvm.Cond.methodLink "DimensionLinesModel" (108 : Nat) ({ cls := "DimensionLinesModel", name := "here", desc := "()I" } : Jvm.MethodName)) ∈ lw_all := lw_g (lw_at lw_m6 61 rfl) rfl
theorem q1347 : (Jvm.Cond.privateMethod ({ cls := "DimensionLinesModel", name := "here", desc := "()I" } : Jvm.MethodName)) ∈ lw_tbl := lw_at lw_m6 62 rfl
theorem q1348 : (Jvm.Cond.instanceMethod ({ cls := "DimensionLinesModel", name := "here", desc := "()I" } : Jvm.MethodName)) ∈ lw_all := lw_g (lw_at lw_m6 63 rfl) rfl
theorem q1349 : (Jvm.Cond.code ({ cls := "DimensionLinesModel", name := "here", desc := "()I" } : Jvm.MethodName) prog_12_method_34_code (1 : Nat) (Option.some Jvm.ClassFile.FieldType.int)) ∈ lw_all := lw_g (lw_at lw_m6 64 rfl) rfl
theorem q1350 : (Jvm.Cond.methodLink "DimensionLinesModel" (125 : Nat) ({ cls := "DimensionLinesModel", name := "fails", desc := "(II)Z" } : Jvm.MethodName)) ∈ lw_all := lw_g (lw_at lw_m6 65 rfl) rfl
theorem q1351 : (Jvm.Cond.privateMethod ({ cls := "DimensionLinesModel", name := "fails", desc := "(II)Z" } : Jvm.MethodName)) ∈ lw_tbl := lw_at lw_m6 66 rfl
theorem q1352 : (Jvm.Cond.instanceMethod ({ cls := "DimensionLinesModel", name := "fails", desc := "(II)Z" } : Jvm.MethodName)) ∈ lw_all := lw_g (lw_at lw_m6 67 rfl) rfl
theorem q1353 : (Jvm.Cond.code ({ cls := "DimensionLinesModel", name := "fails", desc := "(II)Z" } : Jvm.MethodName) prog_12_method_36_code (3 : Nat) (Option.some Jvm.ClassFile.FieldType.boolean)) ∈ lw_all := lw_g (lw_at lw_m6 68 rfl) rfl
theorem q1354 : (Jvm.Cond.methodLink "DimensionLinesModel" (132 : Nat) ({ cls := "DimensionLinesModel", name := "readsNumber", desc := "(III)Z" } : Jvm.MethodName)) ∈ lw_all := lw_g (lw_at lw_m6 69 rfl) rfl
theorem q1355 : (Jvm.Cond.privateMethod ({ cls := "DimensionLinesModel", name := "readsNumber", desc := "(III)Z" } : Jvm.MethodName)) ∈ lw_tbl := lw_at lw_m6 70 rfl
theorem q1356 : (Jvm.Cond.instanceMethod ({ cls := "DimensionLinesModel", name := "readsNumber", desc := "(III)Z" } : Jvm.MethodName)) ∈ lw_all := lw_g (lw_at lw_m6 71 rfl) rfl
theorem q1357 : (Jvm.Cond.code ({ cls := "DimensionLinesModel", name := "readsNumber", desc := "(III)Z" } : Jvm.MethodName) prog_12_method_37_code (5 : Nat) (Option.some Jvm.ClassFile.FieldType.boolean)) ∈ lw_all := lw_g (lw_at lw_m6 72 rfl) rfl
theorem q1358 : (Jvm.Cond.methodLink "DimensionLinesModel" (121 : Nat) ({ cls := "DimensionLinesModel", name := "isDigit", desc := "()Z" } : Jvm.MethodName)) ∈ lw_all := lw_g (lw_at lw_m6 73 rfl) rfl
theorem q1359 : (Jvm.Cond.privateMethod ({ cls := "DimensionLinesModel", name := "isDigit", desc := "()Z" } : Jvm.MethodName)) ∈ lw_tbl := lw_at lw_m6 74 rfl
theorem q1360 : (Jvm.Cond.instanceMethod ({ cls := "DimensionLinesModel", name := "isDigit", desc := "()Z" } : Jvm.MethodName)) ∈ lw_all := lw_g (lw_at lw_m6 75 rfl) rfl
theorem q1361 : (Jvm.Cond.code ({ cls := "DimensionLinesModel", name := "isDigit", desc := "()Z" } : Jvm.MethodName) prog_12_method_35_code (1 : Nat) (Option.some Jvm.ClassFile.FieldType.boolean)) ∈ lw_all := lw_g (lw_at lw_m6 76 rfl) rfl
theorem q1362 : (Jvm.Cond.methodLink "DimensionLinesModel" (142 : Nat) ({ cls := "DimensionLinesModel", name := "readsDimension", desc := "()Z" } : Jvm.MethodName)) ∈ lw_all := lw_g (lw_at lw_m6 77 rfl) rfl
theorem q1363 : (Jvm.Cond.privateMethod ({ cls := "DimensionLinesModel", name := "readsDimension", desc := "()Z" } : Jvm.MethodName)) ∈ lw_tbl := lw_at lw_m6 78 rfl
theorem q1364 : (Jvm.Cond.instanceMethod ({ cls := "DimensionLinesModel", name := "readsDimension", desc := "()Z" } : Jvm.MethodName)) ∈ lw_all := lw_g (lw_at lw_m6 79 rfl) rfl
theorem q1365 : (Jvm.Cond.code ({ cls := "DimensionLinesModel", name := "readsDimension", desc := "()Z" } : Jvm.MethodName) prog_12_method_41_code (5 : Nat) (Option.some Jvm.ClassFile.FieldType.boolean)) ∈ lw_all := lw_g (lw_at lw_m6 80 rfl) rfl
theorem q1366 : (Jvm.Cond.methodLink "DimensionLinesModel" (135 : Nat) ({ cls := "DimensionLinesModel", name := "readsBehind", desc := "(IIII)Z" } : Jvm.MethodName)) ∈ lw_all := lw_g (lw_at lw_m6 81 rfl) rfl
theorem q1367 : (Jvm.Cond.privateMethod ({ cls := "DimensionLinesModel", name := "readsBehind", desc := "(IIII)Z" } : Jvm.MethodName)) ∈ lw_tbl := lw_at lw_m6 82 rfl
theorem q1368 : (Jvm.Cond.instanceMethod ({ cls := "DimensionLinesModel", name := "readsBehind", desc := "(IIII)Z" } : Jvm.MethodName)) ∈ lw_all := lw_g (lw_at lw_m6 83 rfl) rfl
theorem q1369 : (Jvm.Cond.code ({ cls := "DimensionLinesModel", name := "readsBehind", desc := "(IIII)Z" } : Jvm.MethodName) prog_12_method_40_code (5 : Nat) (Option.some Jvm.ClassFile.FieldType.boolean)) ∈ lw_all := lw_g (lw_at lw_m6 84 rfl) rfl
theorem q1371 : (Jvm.Cond.instanceMethod ({ cls := "DimensionLinesModel", name := "faultKind", desc := "()I" } : Jvm.MethodName)) ∈ lw_all := lw_g (lw_at lw_m6 86 rfl) rfl
theorem q1372 : (Jvm.Cond.selects "DimensionLinesModel" ({ cls := "DimensionLinesModel", name := "faultKind", desc := "()I" } : Jvm.MethodName) ({ cls := "DimensionLinesModel", name := "faultKind", desc := "()I" } : Jvm.MethodName)) ∈ lw_all := lw_g (lw_at lw_m6 87 rfl) rfl
theorem q1373 : (Jvm.Cond.code ({ cls := "DimensionLinesModel", name := "faultKind", desc := "()I" } : Jvm.MethodName) prog_12_method_44_code (1 : Nat) (Option.some Jvm.ClassFile.FieldType.int)) ∈ lw_all := lw_g (lw_at lw_m6 88 rfl) rfl
theorem q1375 : (Jvm.Cond.instanceMethod ({ cls := "DimensionLinesModel", name := "point", desc := "(II)I" } : Jvm.MethodName)) ∈ lw_all := lw_g (lw_at lw_m6 90 rfl) rfl
theorem q1376 : (Jvm.Cond.selects "DimensionLinesModel" ({ cls := "DimensionLinesModel", name := "point", desc := "(II)I" } : Jvm.MethodName) ({ cls := "DimensionLinesModel", name := "point", desc := "(II)I" } : Jvm.MethodName)) ∈ lw_all := lw_g (lw_at lw_m6 91 rfl) rfl
theorem q1377 : (Jvm.Cond.code ({ cls := "DimensionLinesModel", name := "point", desc := "(II)I" } : Jvm.MethodName) prog_12_method_70_code (3 : Nat) (Option.some Jvm.ClassFile.FieldType.int)) ∈ lw_all := lw_g (lw_at lw_m6 92 rfl) rfl
theorem q1378 : (Jvm.Cond.methodLink "DimensionLinesModel" (197 : Nat) ({ cls := "DimensionLinesModel", name := "laysDistances", desc := "(II)V" } : Jvm.MethodName)) ∈ lw_all := lw_g (lw_at lw_m6 93 rfl) rfl
theorem q1379 : (Jvm.Cond.privateMethod ({ cls := "DimensionLinesModel", name := "laysDistances", desc := "(II)V" } : Jvm.MethodName)) ∈ lw_tbl := lw_at lw_m6 94 rfl
theorem q1380 : (Jvm.Cond.instanceMethod ({ cls := "DimensionLinesModel", name := "laysDistances", desc := "(II)V" } : Jvm.MethodName)) ∈ lw_all := lw_g (lw_at lw_m6 95 rfl) rfl
theorem q1381 : (Jvm.Cond.code ({ cls := "DimensionLinesModel", name := "laysDistances", desc := "(II)V" } : Jvm.MethodName) prog_12_method_63_code (7 : Nat) (Option.none : Option Jvm.ClassFile.FieldType)) ∈ lw_all := lw_g (lw_at lw_m6 96 rfl) rfl
theorem q1382 : (Jvm.Cond.constant "DimensionLinesModel" (193 : Nat) (1000000 : Int32)) ∈ lw_all := lw_g (lw_at lw_m6 97 rfl) rfl
theorem q1383 : (Jvm.Cond.methodLink "DimensionLinesModel" (148 : Nat) ({ cls := "DimensionLinesModel", name := "value", desc := "(I)I" } : Jvm.MethodName)) ∈ lw_all := lw_g (lw_at lw_m6 98 rfl) rfl
theorem q1384 : (Jvm.Cond.privateMethod ({ cls := "DimensionLinesModel", name := "value", desc := "(I)I" } : Jvm.MethodName)) ∈ lw_tbl := lw_at lw_m6 99 rfl
theorem q1385 : (Jvm.Cond.instanceMethod ({ cls := "DimensionLinesModel", name := "value", desc := "(I)I" } : Jvm.MethodName)) ∈ lw_all := lw_g (lw_at lw_m6 100 rfl) rfl
theorem q1386 : (Jvm.Cond.code ({ cls := "DimensionLinesModel", name := "value", desc := "(I)I" } : Jvm.MethodName) prog_12_method_14_code (2 : Nat) (Option.some Jvm.ClassFile.FieldType.int)) ∈ lw_all := lw_g (lw_at lw_m6 101 rfl) rfl
theorem q1387 : (Jvm.Cond.methodLink "DimensionLinesModel" (58 : Nat) ({ cls := "DimensionLinesModel", name := "to", desc := "(I)I" } : Jvm.MethodName)) ∈ lw_all := lw_g (lw_at lw_m6 102 rfl) rfl
theorem q1388 : (Jvm.Cond.privateMethod ({ cls := "DimensionLinesModel", name := "to", desc := "(I)I" } : Jvm.MethodName)) ∈ lw_tbl := lw_at lw_m6 103 rfl
theorem q1389 : (Jvm.Cond.instanceMethod ({ cls := "DimensionLinesModel", name := "to", desc := "(I)I" } : Jvm.MethodName)) ∈ lw_all := lw_g (lw_at lw_m6 104 rfl) rfl
theorem q1390 : (Jvm.Cond.code ({ cls := "DimensionLinesModel", name := "to", desc := "(I)I" } : Jvm.MethodName) prog_12_method_13_code (2 : Nat) (Option.some Jvm.ClassFile.FieldType.int)) ∈ lw_all := lw_g (lw_at lw_m6 105 rfl) rfl
theorem q1391 : (Jvm.Cond.methodLink "DimensionLinesModel" (61 : Nat) ({ cls := "DimensionLinesModel", name := "from", desc := "(I)I" } : Jvm.MethodName)) ∈ lw_all := lw_g (lw_at lw_m6 106 rfl) rfl
theorem q1392 : (Jvm.Cond.privateMethod ({ cls := "DimensionLinesModel", name := "from", desc := "(I)I" } : Jvm.MethodName)) ∈ lw_tbl := lw_at lw_m6 107 rfl
theorem q1393 : (Jvm.Cond.instanceMethod ({ cls := "DimensionLinesModel", name := "from", desc := "(I)I" } : Jvm.MethodName)) ∈ lw_all := lw_g (lw_at lw_m6 108 rfl) rfl
theorem q1394 : (Jvm.Cond.code ({ cls := "DimensionLinesModel", name := "from", desc := "(I)I" } : Jvm.MethodName) prog_12_method_12_code (2 : Nat) (Option.some Jvm.ClassFile.FieldType.int)) ∈ lw_all := lw_g (lw_at lw_m6 109 rfl) rfl
theorem q1395 : (Jvm.Cond.methodLink "DimensionLinesModel" (194 : Nat) ({ cls := "DimensionLinesModel", name := "bounds", desc := "(III)V" } : Jvm.MethodName)) ∈ lw_all := lw_g (lw_at lw_m6 110 rfl) rfl
theorem q1396 : (Jvm.Cond.privateMethod ({ cls := "DimensionLinesModel", name := "bounds", desc := "(III)V" } : Jvm.MethodName)) ∈ lw_tbl := lw_at lw_m6 111 rfl
theorem q1397 : (Jvm.Cond.instanceMethod ({ cls := "DimensionLinesModel", name := "bounds", desc := "(III)V" } : Jvm.MethodName)) ∈ lw_all := lw_g (lw_at lw_m6 112 rfl) rfl
theorem q1398 : (Jvm.Cond.code ({ cls := "DimensionLinesModel", name := "bounds", desc := "(III)V" } : Jvm.MethodName) prog_12_method_62_code (4 : Nat) (Option.none : Option Jvm.ClassFile.FieldType)) ∈ lw_all := lw_g (lw_at lw_m6 113 rfl) rfl
theorem q1399 : (Jvm.Cond.methodLink "DimensionLinesModel" (209 : Nat) ({ cls := "DimensionLinesModel", name := "group", desc := "(I)I" } : Jvm.MethodName)) ∈ lw_all := lw_g (lw_at lw_m6 114 rfl) rfl
theorem q1400 : (Jvm.Cond.privateMethod ({ cls := "DimensionLinesModel", name := "group", desc := "(I)I" } : Jvm.MethodName)) ∈ lw_tbl := lw_at lw_m6 115 rfl
theorem q1401 : (Jvm.Cond.instanceMethod ({ cls := "DimensionLinesModel", name := "group", desc := "(I)I" } : Jvm.MethodName)) ∈ lw_all := lw_g (lw_at lw_m6 116 rfl) rfl
theorem q1402 : (Jvm.Cond.code ({ cls := "DimensionLinesModel", name := "group", desc := "(I)I" } : Jvm.MethodName) prog_12_method_67_code (4 : Nat) (Option.some Jvm.ClassFile.FieldType.int)) ∈ lw_all := lw_g (lw_at lw_m6 117 rfl) rfl
theorem q1403 : (Jvm.Cond.methodLink "DimensionLinesModel" (200 : Nat) ({ cls := "DimensionLinesModel", name := "areBound", desc := "(II)Z" } : Jvm.MethodName)) ∈ lw_all := lw_g (lw_at lw_m6 118 rfl) rfl
theorem q1404 : (Jvm.Cond.privateMethod ({ cls := "DimensionLinesModel", name := "areBound", desc := "(II)Z" } : Jvm.MethodName)) ∈ lw_tbl := lw_at lw_m6 119 rfl
theorem q1405 : (Jvm.Cond.instanceMethod ({ cls := "DimensionLinesModel", name := "areBound", desc := "(II)Z" } : Jvm.MethodName)) ∈ lw_all := lw_g (lw_at lw_m6 120 rfl) rfl
theorem q1406 : (Jvm.Cond.code ({ cls := "DimensionLinesModel", name := "areBound", desc := "(II)Z" } : Jvm.MethodName) prog_12_method_64_code (3 : Nat) (Option.some Jvm.ClassFile.FieldType.boolean)) ∈ lw_all := lw_g (lw_at lw_m6 121 rfl) rfl
theorem q1407 : (Jvm.Cond.methodLink "DimensionLinesModel" (203 : Nat) ({ cls := "DimensionLinesModel", name := "groupOfFirst", desc := "(I)I" } : Jvm.MethodName)) ∈ lw_all := lw_g (lw_at lw_m6 122 rfl) rfl
theorem q1408 : (Jvm.Cond.privateMethod ({ cls := "DimensionLinesModel", name := "groupOfFirst", desc := "(I)I" } : Jvm.MethodName)) ∈ lw_tbl := lw_at lw_m6 123 rfl
theorem q1409 : (Jvm.Cond.instanceMethod ({ cls := "DimensionLinesModel", name := "groupOfFirst", desc := "(I)I" } : Jvm.MethodName)) ∈ lw_all := lw_g (lw_at lw_m6 124 rfl) rfl
theorem q1410 : (Jvm.Cond.code ({ cls := "DimensionLinesModel", name := "groupOfFirst", desc := "(I)I" } : Jvm.MethodName) prog_12_method_69_code (4 : Nat) (Option.some Jvm.ClassFile.FieldType.int)) ∈ lw_all := lw_g (lw_at lw_m6 125 rfl) rfl
theorem q1411 : (Jvm.Cond.methodLink "DimensionLinesModel" (206 : Nat) ({ cls := "DimensionLinesModel", name := "isFirst", desc := "(I)Z" } : Jvm.MethodName)) ∈ lw_all := lw_g (lw_at lw_m6 126 rfl) rfl
theorem q1412 : (Jvm.Cond.privateMethod ({ cls := "DimensionLinesModel", name := "isFirst", desc := "(I)Z" } : Jvm.MethodName)) ∈ lw_tbl := lw_at lw_m6 127 rfl
theorem q1413 : (Jvm.Cond.instanceMethod ({ cls := "DimensionLinesModel", name := "isFirst", desc := "(I)Z" } : Jvm.MethodName)) ∈ lw_all := lw_g (lw_at lw_m6 128 rfl) rfl
theorem q1414 : (Jvm.Cond.code ({ cls := "DimensionLinesModel", name := "isFirst", desc := "(I)Z" } : Jvm.MethodName) prog_12_method_68_code (4 : Nat) (Option.some Jvm.ClassFile.FieldType.boolean)) ∈ lw_all := lw_g (lw_at lw_m6 129 rfl) rfl
theorem q1415 : (Jvm.Cond.methodLink "DimensionLinesModel" (212 : Nat) ({ cls := "DimensionLinesModel", name := "laysLanes", desc := "()V" } : Jvm.MethodName)) ∈ lw_all := lw_g (lw_at lw_m6 130 rfl) rfl
theorem q1416 : (Jvm.Cond.privateMethod ({ cls := "DimensionLinesModel", name := "laysLanes", desc := "()V" } : Jvm.MethodName)) ∈ lw_tbl := lw_at lw_m6 131 rfl
theorem q1417 : (Jvm.Cond.instanceMethod ({ cls := "DimensionLinesModel", name := "laysLanes", desc := "()V" } : Jvm.MethodName)) ∈ lw_all := lw_g (lw_at lw_m6 132 rfl) rfl
theorem q1418 : (Jvm.Cond.code ({ cls := "DimensionLinesModel", name := "laysLanes", desc := "()V" } : Jvm.MethodName) prog_12_method_56_code (4 : Nat) (Option.none : Option Jvm.ClassFile.FieldType)) ∈ lw_all := lw_g (lw_at lw_m6 133 rfl) rfl
theorem q1419 : (Jvm.Cond.methodLink "DimensionLinesModel" (172 : Nat) ({ cls := "DimensionLinesModel", name := "laysUnits", desc := "()V" } : Jvm.MethodName)) ∈ lw_all := lw_g (lw_at lw_m6 134 rfl) rfl
theorem q1420 : (Jvm.Cond.privateMethod ({ cls := "DimensionLinesModel", name := "laysUnits", desc := "()V" } : Jvm.MethodName)) ∈ lw_tbl := lw_at lw_m6 135 rfl
theorem q1421 : (Jvm.Cond.instanceMethod ({ cls := "DimensionLinesModel", name := "laysUnits", desc := "()V" } : Jvm.MethodName)) ∈ lw_all := lw_g (lw_at lw_m6 136 rfl) rfl
theorem q1422 : (Jvm.Cond.code ({ cls := "DimensionLinesModel", name := "laysUnits", desc := "()V" } : Jvm.MethodName) prog_12_method_50_code (3 : Nat) (Option.none : Option Jvm.ClassFile.FieldType)) ∈ lw_all := lw_g (lw_at lw_m6 137 rfl) rfl
theorem q1423 : (Jvm.Cond.methodLink "DimensionLinesModel" (157 : Nat) ({ cls := "DimensionLinesModel", name := "unitOf", desc := "(I)I" } : Jvm.MethodName)) ∈ lw_all := lw_g (lw_at lw_m6 138 rfl) rfl
theorem q1424 : (Jvm.Cond.privateMethod ({ cls := "DimensionLinesModel", name := "unitOf", desc := "(I)I" } : Jvm.MethodName)) ∈ lw_tbl := lw_at lw_m6 139 rfl
theorem q1425 : (Jvm.Cond.instanceMethod ({ cls := "DimensionLinesModel", name := "unitOf", desc := "(I)I" } : Jvm.MethodName)) ∈ lw_all := lw_g (lw_at lw_m6 140 rfl) rfl
theorem q1426 : (Jvm.Cond.code ({ cls := "DimensionLinesModel", name := "unitOf", desc := "(I)I" } : Jvm.MethodName) prog_12_method_49_code (3 : Nat) (Option.some Jvm.ClassFile.FieldType.int)) ∈ lw_all := lw_g (lw_at lw_m6 141 rfl) rfl
theorem q1427 : (Jvm.Cond.methodLink "DimensionLinesModel" (175 : Nat) ({ cls := "DimensionLinesModel", name := "nextUnit", desc := "()I" } : Jvm.MethodName)) ∈ lw_all := lw_g (lw_at lw_m6 142 rfl) rfl
theorem q1428 : (Jvm.Cond.privateMethod ({ cls := "DimensionLinesModel", name := "nextUnit", desc := "()I" } : Jvm.MethodName)) ∈ lw_tbl := lw_at lw_m6 143 rfl
theorem q1429 : (Jvm.Cond.instanceMethod ({ cls := "DimensionLinesModel", name := "nextUnit", desc := "()I" } : Jvm.MethodName)) ∈ lw_all := lw_g (lw_at lw_m6 144 rfl) rfl
theorem q1430 : (Jvm.Cond.code ({ cls := "DimensionLinesModel", name := "nextUnit", desc := "()I" } : Jvm.MethodName) prog_12_method_53_code (3 : Nat) (Option.some Jvm.ClassFile.FieldType.int)) ∈ lw_all := lw_g (lw_at lw_m6 145 rfl) rfl
theorem q1431 : (Jvm.Cond.methodLink "DimensionLinesModel" (160 : Nat) ({ cls := "DimensionLinesModel", name := "isUnit", desc := "(I)Z" } : Jvm.MethodName)) ∈ lw_all := lw_g (lw_at lw_m6 146 rfl) rfl
theorem q1432 : (Jvm.Cond.privateMethod ({ cls := "DimensionLinesModel", name := "isUnit", desc := "(I)Z" } : Jvm.MethodName)) ∈ lw_tbl := lw_at lw_m6 147 rfl
theorem q1433 : (Jvm.Cond.instanceMethod ({ cls := "DimensionLinesModel", name := "isUnit", desc := "(I)Z" } : Jvm.MethodName)) ∈ lw_all := lw_g (lw_at lw_m6 148 rfl) rfl
theorem q1434 : (Jvm.Cond.code ({ cls := "DimensionLinesModel", name := "isUnit", desc := "(I)Z" } : Jvm.MethodName) prog_12_method_51_code (2 : Nat) (Option.some Jvm.ClassFile.FieldType.boolean)) ∈ lw_all := lw_g (lw_at lw_m6 149 rfl) rfl
theorem q1435 : (Jvm.Cond.methodLink "DimensionLinesModel" (163 : Nat) ({ cls := "DimensionLinesModel", name := "isSooner", desc := "(II)Z" } : Jvm.MethodName)) ∈ lw_all := lw_g (lw_at lw_m6 150 rfl) rfl
theorem q1436 : (Jvm.Cond.privateMethod ({ cls := "DimensionLinesModel", name := "isSooner", desc := "(II)Z" } : Jvm.MethodName)) ∈ lw_tbl := lw_at lw_m6 151 rfl
theorem q1437 : (Jvm.Cond.instanceMethod ({ cls := "DimensionLinesModel", name := "isSooner", desc := "(II)Z" } : Jvm.MethodName)) ∈ lw_all := lw_g (lw_at lw_m6 152 rfl) rfl
theorem q1438 : (Jvm.Cond.code ({ cls := "DimensionLinesModel", name := "isSooner", desc := "(II)Z" } : Jvm.MethodName) prog_12_method_52_code (5 : Nat) (Option.some Jvm.ClassFile.FieldType.boolean)) ∈ lw_all := lw_g (lw_at lw_m6 153 rfl) rfl
theorem q1439 : (Jvm.Cond.methodLink "DimensionLinesModel" (178 : Nat) ({ cls := "DimensionLinesModel", name := "covers", desc := "(II)Z" } : Jvm.MethodName)) ∈ lw_all := lw_g (lw_at lw_m6 154 rfl) rfl
theorem q1440 : (Jvm.Cond.privateMethod ({ cls := "DimensionLinesModel", name := "covers", desc := "(II)Z" } : Jvm.MethodName)) ∈ lw_tbl := lw_at lw_m6 155 rfl
theorem q1441 : (Jvm.Cond.instanceMethod ({ cls := "DimensionLinesModel", name := "covers", desc := "(II)Z" } : Jvm.MethodName)) ∈ lw_all := lw_g (lw_at lw_m6 156 rfl) rfl
theorem q1442 : (Jvm.Cond.code ({ cls := "DimensionLinesModel", name := "covers", desc := "(II)Z" } : Jvm.MethodName) prog_12_method_54_code (3 : Nat) (Option.some Jvm.ClassFile.FieldType.boolean)) ∈ lw_all := lw_g (lw_at lw_m6 157 rfl) rfl
theorem q1443 : (Jvm.Cond.methodLink "DimensionLinesModel" (181 : Nat) ({ cls := "DimensionLinesModel", name := "meets", desc := "(II)Z" } : Jvm.MethodName)) ∈ lw_all := lw_g (lw_at lw_m6 158 rfl) rfl
theorem q1444 : (Jvm.Cond.privateMethod ({ cls := "DimensionLinesModel", name := "meets", desc := "(II)Z" } : Jvm.MethodName)) ∈ lw_tbl := lw_at lw_m6 159 rfl
theorem q1445 : (Jvm.Cond.instanceMethod ({ cls := "DimensionLinesModel", name := "meets", desc := "(II)Z" } : Jvm.MethodName)) ∈ lw_all := lw_g (lw_at lw_m6 160 rfl) rfl
theorem q1446 : (Jvm.Cond.code ({ cls := "DimensionLinesModel", name := "meets", desc := "(II)Z" } : Jvm.MethodName) prog_12_method_55_code (7 : Nat) (Option.some Jvm.ClassFile.FieldType.boolean)) ∈ lw_all := lw_g (lw_at lw_m6 161 rfl) rfl
theorem q1447 : (Jvm.Cond.methodLink "DimensionLinesModel" (166 : Nat) ({ cls := "DimensionLinesModel", name := "begins", desc := "(I)I" } : Jvm.MethodName)) ∈ lw_all := lw_g (lw_at lw_m6 162 rfl) rfl
theorem q1448 : (Jvm.Cond.privateMethod ({ cls := "DimensionLinesModel", name := "begins", desc := "(I)I" } : Jvm.MethodName)) ∈ lw_tbl := lw_at lw_m6 163 rfl
theorem q1449 : (Jvm.Cond.instanceMethod ({ cls := "DimensionLinesModel", name := "begins", desc := "(I)I" } : Jvm.MethodName)) ∈ lw_all := lw_g (lw_at lw_m6 164 rfl) rfl
theorem q1450 : (Jvm.Cond.code ({ cls := "DimensionLinesModel", name := "begins", desc := "(I)I" } : Jvm.MethodName) prog_12_method_47_code (2 : Nat) (Option.some Jvm.ClassFile.FieldType.int)) ∈ lw_all := lw_g (lw_at lw_m6 165 rfl) rfl
theorem q1451 : (Jvm.Cond.methodLink "DimensionLinesModel" (154 : Nat) ({ cls := "DimensionLinesModel", name := "form", desc := "(I)I" } : Jvm.MethodName)) ∈ lw_all := lw_g (lw_at lw_m6 166 rfl) rfl
theorem q1452 : (Jvm.Cond.privateMethod ({ cls := "DimensionLinesModel", name := "form", desc := "(I)I" } : Jvm.MethodName)) ∈ lw_tbl := lw_at lw_m6 167 rfl
theorem q1453 : (Jvm.Cond.instanceMethod ({ cls := "DimensionLinesModel", name := "form", desc := "(I)I" } : Jvm.MethodName)) ∈ lw_all := lw_g (lw_at lw_m6 168 rfl) rfl
theorem q1454 : (Jvm.Cond.code ({ cls := "DimensionLinesModel", name := "form", desc := "(I)I" } : Jvm.MethodName) prog_12_method_46_code (2 : Nat) (Option.some Jvm.ClassFile.FieldType.int)) ∈ lw_all := lw_g (lw_at lw_m6 169 rfl) rfl
theorem q1455 : (Jvm.Cond.methodLink "DimensionLinesModel" (151 : Nat) ({ cls := "DimensionLinesModel", name := "width", desc := "(I)I" } : Jvm.MethodName)) ∈ lw_all := lw_g (lw_at lw_m6 170 rfl) rfl
theorem q1456 : (Jvm.Cond.privateMethod ({ cls := "DimensionLinesModel", name := "width", desc := "(I)I" } : Jvm.MethodName)) ∈ lw_tbl := lw_at lw_m6 171 rfl
theorem q1457 : (Jvm.Cond.instanceMethod ({ cls := "DimensionLinesModel", name := "width", desc := "(I)I" } : Jvm.MethodName)) ∈ lw_all := lw_g (lw_at lw_m6 172 rfl) rfl
theorem q1458 : (Jvm.Cond.code ({ cls := "DimensionLinesModel", name := "width", desc := "(I)I" } : Jvm.MethodName) prog_12_method_45_code (3 : Nat) (Option.some Jvm.ClassFile.FieldType.int)) ∈ lw_all := lw_g (lw_at lw_m6 173 rfl) rfl
theorem q1459 : (Jvm.Cond.methodLink "DimensionLinesModel" (169 : Nat) ({ cls := "DimensionLinesModel", name := "reaches", desc := "(I)I" } : Jvm.MethodName)) ∈ lw_all := lw_g (lw_at lw_m6 174 rfl) rfl
theorem q1460 : (Jvm.Cond.privateMethod ({ cls := "DimensionLinesModel", name := "reaches", desc := "(I)I" } : Jvm.MethodName)) ∈ lw_tbl := lw_at lw_m6 175 rfl
theorem q1461 : (Jvm.Cond.instanceMethod ({ cls := "DimensionLinesModel", name := "reaches", desc := "(I)I" } : Jvm.MethodName)) ∈ lw_all := lw_g (lw_at lw_m6 176 rfl) rfl
theorem q1462 : (Jvm.Cond.code ({ cls := "DimensionLinesModel", name := "reaches", desc := "(I)I" } : Jvm.MethodName) prog_12_method_48_code (2 : Nat) (Option.some Jvm.ClassFile.FieldType.int)) ∈ lw_all := lw_g (lw_at lw_m6 177 rfl) rfl
theorem q1463 : (Jvm.Cond.methodLink "DimensionLinesModel" (187 : Nat) ({ cls := "DimensionLinesModel", name := "witness", desc := "(I)I" } : Jvm.MethodName)) ∈ lw_all := lw_g (lw_at lw_m6 178 rfl) rfl
theorem q1464 : (Jvm.Cond.privateMethod ({ cls := "DimensionLinesModel", name := "witness", desc := "(I)I" } : Jvm.MethodName)) ∈ lw_tbl := lw_at lw_m6 179 rfl
theorem q1465 : (Jvm.Cond.instanceMethod ({ cls := "DimensionLinesModel", name := "witness", desc := "(I)I" } : Jvm.MethodName)) ∈ lw_all := lw_g (lw_at lw_m6 180 rfl) rfl
theorem q1466 : (Jvm.Cond.code ({ cls := "DimensionLinesModel", name := "witness", desc := "(I)I" } : Jvm.MethodName) prog_12_method_59_code (5 : Nat) (Option.some Jvm.ClassFile.FieldType.int)) ∈ lw_all := lw_g (lw_at lw_m6 181 rfl) rfl
theorem q1467 : (Jvm.Cond.methodLink "DimensionLinesModel" (184 : Nat) ({ cls := "DimensionLinesModel", name := "laneOf", desc := "(I)I" } : Jvm.MethodName)) ∈ lw_all := lw_g (lw_at lw_m6 182 rfl) rfl
theorem q1468 : (Jvm.Cond.privateMethod ({ cls := "DimensionLinesModel", name := "laneOf", desc := "(I)I" } : Jvm.MethodName)) ∈ lw_tbl := lw_at lw_m6 183 rfl
theorem q1469 : (Jvm.Cond.instanceMethod ({ cls := "DimensionLinesModel", name := "laneOf", desc := "(I)I" } : Jvm.MethodName)) ∈ lw_all := lw_g (lw_at lw_m6 184 rfl) rfl
theorem q1470 : (Jvm.Cond.code ({ cls := "DimensionLinesModel", name := "laneOf", desc := "(I)I" } : Jvm.MethodName) prog_12_method_57_code (2 : Nat) (Option.some Jvm.ClassFile.FieldType.int)) ∈ lw_all := lw_g (lw_at lw_m6 185 rfl) rfl
theorem q1471 : (Jvm.Cond.methodLink "DimensionLinesModel" (215 : Nat) ({ cls := "DimensionLinesModel", name := "crossings", desc := "(II)I" } : Jvm.MethodName)) ∈ lw_all := lw_g (lw_at lw_m6 186 rfl) rfl
theorem q1472 : (Jvm.Cond.privateMethod ({ cls := "DimensionLinesModel", name := "crossings", desc := "(II)I" } : Jvm.MethodName)) ∈ lw_tbl := lw_at lw_m6 187 rfl
theorem q1473 : (Jvm.Cond.instanceMethod ({ cls := "DimensionLinesModel", name := "crossings", desc := "(II)I" } : Jvm.MethodName)) ∈ lw_all := lw_g (lw_at lw_m6 188 rfl) rfl
theorem q1474 : (Jvm.Cond.code ({ cls := "DimensionLinesModel", name := "crossings", desc := "(II)I" } : Jvm.MethodName) prog_12_method_61_code (7 : Nat) (Option.some Jvm.ClassFile.FieldType.int)) ∈ lw_all := lw_g (lw_at lw_m6 189 rfl) rfl
theorem q1475 : (Jvm.Cond.methodLink "DimensionLinesModel" (190 : Nat) ({ cls := "DimensionLinesModel", name := "crosses", desc := "(II)Z" } : Jvm.MethodName)) ∈ lw_all := lw_g (lw_at lw_m6 190 rfl) rfl
theorem q1476 : (Jvm.Cond.privateMethod ({ cls := "DimensionLinesModel", name := "crosses", desc := "(II)Z" } : Jvm.MethodName)) ∈ lw_tbl := lw_at lw_m6 191 rfl
theorem q1477 : (Jvm.Cond.instanceMethod ({ cls := "DimensionLinesModel", name := "crosses", desc := "(II)Z" } : Jvm.MethodName)) ∈ lw_all := lw_g (lw_at lw_m6 192 rfl) rfl
theorem q1478 : (Jvm.Cond.code ({ cls := "DimensionLinesModel", name := "crosses", desc := "(II)Z" } : Jvm.MethodName) prog_12_method_60_code (3 : Nat) (Option.some Jvm.ClassFile.FieldType.boolean)) ∈ lw_all := lw_g (lw_at lw_m6 193 rfl) rfl
theorem q1480 : (Jvm.Cond.instanceMethod ({ cls := "DimensionLinesModel", name := "dimension", desc := "(II)I" } : Jvm.MethodName)) ∈ lw_all := lw_g (lw_at lw_m6 195 rfl) rfl
theorem q1481 : (Jvm.Cond.selects "DimensionLinesModel" ({ cls := "DimensionLinesModel", name := "dimension", desc := "(II)I" } : Jvm.MethodName) ({ cls := "DimensionLinesModel", name := "dimension", desc := "(II)I" } : Jvm.MethodName)) ∈ lw_all := lw_g (lw_at lw_m6 196 rfl) rfl
theorem q1482 : (Jvm.Cond.code ({ cls := "DimensionLinesModel", name := "dimension", desc := "(II)I" } : Jvm.MethodName) prog_12_method_72_code (3 : Nat) (Option.some Jvm.ClassFile.FieldType.int)) ∈ lw_all := lw_g (lw_at lw_m6 197 rfl) rfl
theorem q1483 : (Jvm.Cond.methodLink "DimensionLinesModel" (218 : Nat) ({ cls := "DimensionLinesModel", name := "isSuperfluous", desc := "(II)Z" } : Jvm.MethodName)) ∈ lw_all := lw_g (lw_at lw_m6 198 rfl) rfl
theorem q1484 : (Jvm.Cond.privateMethod ({ cls := "DimensionLinesModel", name := "isSuperfluous", desc := "(II)Z" } : Jvm.MethodName)) ∈ lw_tbl := lw_at lw_m6 199 rfl
theorem q1485 : (Jvm.Cond.instanceMethod ({ cls := "DimensionLinesModel", name := "isSuperfluous", desc := "(II)Z" } : Jvm.MethodName)) ∈ lw_all := lw_g (lw_at lw_m6 200 rfl) rfl
theorem q1486 : (Jvm.Cond.code ({ cls := "DimensionLinesModel", name := "isSuperfluous", desc := "(II)Z" } : Jvm.MethodName) prog_12_method_66_code (5 : Nat) (Option.some Jvm.ClassFile.FieldType.boolean)) ∈ lw_all := lw_g (lw_at lw_m6 201 rfl) rfl
theorem q1487 : (Jvm.Cond.methodLink "DimensionLinesModel" (221 : Nat) ({ cls := "DimensionLinesModel", name := "placeOf", desc := "(I)I" } : Jvm.MethodName)) ∈ lw_all := lw_g (lw_at lw_m6 202 rfl) rfl
theorem q1488 : (Jvm.Cond.static ({ cls := "DimensionLinesModel", name := "placeOf", desc := "(I)I" } : Jvm.MethodName)) ∈ lw_all := lw_g (lw_at lw_m6 203 rfl) rfl
theorem q1489 : (Jvm.Cond.code ({ cls := "DimensionLinesModel", name := "placeOf", desc := "(I)I" } : Jvm.MethodName) prog_12_method_71_code (1 : Nat) (Option.some Jvm.ClassFile.FieldType.int)) ∈ lw_all := lw_g (lw_at lw_m6 204 rfl) rfl
theorem q1491 : (Jvm.Cond.instanceMethod ({ cls := "DimensionLinesModel", name := "at", desc := "(II)I" } : Jvm.MethodName)) ∈ lw_all := lw_g (lw_at lw_m6 206 rfl) rfl
theorem q1492 : (Jvm.Cond.selects "DimensionLinesModel" ({ cls := "DimensionLinesModel", name := "at", desc := "(II)I" } : Jvm.MethodName) ({ cls := "DimensionLinesModel", name := "at", desc := "(II)I" } : Jvm.MethodName)) ∈ lw_all := lw_g (lw_at lw_m6 207 rfl) rfl
theorem q1493 : (Jvm.Cond.code ({ cls := "DimensionLinesModel", name := "at", desc := "(II)I" } : Jvm.MethodName) prog_12_method_73_code (4 : Nat) (Option.some Jvm.ClassFile.FieldType.int)) ∈ lw_all := lw_g (lw_at lw_m6 208 rfl) rfl
theorem q1495 : (Jvm.Cond.instanceMethod ({ cls := "DimensionLinesModel", name := "distance", desc := "(IIZ)I" } : Jvm.MethodName)) ∈ lw_all := lw_g (lw_at lw_m6 210 rfl) rfl
theorem q1496 : (Jvm.Cond.selects "DimensionLinesModel" ({ cls := "DimensionLinesModel", name := "distance", desc := "(IIZ)I" } : Jvm.MethodName) ({ cls := "DimensionLinesModel", name := "distance", desc := "(IIZ)I" } : Jvm.MethodName)) ∈ lw_all := lw_g (lw_at lw_m6 211 rfl) rfl
theorem q1497 : (Jvm.Cond.code ({ cls := "DimensionLinesModel", name := "distance", desc := "(IIZ)I" } : Jvm.MethodName) prog_12_method_75_code (4 : Nat) (Option.some Jvm.ClassFile.FieldType.int)) ∈ lw_all := lw_g (lw_at lw_m6 212 rfl) rfl
theorem q1498 : (Jvm.Cond.methodLink "DimensionLinesModel" (224 : Nat) ({ cls := "DimensionLinesModel", name := "arePoints", desc := "(II)Z" } : Jvm.MethodName)) ∈ lw_all := lw_g (lw_at lw_m6 213 rfl) rfl
theorem q1499 : (Jvm.Cond.privateMethod ({ cls := "DimensionLinesModel", name := "arePoints", desc := "(II)Z" } : Jvm.MethodName)) ∈ lw_tbl := lw_at lw_m6 214 rfl
theorem q1500 : (Jvm.Cond.instanceMethod ({ cls := "DimensionLinesModel", name := "arePoints", desc := "(II)Z" } : Jvm.MethodName)) ∈ lw_all := lw_g (lw_at lw_m6 215 rfl) rfl
theorem q1501 : (Jvm.Cond.code ({ cls := "DimensionLinesModel", name := "arePoints", desc := "(II)Z" } : Jvm.MethodName) prog_12_method_74_code (3 : Nat) (Option.some Jvm.ClassFile.FieldType.boolean)) ∈ lw_all := lw_g (lw_at lw_m6 216 rfl) rfl
theorem q1503 : (Jvm.Cond.instanceMethod ({ cls := "DimensionLinesModel", name := "ifExact", desc := "(III)I" } : Jvm.MethodName)) ∈ lw_all := lw_g (lw_at lw_m6 218 rfl) rfl
theorem q1504 : (Jvm.Cond.selects "DimensionLinesModel" ({ cls := "DimensionLinesModel", name := "ifExact", desc := "(III)I" } : Jvm.MethodName) ({ cls := "DimensionLinesModel", name := "ifExact", desc := "(III)I" } : Jvm.MethodName)) ∈ lw_all := lw_g (lw_at lw_m6 219 rfl) rfl
theorem q1505 : (Jvm.Cond.code ({ cls := "DimensionLinesModel", name := "ifExact", desc := "(III)I" } : Jvm.MethodName) prog_12_method_77_code (4 : Nat) (Option.some Jvm.ClassFile.FieldType.int)) ∈ lw_all := lw_g (lw_at lw_m6 220 rfl) rfl
theorem q1506 : (Jvm.Cond.methodLink "DimensionLinesModel" (230 : Nat) ({ cls := "DimensionLinesModel", name := "adds", desc := "(III)I" } : Jvm.MethodName)) ∈ lw_all := lw_g (lw_at lw_m6 221 rfl) rfl
theorem q1507 : (Jvm.Cond.privateMethod ({ cls := "DimensionLinesModel", name := "adds", desc := "(III)I" } : Jvm.MethodName)) ∈ lw_tbl := lw_at lw_m6 222 rfl
theorem q1508 : (Jvm.Cond.instanceMethod ({ cls := "DimensionLinesModel", name := "adds", desc := "(III)I" } : Jvm.MethodName)) ∈ lw_all := lw_g (lw_at lw_m6 223 rfl) rfl
theorem q1509 : (Jvm.Cond.code ({ cls := "DimensionLinesModel", name := "adds", desc := "(III)I" } : Jvm.MethodName) prog_12_method_76_code (5 : Nat) (Option.some Jvm.ClassFile.FieldType.int)) ∈ lw_all := lw_g (lw_at lw_m6 224 rfl) rfl
theorem q1510 : (Jvm.Cond.methodLink "DimensionLinesModel" (227 : Nat) ({ cls := "DimensionLinesModel", name := "range", desc := "(II)I" } : Jvm.MethodName)) ∈ lw_all := lw_g (lw_at lw_m6 225 rfl) rfl
theorem q1511 : (Jvm.Cond.privateMethod ({ cls := "DimensionLinesModel", name := "range", desc := "(II)I" } : Jvm.MethodName)) ∈ lw_tbl := lw_at lw_m6 226 rfl
theorem q1512 : (Jvm.Cond.instanceMethod ({ cls := "DimensionLinesModel", name := "range", desc := "(II)I" } : Jvm.MethodName)) ∈ lw_all := lw_g (lw_at lw_m6 227 rfl) rfl
theorem q1513 : (Jvm.Cond.code ({ cls := "DimensionLinesModel", name := "range", desc := "(II)I" } : Jvm.MethodName) prog_12_method_65_code (3 : Nat) (Option.some Jvm.ClassFile.FieldType.int)) ∈ lw_all := lw_g (lw_at lw_m6 228 rfl) rfl
theorem q1515 : (Jvm.Cond.instanceMethod ({ cls := "DimensionLinesModel", name := "critical", desc := "(II)I" } : Jvm.MethodName)) ∈ lw_all := lw_g (lw_at lw_m6 230 rfl) rfl
theorem q1516 : (Jvm.Cond.selects "DimensionLinesModel" ({ cls := "DimensionLinesModel", name := "critical", desc := "(II)I" } : Jvm.MethodName) ({ cls := "DimensionLinesModel", name := "critical", desc := "(II)I" } : Jvm.MethodName)) ∈ lw_all := lw_g (lw_at lw_m6 231 rfl) rfl
theorem q1517 : (Jvm.Cond.code ({ cls := "DimensionLinesModel", name := "critical", desc := "(II)I" } : Jvm.MethodName) prog_12_method_78_code (8 : Nat) (Option.some Jvm.ClassFile.FieldType.int)) ∈ lw_all := lw_g (lw_at lw_m6 232 rfl) rfl
theorem q1519 : (Jvm.Cond.instanceMethod ({ cls := "DimensionLinesModel", name := "needed", desc := "()I" } : Jvm.MethodName)) ∈ lw_all := lw_g (lw_at lw_m6 234 rfl) rfl
theorem q1520 : (Jvm.Cond.selects "DimensionLinesModel" ({ cls := "DimensionLinesModel", name := "needed", desc := "()I" } : Jvm.MethodName) ({ cls := "DimensionLinesModel", name := "needed", desc := "()I" } : Jvm.MethodName)) ∈ lw_all := lw_g (lw_at lw_m6 235 rfl) rfl
theorem q1521 : (Jvm.Cond.code ({ cls := "DimensionLinesModel", name := "needed", desc := "()I" } : Jvm.MethodName) prog_12_method_79_code (5 : Nat) (Option.some Jvm.ClassFile.FieldType.int)) ∈ lw_all := lw_g (lw_at lw_m6 236 rfl) rfl
theorem q1523 : (Jvm.Cond.instanceMethod ({ cls := "DimensionLinesModel", name := "chain", desc := "(II)I" } : Jvm.MethodName)) ∈ lw_all := lw_g (lw_at lw_m6 238 rfl) rfl
theorem q1524 : (Jvm.Cond.selects "DimensionLinesModel" ({ cls := "DimensionLinesModel", name := "chain", desc := "(II)I" } : Jvm.MethodName) ({ cls := "DimensionLinesModel", name := "chain", desc := "(II)I" } : Jvm.MethodName)) ∈ lw_all := lw_g (lw_at lw_m6 239 rfl) rfl
theorem q1525 : (Jvm.Cond.code ({ cls := "DimensionLinesModel", name := "chain", desc := "(II)I" } : Jvm.MethodName) prog_12_method_85_code (3 : Nat) (Option.some Jvm.ClassFile.FieldType.int)) ∈ lw_all := lw_g (lw_at lw_m7 0 rfl) rfl
theorem q1526 : (Jvm.Cond.methodLink "DimensionLinesModel" (237 : Nat) ({ cls := "DimensionLinesModel", name := "sumOf", desc := "(II)I" } : Jvm.MethodName)) ∈ lw_all := lw_g (lw_at lw_m7 1 rfl) rfl
theorem q1527 : (Jvm.Cond.privateMethod ({ cls := "DimensionLinesModel", name := "sumOf", desc := "(II)I" } : Jvm.MethodName)) ∈ lw_tbl := lw_at lw_m7 2 rfl
theorem q1528 : (Jvm.Cond.instanceMethod ({ cls := "DimensionLinesModel", name := "sumOf", desc := "(II)I" } : Jvm.MethodName)) ∈ lw_all := lw_g (lw_at lw_m7 3 rfl) rfl
theorem q1529 : (Jvm.Cond.code ({ cls := "DimensionLinesModel", name := "sumOf", desc := "(II)I" } : Jvm.MethodName) prog_12_method_80_code (6 : Nat) (Option.some Jvm.ClassFile.FieldType.int)) ∈ lw_all := lw_g (lw_at lw_m7 4 rfl) rfl
theorem q1530 : (Jvm.Cond.methodLink "DimensionLinesModel" (233 : Nat) ({ cls := "DimensionLinesModel", name := "endOf", desc := "(IZ)I" } : Jvm.MethodName)) ∈ lw_all := lw_g (lw_at lw_m7 5 rfl) rfl
theorem q1531 : (Jvm.Cond.privateMethod ({ cls := "DimensionLinesModel", name := "endOf", desc := "(IZ)I" } : Jvm.MethodName)) ∈ lw_tbl := lw_at lw_m7 6 rfl
theorem q1532 : (Jvm.Cond.instanceMethod ({ cls := "DimensionLinesModel", name := "endOf", desc := "(IZ)I" } : Jvm.MethodName)) ∈ lw_all := lw_g (lw_at lw_m7 7 rfl) rfl
theorem q1533 : (Jvm.Cond.code ({ cls := "DimensionLinesModel", name := "endOf", desc := "(IZ)I" } : Jvm.MethodName) prog_12_method_81_code (6 : Nat) (Option.some Jvm.ClassFile.FieldType.int)) ∈ lw_all := lw_g (lw_at lw_m7 8 rfl) rfl
theorem q1534 : (Jvm.Cond.methodLink "DimensionLinesModel" (240 : Nat) ({ cls := "DimensionLinesModel", name := "isClosed", desc := "(I)Z" } : Jvm.MethodName)) ∈ lw_all := lw_g (lw_at lw_m7 9 rfl) rfl
theorem q1535 : (Jvm.Cond.privateMethod ({ cls := "DimensionLinesModel", name := "isClosed", desc := "(I)Z" } : Jvm.MethodName)) ∈ lw_tbl := lw_at lw_m7 10 rfl
theorem q1536 : (Jvm.Cond.instanceMethod ({ cls := "DimensionLinesModel", name := "isClosed", desc := "(I)Z" } : Jvm.MethodName)) ∈ lw_all := lw_g (lw_at lw_m7 11 rfl) rfl
theorem q1537 : (Jvm.Cond.code ({ cls := "DimensionLinesModel", name := "isClosed", desc := "(I)Z" } : Jvm.MethodName) prog_12_method_82_code (9 : Nat) (Option.some Jvm.ClassFile.FieldType.boolean)) ∈ lw_all := lw_g (lw_at lw_m7 12 rfl) rfl
theorem q1538 : (Jvm.Cond.methodLink "DimensionLinesModel" (243 : Nat) ({ cls := "DimensionLinesModel", name := "over", desc := "(I)I" } : Jvm.MethodName)) ∈ lw_all := lw_g (lw_at lw_m7 13 rfl) rfl
theorem q1539 : (Jvm.Cond.privateMethod ({ cls := "DimensionLinesModel", name := "over", desc := "(I)I" } : Jvm.MethodName)) ∈ lw_tbl := lw_at lw_m7 14 rfl
theorem q1540 : (Jvm.Cond.instanceMethod ({ cls := "DimensionLinesModel", name := "over", desc := "(I)I" } : Jvm.MethodName)) ∈ lw_all := lw_g (lw_at lw_m7 15 rfl) rfl
theorem q1541 : (Jvm.Cond.code ({ cls := "DimensionLinesModel", name := "over", desc := "(I)I" } : Jvm.MethodName) prog_12_method_83_code (3 : Nat) (Option.some Jvm.ClassFile.FieldType.int)) ∈ lw_all := lw_g (lw_at lw_m7 16 rfl) rfl
theorem q1542 : (Jvm.Cond.methodLink "DimensionLinesModel" (246 : Nat) ({ cls := "DimensionLinesModel", name := "laneOfChain", desc := "(I)I" } : Jvm.MethodName)) ∈ lw_all := lw_g (lw_at lw_m7 17 rfl) rfl
theorem q1543 : (Jvm.Cond.privateMethod ({ cls := "DimensionLinesModel", name := "laneOfChain", desc := "(I)I" } : Jvm.MethodName)) ∈ lw_tbl := lw_at lw_m7 18 rfl
theorem q1544 : (Jvm.Cond.instanceMethod ({ cls := "DimensionLinesModel", name := "laneOfChain", desc := "(I)I" } : Jvm.MethodName)) ∈ lw_all := lw_g (lw_at lw_m7 19 rfl) rfl
theorem q1545 : (Jvm.Cond.code ({ cls := "DimensionLinesModel", name := "laneOfChain", desc := "(I)I" } : Jvm.MethodName) prog_12_method_84_code (3 : Nat) (Option.some Jvm.ClassFile.FieldType.int)) ∈ lw_all := lw_g (lw_at lw_m7 20 rfl) rfl
theorem q1547 : (Jvm.Cond.instanceMethod ({ cls := "DimensionLinesModel", name := "ifArrow", desc := "(I)I" } : Jvm.MethodName)) ∈ lw_all := lw_g (lw_at lw_m7 22 rfl) rfl
theorem q1548 : (Jvm.Cond.selects "DimensionLinesModel" ({ cls := "DimensionLinesModel", name := "ifArrow", desc := "(I)I" } : Jvm.MethodName) ({ cls := "DimensionLinesModel", name := "ifArrow", desc := "(I)I" } : Jvm.MethodName)) ∈ lw_all := lw_g (lw_at lw_m7 23 rfl) rfl
theorem q1549 : (Jvm.Cond.code ({ cls := "DimensionLinesModel", name := "ifArrow", desc := "(I)I" } : Jvm.MethodName) prog_12_method_86_code (3 : Nat) (Option.some Jvm.ClassFile.FieldType.int)) ∈ lw_all := lw_g (lw_at lw_m7 24 rfl) rfl
theorem q1550 : (Jvm.Cond.methodLink "DimensionLinesModel" (249 : Nat) ({ cls := "DimensionLinesModel", name := "lanes", desc := "()I" } : Jvm.MethodName)) ∈ lw_all := lw_g (lw_at lw_m7 25 rfl) rfl
theorem q1551 : (Jvm.Cond.privateMethod ({ cls := "DimensionLinesModel", name := "lanes", desc := "()I" } : Jvm.MethodName)) ∈ lw_tbl := lw_at lw_m7 26 rfl
theorem q1552 : (Jvm.Cond.instanceMethod ({ cls := "DimensionLinesModel", name := "lanes", desc := "()I" } : Jvm.MethodName)) ∈ lw_all := lw_g (lw_at lw_m7 27 rfl) rfl
theorem q1553 : (Jvm.Cond.code ({ cls := "DimensionLinesModel", name := "lanes", desc := "()I" } : Jvm.MethodName) prog_12_method_58_code (3 : Nat) (Option.some Jvm.ClassFile.FieldType.int)) ∈ lw_all := lw_g (lw_at lw_m7 28 rfl) rfl
theorem q1555 : (Jvm.Cond.instanceMethod ({ cls := "DimensionLinesModel", name := "count", desc := "(I)I" } : Jvm.MethodName)) ∈ lw_all := lw_g (lw_at lw_m7 30 rfl) rfl
theorem q1556 : (Jvm.Cond.selects "DimensionLinesModel" ({ cls := "DimensionLinesModel", name := "count", desc := "(I)I" } : Jvm.MethodName) ({ cls := "DimensionLinesModel", name := "count", desc := "(I)I" } : Jvm.MethodName)) ∈ lw_all := lw_g (lw_at lw_m7 31 rfl) rfl
theorem q1557 : (Jvm.Cond.code ({ cls := "DimensionLinesModel", name := "count", desc := "(I)I" } : Jvm.MethodName) prog_12_method_90_code (2 : Nat) (Option.some Jvm.ClassFile.FieldType.int)) ∈ lw_all := lw_g (lw_at lw_m7 32 rfl) rfl
theorem q1558 : (Jvm.Cond.methodLink "DimensionLinesModel" (252 : Nat) ({ cls := "DimensionLinesModel", name := "units", desc := "()I" } : Jvm.MethodName)) ∈ lw_all := lw_g (lw_at lw_m7 33 rfl) rfl
theorem q1559 : (Jvm.Cond.privateMethod ({ cls := "DimensionLinesModel", name := "units", desc := "()I" } : Jvm.MethodName)) ∈ lw_tbl := lw_at lw_m7 34 rfl
theorem q1560 : (Jvm.Cond.instanceMethod ({ cls := "DimensionLinesModel", name := "units", desc := "()I" } : Jvm.MethodName)) ∈ lw_all := lw_g (lw_at lw_m7 35 rfl) rfl
theorem q1561 : (Jvm.Cond.code ({ cls := "DimensionLinesModel", name := "units", desc := "()I" } : Jvm.MethodName) prog_12_method_87_code (3 : Nat) (Option.some Jvm.ClassFile.FieldType.int)) ∈ lw_all := lw_g (lw_at lw_m7 36 rfl) rfl
theorem q1562 : (Jvm.Cond.methodLink "DimensionLinesModel" (255 : Nat) ({ cls := "DimensionLinesModel", name := "groups", desc := "()I" } : Jvm.MethodName)) ∈ lw_all := lw_g (lw_at lw_m7 37 rfl) rfl
theorem q1563 : (Jvm.Cond.privateMethod ({ cls := "DimensionLinesModel", name := "groups", desc := "()I" } : Jvm.MethodName)) ∈ lw_tbl := lw_at lw_m7 38 rfl
theorem q1564 : (Jvm.Cond.instanceMethod ({ cls := "DimensionLinesModel", name := "groups", desc := "()I" } : Jvm.MethodName)) ∈ lw_all := lw_g (lw_at lw_m7 39 rfl) rfl
theorem q1565 : (Jvm.Cond.code ({ cls := "DimensionLinesModel", name := "groups", desc := "()I" } : Jvm.MethodName) prog_12_method_88_code (3 : Nat) (Option.some Jvm.ClassFile.FieldType.int)) ∈ lw_all := lw_g (lw_at lw_m7 40 rfl) rfl
theorem q1566 : (Jvm.Cond.methodLink "DimensionLinesModel" (258 : Nat) ({ cls := "DimensionLinesModel", name := "superfluous", desc := "()I" } : Jvm.MethodName)) ∈ lw_all := lw_g (lw_at lw_m7 41 rfl) rfl
theorem q1567 : (Jvm.Cond.privateMethod ({ cls := "DimensionLinesModel", name := "superfluous", desc := "()I" } : Jvm.MethodName)) ∈ lw_tbl := lw_at lw_m7 42 rfl
theorem q1568 : (Jvm.Cond.instanceMethod ({ cls := "DimensionLinesModel", name := "superfluous", desc := "()I" } : Jvm.MethodName)) ∈ lw_all := lw_g (lw_at lw_m7 43 rfl) rfl
theorem q1569 : (Jvm.Cond.code ({ cls := "DimensionLinesModel", name := "superfluous", desc := "()I" } : Jvm.MethodName) prog_12_method_89_code (3 : Nat) (Option.some Jvm.ClassFile.FieldType.int)) ∈ lw_all := lw_g (lw_at lw_m7 44 rfl) rfl
theorem q1571 : (Jvm.Cond.instanceMethod ({ cls := "DimensionLinesModel", name := "digest", desc := "()J" } : Jvm.MethodName)) ∈ lw_all := lw_g (lw_at lw_m7 46 rfl) rfl
theorem q1572 : (Jvm.Cond.selects "DimensionLinesModel" ({ cls := "DimensionLinesModel", name := "digest", desc := "()J" } : Jvm.MethodName) ({ cls := "DimensionLinesModel", name := "digest", desc := "()J" } : Jvm.MethodName)) ∈ lw_all := lw_g (lw_at lw_m7 47 rfl) rfl
theorem q1573 : (Jvm.Cond.code ({ cls := "DimensionLinesModel", name := "digest", desc := "()J" } : Jvm.MethodName) prog_12_method_92_code (3 : Nat) (Option.some Jvm.ClassFile.FieldType.long)) ∈ lw_all := lw_g (lw_at lw_m7 48 rfl) rfl
theorem q1574 : (Jvm.Cond.constantLong "DimensionLinesModel" (267 : Nat) (18841 : Int64)) ∈ lw_all := lw_g (lw_at lw_m7 49 rfl) rfl
theorem q1575 : (Jvm.Cond.methodLink "DimensionLinesModel" (269 : Nat) ({ cls := "DimensionLinesModel", name := "count", desc := "(I)I" } : Jvm.MethodName)) ∈ lw_all := lw_g (lw_at lw_m7 50 rfl) rfl
theorem q1576 : (Jvm.Cond.methodLink "DimensionLinesModel" (272 : Nat) ({ cls := "DimensionLinesModel", name := "mixes", desc := "(I)V" } : Jvm.MethodName)) ∈ lw_all := lw_g (lw_at lw_m7 51 rfl) rfl
theorem q1577 : (Jvm.Cond.privateMethod ({ cls := "DimensionLinesModel", name := "mixes", desc := "(I)V" } : Jvm.MethodName)) ∈ lw_tbl := lw_at lw_m7 52 rfl
theorem q1578 : (Jvm.Cond.instanceMethod ({ cls := "DimensionLinesModel", name := "mixes", desc := "(I)V" } : Jvm.MethodName)) ∈ lw_all := lw_g (lw_at lw_m7 53 rfl) rfl
theorem q1579 : (Jvm.Cond.code ({ cls := "DimensionLinesModel", name := "mixes", desc := "(I)V" } : Jvm.MethodName) prog_12_method_91_code (2 : Nat) (Option.none : Option Jvm.ClassFile.FieldType)) ∈ lw_all := lw_g (lw_at lw_m7 54 rfl) rfl
theorem q1580 : (Jvm.Cond.constantLong "DimensionLinesModel" (261 : Nat) (31 : Int64)) ∈ lw_all := lw_g (lw_at lw_m7 55 rfl) rfl
theorem q1581 : (Jvm.Cond.methodLink "DimensionLinesModel" (275 : Nat) ({ cls := "DimensionLinesModel", name := "point", desc := "(II)I" } : Jvm.MethodName)) ∈ lw_all := lw_g (lw_at lw_m7 56 rfl) rfl
theorem q1582 : (Jvm.Cond.methodLink "DimensionLinesModel" (278 : Nat) ({ cls := "DimensionLinesModel", name := "dimension", desc := "(II)I" } : Jvm.MethodName)) ∈ lw_all := lw_g (lw_at lw_m7 57 rfl) rfl
theorem q1583 : (Jvm.Cond.methodLink "DimensionLinesModel" (281 : Nat) ({ cls := "DimensionLinesModel", name := "distance", desc := "(IIZ)I" } : Jvm.MethodName)) ∈ lw_all := lw_g (lw_at lw_m7 58 rfl) rfl
theorem q1584 : (Jvm.Cond.methodLink "DimensionLinesModel" (285 : Nat) ({ cls := "DimensionLinesModel", name := "critical", desc := "(II)I" } : Jvm.MethodName)) ∈ lw_all := lw_g (lw_at lw_m7 59 rfl) rfl
theorem q1585 : (Jvm.Cond.methodLink "DimensionLinesModel" (288 : Nat) ({ cls := "DimensionLinesModel", name := "chain", desc := "(II)I" } : Jvm.MethodName)) ∈ lw_all := lw_g (lw_at lw_m7 60 rfl) rfl
theorem q1586 : (Jvm.Cond.methodLink "DimensionLinesModel" (291 : Nat) ({ cls := "DimensionLinesModel", name := "needed", desc := "()I" } : Jvm.MethodName)) ∈ lw_all := lw_g (lw_at lw_m7 61 rfl) rfl
theorem q1602 : (Jvm.Cond.castable "DimensionLinesModel" "java/lang/Object") ∈ lw_tbl := lw_at lw_m7 77 rfl
theorem in_X2 : ∀ w ∈ wsX20, w ∈ lw_all := lw_in wsX20 [1185, 1187, 1189, 1191, 1193, 1195, 1197, 1199, 1201, 1203, 1205, 1207, 1209, 1211, 1213, 1215] (by decide +kernel) (by decide +kernel)

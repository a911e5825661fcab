/-! DimensionLines -/
set_option maxRecDepth 100000
def RX0 : String := "DimensionLines"
def TX0 : u_T := fun k => match k with
  | 0 => ("DimensionLines", "now", "LDimensionLines$Drawing;", false)
  | 1 => ("DimensionLines", "past", "[LDimensionLines$Drawing;", true)
  | 2 => ("DimensionLines", "pastCount", "I", false)
  | 3 => ("DimensionLines", "text", "[C", true)
  | 4 => ("DimensionLines", "typed", "I", false)
  | _ => ("DimensionLines", "fault", "I", false)
def tyX0 : Nat → FieldType := fun k => match k with
  | 0 => .object "DimensionLines$Drawing"
  | 1 => .array (.object "DimensionLines$Drawing")
  | 2 => .int
  | 3 => .array .char
  | 4 => .int
  | _ => .int
abbrev wsX00 : List Cond := u_ws RX0 TX0 6
theorem nmX0 : ∀ a, a < 6 → ∀ b, b < 6 → a ≠ b → (TX0 a).2.1 ≠ (TX0 b).2.1 := by decide +kernel
theorem tyX0_ok : ∀ k, k < 6 → parseFieldDescriptor (TX0 k).2.2.1 = some (tyX0 k) := by decide +kernel
abbrev cX0_init : ByteArray := prog_1_method_3_code
def yX0_init : MethodName := ⟨RX0, "<init>", "()V"⟩
def dkwX0_init_1 : List UInt8 := [42, 16, 80, 188, 5, 181, 0, 36, 177]
abbrev dktX0_init_1 : List UInt8 := dkwX0_init_1 ++ []
def dkwX0_init_0 : List UInt8 := [42, 183, 0, 17, 42, 187, 0, 23, 89, 183, 0, 25, 181, 0, 26, 42, 16, 8, 189, 0, 23, 181, 0, 32]
abbrev dktX0_init_0 : List UInt8 := dkwX0_init_0 ++ dktX0_init_1
theorem dksX0_init_0 : cX0_init.data.toList.drop 0 = dktX0_init_0 := by decide +kernel
theorem dksX0_init_1 : cX0_init.data.toList.drop 24 = dktX0_init_1 := dk_seg dksX0_init_0 24 rfl rfl
theorem dX0_init_0 : decode cX0_init 0 = .ok (.aload_n 0, 1) := dk_42 (dk_at dksX0_init_0 0 rfl rfl)
theorem dX0_init_1 : decode cX0_init 1 = .ok (.invokespecial 17, 3) := dk_183 0 17 (dk_at dksX0_init_0 1 rfl rfl)
theorem dX0_init_4 : decode cX0_init 4 = .ok (.aload_n 0, 1) := dk_42 (dk_at dksX0_init_0 4 rfl rfl)
theorem dX0_init_5 : decode cX0_init 5 = .ok (.new 23, 3) := dk_187 0 23 (dk_at dksX0_init_0 5 rfl rfl)
theorem dX0_init_8 : decode cX0_init 8 = .ok (.dup, 1) := dk_89 (dk_at dksX0_init_0 8 rfl rfl)
theorem dX0_init_9 : decode cX0_init 9 = .ok (.invokespecial 25, 3) := dk_183 0 25 (dk_at dksX0_init_0 9 rfl rfl)
theorem dX0_init_12 : decode cX0_init 12 = .ok (.putfield 26, 3) := dk_181 0 26 (dk_at dksX0_init_0 12 rfl rfl)
theorem dX0_init_15 : decode cX0_init 15 = .ok (.aload_n 0, 1) := dk_42 (dk_at dksX0_init_0 15 rfl rfl)
theorem dX0_init_16 : decode cX0_init 16 = .ok (.bipush 8, 2) := dk_16 8 (dk_at dksX0_init_0 16 rfl rfl)
theorem dX0_init_18 : decode cX0_init 18 = .ok (.anewarray 23, 3) := dk_189 0 23 (dk_at dksX0_init_0 18 rfl rfl)
theorem dX0_init_21 : decode cX0_init 21 = .ok (.putfield 32, 3) := dk_181 0 32 (dk_at dksX0_init_0 21 rfl rfl)
theorem dX0_init_24 : decode cX0_init 24 = .ok (.aload_n 0, 1) := dk_42 (dk_at dksX0_init_1 0 rfl rfl)
theorem dX0_init_25 : decode cX0_init 25 = .ok (.bipush 80, 2) := dk_16 80 (dk_at dksX0_init_1 1 rfl rfl)
theorem dX0_init_27 : decode cX0_init 27 = .ok (.newarray .char, 2) := dk_188_5 (dk_at dksX0_init_1 3 rfl rfl)
theorem dX0_init_29 : decode cX0_init 29 = .ok (.putfield 36, 3) := dk_181 0 36 (dk_at dksX0_init_1 5 rfl rfl)
theorem dX0_init_32 : decode cX0_init 32 = .ok (.return_, 1) := dk_177 (dk_at dksX0_init_1 8 rfl rfl)
abbrev cX0_type : ByteArray := prog_1_method_9_code
def yX0_type : MethodName := ⟨RX0, "type", "(I)I"⟩
def dkwX0_type_2 : List UInt8 := [180, 0, 76, 172]
abbrev dktX0_type_2 : List UInt8 := dkwX0_type_2 ++ []
def dkwX0_type_1 : List UInt8 := [172, 42, 180, 0, 36, 42, 180, 0, 76, 27, 146, 85, 42, 89, 180, 0, 76, 4, 96, 181, 0, 76, 42]
abbrev dktX0_type_1 : List UInt8 := dkwX0_type_1 ++ dktX0_type_2
def dkwX0_type_0 : List UInt8 := [27, 16, 32, 16, 126, 184, 0, 65, 154, 0, 5, 2, 172, 42, 180, 0, 76, 16, 80, 160, 0, 6, 16, 253]
abbrev dktX0_type_0 : List UInt8 := dkwX0_type_0 ++ dktX0_type_1
theorem dksX0_type_0 : cX0_type.data.toList.drop 0 = dktX0_type_0 := by decide +kernel
theorem dksX0_type_1 : cX0_type.data.toList.drop 24 = dktX0_type_1 := dk_seg dksX0_type_0 24 rfl rfl
theorem dksX0_type_2 : cX0_type.data.toList.drop 47 = dktX0_type_2 := dk_seg dksX0_type_1 23 rfl rfl
theorem dX0_type_0 : decode cX0_type 0 = .ok (.iload_n 1, 1) := dk_27 (dk_at dksX0_type_0 0 rfl rfl)
theorem dX0_type_1 : decode cX0_type 1 = .ok (.bipush 32, 2) := dk_16 32 (dk_at dksX0_type_0 1 rfl rfl)
theorem dX0_type_3 : decode cX0_type 3 = .ok (.bipush 126, 2) := dk_16 126 (dk_at dksX0_type_0 3 rfl rfl)
theorem dX0_type_5 : decode cX0_type 5 = .ok (.invokestatic 65, 3) := dk_184 0 65 (dk_at dksX0_type_0 5 rfl rfl)
theorem dX0_type_8 : decode cX0_type 8 = .ok (.ifCond .ne 5, 3) := dk_154 0 5 (dk_at dksX0_type_0 8 rfl rfl)
theorem dX0_type_11 : decode cX0_type 11 = .ok (.iconst (-1), 1) := dk_2 (dk_at dksX0_type_0 11 rfl rfl)
theorem dX0_type_12 : decode cX0_type 12 = .ok (.ireturn, 1) := dk_172 (dk_at dksX0_type_0 12 rfl rfl)
theorem dX0_type_13 : decode cX0_type 13 = .ok (.aload_n 0, 1) := dk_42 (dk_at dksX0_type_0 13 rfl rfl)
theorem dX0_type_14 : decode cX0_type 14 = .ok (.getfield 76, 3) := dk_180 0 76 (dk_at dksX0_type_0 14 rfl rfl)
theorem dX0_type_17 : decode cX0_type 17 = .ok (.bipush 80, 2) := dk_16 80 (dk_at dksX0_type_0 17 rfl rfl)
theorem dX0_type_19 : decode cX0_type 19 = .ok (.if_icmp .ne 6, 3) := dk_160 0 6 (dk_at dksX0_type_0 19 rfl rfl)
theorem dX0_type_22 : decode cX0_type 22 = .ok (.bipush (-3), 2) := dk_16 253 (dk_at dksX0_type_0 22 rfl rfl)
theorem dX0_type_24 : decode cX0_type 24 = .ok (.ireturn, 1) := dk_172 (dk_at dksX0_type_1 0 rfl rfl)
theorem dX0_type_25 : decode cX0_type 25 = .ok (.aload_n 0, 1) := dk_42 (dk_at dksX0_type_1 1 rfl rfl)
theorem dX0_type_26 : decode cX0_type 26 = .ok (.getfield 36, 3) := dk_180 0 36 (dk_at dksX0_type_1 2 rfl rfl)
theorem dX0_type_29 : decode cX0_type 29 = .ok (.aload_n 0, 1) := dk_42 (dk_at dksX0_type_1 5 rfl rfl)
theorem dX0_type_30 : decode cX0_type 30 = .ok (.getfield 76, 3) := dk_180 0 76 (dk_at dksX0_type_1 6 rfl rfl)
theorem dX0_type_33 : decode cX0_type 33 = .ok (.iload_n 1, 1) := dk_27 (dk_at dksX0_type_1 9 rfl rfl)
theorem dX0_type_34 : decode cX0_type 34 = .ok (.i2c, 1) := dk_146 (dk_at dksX0_type_1 10 rfl rfl)
theorem dX0_type_35 : decode cX0_type 35 = .ok (.castore, 1) := dk_85 (dk_at dksX0_type_1 11 rfl rfl)
theorem dX0_type_36 : decode cX0_type 36 = .ok (.aload_n 0, 1) := dk_42 (dk_at dksX0_type_1 12 rfl rfl)
theorem dX0_type_37 : decode cX0_type 37 = .ok (.dup, 1) := dk_89 (dk_at dksX0_type_1 13 rfl rfl)
theorem dX0_type_38 : decode cX0_type 38 = .ok (.getfield 76, 3) := dk_180 0 76 (dk_at dksX0_type_1 14 rfl rfl)
theorem dX0_type_41 : decode cX0_type 41 = .ok (.iconst 1, 1) := dk_4 (dk_at dksX0_type_1 17 rfl rfl)
theorem dX0_type_42 : decode cX0_type 42 = .ok (.iadd, 1) := dk_96 (dk_at dksX0_type_1 18 rfl rfl)
theorem dX0_type_43 : decode cX0_type 43 = .ok (.putfield 76, 3) := dk_181 0 76 (dk_at dksX0_type_1 19 rfl rfl)
theorem dX0_type_46 : decode cX0_type 46 = .ok (.aload_n 0, 1) := dk_42 (dk_at dksX0_type_1 22 rfl rfl)
theorem dX0_type_47 : decode cX0_type 47 = .ok (.getfield 76, 3) := dk_180 0 76 (dk_at dksX0_type_2 0 rfl rfl)
theorem dX0_type_50 : decode cX0_type 50 = .ok (.ireturn, 1) := dk_172 (dk_at dksX0_type_2 3 rfl rfl)
abbrev cX0_in : ByteArray := prog_1_method_1_code
def yX0_in : MethodName := ⟨RX0, "in", "(III)Z"⟩
def dkwX0_in_0 : List UInt8 := [26, 27, 161, 0, 12, 26, 28, 163, 0, 7, 4, 167, 0, 4, 3, 172]
abbrev dktX0_in_0 : List UInt8 := dkwX0_in_0 ++ []
theorem dksX0_in_0 : cX0_in.data.toList.drop 0 = dktX0_in_0 := by decide +kernel
theorem dX0_in_0 : decode cX0_in 0 = .ok (.iload_n 0, 1) := dk_26 (dk_at dksX0_in_0 0 rfl rfl)
theorem dX0_in_1 : decode cX0_in 1 = .ok (.iload_n 1, 1) := dk_27 (dk_at dksX0_in_0 1 rfl rfl)
theorem dX0_in_2 : decode cX0_in 2 = .ok (.if_icmp .lt 12, 3) := dk_161 0 12 (dk_at dksX0_in_0 2 rfl rfl)
theorem dX0_in_5 : decode cX0_in 5 = .ok (.iload_n 0, 1) := dk_26 (dk_at dksX0_in_0 5 rfl rfl)
theorem dX0_in_6 : decode cX0_in 6 = .ok (.iload_n 2, 1) := dk_28 (dk_at dksX0_in_0 6 rfl rfl)
theorem dX0_in_7 : decode cX0_in 7 = .ok (.if_icmp .gt 7, 3) := dk_163 0 7 (dk_at dksX0_in_0 7 rfl rfl)
theorem dX0_in_10 : decode cX0_in 10 = .ok (.iconst 1, 1) := dk_4 (dk_at dksX0_in_0 10 rfl rfl)
theorem dX0_in_11 : decode cX0_in 11 = .ok (.goto 4, 3) := dk_167 0 4 (dk_at dksX0_in_0 11 rfl rfl)
theorem dX0_in_14 : decode cX0_in 14 = .ok (.iconst 0, 1) := dk_3 (dk_at dksX0_in_0 14 rfl rfl)
theorem dX0_in_15 : decode cX0_in 15 = .ok (.ireturn, 1) := dk_172 (dk_at dksX0_in_0 15 rfl rfl)
abbrev cX0_clearText : ByteArray := prog_1_method_10_code
def yX0_clearText : MethodName := ⟨RX0, "clearText", "()I"⟩
def dkwX0_clearText_0 : List UInt8 := [42, 180, 0, 76, 60, 42, 3, 181, 0, 76, 27, 172]
abbrev dktX0_clearText_0 : List UInt8 := dkwX0_clearText_0 ++ []
theorem dksX0_clearText_0 : cX0_clearText.data.toList.drop 0 = dktX0_clearText_0 := by decide +kernel
theorem dX0_clearText_0 : decode cX0_clearText 0 = .ok (.aload_n 0, 1) := dk_42 (dk_at dksX0_clearText_0 0 rfl rfl)
theorem dX0_clearText_1 : decode cX0_clearText 1 = .ok (.getfield 76, 3) := dk_180 0 76 (dk_at dksX0_clearText_0 1 rfl rfl)
theorem dX0_clearText_4 : decode cX0_clearText 4 = .ok (.istore_n 1, 1) := dk_60 (dk_at dksX0_clearText_0 4 rfl rfl)
theorem dX0_clearText_5 : decode cX0_clearText 5 = .ok (.aload_n 0, 1) := dk_42 (dk_at dksX0_clearText_0 5 rfl rfl)
theorem dX0_clearText_6 : decode cX0_clearText 6 = .ok (.iconst 0, 1) := dk_3 (dk_at dksX0_clearText_0 6 rfl rfl)
theorem dX0_clearText_7 : decode cX0_clearText 7 = .ok (.putfield 76, 3) := dk_181 0 76 (dk_at dksX0_clearText_0 7 rfl rfl)
theorem dX0_clearText_10 : decode cX0_clearText 10 = .ok (.iload_n 1, 1) := dk_27 (dk_at dksX0_clearText_0 10 rfl rfl)
theorem dX0_clearText_11 : decode cX0_clearText 11 = .ok (.ireturn, 1) := dk_172 (dk_at dksX0_clearText_0 11 rfl rfl)
abbrev cX0_load : ByteArray := prog_1_method_11_code
def yX0_load : MethodName := ⟨RX0, "load", "()I"⟩
def dkwX0_load_3 : List UInt8 := [76, 42, 43, 180, 0, 105, 181, 0, 79, 16, 246, 43, 180, 0, 108, 100, 172]
abbrev dktX0_load_3 : List UInt8 := dkwX0_load_3 ++ []
def dkwX0_load_2 : List UInt8 := [43, 42, 180, 0, 26, 180, 0, 100, 181, 0, 100, 42, 43, 182, 0, 54, 43, 180, 0, 69, 182, 0, 62, 172]
abbrev dktX0_load_2 : List UInt8 := dkwX0_load_2 ++ dktX0_load_3
def dkwX0_load_1 : List UInt8 := [180, 0, 76, 182, 0, 87, 183, 0, 91, 182, 0, 94, 76, 43, 42, 180, 0, 26, 180, 0, 97, 181, 0, 97]
abbrev dktX0_load_1 : List UInt8 := dkwX0_load_1 ++ dktX0_load_2
def dkwX0_load_0 : List UInt8 := [42, 3, 181, 0, 79, 187, 0, 82, 89, 187, 0, 84, 89, 183, 0, 86, 42, 180, 0, 36, 3, 42]
abbrev dktX0_load_0 : List UInt8 := dkwX0_load_0 ++ dktX0_load_1
theorem dksX0_load_0 : cX0_load.data.toList.drop 0 = dktX0_load_0 := by decide +kernel
theorem dksX0_load_1 : cX0_load.data.toList.drop 22 = dktX0_load_1 := dk_seg dksX0_load_0 22 rfl rfl
theorem dksX0_load_2 : cX0_load.data.toList.drop 46 = dktX0_load_2 := dk_seg dksX0_load_1 24 rfl rfl
theorem dksX0_load_3 : cX0_load.data.toList.drop 70 = dktX0_load_3 := dk_seg dksX0_load_2 24 rfl rfl
theorem dX0_load_0 : decode cX0_load 0 = .ok (.aload_n 0, 1) := dk_42 (dk_at dksX0_load_0 0 rfl rfl)
theorem dX0_load_1 : decode cX0_load 1 = .ok (.iconst 0, 1) := dk_3 (dk_at dksX0_load_0 1 rfl rfl)
theorem dX0_load_2 : decode cX0_load 2 = .ok (.putfield 79, 3) := dk_181 0 79 (dk_at dksX0_load_0 2 rfl rfl)
theorem dX0_load_5 : decode cX0_load 5 = .ok (.new 82, 3) := dk_187 0 82 (dk_at dksX0_load_0 5 rfl rfl)
theorem dX0_load_8 : decode cX0_load 8 = .ok (.dup, 1) := dk_89 (dk_at dksX0_load_0 8 rfl rfl)
theorem dX0_load_9 : decode cX0_load 9 = .ok (.new 84, 3) := dk_187 0 84 (dk_at dksX0_load_0 9 rfl rfl)
theorem dX0_load_12 : decode cX0_load 12 = .ok (.dup, 1) := dk_89 (dk_at dksX0_load_0 12 rfl rfl)
theorem dX0_load_13 : decode cX0_load 13 = .ok (.invokespecial 86, 3) := dk_183 0 86 (dk_at dksX0_load_0 13 rfl rfl)
theorem dX0_load_16 : decode cX0_load 16 = .ok (.aload_n 0, 1) := dk_42 (dk_at dksX0_load_0 16 rfl rfl)
theorem dX0_load_17 : decode cX0_load 17 = .ok (.getfield 36, 3) := dk_180 0 36 (dk_at dksX0_load_0 17 rfl rfl)
theorem dX0_load_20 : decode cX0_load 20 = .ok (.iconst 0, 1) := dk_3 (dk_at dksX0_load_0 20 rfl rfl)
theorem dX0_load_21 : decode cX0_load 21 = .ok (.aload_n 0, 1) := dk_42 (dk_at dksX0_load_0 21 rfl rfl)
theorem dX0_load_22 : decode cX0_load 22 = .ok (.getfield 76, 3) := dk_180 0 76 (dk_at dksX0_load_1 0 rfl rfl)
theorem dX0_load_25 : decode cX0_load 25 = .ok (.invokevirtual 87, 3) := dk_182 0 87 (dk_at dksX0_load_1 3 rfl rfl)
theorem dX0_load_28 : decode cX0_load 28 = .ok (.invokespecial 91, 3) := dk_183 0 91 (dk_at dksX0_load_1 6 rfl rfl)
theorem dX0_load_31 : decode cX0_load 31 = .ok (.invokevirtual 94, 3) := dk_182 0 94 (dk_at dksX0_load_1 9 rfl rfl)
theorem dX0_load_34 : decode cX0_load 34 = .ok (.astore_n 1, 1) := dk_76 (dk_at dksX0_load_1 12 rfl rfl)
theorem dX0_load_35 : decode cX0_load 35 = .ok (.aload_n 1, 1) := dk_43 (dk_at dksX0_load_1 13 rfl rfl)
theorem dX0_load_36 : decode cX0_load 36 = .ok (.aload_n 0, 1) := dk_42 (dk_at dksX0_load_1 14 rfl rfl)
theorem dX0_load_37 : decode cX0_load 37 = .ok (.getfield 26, 3) := dk_180 0 26 (dk_at dksX0_load_1 15 rfl rfl)
theorem dX0_load_40 : decode cX0_load 40 = .ok (.getfield 97, 3) := dk_180 0 97 (dk_at dksX0_load_1 18 rfl rfl)
theorem dX0_load_43 : decode cX0_load 43 = .ok (.putfield 97, 3) := dk_181 0 97 (dk_at dksX0_load_1 21 rfl rfl)
theorem dX0_load_46 : decode cX0_load 46 = .ok (.aload_n 1, 1) := dk_43 (dk_at dksX0_load_2 0 rfl rfl)
theorem dX0_load_47 : decode cX0_load 47 = .ok (.aload_n 0, 1) := dk_42 (dk_at dksX0_load_2 1 rfl rfl)
theorem dX0_load_48 : decode cX0_load 48 = .ok (.getfield 26, 3) := dk_180 0 26 (dk_at dksX0_load_2 2 rfl rfl)
theorem dX0_load_51 : decode cX0_load 51 = .ok (.getfield 100, 3) := dk_180 0 100 (dk_at dksX0_load_2 5 rfl rfl)
theorem dX0_load_54 : decode cX0_load 54 = .ok (.putfield 100, 3) := dk_181 0 100 (dk_at dksX0_load_2 8 rfl rfl)
theorem dX0_load_57 : decode cX0_load 57 = .ok (.aload_n 0, 1) := dk_42 (dk_at dksX0_load_2 11 rfl rfl)
theorem dX0_load_58 : decode cX0_load 58 = .ok (.aload_n 1, 1) := dk_43 (dk_at dksX0_load_2 12 rfl rfl)
theorem dX0_load_59 : decode cX0_load 59 = .ok (.invokevirtual 54, 3) := dk_182 0 54 (dk_at dksX0_load_2 13 rfl rfl)
theorem dX0_load_62 : decode cX0_load 62 = .ok (.aload_n 1, 1) := dk_43 (dk_at dksX0_load_2 16 rfl rfl)
theorem dX0_load_63 : decode cX0_load 63 = .ok (.getfield 69, 3) := dk_180 0 69 (dk_at dksX0_load_2 17 rfl rfl)
theorem dX0_load_66 : decode cX0_load 66 = .ok (.invokevirtual 62, 3) := dk_182 0 62 (dk_at dksX0_load_2 20 rfl rfl)
theorem dX0_load_69 : decode cX0_load 69 = .ok (.ireturn, 1) := dk_172 (dk_at dksX0_load_2 23 rfl rfl)
theorem dX0_load_70 : decode cX0_load 70 = .ok (.astore_n 1, 1) := dk_76 (dk_at dksX0_load_3 0 rfl rfl)
theorem dX0_load_71 : decode cX0_load 71 = .ok (.aload_n 0, 1) := dk_42 (dk_at dksX0_load_3 1 rfl rfl)
theorem dX0_load_72 : decode cX0_load 72 = .ok (.aload_n 1, 1) := dk_43 (dk_at dksX0_load_3 2 rfl rfl)
theorem dX0_load_73 : decode cX0_load 73 = .ok (.getfield 105, 3) := dk_180 0 105 (dk_at dksX0_load_3 3 rfl rfl)
theorem dX0_load_76 : decode cX0_load 76 = .ok (.putfield 79, 3) := dk_181 0 79 (dk_at dksX0_load_3 6 rfl rfl)
theorem dX0_load_79 : decode cX0_load 79 = .ok (.bipush (-10), 2) := dk_16 246 (dk_at dksX0_load_3 9 rfl rfl)
theorem dX0_load_81 : decode cX0_load 81 = .ok (.aload_n 1, 1) := dk_43 (dk_at dksX0_load_3 11 rfl rfl)
theorem dX0_load_82 : decode cX0_load 82 = .ok (.getfield 108, 3) := dk_180 0 108 (dk_at dksX0_load_3 12 rfl rfl)
theorem dX0_load_85 : decode cX0_load 85 = .ok (.isub, 1) := dk_100 (dk_at dksX0_load_3 15 rfl rfl)
theorem dX0_load_86 : decode cX0_load 86 = .ok (.ireturn, 1) := dk_172 (dk_at dksX0_load_3 16 rfl rfl)
abbrev cX0_become : ByteArray := prog_1_method_4_code
def yX0_become : MethodName := ⟨RX0, "become", "(LDimensionLines$Drawing;)V"⟩
def dkwX0_become_2 : List UInt8 := [89, 180, 0, 40, 4, 96, 181, 0, 40, 42, 43, 181, 0, 26, 177]
abbrev dktX0_become_2 : List UInt8 := dkwX0_become_2 ++ []
def dkwX0_become_1 : List UInt8 := [42, 89, 180, 0, 40, 4, 100, 181, 0, 40, 42, 180, 0, 32, 42, 180, 0, 40, 42, 180, 0, 26, 83, 42]
abbrev dktX0_become_1 : List UInt8 := dkwX0_become_1 ++ dktX0_become_2
def dkwX0_become_0 : List UInt8 := [42, 180, 0, 40, 16, 8, 160, 0, 28, 42, 180, 0, 32, 4, 42, 180, 0, 32, 3, 16, 7, 184, 0, 44]
abbrev dktX0_become_0 : List UInt8 := dkwX0_become_0 ++ dktX0_become_1
theorem dksX0_become_0 : cX0_become.data.toList.drop 0 = dktX0_become_0 := by decide +kernel
theorem dksX0_become_1 : cX0_become.data.toList.drop 24 = dktX0_become_1 := dk_seg dksX0_become_0 24 rfl rfl
theorem dksX0_become_2 : cX0_become.data.toList.drop 48 = dktX0_become_2 := dk_seg dksX0_become_1 24 rfl rfl
theorem dX0_become_0 : decode cX0_become 0 = .ok (.aload_n 0, 1) := dk_42 (dk_at dksX0_become_0 0 rfl rfl)
theorem dX0_become_1 : decode cX0_become 1 = .ok (.getfield 40, 3) := dk_180 0 40 (dk_at dksX0_become_0 1 rfl rfl)
theorem dX0_become_4 : decode cX0_become 4 = .ok (.bipush 8, 2) := dk_16 8 (dk_at dksX0_become_0 4 rfl rfl)
theorem dX0_become_6 : decode cX0_become 6 = .ok (.if_icmp .ne 28, 3) := dk_160 0 28 (dk_at dksX0_become_0 6 rfl rfl)
theorem dX0_become_9 : decode cX0_become 9 = .ok (.aload_n 0, 1) := dk_42 (dk_at dksX0_become_0 9 rfl rfl)
theorem dX0_become_10 : decode cX0_become 10 = .ok (.getfield 32, 3) := dk_180 0 32 (dk_at dksX0_become_0 10 rfl rfl)
theorem dX0_become_13 : decode cX0_become 13 = .ok (.iconst 1, 1) := dk_4 (dk_at dksX0_become_0 13 rfl rfl)
theorem dX0_become_14 : decode cX0_become 14 = .ok (.aload_n 0, 1) := dk_42 (dk_at dksX0_become_0 14 rfl rfl)
theorem dX0_become_15 : decode cX0_become 15 = .ok (.getfield 32, 3) := dk_180 0 32 (dk_at dksX0_become_0 15 rfl rfl)
theorem dX0_become_18 : decode cX0_become 18 = .ok (.iconst 0, 1) := dk_3 (dk_at dksX0_become_0 18 rfl rfl)
theorem dX0_become_19 : decode cX0_become 19 = .ok (.bipush 7, 2) := dk_16 7 (dk_at dksX0_become_0 19 rfl rfl)
theorem dX0_become_21 : decode cX0_become 21 = .ok (.invokestatic 44, 3) := dk_184 0 44 (dk_at dksX0_become_0 21 rfl rfl)
theorem dX0_become_24 : decode cX0_become 24 = .ok (.aload_n 0, 1) := dk_42 (dk_at dksX0_become_1 0 rfl rfl)
theorem dX0_become_25 : decode cX0_become 25 = .ok (.dup, 1) := dk_89 (dk_at dksX0_become_1 1 rfl rfl)
theorem dX0_become_26 : decode cX0_become 26 = .ok (.getfield 40, 3) := dk_180 0 40 (dk_at dksX0_become_1 2 rfl rfl)
theorem dX0_become_29 : decode cX0_become 29 = .ok (.iconst 1, 1) := dk_4 (dk_at dksX0_become_1 5 rfl rfl)
theorem dX0_become_30 : decode cX0_become 30 = .ok (.isub, 1) := dk_100 (dk_at dksX0_become_1 6 rfl rfl)
theorem dX0_become_31 : decode cX0_become 31 = .ok (.putfield 40, 3) := dk_181 0 40 (dk_at dksX0_become_1 7 rfl rfl)
theorem dX0_become_34 : decode cX0_become 34 = .ok (.aload_n 0, 1) := dk_42 (dk_at dksX0_become_1 10 rfl rfl)
theorem dX0_become_35 : decode cX0_become 35 = .ok (.getfield 32, 3) := dk_180 0 32 (dk_at dksX0_become_1 11 rfl rfl)
theorem dX0_become_38 : decode cX0_become 38 = .ok (.aload_n 0, 1) := dk_42 (dk_at dksX0_become_1 14 rfl rfl)
theorem dX0_become_39 : decode cX0_become 39 = .ok (.getfield 40, 3) := dk_180 0 40 (dk_at dksX0_become_1 15 rfl rfl)
theorem dX0_become_42 : decode cX0_become 42 = .ok (.aload_n 0, 1) := dk_42 (dk_at dksX0_become_1 18 rfl rfl)
theorem dX0_become_43 : decode cX0_become 43 = .ok (.getfield 26, 3) := dk_180 0 26 (dk_at dksX0_become_1 19 rfl rfl)
theorem dX0_become_46 : decode cX0_become 46 = .ok (.aastore, 1) := dk_83 (dk_at dksX0_become_1 22 rfl rfl)
theorem dX0_become_47 : decode cX0_become 47 = .ok (.aload_n 0, 1) := dk_42 (dk_at dksX0_become_1 23 rfl rfl)
theorem dX0_become_48 : decode cX0_become 48 = .ok (.dup, 1) := dk_89 (dk_at dksX0_become_2 0 rfl rfl)
theorem dX0_become_49 : decode cX0_become 49 = .ok (.getfield 40, 3) := dk_180 0 40 (dk_at dksX0_become_2 1 rfl rfl)
theorem dX0_become_52 : decode cX0_become 52 = .ok (.iconst 1, 1) := dk_4 (dk_at dksX0_become_2 4 rfl rfl)
theorem dX0_become_53 : decode cX0_become 53 = .ok (.iadd, 1) := dk_96 (dk_at dksX0_become_2 5 rfl rfl)
theorem dX0_become_54 : decode cX0_become 54 = .ok (.putfield 40, 3) := dk_181 0 40 (dk_at dksX0_become_2 6 rfl rfl)
theorem dX0_become_57 : decode cX0_become 57 = .ok (.aload_n 0, 1) := dk_42 (dk_at dksX0_become_2 9 rfl rfl)
theorem dX0_become_58 : decode cX0_become 58 = .ok (.aload_n 1, 1) := dk_43 (dk_at dksX0_become_2 10 rfl rfl)
theorem dX0_become_59 : decode cX0_become 59 = .ok (.putfield 26, 3) := dk_181 0 26 (dk_at dksX0_become_2 11 rfl rfl)
theorem dX0_become_62 : decode cX0_become 62 = .ok (.return_, 1) := dk_177 (dk_at dksX0_become_2 14 rfl rfl)
abbrev cX0_faultKind : ByteArray := prog_1_method_12_code
def yX0_faultKind : MethodName := ⟨RX0, "faultKind", "()I"⟩
theorem dX0_faultKind_0 : decode cX0_faultKind 0 = .ok (.aload_n 0, 1) := by decide +kernel
theorem dX0_faultKind_1 : decode cX0_faultKind 1 = .ok (.getfield 79, 3) := by decide +kernel
theorem dX0_faultKind_4 : decode cX0_faultKind 4 = .ok (.ireturn, 1) := by decide +kernel
abbrev cX0_addPoint : ByteArray := prog_1_method_13_code
def yX0_addPoint : MethodName := ⟨RX0, "addPoint", "(I)I"⟩
def dkwX0_addPoint_2 : List UInt8 := [167, 0, 18, 42, 182, 0, 115, 187, 0, 118, 89, 27, 183, 0, 120, 182, 0, 123, 172]
abbrev dktX0_addPoint_2 : List UInt8 := dkwX0_addPoint_2 ++ []
def dkwX0_addPoint_1 : List UInt8 := [159, 0, 6, 16, 254, 172, 42, 180, 0, 26, 180, 0, 58, 182, 0, 62, 16, 12, 160, 0, 8, 16, 253]
abbrev dktX0_addPoint_1 : List UInt8 := dkwX0_addPoint_1 ++ dktX0_addPoint_2
def dkwX0_addPoint_0 : List UInt8 := [27, 3, 17, 1, 44, 184, 0, 65, 154, 0, 5, 2, 172, 42, 180, 0, 26, 27, 182, 0, 111, 17, 252, 25]
abbrev dktX0_addPoint_0 : List UInt8 := dkwX0_addPoint_0 ++ dktX0_addPoint_1
theorem dksX0_addPoint_0 : cX0_addPoint.data.toList.drop 0 = dktX0_addPoint_0 := by decide +kernel
theorem dksX0_addPoint_1 : cX0_addPoint.data.toList.drop 24 = dktX0_addPoint_1 := dk_seg dksX0_addPoint_0 24 rfl rfl
theorem dksX0_addPoint_2 : cX0_addPoint.data.toList.drop 47 = dktX0_addPoint_2 := dk_seg dksX0_addPoint_1 23 rfl rfl
theorem dX0_addPoint_0 : decode cX0_addPoint 0 = .ok (.iload_n 1, 1) := dk_27 (dk_at dksX0_addPoint_0 0 rfl rfl)
theorem dX0_addPoint_1 : decode cX0_addPoint 1 = .ok (.iconst 0, 1) := dk_3 (dk_at dksX0_addPoint_0 1 rfl rfl)
theorem dX0_addPoint_2 : decode cX0_addPoint 2 = .ok (.sipush 300, 3) := dk_17 1 44 (dk_at dksX0_addPoint_0 2 rfl rfl)
theorem dX0_addPoint_5 : decode cX0_addPoint 5 = .ok (.invokestatic 65, 3) := dk_184 0 65 (dk_at dksX0_addPoint_0 5 rfl rfl)
theorem dX0_addPoint_8 : decode cX0_addPoint 8 = .ok (.ifCond .ne 5, 3) := dk_154 0 5 (dk_at dksX0_addPoint_0 8 rfl rfl)
theorem dX0_addPoint_11 : decode cX0_addPoint 11 = .ok (.iconst (-1), 1) := dk_2 (dk_at dksX0_addPoint_0 11 rfl rfl)
theorem dX0_addPoint_12 : decode cX0_addPoint 12 = .ok (.ireturn, 1) := dk_172 (dk_at dksX0_addPoint_0 12 rfl rfl)
theorem dX0_addPoint_13 : decode cX0_addPoint 13 = .ok (.aload_n 0, 1) := dk_42 (dk_at dksX0_addPoint_0 13 rfl rfl)
theorem dX0_addPoint_14 : decode cX0_addPoint 14 = .ok (.getfield 26, 3) := dk_180 0 26 (dk_at dksX0_addPoint_0 14 rfl rfl)
theorem dX0_addPoint_17 : decode cX0_addPoint 17 = .ok (.iload_n 1, 1) := dk_27 (dk_at dksX0_addPoint_0 17 rfl rfl)
theorem dX0_addPoint_18 : decode cX0_addPoint 18 = .ok (.invokevirtual 111, 3) := dk_182 0 111 (dk_at dksX0_addPoint_0 18 rfl rfl)
theorem dX0_addPoint_21 : decode cX0_addPoint 21 = .ok (.sipush (-999), 3) := dk_17 252 25 (dk_at dksX0_addPoint_0 21 rfl rfl)
theorem dX0_addPoint_24 : decode cX0_addPoint 24 = .ok (.if_icmp .eq 6, 3) := dk_159 0 6 (dk_at dksX0_addPoint_1 0 rfl rfl)
theorem dX0_addPoint_27 : decode cX0_addPoint 27 = .ok (.bipush (-2), 2) := dk_16 254 (dk_at dksX0_addPoint_1 3 rfl rfl)
theorem dX0_addPoint_29 : decode cX0_addPoint 29 = .ok (.ireturn, 1) := dk_172 (dk_at dksX0_addPoint_1 5 rfl rfl)
theorem dX0_addPoint_30 : decode cX0_addPoint 30 = .ok (.aload_n 0, 1) := dk_42 (dk_at dksX0_addPoint_1 6 rfl rfl)
theorem dX0_addPoint_31 : decode cX0_addPoint 31 = .ok (.getfield 26, 3) := dk_180 0 26 (dk_at dksX0_addPoint_1 7 rfl rfl)
theorem dX0_addPoint_34 : decode cX0_addPoint 34 = .ok (.getfield 58, 3) := dk_180 0 58 (dk_at dksX0_addPoint_1 10 rfl rfl)
theorem dX0_addPoint_37 : decode cX0_addPoint 37 = .ok (.invokevirtual 62, 3) := dk_182 0 62 (dk_at dksX0_addPoint_1 13 rfl rfl)
theorem dX0_addPoint_40 : decode cX0_addPoint 40 = .ok (.bipush 12, 2) := dk_16 12 (dk_at dksX0_addPoint_1 16 rfl rfl)
theorem dX0_addPoint_42 : decode cX0_addPoint 42 = .ok (.if_icmp .ne 8, 3) := dk_160 0 8 (dk_at dksX0_addPoint_1 18 rfl rfl)
theorem dX0_addPoint_45 : decode cX0_addPoint 45 = .ok (.bipush (-3), 2) := dk_16 253 (dk_at dksX0_addPoint_1 21 rfl rfl)
theorem dX0_addPoint_47 : decode cX0_addPoint 47 = .ok (.goto 18, 3) := dk_167 0 18 (dk_at dksX0_addPoint_2 0 rfl rfl)
theorem dX0_addPoint_50 : decode cX0_addPoint 50 = .ok (.aload_n 0, 1) := dk_42 (dk_at dksX0_addPoint_2 3 rfl rfl)
theorem dX0_addPoint_51 : decode cX0_addPoint 51 = .ok (.invokevirtual 115, 3) := dk_182 0 115 (dk_at dksX0_addPoint_2 4 rfl rfl)
theorem dX0_addPoint_54 : decode cX0_addPoint 54 = .ok (.new 118, 3) := dk_187 0 118 (dk_at dksX0_addPoint_2 7 rfl rfl)
theorem dX0_addPoint_57 : decode cX0_addPoint 57 = .ok (.dup, 1) := dk_89 (dk_at dksX0_addPoint_2 10 rfl rfl)
theorem dX0_addPoint_58 : decode cX0_addPoint 58 = .ok (.iload_n 1, 1) := dk_27 (dk_at dksX0_addPoint_2 11 rfl rfl)
theorem dX0_addPoint_59 : decode cX0_addPoint 59 = .ok (.invokespecial 120, 3) := dk_183 0 120 (dk_at dksX0_addPoint_2 12 rfl rfl)
theorem dX0_addPoint_62 : decode cX0_addPoint 62 = .ok (.invokevirtual 123, 3) := dk_182 0 123 (dk_at dksX0_addPoint_2 15 rfl rfl)
theorem dX0_addPoint_65 : decode cX0_addPoint 65 = .ok (.ireturn, 1) := dk_172 (dk_at dksX0_addPoint_2 18 rfl rfl)
abbrev cX0_begin : ByteArray := prog_1_method_5_code
def yX0_begin : MethodName := ⟨RX0, "begin", "()LDimensionLines$Drawing;"⟩
def dkwX0_begin_0 : List UInt8 := [42, 42, 180, 0, 26, 182, 0, 50, 182, 0, 54, 42, 180, 0, 26, 176]
abbrev dktX0_begin_0 : List UInt8 := dkwX0_begin_0 ++ []
theorem dksX0_begin_0 : cX0_begin.data.toList.drop 0 = dktX0_begin_0 := by decide +kernel
theorem dX0_begin_0 : decode cX0_begin 0 = .ok (.aload_n 0, 1) := dk_42 (dk_at dksX0_begin_0 0 rfl rfl)
theorem dX0_begin_1 : decode cX0_begin 1 = .ok (.aload_n 0, 1) := dk_42 (dk_at dksX0_begin_0 1 rfl rfl)
theorem dX0_begin_2 : decode cX0_begin 2 = .ok (.getfield 26, 3) := dk_180 0 26 (dk_at dksX0_begin_0 2 rfl rfl)
theorem dX0_begin_5 : decode cX0_begin 5 = .ok (.invokevirtual 50, 3) := dk_182 0 50 (dk_at dksX0_begin_0 5 rfl rfl)
theorem dX0_begin_8 : decode cX0_begin 8 = .ok (.invokevirtual 54, 3) := dk_182 0 54 (dk_at dksX0_begin_0 8 rfl rfl)
theorem dX0_begin_11 : decode cX0_begin 11 = .ok (.aload_n 0, 1) := dk_42 (dk_at dksX0_begin_0 11 rfl rfl)
theorem dX0_begin_12 : decode cX0_begin 12 = .ok (.getfield 26, 3) := dk_180 0 26 (dk_at dksX0_begin_0 12 rfl rfl)
theorem dX0_begin_15 : decode cX0_begin 15 = .ok (.areturn, 1) := dk_176 (dk_at dksX0_begin_0 15 rfl rfl)
abbrev cX0_movePoint : ByteArray := prog_1_method_14_code
def yX0_movePoint : MethodName := ⟨RX0, "movePoint", "(II)I"⟩
def dkwX0_movePoint_6 : List UInt8 := [167, 255, 193, 25, 4, 25, 5, 182, 0, 123, 172]
abbrev dktX0_movePoint_6 : List UInt8 := dkwX0_movePoint_6 ++ []
def dkwX0_movePoint_5 : List UInt8 := [58, 8, 25, 7, 25, 7, 180, 0, 141, 181, 0, 137, 25, 7, 25, 8, 181, 0, 141, 132, 6, 1]
abbrev dktX0_movePoint_5 : List UInt8 := dkwX0_movePoint_5 ++ dktX0_movePoint_6
def dkwX0_movePoint_4 : List UInt8 := [21, 6, 182, 0, 131, 192, 0, 132, 58, 7, 25, 7, 182, 0, 134, 156, 0, 27, 25, 7, 180, 0, 137]
abbrev dktX0_movePoint_4 : List UInt8 := dkwX0_movePoint_4 ++ dktX0_movePoint_5
def dkwX0_movePoint_3 : List UInt8 := [181, 0, 130, 3, 54, 6, 21, 6, 25, 4, 180, 0, 69, 182, 0, 62, 162, 0, 56, 25, 4, 180, 0, 69]
abbrev dktX0_movePoint_3 : List UInt8 := dkwX0_movePoint_3 ++ dktX0_movePoint_4
def dkwX0_movePoint_2 : List UInt8 := [182, 0, 115, 58, 4, 25, 4, 180, 0, 58, 27, 182, 0, 127, 192, 0, 118, 58, 5, 25, 5, 28]
abbrev dktX0_movePoint_2 : List UInt8 := dkwX0_movePoint_2 ++ dktX0_movePoint_3
def dkwX0_movePoint_1 : List UInt8 := [180, 0, 26, 28, 182, 0, 111, 62, 29, 17, 252, 25, 159, 0, 11, 29, 27, 159, 0, 6, 16, 254, 172, 42]
abbrev dktX0_movePoint_1 : List UInt8 := dkwX0_movePoint_1 ++ dktX0_movePoint_2
def dkwX0_movePoint_0 : List UInt8 := [42, 27, 182, 0, 72, 153, 0, 14, 28, 3, 17, 1, 44, 184, 0, 65, 154, 0, 5, 2, 172, 42]
abbrev dktX0_movePoint_0 : List UInt8 := dkwX0_movePoint_0 ++ dktX0_movePoint_1
theorem dksX0_movePoint_0 : cX0_movePoint.data.toList.drop 0 = dktX0_movePoint_0 := by decide +kernel
theorem dksX0_movePoint_1 : cX0_movePoint.data.toList.drop 22 = dktX0_movePoint_1 := dk_seg dksX0_movePoint_0 22 rfl rfl
theorem dksX0_movePoint_2 : cX0_movePoint.data.toList.drop 46 = dktX0_movePoint_2 := dk_seg dksX0_movePoint_1 24 rfl rfl
theorem dksX0_movePoint_3 : cX0_movePoint.data.toList.drop 68 = dktX0_movePoint_3 := dk_seg dksX0_movePoint_2 22 rfl rfl
theorem dksX0_movePoint_4 : cX0_movePoint.data.toList.drop 92 = dktX0_movePoint_4 := dk_seg dksX0_movePoint_3 24 rfl rfl
theorem dksX0_movePoint_5 : cX0_movePoint.data.toList.drop 115 = dktX0_movePoint_5 := dk_seg dksX0_movePoint_4 23 rfl rfl
theorem dksX0_movePoint_6 : cX0_movePoint.data.toList.drop 137 = dktX0_movePoint_6 := dk_seg dksX0_movePoint_5 22 rfl rfl
theorem dX0_movePoint_0 : decode cX0_movePoint 0 = .ok (.aload_n 0, 1) := dk_42 (dk_at dksX0_movePoint_0 0 rfl rfl)
theorem dX0_movePoint_1 : decode cX0_movePoint 1 = .ok (.iload_n 1, 1) := dk_27 (dk_at dksX0_movePoint_0 1 rfl rfl)
theorem dX0_movePoint_2 : decode cX0_movePoint 2 = .ok (.invokevirtual 72, 3) := dk_182 0 72 (dk_at dksX0_movePoint_0 2 rfl rfl)
theorem dX0_movePoint_5 : decode cX0_movePoint 5 = .ok (.ifCond .eq 14, 3) := dk_153 0 14 (dk_at dksX0_movePoint_0 5 rfl rfl)
theorem dX0_movePoint_8 : decode cX0_movePoint 8 = .ok (.iload_n 2, 1) := dk_28 (dk_at dksX0_movePoint_0 8 rfl rfl)
theorem dX0_movePoint_9 : decode cX0_movePoint 9 = .ok (.iconst 0, 1) := dk_3 (dk_at dksX0_movePoint_0 9 rfl rfl)
theorem dX0_movePoint_10 : decode cX0_movePoint 10 = .ok (.sipush 300, 3) := dk_17 1 44 (dk_at dksX0_movePoint_0 10 rfl rfl)
theorem dX0_movePoint_13 : decode cX0_movePoint 13 = .ok (.invokestatic 65, 3) := dk_184 0 65 (dk_at dksX0_movePoint_0 13 rfl rfl)
theorem dX0_movePoint_16 : decode cX0_movePoint 16 = .ok (.ifCond .ne 5, 3) := dk_154 0 5 (dk_at dksX0_movePoint_0 16 rfl rfl)
theorem dX0_movePoint_19 : decode cX0_movePoint 19 = .ok (.iconst (-1), 1) := dk_2 (dk_at dksX0_movePoint_0 19 rfl rfl)
theorem dX0_movePoint_20 : decode cX0_movePoint 20 = .ok (.ireturn, 1) := dk_172 (dk_at dksX0_movePoint_0 20 rfl rfl)
theorem dX0_movePoint_21 : decode cX0_movePoint 21 = .ok (.aload_n 0, 1) := dk_42 (dk_at dksX0_movePoint_0 21 rfl rfl)
theorem dX0_movePoint_22 : decode cX0_movePoint 22 = .ok (.getfield 26, 3) := dk_180 0 26 (dk_at dksX0_movePoint_1 0 rfl rfl)
theorem dX0_movePoint_25 : decode cX0_movePoint 25 = .ok (.iload_n 2, 1) := dk_28 (dk_at dksX0_movePoint_1 3 rfl rfl)
theorem dX0_movePoint_26 : decode cX0_movePoint 26 = .ok (.invokevirtual 111, 3) := dk_182 0 111 (dk_at dksX0_movePoint_1 4 rfl rfl)
theorem dX0_movePoint_29 : decode cX0_movePoint 29 = .ok (.istore_n 3, 1) := dk_62 (dk_at dksX0_movePoint_1 7 rfl rfl)
theorem dX0_movePoint_30 : decode cX0_movePoint 30 = .ok (.iload_n 3, 1) := dk_29 (dk_at dksX0_movePoint_1 8 rfl rfl)
theorem dX0_movePoint_31 : decode cX0_movePoint 31 = .ok (.sipush (-999), 3) := dk_17 252 25 (dk_at dksX0_movePoint_1 9 rfl rfl)
theorem dX0_movePoint_34 : decode cX0_movePoint 34 = .ok (.if_icmp .eq 11, 3) := dk_159 0 11 (dk_at dksX0_movePoint_1 12 rfl rfl)
theorem dX0_movePoint_37 : decode cX0_movePoint 37 = .ok (.iload_n 3, 1) := dk_29 (dk_at dksX0_movePoint_1 15 rfl rfl)
theorem dX0_movePoint_38 : decode cX0_movePoint 38 = .ok (.iload_n 1, 1) := dk_27 (dk_at dksX0_movePoint_1 16 rfl rfl)
theorem dX0_movePoint_39 : decode cX0_movePoint 39 = .ok (.if_icmp .eq 6, 3) := dk_159 0 6 (dk_at dksX0_movePoint_1 17 rfl rfl)
theorem dX0_movePoint_42 : decode cX0_movePoint 42 = .ok (.bipush (-2), 2) := dk_16 254 (dk_at dksX0_movePoint_1 20 rfl rfl)
theorem dX0_movePoint_44 : decode cX0_movePoint 44 = .ok (.ireturn, 1) := dk_172 (dk_at dksX0_movePoint_1 22 rfl rfl)
theorem dX0_movePoint_45 : decode cX0_movePoint 45 = .ok (.aload_n 0, 1) := dk_42 (dk_at dksX0_movePoint_1 23 rfl rfl)
theorem dX0_movePoint_46 : decode cX0_movePoint 46 = .ok (.invokevirtual 115, 3) := dk_182 0 115 (dk_at dksX0_movePoint_2 0 rfl rfl)
theorem dX0_movePoint_49 : decode cX0_movePoint 49 = .ok (.astore 4, 2) := dk_58 4 (dk_at dksX0_movePoint_2 3 rfl rfl)
theorem dX0_movePoint_51 : decode cX0_movePoint 51 = .ok (.aload 4, 2) := dk_25 4 (dk_at dksX0_movePoint_2 5 rfl rfl)
theorem dX0_movePoint_53 : decode cX0_movePoint 53 = .ok (.getfield 58, 3) := dk_180 0 58 (dk_at dksX0_movePoint_2 7 rfl rfl)
theorem dX0_movePoint_56 : decode cX0_movePoint 56 = .ok (.iload_n 1, 1) := dk_27 (dk_at dksX0_movePoint_2 10 rfl rfl)
theorem dX0_movePoint_57 : decode cX0_movePoint 57 = .ok (.invokevirtual 127, 3) := dk_182 0 127 (dk_at dksX0_movePoint_2 11 rfl rfl)
theorem dX0_movePoint_60 : decode cX0_movePoint 60 = .ok (.checkcast 118, 3) := dk_192 0 118 (dk_at dksX0_movePoint_2 14 rfl rfl)
theorem dX0_movePoint_63 : decode cX0_movePoint 63 = .ok (.astore 5, 2) := dk_58 5 (dk_at dksX0_movePoint_2 17 rfl rfl)
theorem dX0_movePoint_65 : decode cX0_movePoint 65 = .ok (.aload 5, 2) := dk_25 5 (dk_at dksX0_movePoint_2 19 rfl rfl)
theorem dX0_movePoint_67 : decode cX0_movePoint 67 = .ok (.iload_n 2, 1) := dk_28 (dk_at dksX0_movePoint_2 21 rfl rfl)
theorem dX0_movePoint_68 : decode cX0_movePoint 68 = .ok (.putfield 130, 3) := dk_181 0 130 (dk_at dksX0_movePoint_3 0 rfl rfl)
theorem dX0_movePoint_71 : decode cX0_movePoint 71 = .ok (.iconst 0, 1) := dk_3 (dk_at dksX0_movePoint_3 3 rfl rfl)
theorem dX0_movePoint_72 : decode cX0_movePoint 72 = .ok (.istore 6, 2) := dk_54 6 (dk_at dksX0_movePoint_3 4 rfl rfl)
theorem dX0_movePoint_74 : decode cX0_movePoint 74 = .ok (.iload 6, 2) := dk_21 6 (dk_at dksX0_movePoint_3 6 rfl rfl)
theorem dX0_movePoint_76 : decode cX0_movePoint 76 = .ok (.aload 4, 2) := dk_25 4 (dk_at dksX0_movePoint_3 8 rfl rfl)
theorem dX0_movePoint_78 : decode cX0_movePoint 78 = .ok (.getfield 69, 3) := dk_180 0 69 (dk_at dksX0_movePoint_3 10 rfl rfl)
theorem dX0_movePoint_81 : decode cX0_movePoint 81 = .ok (.invokevirtual 62, 3) := dk_182 0 62 (dk_at dksX0_movePoint_3 13 rfl rfl)
theorem dX0_movePoint_84 : decode cX0_movePoint 84 = .ok (.if_icmp .ge 56, 3) := dk_162 0 56 (dk_at dksX0_movePoint_3 16 rfl rfl)
theorem dX0_movePoint_87 : decode cX0_movePoint 87 = .ok (.aload 4, 2) := dk_25 4 (dk_at dksX0_movePoint_3 19 rfl rfl)
theorem dX0_movePoint_89 : decode cX0_movePoint 89 = .ok (.getfield 69, 3) := dk_180 0 69 (dk_at dksX0_movePoint_3 21 rfl rfl)
theorem dX0_movePoint_92 : decode cX0_movePoint 92 = .ok (.iload 6, 2) := dk_21 6 (dk_at dksX0_movePoint_4 0 rfl rfl)
theorem dX0_movePoint_94 : decode cX0_movePoint 94 = .ok (.invokevirtual 131, 3) := dk_182 0 131 (dk_at dksX0_movePoint_4 2 rfl rfl)
theorem dX0_movePoint_97 : decode cX0_movePoint 97 = .ok (.checkcast 132, 3) := dk_192 0 132 (dk_at dksX0_movePoint_4 5 rfl rfl)
theorem dX0_movePoint_100 : decode cX0_movePoint 100 = .ok (.astore 7, 2) := dk_58 7 (dk_at dksX0_movePoint_4 8 rfl rfl)
theorem dX0_movePoint_102 : decode cX0_movePoint 102 = .ok (.aload 7, 2) := dk_25 7 (dk_at dksX0_movePoint_4 10 rfl rfl)
theorem dX0_movePoint_104 : decode cX0_movePoint 104 = .ok (.invokevirtual 134, 3) := dk_182 0 134 (dk_at dksX0_movePoint_4 12 rfl rfl)
theorem dX0_movePoint_107 : decode cX0_movePoint 107 = .ok (.ifCond .ge 27, 3) := dk_156 0 27 (dk_at dksX0_movePoint_4 15 rfl rfl)
theorem dX0_movePoint_110 : decode cX0_movePoint 110 = .ok (.aload 7, 2) := dk_25 7 (dk_at dksX0_movePoint_4 18 rfl rfl)
theorem dX0_movePoint_112 : decode cX0_movePoint 112 = .ok (.getfield 137, 3) := dk_180 0 137 (dk_at dksX0_movePoint_4 20 rfl rfl)
theorem dX0_movePoint_115 : decode cX0_movePoint 115 = .ok (.astore 8, 2) := dk_58 8 (dk_at dksX0_movePoint_5 0 rfl rfl)
theorem dX0_movePoint_117 : decode cX0_movePoint 117 = .ok (.aload 7, 2) := dk_25 7 (dk_at dksX0_movePoint_5 2 rfl rfl)
theorem dX0_movePoint_119 : decode cX0_movePoint 119 = .ok (.aload 7, 2) := dk_25 7 (dk_at dksX0_movePoint_5 4 rfl rfl)
theorem dX0_movePoint_121 : decode cX0_movePoint 121 = .ok (.getfield 141, 3) := dk_180 0 141 (dk_at dksX0_movePoint_5 6 rfl rfl)
theorem dX0_movePoint_124 : decode cX0_movePoint 124 = .ok (.putfield 137, 3) := dk_181 0 137 (dk_at dksX0_movePoint_5 9 rfl rfl)
theorem dX0_movePoint_127 : decode cX0_movePoint 127 = .ok (.aload 7, 2) := dk_25 7 (dk_at dksX0_movePoint_5 12 rfl rfl)
theorem dX0_movePoint_129 : decode cX0_movePoint 129 = .ok (.aload 8, 2) := dk_25 8 (dk_at dksX0_movePoint_5 14 rfl rfl)
theorem dX0_movePoint_131 : decode cX0_movePoint 131 = .ok (.putfield 141, 3) := dk_181 0 141 (dk_at dksX0_movePoint_5 16 rfl rfl)
theorem dX0_movePoint_134 : decode cX0_movePoint 134 = .ok (.iinc 6 1, 3) := dk_132 6 1 (dk_at dksX0_movePoint_5 19 rfl rfl)
theorem dX0_movePoint_137 : decode cX0_movePoint 137 = .ok (.goto (-63), 3) := dk_167 255 193 (dk_at dksX0_movePoint_6 0 rfl rfl)
theorem dX0_movePoint_140 : decode cX0_movePoint 140 = .ok (.aload 4, 2) := dk_25 4 (dk_at dksX0_movePoint_6 3 rfl rfl)
theorem dX0_movePoint_142 : decode cX0_movePoint 142 = .ok (.aload 5, 2) := dk_25 5 (dk_at dksX0_movePoint_6 5 rfl rfl)
theorem dX0_movePoint_144 : decode cX0_movePoint 144 = .ok (.invokevirtual 123, 3) := dk_182 0 123 (dk_at dksX0_movePoint_6 7 rfl rfl)
theorem dX0_movePoint_147 : decode cX0_movePoint 147 = .ok (.ireturn, 1) := dk_172 (dk_at dksX0_movePoint_6 10 rfl rfl)
abbrev cX0_isPoint : ByteArray := prog_1_method_6_code
def yX0_isPoint : MethodName := ⟨RX0, "isPoint", "(I)Z"⟩
def dkwX0_isPoint_0 : List UInt8 := [27, 3, 42, 180, 0, 26, 180, 0, 58, 182, 0, 62, 4, 100, 184, 0, 65, 172]
abbrev dktX0_isPoint_0 : List UInt8 := dkwX0_isPoint_0 ++ []
theorem dksX0_isPoint_0 : cX0_isPoint.data.toList.drop 0 = dktX0_isPoint_0 := by decide +kernel
theorem dX0_isPoint_0 : decode cX0_isPoint 0 = .ok (.iload_n 1, 1) := dk_27 (dk_at dksX0_isPoint_0 0 rfl rfl)
theorem dX0_isPoint_1 : decode cX0_isPoint 1 = .ok (.iconst 0, 1) := dk_3 (dk_at dksX0_isPoint_0 1 rfl rfl)
theorem dX0_isPoint_2 : decode cX0_isPoint 2 = .ok (.aload_n 0, 1) := dk_42 (dk_at dksX0_isPoint_0 2 rfl rfl)
theorem dX0_isPoint_3 : decode cX0_isPoint 3 = .ok (.getfield 26, 3) := dk_180 0 26 (dk_at dksX0_isPoint_0 3 rfl rfl)
theorem dX0_isPoint_6 : decode cX0_isPoint 6 = .ok (.getfield 58, 3) := dk_180 0 58 (dk_at dksX0_isPoint_0 6 rfl rfl)
theorem dX0_isPoint_9 : decode cX0_isPoint 9 = .ok (.invokevirtual 62, 3) := dk_182 0 62 (dk_at dksX0_isPoint_0 9 rfl rfl)
theorem dX0_isPoint_12 : decode cX0_isPoint 12 = .ok (.iconst 1, 1) := dk_4 (dk_at dksX0_isPoint_0 12 rfl rfl)
theorem dX0_isPoint_13 : decode cX0_isPoint 13 = .ok (.isub, 1) := dk_100 (dk_at dksX0_isPoint_0 13 rfl rfl)
theorem dX0_isPoint_14 : decode cX0_isPoint 14 = .ok (.invokestatic 65, 3) := dk_184 0 65 (dk_at dksX0_isPoint_0 14 rfl rfl)
theorem dX0_isPoint_17 : decode cX0_isPoint 17 = .ok (.ireturn, 1) := dk_172 (dk_at dksX0_isPoint_0 17 rfl rfl)
abbrev cX0_dropPoint : ByteArray := prog_1_method_15_code
def yX0_dropPoint : MethodName := ⟨RX0, "dropPoint", "(I)I"⟩
def dkwX0_dropPoint_2 : List UInt8 := [182, 0, 127, 87, 42, 180, 0, 26, 180, 0, 58, 182, 0, 62, 172]
abbrev dktX0_dropPoint_2 : List UInt8 := dkwX0_dropPoint_2 ++ []
def dkwX0_dropPoint_1 : List UInt8 := [182, 0, 131, 192, 0, 118, 182, 0, 144, 158, 0, 6, 16, 254, 172, 42, 182, 0, 115, 180, 0, 58, 27]
abbrev dktX0_dropPoint_1 : List UInt8 := dkwX0_dropPoint_1 ++ dktX0_dropPoint_2
def dkwX0_dropPoint_0 : List UInt8 := [42, 27, 182, 0, 72, 154, 0, 5, 2, 172, 42, 180, 0, 26, 42, 180, 0, 26, 180, 0, 58, 27]
abbrev dktX0_dropPoint_0 : List UInt8 := dkwX0_dropPoint_0 ++ dktX0_dropPoint_1
theorem dksX0_dropPoint_0 : cX0_dropPoint.data.toList.drop 0 = dktX0_dropPoint_0 := by decide +kernel
theorem dksX0_dropPoint_1 : cX0_dropPoint.data.toList.drop 22 = dktX0_dropPoint_1 := dk_seg dksX0_dropPoint_0 22 rfl rfl
theorem dksX0_dropPoint_2 : cX0_dropPoint.data.toList.drop 45 = dktX0_dropPoint_2 := dk_seg dksX0_dropPoint_1 23 rfl rfl
theorem dX0_dropPoint_0 : decode cX0_dropPoint 0 = .ok (.aload_n 0, 1) := dk_42 (dk_at dksX0_dropPoint_0 0 rfl rfl)
theorem dX0_dropPoint_1 : decode cX0_dropPoint 1 = .ok (.iload_n 1, 1) := dk_27 (dk_at dksX0_dropPoint_0 1 rfl rfl)
theorem dX0_dropPoint_2 : decode cX0_dropPoint 2 = .ok (.invokevirtual 72, 3) := dk_182 0 72 (dk_at dksX0_dropPoint_0 2 rfl rfl)
theorem dX0_dropPoint_5 : decode cX0_dropPoint 5 = .ok (.ifCond .ne 5, 3) := dk_154 0 5 (dk_at dksX0_dropPoint_0 5 rfl rfl)
theorem dX0_dropPoint_8 : decode cX0_dropPoint 8 = .ok (.iconst (-1), 1) := dk_2 (dk_at dksX0_dropPoint_0 8 rfl rfl)
theorem dX0_dropPoint_9 : decode cX0_dropPoint 9 = .ok (.ireturn, 1) := dk_172 (dk_at dksX0_dropPoint_0 9 rfl rfl)
theorem dX0_dropPoint_10 : decode cX0_dropPoint 10 = .ok (.aload_n 0, 1) := dk_42 (dk_at dksX0_dropPoint_0 10 rfl rfl)
theorem dX0_dropPoint_11 : decode cX0_dropPoint 11 = .ok (.getfield 26, 3) := dk_180 0 26 (dk_at dksX0_dropPoint_0 11 rfl rfl)
theorem dX0_dropPoint_14 : decode cX0_dropPoint 14 = .ok (.aload_n 0, 1) := dk_42 (dk_at dksX0_dropPoint_0 14 rfl rfl)
theorem dX0_dropPoint_15 : decode cX0_dropPoint 15 = .ok (.getfield 26, 3) := dk_180 0 26 (dk_at dksX0_dropPoint_0 15 rfl rfl)
theorem dX0_dropPoint_18 : decode cX0_dropPoint 18 = .ok (.getfield 58, 3) := dk_180 0 58 (dk_at dksX0_dropPoint_0 18 rfl rfl)
theorem dX0_dropPoint_21 : decode cX0_dropPoint 21 = .ok (.iload_n 1, 1) := dk_27 (dk_at dksX0_dropPoint_0 21 rfl rfl)
theorem dX0_dropPoint_22 : decode cX0_dropPoint 22 = .ok (.invokevirtual 131, 3) := dk_182 0 131 (dk_at dksX0_dropPoint_1 0 rfl rfl)
theorem dX0_dropPoint_25 : decode cX0_dropPoint 25 = .ok (.checkcast 118, 3) := dk_192 0 118 (dk_at dksX0_dropPoint_1 3 rfl rfl)
theorem dX0_dropPoint_28 : decode cX0_dropPoint 28 = .ok (.invokevirtual 144, 3) := dk_182 0 144 (dk_at dksX0_dropPoint_1 6 rfl rfl)
theorem dX0_dropPoint_31 : decode cX0_dropPoint 31 = .ok (.ifCond .le 6, 3) := dk_158 0 6 (dk_at dksX0_dropPoint_1 9 rfl rfl)
theorem dX0_dropPoint_34 : decode cX0_dropPoint 34 = .ok (.bipush (-2), 2) := dk_16 254 (dk_at dksX0_dropPoint_1 12 rfl rfl)
theorem dX0_dropPoint_36 : decode cX0_dropPoint 36 = .ok (.ireturn, 1) := dk_172 (dk_at dksX0_dropPoint_1 14 rfl rfl)
theorem dX0_dropPoint_37 : decode cX0_dropPoint 37 = .ok (.aload_n 0, 1) := dk_42 (dk_at dksX0_dropPoint_1 15 rfl rfl)
theorem dX0_dropPoint_38 : decode cX0_dropPoint 38 = .ok (.invokevirtual 115, 3) := dk_182 0 115 (dk_at dksX0_dropPoint_1 16 rfl rfl)
theorem dX0_dropPoint_41 : decode cX0_dropPoint 41 = .ok (.getfield 58, 3) := dk_180 0 58 (dk_at dksX0_dropPoint_1 19 rfl rfl)
theorem dX0_dropPoint_44 : decode cX0_dropPoint 44 = .ok (.iload_n 1, 1) := dk_27 (dk_at dksX0_dropPoint_1 22 rfl rfl)
theorem dX0_dropPoint_45 : decode cX0_dropPoint 45 = .ok (.invokevirtual 127, 3) := dk_182 0 127 (dk_at dksX0_dropPoint_2 0 rfl rfl)
theorem dX0_dropPoint_48 : decode cX0_dropPoint 48 = .ok (.pop, 1) := dk_87 (dk_at dksX0_dropPoint_2 3 rfl rfl)
theorem dX0_dropPoint_49 : decode cX0_dropPoint 49 = .ok (.aload_n 0, 1) := dk_42 (dk_at dksX0_dropPoint_2 4 rfl rfl)
theorem dX0_dropPoint_50 : decode cX0_dropPoint 50 = .ok (.getfield 26, 3) := dk_180 0 26 (dk_at dksX0_dropPoint_2 5 rfl rfl)
theorem dX0_dropPoint_53 : decode cX0_dropPoint 53 = .ok (.getfield 58, 3) := dk_180 0 58 (dk_at dksX0_dropPoint_2 8 rfl rfl)
theorem dX0_dropPoint_56 : decode cX0_dropPoint 56 = .ok (.invokevirtual 62, 3) := dk_182 0 62 (dk_at dksX0_dropPoint_2 11 rfl rfl)
theorem dX0_dropPoint_59 : decode cX0_dropPoint 59 = .ok (.ireturn, 1) := dk_172 (dk_at dksX0_dropPoint_2 14 rfl rfl)
abbrev cX0_add : ByteArray := prog_1_method_16_code
def yX0_add : MethodName := ⟨RX0, "add", "(II)I"⟩
def dkwX0_add_3 : List UInt8 := [192, 0, 118, 183, 0, 160, 182, 0, 163, 87, 45, 180, 0, 69, 182, 0, 62, 4, 100, 172]
abbrev dktX0_add_3 : List UInt8 := dkwX0_add_3 ++ []
def dkwX0_add_2 : List UInt8 := [28, 184, 0, 151, 182, 0, 131, 192, 0, 118, 45, 180, 0, 58, 27, 28, 184, 0, 157, 182, 0, 131]
abbrev dktX0_add_2 : List UInt8 := dkwX0_add_2 ++ dktX0_add_3
def dkwX0_add_1 : List UInt8 := [160, 0, 6, 16, 253, 172, 42, 182, 0, 115, 78, 45, 180, 0, 69, 187, 0, 132, 89, 45, 180, 0, 58, 27]
abbrev dktX0_add_1 : List UInt8 := dkwX0_add_1 ++ dktX0_add_2
def dkwX0_add_0 : List UInt8 := [42, 27, 28, 182, 0, 147, 154, 0, 5, 2, 172, 42, 180, 0, 26, 180, 0, 69, 182, 0, 62, 16, 16]
abbrev dktX0_add_0 : List UInt8 := dkwX0_add_0 ++ dktX0_add_1
theorem dksX0_add_0 : cX0_add.data.toList.drop 0 = dktX0_add_0 := by decide +kernel
theorem dksX0_add_1 : cX0_add.data.toList.drop 23 = dktX0_add_1 := dk_seg dksX0_add_0 23 rfl rfl
theorem dksX0_add_2 : cX0_add.data.toList.drop 47 = dktX0_add_2 := dk_seg dksX0_add_1 24 rfl rfl
theorem dksX0_add_3 : cX0_add.data.toList.drop 69 = dktX0_add_3 := dk_seg dksX0_add_2 22 rfl rfl
theorem dX0_add_0 : decode cX0_add 0 = .ok (.aload_n 0, 1) := dk_42 (dk_at dksX0_add_0 0 rfl rfl)
theorem dX0_add_1 : decode cX0_add 1 = .ok (.iload_n 1, 1) := dk_27 (dk_at dksX0_add_0 1 rfl rfl)
theorem dX0_add_2 : decode cX0_add 2 = .ok (.iload_n 2, 1) := dk_28 (dk_at dksX0_add_0 2 rfl rfl)
theorem dX0_add_3 : decode cX0_add 3 = .ok (.invokevirtual 147, 3) := dk_182 0 147 (dk_at dksX0_add_0 3 rfl rfl)
theorem dX0_add_6 : decode cX0_add 6 = .ok (.ifCond .ne 5, 3) := dk_154 0 5 (dk_at dksX0_add_0 6 rfl rfl)
theorem dX0_add_9 : decode cX0_add 9 = .ok (.iconst (-1), 1) := dk_2 (dk_at dksX0_add_0 9 rfl rfl)
theorem dX0_add_10 : decode cX0_add 10 = .ok (.ireturn, 1) := dk_172 (dk_at dksX0_add_0 10 rfl rfl)
theorem dX0_add_11 : decode cX0_add 11 = .ok (.aload_n 0, 1) := dk_42 (dk_at dksX0_add_0 11 rfl rfl)
theorem dX0_add_12 : decode cX0_add 12 = .ok (.getfield 26, 3) := dk_180 0 26 (dk_at dksX0_add_0 12 rfl rfl)
theorem dX0_add_15 : decode cX0_add 15 = .ok (.getfield 69, 3) := dk_180 0 69 (dk_at dksX0_add_0 15 rfl rfl)
theorem dX0_add_18 : decode cX0_add 18 = .ok (.invokevirtual 62, 3) := dk_182 0 62 (dk_at dksX0_add_0 18 rfl rfl)
theorem dX0_add_21 : decode cX0_add 21 = .ok (.bipush 16, 2) := dk_16 16 (dk_at dksX0_add_0 21 rfl rfl)
theorem dX0_add_23 : decode cX0_add 23 = .ok (.if_icmp .ne 6, 3) := dk_160 0 6 (dk_at dksX0_add_1 0 rfl rfl)
theorem dX0_add_26 : decode cX0_add 26 = .ok (.bipush (-3), 2) := dk_16 253 (dk_at dksX0_add_1 3 rfl rfl)
theorem dX0_add_28 : decode cX0_add 28 = .ok (.ireturn, 1) := dk_172 (dk_at dksX0_add_1 5 rfl rfl)
theorem dX0_add_29 : decode cX0_add 29 = .ok (.aload_n 0, 1) := dk_42 (dk_at dksX0_add_1 6 rfl rfl)
theorem dX0_add_30 : decode cX0_add 30 = .ok (.invokevirtual 115, 3) := dk_182 0 115 (dk_at dksX0_add_1 7 rfl rfl)
theorem dX0_add_33 : decode cX0_add 33 = .ok (.astore_n 3, 1) := dk_78 (dk_at dksX0_add_1 10 rfl rfl)
theorem dX0_add_34 : decode cX0_add 34 = .ok (.aload_n 3, 1) := dk_45 (dk_at dksX0_add_1 11 rfl rfl)
theorem dX0_add_35 : decode cX0_add 35 = .ok (.getfield 69, 3) := dk_180 0 69 (dk_at dksX0_add_1 12 rfl rfl)
theorem dX0_add_38 : decode cX0_add 38 = .ok (.new 132, 3) := dk_187 0 132 (dk_at dksX0_add_1 15 rfl rfl)
theorem dX0_add_41 : decode cX0_add 41 = .ok (.dup, 1) := dk_89 (dk_at dksX0_add_1 18 rfl rfl)
theorem dX0_add_42 : decode cX0_add 42 = .ok (.aload_n 3, 1) := dk_45 (dk_at dksX0_add_1 19 rfl rfl)
theorem dX0_add_43 : decode cX0_add 43 = .ok (.getfield 58, 3) := dk_180 0 58 (dk_at dksX0_add_1 20 rfl rfl)
theorem dX0_add_46 : decode cX0_add 46 = .ok (.iload_n 1, 1) := dk_27 (dk_at dksX0_add_1 23 rfl rfl)
theorem dX0_add_47 : decode cX0_add 47 = .ok (.iload_n 2, 1) := dk_28 (dk_at dksX0_add_2 0 rfl rfl)
theorem dX0_add_48 : decode cX0_add 48 = .ok (.invokestatic 151, 3) := dk_184 0 151 (dk_at dksX0_add_2 1 rfl rfl)
theorem dX0_add_51 : decode cX0_add 51 = .ok (.invokevirtual 131, 3) := dk_182 0 131 (dk_at dksX0_add_2 4 rfl rfl)
theorem dX0_add_54 : decode cX0_add 54 = .ok (.checkcast 118, 3) := dk_192 0 118 (dk_at dksX0_add_2 7 rfl rfl)
theorem dX0_add_57 : decode cX0_add 57 = .ok (.aload_n 3, 1) := dk_45 (dk_at dksX0_add_2 10 rfl rfl)
theorem dX0_add_58 : decode cX0_add 58 = .ok (.getfield 58, 3) := dk_180 0 58 (dk_at dksX0_add_2 11 rfl rfl)
theorem dX0_add_61 : decode cX0_add 61 = .ok (.iload_n 1, 1) := dk_27 (dk_at dksX0_add_2 14 rfl rfl)
theorem dX0_add_62 : decode cX0_add 62 = .ok (.iload_n 2, 1) := dk_28 (dk_at dksX0_add_2 15 rfl rfl)
theorem dX0_add_63 : decode cX0_add 63 = .ok (.invokestatic 157, 3) := dk_184 0 157 (dk_at dksX0_add_2 16 rfl rfl)
theorem dX0_add_66 : decode cX0_add 66 = .ok (.invokevirtual 131, 3) := dk_182 0 131 (dk_at dksX0_add_2 19 rfl rfl)
theorem dX0_add_69 : decode cX0_add 69 = .ok (.checkcast 118, 3) := dk_192 0 118 (dk_at dksX0_add_3 0 rfl rfl)
theorem dX0_add_72 : decode cX0_add 72 = .ok (.invokespecial 160, 3) := dk_183 0 160 (dk_at dksX0_add_3 3 rfl rfl)
theorem dX0_add_75 : decode cX0_add 75 = .ok (.invokevirtual 163, 3) := dk_182 0 163 (dk_at dksX0_add_3 6 rfl rfl)
theorem dX0_add_78 : decode cX0_add 78 = .ok (.pop, 1) := dk_87 (dk_at dksX0_add_3 9 rfl rfl)
theorem dX0_add_79 : decode cX0_add 79 = .ok (.aload_n 3, 1) := dk_45 (dk_at dksX0_add_3 10 rfl rfl)
theorem dX0_add_80 : decode cX0_add 80 = .ok (.getfield 69, 3) := dk_180 0 69 (dk_at dksX0_add_3 11 rfl rfl)
theorem dX0_add_83 : decode cX0_add 83 = .ok (.invokevirtual 62, 3) := dk_182 0 62 (dk_at dksX0_add_3 14 rfl rfl)
theorem dX0_add_86 : decode cX0_add 86 = .ok (.iconst 1, 1) := dk_4 (dk_at dksX0_add_3 17 rfl rfl)
theorem dX0_add_87 : decode cX0_add 87 = .ok (.isub, 1) := dk_100 (dk_at dksX0_add_3 18 rfl rfl)
theorem dX0_add_88 : decode cX0_add 88 = .ok (.ireturn, 1) := dk_172 (dk_at dksX0_add_3 19 rfl rfl)
abbrev cX0_arePoints : ByteArray := prog_1_method_8_code
def yX0_arePoints : MethodName := ⟨RX0, "arePoints", "(II)Z"⟩
def dkwX0_arePoints_1 : List UInt8 := [167, 0, 4, 3, 172]
abbrev dktX0_arePoints_1 : List UInt8 := dkwX0_arePoints_1 ++ []
def dkwX0_arePoints_0 : List UInt8 := [42, 27, 182, 0, 72, 153, 0, 20, 42, 28, 182, 0, 72, 153, 0, 12, 27, 28, 159, 0, 7, 4]
abbrev dktX0_arePoints_0 : List UInt8 := dkwX0_arePoints_0 ++ dktX0_arePoints_1
theorem dksX0_arePoints_0 : cX0_arePoints.data.toList.drop 0 = dktX0_arePoints_0 := by decide +kernel
theorem dksX0_arePoints_1 : cX0_arePoints.data.toList.drop 22 = dktX0_arePoints_1 := dk_seg dksX0_arePoints_0 22 rfl rfl
theorem dX0_arePoints_0 : decode cX0_arePoints 0 = .ok (.aload_n 0, 1) := dk_42 (dk_at dksX0_arePoints_0 0 rfl rfl)
theorem dX0_arePoints_1 : decode cX0_arePoints 1 = .ok (.iload_n 1, 1) := dk_27 (dk_at dksX0_arePoints_0 1 rfl rfl)
theorem dX0_arePoints_2 : decode cX0_arePoints 2 = .ok (.invokevirtual 72, 3) := dk_182 0 72 (dk_at dksX0_arePoints_0 2 rfl rfl)
theorem dX0_arePoints_5 : decode cX0_arePoints 5 = .ok (.ifCond .eq 20, 3) := dk_153 0 20 (dk_at dksX0_arePoints_0 5 rfl rfl)
theorem dX0_arePoints_8 : decode cX0_arePoints 8 = .ok (.aload_n 0, 1) := dk_42 (dk_at dksX0_arePoints_0 8 rfl rfl)
theorem dX0_arePoints_9 : decode cX0_arePoints 9 = .ok (.iload_n 2, 1) := dk_28 (dk_at dksX0_arePoints_0 9 rfl rfl)
theorem dX0_arePoints_10 : decode cX0_arePoints 10 = .ok (.invokevirtual 72, 3) := dk_182 0 72 (dk_at dksX0_arePoints_0 10 rfl rfl)
theorem dX0_arePoints_13 : decode cX0_arePoints 13 = .ok (.ifCond .eq 12, 3) := dk_153 0 12 (dk_at dksX0_arePoints_0 13 rfl rfl)
theorem dX0_arePoints_16 : decode cX0_arePoints 16 = .ok (.iload_n 1, 1) := dk_27 (dk_at dksX0_arePoints_0 16 rfl rfl)
theorem dX0_arePoints_17 : decode cX0_arePoints 17 = .ok (.iload_n 2, 1) := dk_28 (dk_at dksX0_arePoints_0 17 rfl rfl)
theorem dX0_arePoints_18 : decode cX0_arePoints 18 = .ok (.if_icmp .eq 7, 3) := dk_159 0 7 (dk_at dksX0_arePoints_0 18 rfl rfl)
theorem dX0_arePoints_21 : decode cX0_arePoints 21 = .ok (.iconst 1, 1) := dk_4 (dk_at dksX0_arePoints_0 21 rfl rfl)
theorem dX0_arePoints_22 : decode cX0_arePoints 22 = .ok (.goto 4, 3) := dk_167 0 4 (dk_at dksX0_arePoints_1 0 rfl rfl)
theorem dX0_arePoints_25 : decode cX0_arePoints 25 = .ok (.iconst 0, 1) := dk_3 (dk_at dksX0_arePoints_1 3 rfl rfl)
theorem dX0_arePoints_26 : decode cX0_arePoints 26 = .ok (.ireturn, 1) := dk_172 (dk_at dksX0_arePoints_1 4 rfl rfl)
abbrev cX0_drop : ByteArray := prog_1_method_17_code
def yX0_drop : MethodName := ⟨RX0, "drop", "(I)I"⟩
def dkwX0_drop_1 : List UInt8 := [180, 0, 26, 180, 0, 69, 182, 0, 62, 172]
abbrev dktX0_drop_1 : List UInt8 := dkwX0_drop_1 ++ []
def dkwX0_drop_0 : List UInt8 := [42, 27, 182, 0, 167, 154, 0, 5, 2, 172, 42, 182, 0, 115, 180, 0, 69, 27, 182, 0, 127, 87, 42]
abbrev dktX0_drop_0 : List UInt8 := dkwX0_drop_0 ++ dktX0_drop_1
theorem dksX0_drop_0 : cX0_drop.data.toList.drop 0 = dktX0_drop_0 := by decide +kernel
theorem dksX0_drop_1 : cX0_drop.data.toList.drop 23 = dktX0_drop_1 := dk_seg dksX0_drop_0 23 rfl rfl
theorem dX0_drop_0 : decode cX0_drop 0 = .ok (.aload_n 0, 1) := dk_42 (dk_at dksX0_drop_0 0 rfl rfl)
theorem dX0_drop_1 : decode cX0_drop 1 = .ok (.iload_n 1, 1) := dk_27 (dk_at dksX0_drop_0 1 rfl rfl)
theorem dX0_drop_2 : decode cX0_drop 2 = .ok (.invokevirtual 167, 3) := dk_182 0 167 (dk_at dksX0_drop_0 2 rfl rfl)
theorem dX0_drop_5 : decode cX0_drop 5 = .ok (.ifCond .ne 5, 3) := dk_154 0 5 (dk_at dksX0_drop_0 5 rfl rfl)
theorem dX0_drop_8 : decode cX0_drop 8 = .ok (.iconst (-1), 1) := dk_2 (dk_at dksX0_drop_0 8 rfl rfl)
theorem dX0_drop_9 : decode cX0_drop 9 = .ok (.ireturn, 1) := dk_172 (dk_at dksX0_drop_0 9 rfl rfl)
theorem dX0_drop_10 : decode cX0_drop 10 = .ok (.aload_n 0, 1) := dk_42 (dk_at dksX0_drop_0 10 rfl rfl)
theorem dX0_drop_11 : decode cX0_drop 11 = .ok (.invokevirtual 115, 3) := dk_182 0 115 (dk_at dksX0_drop_0 11 rfl rfl)
theorem dX0_drop_14 : decode cX0_drop 14 = .ok (.getfield 69, 3) := dk_180 0 69 (dk_at dksX0_drop_0 14 rfl rfl)
theorem dX0_drop_17 : decode cX0_drop 17 = .ok (.iload_n 1, 1) := dk_27 (dk_at dksX0_drop_0 17 rfl rfl)
theorem dX0_drop_18 : decode cX0_drop 18 = .ok (.invokevirtual 127, 3) := dk_182 0 127 (dk_at dksX0_drop_0 18 rfl rfl)
theorem dX0_drop_21 : decode cX0_drop 21 = .ok (.pop, 1) := dk_87 (dk_at dksX0_drop_0 21 rfl rfl)
theorem dX0_drop_22 : decode cX0_drop 22 = .ok (.aload_n 0, 1) := dk_42 (dk_at dksX0_drop_0 22 rfl rfl)
theorem dX0_drop_23 : decode cX0_drop 23 = .ok (.getfield 26, 3) := dk_180 0 26 (dk_at dksX0_drop_1 0 rfl rfl)
theorem dX0_drop_26 : decode cX0_drop 26 = .ok (.getfield 69, 3) := dk_180 0 69 (dk_at dksX0_drop_1 3 rfl rfl)
theorem dX0_drop_29 : decode cX0_drop 29 = .ok (.invokevirtual 62, 3) := dk_182 0 62 (dk_at dksX0_drop_1 6 rfl rfl)
theorem dX0_drop_32 : decode cX0_drop 32 = .ok (.ireturn, 1) := dk_172 (dk_at dksX0_drop_1 9 rfl rfl)
abbrev cX0_isDimension : ByteArray := prog_1_method_7_code
def yX0_isDimension : MethodName := ⟨RX0, "isDimension", "(I)Z"⟩
def dkwX0_isDimension_0 : List UInt8 := [27, 3, 42, 180, 0, 26, 180, 0, 69, 182, 0, 62, 4, 100, 184, 0, 65, 172]
abbrev dktX0_isDimension_0 : List UInt8 := dkwX0_isDimension_0 ++ []
theorem dksX0_isDimension_0 : cX0_isDimension.data.toList.drop 0 = dktX0_isDimension_0 := by decide +kernel
theorem dX0_isDimension_0 : decode cX0_isDimension 0 = .ok (.iload_n 1, 1) := dk_27 (dk_at dksX0_isDimension_0 0 rfl rfl)
theorem dX0_isDimension_1 : decode cX0_isDimension 1 = .ok (.iconst 0, 1) := dk_3 (dk_at dksX0_isDimension_0 1 rfl rfl)
theorem dX0_isDimension_2 : decode cX0_isDimension 2 = .ok (.aload_n 0, 1) := dk_42 (dk_at dksX0_isDimension_0 2 rfl rfl)
theorem dX0_isDimension_3 : decode cX0_isDimension 3 = .ok (.getfield 26, 3) := dk_180 0 26 (dk_at dksX0_isDimension_0 3 rfl rfl)
theorem dX0_isDimension_6 : decode cX0_isDimension 6 = .ok (.getfield 69, 3) := dk_180 0 69 (dk_at dksX0_isDimension_0 6 rfl rfl)
theorem dX0_isDimension_9 : decode cX0_isDimension 9 = .ok (.invokevirtual 62, 3) := dk_182 0 62 (dk_at dksX0_isDimension_0 9 rfl rfl)
theorem dX0_isDimension_12 : decode cX0_isDimension 12 = .ok (.iconst 1, 1) := dk_4 (dk_at dksX0_isDimension_0 12 rfl rfl)
theorem dX0_isDimension_13 : decode cX0_isDimension 13 = .ok (.isub, 1) := dk_100 (dk_at dksX0_isDimension_0 13 rfl rfl)
theorem dX0_isDimension_14 : decode cX0_isDimension 14 = .ok (.invokestatic 65, 3) := dk_184 0 65 (dk_at dksX0_isDimension_0 14 rfl rfl)
theorem dX0_isDimension_17 : decode cX0_isDimension 17 = .ok (.ireturn, 1) := dk_172 (dk_at dksX0_isDimension_0 17 rfl rfl)
abbrev cX0_setTolerance : ByteArray := prog_1_method_18_code
def yX0_setTolerance : MethodName := ⟨RX0, "setTolerance", "(III)I"⟩
def dkwX0_setTolerance_3 : List UInt8 := [29, 181, 0, 173, 21, 5, 172]
abbrev dktX0_setTolerance_3 : List UInt8 := dkwX0_setTolerance_3 ++ []
def dkwX0_setTolerance_2 : List UInt8 := [16, 100, 25, 4, 180, 0, 170, 104, 25, 4, 180, 0, 173, 96, 54, 5, 25, 4, 28, 181, 0, 170, 25, 4]
abbrev dktX0_setTolerance_2 : List UInt8 := dkwX0_setTolerance_2 ++ dktX0_setTolerance_3
def dkwX0_setTolerance_1 : List UInt8 := [184, 0, 65, 154, 0, 5, 2, 172, 42, 182, 0, 115, 180, 0, 69, 27, 182, 0, 131, 192, 0, 132, 58, 4]
abbrev dktX0_setTolerance_1 : List UInt8 := dkwX0_setTolerance_1 ++ dktX0_setTolerance_2
def dkwX0_setTolerance_0 : List UInt8 := [42, 27, 182, 0, 167, 153, 0, 23, 28, 3, 16, 20, 184, 0, 65, 153, 0, 13, 29, 3, 16, 20]
abbrev dktX0_setTolerance_0 : List UInt8 := dkwX0_setTolerance_0 ++ dktX0_setTolerance_1
theorem dksX0_setTolerance_0 : cX0_setTolerance.data.toList.drop 0 = dktX0_setTolerance_0 := by decide +kernel
theorem dksX0_setTolerance_1 : cX0_setTolerance.data.toList.drop 22 = dktX0_setTolerance_1 := dk_seg dksX0_setTolerance_0 22 rfl rfl
theorem dksX0_setTolerance_2 : cX0_setTolerance.data.toList.drop 46 = dktX0_setTolerance_2 := dk_seg dksX0_setTolerance_1 24 rfl rfl
theorem dksX0_setTolerance_3 : cX0_setTolerance.data.toList.drop 70 = dktX0_setTolerance_3 := dk_seg dksX0_setTolerance_2 24 rfl rfl
theorem dX0_setTolerance_0 : decode cX0_setTolerance 0 = .ok (.aload_n 0, 1) := dk_42 (dk_at dksX0_setTolerance_0 0 rfl rfl)
theorem dX0_setTolerance_1 : decode cX0_setTolerance 1 = .ok (.iload_n 1, 1) := dk_27 (dk_at dksX0_setTolerance_0 1 rfl rfl)
theorem dX0_setTolerance_2 : decode cX0_setTolerance 2 = .ok (.invokevirtual 167, 3) := dk_182 0 167 (dk_at dksX0_setTolerance_0 2 rfl rfl)
theorem dX0_setTolerance_5 : decode cX0_setTolerance 5 = .ok (.ifCond .eq 23, 3) := dk_153 0 23 (dk_at dksX0_setTolerance_0 5 rfl rfl)
theorem dX0_setTolerance_8 : decode cX0_setTolerance 8 = .ok (.iload_n 2, 1) := dk_28 (dk_at dksX0_setTolerance_0 8 rfl rfl)
theorem dX0_setTolerance_9 : decode cX0_setTolerance 9 = .ok (.iconst 0, 1) := dk_3 (dk_at dksX0_setTolerance_0 9 rfl rfl)
theorem dX0_setTolerance_10 : decode cX0_setTolerance 10 = .ok (.bipush 20, 2) := dk_16 20 (dk_at dksX0_setTolerance_0 10 rfl rfl)
theorem dX0_setTolerance_12 : decode cX0_setTolerance 12 = .ok (.invokestatic 65, 3) := dk_184 0 65 (dk_at dksX0_setTolerance_0 12 rfl rfl)
theorem dX0_setTolerance_15 : decode cX0_setTolerance 15 = .ok (.ifCond .eq 13, 3) := dk_153 0 13 (dk_at dksX0_setTolerance_0 15 rfl rfl)
theorem dX0_setTolerance_18 : decode cX0_setTolerance 18 = .ok (.iload_n 3, 1) := dk_29 (dk_at dksX0_setTolerance_0 18 rfl rfl)
theorem dX0_setTolerance_19 : decode cX0_setTolerance 19 = .ok (.iconst 0, 1) := dk_3 (dk_at dksX0_setTolerance_0 19 rfl rfl)
theorem dX0_setTolerance_20 : decode cX0_setTolerance 20 = .ok (.bipush 20, 2) := dk_16 20 (dk_at dksX0_setTolerance_0 20 rfl rfl)
theorem dX0_setTolerance_22 : decode cX0_setTolerance 22 = .ok (.invokestatic 65, 3) := dk_184 0 65 (dk_at dksX0_setTolerance_1 0 rfl rfl)
theorem dX0_setTolerance_25 : decode cX0_setTolerance 25 = .ok (.ifCond .ne 5, 3) := dk_154 0 5 (dk_at dksX0_setTolerance_1 3 rfl rfl)
theorem dX0_setTolerance_28 : decode cX0_setTolerance 28 = .ok (.iconst (-1), 1) := dk_2 (dk_at dksX0_setTolerance_1 6 rfl rfl)
theorem dX0_setTolerance_29 : decode cX0_setTolerance 29 = .ok (.ireturn, 1) := dk_172 (dk_at dksX0_setTolerance_1 7 rfl rfl)
theorem dX0_setTolerance_30 : decode cX0_setTolerance 30 = .ok (.aload_n 0, 1) := dk_42 (dk_at dksX0_setTolerance_1 8 rfl rfl)
theorem dX0_setTolerance_31 : decode cX0_setTolerance 31 = .ok (.invokevirtual 115, 3) := dk_182 0 115 (dk_at dksX0_setTolerance_1 9 rfl rfl)
theorem dX0_setTolerance_34 : decode cX0_setTolerance 34 = .ok (.getfield 69, 3) := dk_180 0 69 (dk_at dksX0_setTolerance_1 12 rfl rfl)
theorem dX0_setTolerance_37 : decode cX0_setTolerance 37 = .ok (.iload_n 1, 1) := dk_27 (dk_at dksX0_setTolerance_1 15 rfl rfl)
theorem dX0_setTolerance_38 : decode cX0_setTolerance 38 = .ok (.invokevirtual 131, 3) := dk_182 0 131 (dk_at dksX0_setTolerance_1 16 rfl rfl)
theorem dX0_setTolerance_41 : decode cX0_setTolerance 41 = .ok (.checkcast 132, 3) := dk_192 0 132 (dk_at dksX0_setTolerance_1 19 rfl rfl)
theorem dX0_setTolerance_44 : decode cX0_setTolerance 44 = .ok (.astore 4, 2) := dk_58 4 (dk_at dksX0_setTolerance_1 22 rfl rfl)
theorem dX0_setTolerance_46 : decode cX0_setTolerance 46 = .ok (.bipush 100, 2) := dk_16 100 (dk_at dksX0_setTolerance_2 0 rfl rfl)
theorem dX0_setTolerance_48 : decode cX0_setTolerance 48 = .ok (.aload 4, 2) := dk_25 4 (dk_at dksX0_setTolerance_2 2 rfl rfl)
theorem dX0_setTolerance_50 : decode cX0_setTolerance 50 = .ok (.getfield 170, 3) := dk_180 0 170 (dk_at dksX0_setTolerance_2 4 rfl rfl)
theorem dX0_setTolerance_53 : decode cX0_setTolerance 53 = .ok (.imul, 1) := dk_104 (dk_at dksX0_setTolerance_2 7 rfl rfl)
theorem dX0_setTolerance_54 : decode cX0_setTolerance 54 = .ok (.aload 4, 2) := dk_25 4 (dk_at dksX0_setTolerance_2 8 rfl rfl)
theorem dX0_setTolerance_56 : decode cX0_setTolerance 56 = .ok (.getfield 173, 3) := dk_180 0 173 (dk_at dksX0_setTolerance_2 10 rfl rfl)
theorem dX0_setTolerance_59 : decode cX0_setTolerance 59 = .ok (.iadd, 1) := dk_96 (dk_at dksX0_setTolerance_2 13 rfl rfl)
theorem dX0_setTolerance_60 : decode cX0_setTolerance 60 = .ok (.istore 5, 2) := dk_54 5 (dk_at dksX0_setTolerance_2 14 rfl rfl)
theorem dX0_setTolerance_62 : decode cX0_setTolerance 62 = .ok (.aload 4, 2) := dk_25 4 (dk_at dksX0_setTolerance_2 16 rfl rfl)
theorem dX0_setTolerance_64 : decode cX0_setTolerance 64 = .ok (.iload_n 2, 1) := dk_28 (dk_at dksX0_setTolerance_2 18 rfl rfl)
theorem dX0_setTolerance_65 : decode cX0_setTolerance 65 = .ok (.putfield 170, 3) := dk_181 0 170 (dk_at dksX0_setTolerance_2 19 rfl rfl)
theorem dX0_setTolerance_68 : decode cX0_setTolerance 68 = .ok (.aload 4, 2) := dk_25 4 (dk_at dksX0_setTolerance_2 22 rfl rfl)
theorem dX0_setTolerance_70 : decode cX0_setTolerance 70 = .ok (.iload_n 3, 1) := dk_29 (dk_at dksX0_setTolerance_3 0 rfl rfl)
theorem dX0_setTolerance_71 : decode cX0_setTolerance 71 = .ok (.putfield 173, 3) := dk_181 0 173 (dk_at dksX0_setTolerance_3 1 rfl rfl)
theorem dX0_setTolerance_74 : decode cX0_setTolerance 74 = .ok (.iload 5, 2) := dk_21 5 (dk_at dksX0_setTolerance_3 4 rfl rfl)
theorem dX0_setTolerance_76 : decode cX0_setTolerance 76 = .ok (.ireturn, 1) := dk_172 (dk_at dksX0_setTolerance_3 6 rfl rfl)
abbrev cX0_setChain : ByteArray := prog_1_method_19_code
def yX0_setChain : MethodName := ⟨RX0, "setChain", "(II)I"⟩
def dkwX0_setChain_2 : List UInt8 := [172]
abbrev dktX0_setChain_2 : List UInt8 := dkwX0_setChain_2 ++ []
def dkwX0_setChain_1 : List UInt8 := [180, 0, 69, 27, 182, 0, 131, 192, 0, 132, 78, 45, 180, 0, 176, 54, 4, 45, 28, 181, 0, 176, 21, 4]
abbrev dktX0_setChain_1 : List UInt8 := dkwX0_setChain_1 ++ dktX0_setChain_2
def dkwX0_setChain_0 : List UInt8 := [42, 27, 182, 0, 167, 153, 0, 12, 28, 3, 8, 184, 0, 65, 154, 0, 5, 2, 172, 42, 182, 0, 115]
abbrev dktX0_setChain_0 : List UInt8 := dkwX0_setChain_0 ++ dktX0_setChain_1
theorem dksX0_setChain_0 : cX0_setChain.data.toList.drop 0 = dktX0_setChain_0 := by decide +kernel
theorem dksX0_setChain_1 : cX0_setChain.data.toList.drop 23 = dktX0_setChain_1 := dk_seg dksX0_setChain_0 23 rfl rfl
theorem dksX0_setChain_2 : cX0_setChain.data.toList.drop 47 = dktX0_setChain_2 := dk_seg dksX0_setChain_1 24 rfl rfl
theorem dX0_setChain_0 : decode cX0_setChain 0 = .ok (.aload_n 0, 1) := dk_42 (dk_at dksX0_setChain_0 0 rfl rfl)
theorem dX0_setChain_1 : decode cX0_setChain 1 = .ok (.iload_n 1, 1) := dk_27 (dk_at dksX0_setChain_0 1 rfl rfl)
theorem dX0_setChain_2 : decode cX0_setChain 2 = .ok (.invokevirtual 167, 3) := dk_182 0 167 (dk_at dksX0_setChain_0 2 rfl rfl)
theorem dX0_setChain_5 : decode cX0_setChain 5 = .ok (.ifCond .eq 12, 3) := dk_153 0 12 (dk_at dksX0_setChain_0 5 rfl rfl)
theorem dX0_setChain_8 : decode cX0_setChain 8 = .ok (.iload_n 2, 1) := dk_28 (dk_at dksX0_setChain_0 8 rfl rfl)
theorem dX0_setChain_9 : decode cX0_setChain 9 = .ok (.iconst 0, 1) := dk_3 (dk_at dksX0_setChain_0 9 rfl rfl)
theorem dX0_setChain_10 : decode cX0_setChain 10 = .ok (.iconst 5, 1) := dk_8 (dk_at dksX0_setChain_0 10 rfl rfl)
theorem dX0_setChain_11 : decode cX0_setChain 11 = .ok (.invokestatic 65, 3) := dk_184 0 65 (dk_at dksX0_setChain_0 11 rfl rfl)
theorem dX0_setChain_14 : decode cX0_setChain 14 = .ok (.ifCond .ne 5, 3) := dk_154 0 5 (dk_at dksX0_setChain_0 14 rfl rfl)
theorem dX0_setChain_17 : decode cX0_setChain 17 = .ok (.iconst (-1), 1) := dk_2 (dk_at dksX0_setChain_0 17 rfl rfl)
theorem dX0_setChain_18 : decode cX0_setChain 18 = .ok (.ireturn, 1) := dk_172 (dk_at dksX0_setChain_0 18 rfl rfl)
theorem dX0_setChain_19 : decode cX0_setChain 19 = .ok (.aload_n 0, 1) := dk_42 (dk_at dksX0_setChain_0 19 rfl rfl)
theorem dX0_setChain_20 : decode cX0_setChain 20 = .ok (.invokevirtual 115, 3) := dk_182 0 115 (dk_at dksX0_setChain_0 20 rfl rfl)
theorem dX0_setChain_23 : decode cX0_setChain 23 = .ok (.getfield 69, 3) := dk_180 0 69 (dk_at dksX0_setChain_1 0 rfl rfl)
theorem dX0_setChain_26 : decode cX0_setChain 26 = .ok (.iload_n 1, 1) := dk_27 (dk_at dksX0_setChain_1 3 rfl rfl)
theorem dX0_setChain_27 : decode cX0_setChain 27 = .ok (.invokevirtual 131, 3) := dk_182 0 131 (dk_at dksX0_setChain_1 4 rfl rfl)
theorem dX0_setChain_30 : decode cX0_setChain 30 = .ok (.checkcast 132, 3) := dk_192 0 132 (dk_at dksX0_setChain_1 7 rfl rfl)
theorem dX0_setChain_33 : decode cX0_setChain 33 = .ok (.astore_n 3, 1) := dk_78 (dk_at dksX0_setChain_1 10 rfl rfl)
theorem dX0_setChain_34 : decode cX0_setChain 34 = .ok (.aload_n 3, 1) := dk_45 (dk_at dksX0_setChain_1 11 rfl rfl)
theorem dX0_setChain_35 : decode cX0_setChain 35 = .ok (.getfield 176, 3) := dk_180 0 176 (dk_at dksX0_setChain_1 12 rfl rfl)
theorem dX0_setChain_38 : decode cX0_setChain 38 = .ok (.istore 4, 2) := dk_54 4 (dk_at dksX0_setChain_1 15 rfl rfl)
theorem dX0_setChain_40 : decode cX0_setChain 40 = .ok (.aload_n 3, 1) := dk_45 (dk_at dksX0_setChain_1 17 rfl rfl)
theorem dX0_setChain_41 : decode cX0_setChain 41 = .ok (.iload_n 2, 1) := dk_28 (dk_at dksX0_setChain_1 18 rfl rfl)
theorem dX0_setChain_42 : decode cX0_setChain 42 = .ok (.putfield 176, 3) := dk_181 0 176 (dk_at dksX0_setChain_1 19 rfl rfl)
theorem dX0_setChain_45 : decode cX0_setChain 45 = .ok (.iload 4, 2) := dk_21 4 (dk_at dksX0_setChain_1 22 rfl rfl)
theorem dX0_setChain_47 : decode cX0_setChain 47 = .ok (.ireturn, 1) := dk_172 (dk_at dksX0_setChain_2 0 rfl rfl)
abbrev cX0_setLeast : ByteArray := prog_1_method_20_code
def yX0_setLeast : MethodName := ⟨RX0, "setLeast", "(II)I"⟩
def dkwX0_setLeast_2 : List UInt8 := [172]
abbrev dktX0_setLeast_2 : List UInt8 := dkwX0_setLeast_2 ++ []
def dkwX0_setLeast_1 : List UInt8 := [180, 0, 69, 27, 182, 0, 131, 192, 0, 132, 78, 45, 180, 0, 179, 54, 4, 45, 28, 181, 0, 179, 21, 4]
abbrev dktX0_setLeast_1 : List UInt8 := dkwX0_setLeast_1 ++ dktX0_setLeast_2
def dkwX0_setLeast_0 : List UInt8 := [42, 27, 182, 0, 167, 153, 0, 13, 28, 3, 16, 9, 184, 0, 65, 154, 0, 5, 2, 172, 42, 182, 0, 115]
abbrev dktX0_setLeast_0 : List UInt8 := dkwX0_setLeast_0 ++ dktX0_setLeast_1
theorem dksX0_setLeast_0 : cX0_setLeast.data.toList.drop 0 = dktX0_setLeast_0 := by decide +kernel
theorem dksX0_setLeast_1 : cX0_setLeast.data.toList.drop 24 = dktX0_setLeast_1 := dk_seg dksX0_setLeast_0 24 rfl rfl
theorem dksX0_setLeast_2 : cX0_setLeast.data.toList.drop 48 = dktX0_setLeast_2 := dk_seg dksX0_setLeast_1 24 rfl rfl
theorem dX0_setLeast_0 : decode cX0_setLeast 0 = .ok (.aload_n 0, 1) := dk_42 (dk_at dksX0_setLeast_0 0 rfl rfl)
theorem dX0_setLeast_1 : decode cX0_setLeast 1 = .ok (.iload_n 1, 1) := dk_27 (dk_at dksX0_setLeast_0 1 rfl rfl)
theorem dX0_setLeast_2 : decode cX0_setLeast 2 = .ok (.invokevirtual 167, 3) := dk_182 0 167 (dk_at dksX0_setLeast_0 2 rfl rfl)
theorem dX0_setLeast_5 : decode cX0_setLeast 5 = .ok (.ifCond .eq 13, 3) := dk_153 0 13 (dk_at dksX0_setLeast_0 5 rfl rfl)
theorem dX0_setLeast_8 : decode cX0_setLeast 8 = .ok (.iload_n 2, 1) := dk_28 (dk_at dksX0_setLeast_0 8 rfl rfl)
theorem dX0_setLeast_9 : decode cX0_setLeast 9 = .ok (.iconst 0, 1) := dk_3 (dk_at dksX0_setLeast_0 9 rfl rfl)
theorem dX0_setLeast_10 : decode cX0_setLeast 10 = .ok (.bipush 9, 2) := dk_16 9 (dk_at dksX0_setLeast_0 10 rfl rfl)
theorem dX0_setLeast_12 : decode cX0_setLeast 12 = .ok (.invokestatic 65, 3) := dk_184 0 65 (dk_at dksX0_setLeast_0 12 rfl rfl)
theorem dX0_setLeast_15 : decode cX0_setLeast 15 = .ok (.ifCond .ne 5, 3) := dk_154 0 5 (dk_at dksX0_setLeast_0 15 rfl rfl)
theorem dX0_setLeast_18 : decode cX0_setLeast 18 = .ok (.iconst (-1), 1) := dk_2 (dk_at dksX0_setLeast_0 18 rfl rfl)
theorem dX0_setLeast_19 : decode cX0_setLeast 19 = .ok (.ireturn, 1) := dk_172 (dk_at dksX0_setLeast_0 19 rfl rfl)
theorem dX0_setLeast_20 : decode cX0_setLeast 20 = .ok (.aload_n 0, 1) := dk_42 (dk_at dksX0_setLeast_0 20 rfl rfl)
theorem dX0_setLeast_21 : decode cX0_setLeast 21 = .ok (.invokevirtual 115, 3) := dk_182 0 115 (dk_at dksX0_setLeast_0 21 rfl rfl)
theorem dX0_setLeast_24 : decode cX0_setLeast 24 = .ok (.getfield 69, 3) := dk_180 0 69 (dk_at dksX0_setLeast_1 0 rfl rfl)
theorem dX0_setLeast_27 : decode cX0_setLeast 27 = .ok (.iload_n 1, 1) := dk_27 (dk_at dksX0_setLeast_1 3 rfl rfl)
theorem dX0_setLeast_28 : decode cX0_setLeast 28 = .ok (.invokevirtual 131, 3) := dk_182 0 131 (dk_at dksX0_setLeast_1 4 rfl rfl)
theorem dX0_setLeast_31 : decode cX0_setLeast 31 = .ok (.checkcast 132, 3) := dk_192 0 132 (dk_at dksX0_setLeast_1 7 rfl rfl)
theorem dX0_setLeast_34 : decode cX0_setLeast 34 = .ok (.astore_n 3, 1) := dk_78 (dk_at dksX0_setLeast_1 10 rfl rfl)
theorem dX0_setLeast_35 : decode cX0_setLeast 35 = .ok (.aload_n 3, 1) := dk_45 (dk_at dksX0_setLeast_1 11 rfl rfl)
theorem dX0_setLeast_36 : decode cX0_setLeast 36 = .ok (.getfield 179, 3) := dk_180 0 179 (dk_at dksX0_setLeast_1 12 rfl rfl)
theorem dX0_setLeast_39 : decode cX0_setLeast 39 = .ok (.istore 4, 2) := dk_54 4 (dk_at dksX0_setLeast_1 15 rfl rfl)
theorem dX0_setLeast_41 : decode cX0_setLeast 41 = .ok (.aload_n 3, 1) := dk_45 (dk_at dksX0_setLeast_1 17 rfl rfl)
theorem dX0_setLeast_42 : decode cX0_setLeast 42 = .ok (.iload_n 2, 1) := dk_28 (dk_at dksX0_setLeast_1 18 rfl rfl)
theorem dX0_setLeast_43 : decode cX0_setLeast 43 = .ok (.putfield 179, 3) := dk_181 0 179 (dk_at dksX0_setLeast_1 19 rfl rfl)
theorem dX0_setLeast_46 : decode cX0_setLeast 46 = .ok (.iload 4, 2) := dk_21 4 (dk_at dksX0_setLeast_1 22 rfl rfl)
theorem dX0_setLeast_48 : decode cX0_setLeast 48 = .ok (.ireturn, 1) := dk_172 (dk_at dksX0_setLeast_2 0 rfl rfl)
abbrev cX0_setLetter : ByteArray := prog_1_method_21_code
def yX0_setLetter : MethodName := ⟨RX0, "setLetter", "(I)I"⟩
def dkwX0_setLetter_1 : List UInt8 := [27, 181, 0, 97, 28, 172]
abbrev dktX0_setLetter_1 : List UInt8 := dkwX0_setLetter_1 ++ []
def dkwX0_setLetter_0 : List UInt8 := [27, 4, 16, 9, 184, 0, 65, 154, 0, 5, 2, 172, 42, 180, 0, 26, 180, 0, 97, 61, 42, 182, 0, 115]
abbrev dktX0_setLetter_0 : List UInt8 := dkwX0_setLetter_0 ++ dktX0_setLetter_1
theorem dksX0_setLetter_0 : cX0_setLetter.data.toList.drop 0 = dktX0_setLetter_0 := by decide +kernel
theorem dksX0_setLetter_1 : cX0_setLetter.data.toList.drop 24 = dktX0_setLetter_1 := dk_seg dksX0_setLetter_0 24 rfl rfl
theorem dX0_setLetter_0 : decode cX0_setLetter 0 = .ok (.iload_n 1, 1) := dk_27 (dk_at dksX0_setLetter_0 0 rfl rfl)
theorem dX0_setLetter_1 : decode cX0_setLetter 1 = .ok (.iconst 1, 1) := dk_4 (dk_at dksX0_setLetter_0 1 rfl rfl)
theorem dX0_setLetter_2 : decode cX0_setLetter 2 = .ok (.bipush 9, 2) := dk_16 9 (dk_at dksX0_setLetter_0 2 rfl rfl)
theorem dX0_setLetter_4 : decode cX0_setLetter 4 = .ok (.invokestatic 65, 3) := dk_184 0 65 (dk_at dksX0_setLetter_0 4 rfl rfl)
theorem dX0_setLetter_7 : decode cX0_setLetter 7 = .ok (.ifCond .ne 5, 3) := dk_154 0 5 (dk_at dksX0_setLetter_0 7 rfl rfl)
theorem dX0_setLetter_10 : decode cX0_setLetter 10 = .ok (.iconst (-1), 1) := dk_2 (dk_at dksX0_setLetter_0 10 rfl rfl)
theorem dX0_setLetter_11 : decode cX0_setLetter 11 = .ok (.ireturn, 1) := dk_172 (dk_at dksX0_setLetter_0 11 rfl rfl)
theorem dX0_setLetter_12 : decode cX0_setLetter 12 = .ok (.aload_n 0, 1) := dk_42 (dk_at dksX0_setLetter_0 12 rfl rfl)
theorem dX0_setLetter_13 : decode cX0_setLetter 13 = .ok (.getfield 26, 3) := dk_180 0 26 (dk_at dksX0_setLetter_0 13 rfl rfl)
theorem dX0_setLetter_16 : decode cX0_setLetter 16 = .ok (.getfield 97, 3) := dk_180 0 97 (dk_at dksX0_setLetter_0 16 rfl rfl)
theorem dX0_setLetter_19 : decode cX0_setLetter 19 = .ok (.istore_n 2, 1) := dk_61 (dk_at dksX0_setLetter_0 19 rfl rfl)
theorem dX0_setLetter_20 : decode cX0_setLetter 20 = .ok (.aload_n 0, 1) := dk_42 (dk_at dksX0_setLetter_0 20 rfl rfl)
theorem dX0_setLetter_21 : decode cX0_setLetter 21 = .ok (.invokevirtual 115, 3) := dk_182 0 115 (dk_at dksX0_setLetter_0 21 rfl rfl)
theorem dX0_setLetter_24 : decode cX0_setLetter 24 = .ok (.iload_n 1, 1) := dk_27 (dk_at dksX0_setLetter_1 0 rfl rfl)
theorem dX0_setLetter_25 : decode cX0_setLetter 25 = .ok (.putfield 97, 3) := dk_181 0 97 (dk_at dksX0_setLetter_1 1 rfl rfl)
theorem dX0_setLetter_28 : decode cX0_setLetter 28 = .ok (.iload_n 2, 1) := dk_28 (dk_at dksX0_setLetter_1 4 rfl rfl)
theorem dX0_setLetter_29 : decode cX0_setLetter 29 = .ok (.ireturn, 1) := dk_172 (dk_at dksX0_setLetter_1 5 rfl rfl)
abbrev cX0_setArrow : ByteArray := prog_1_method_22_code
def yX0_setArrow : MethodName := ⟨RX0, "setArrow", "(I)I"⟩
def dkwX0_setArrow_1 : List UInt8 := [27, 181, 0, 100, 28, 172]
abbrev dktX0_setArrow_1 : List UInt8 := dkwX0_setArrow_1 ++ []
def dkwX0_setArrow_0 : List UInt8 := [27, 4, 16, 9, 184, 0, 65, 154, 0, 5, 2, 172, 42, 180, 0, 26, 180, 0, 100, 61, 42, 182, 0, 115]
abbrev dktX0_setArrow_0 : List UInt8 := dkwX0_setArrow_0 ++ dktX0_setArrow_1
theorem dksX0_setArrow_0 : cX0_setArrow.data.toList.drop 0 = dktX0_setArrow_0 := by decide +kernel
theorem dksX0_setArrow_1 : cX0_setArrow.data.toList.drop 24 = dktX0_setArrow_1 := dk_seg dksX0_setArrow_0 24 rfl rfl
theorem dX0_setArrow_0 : decode cX0_setArrow 0 = .ok (.iload_n 1, 1) := dk_27 (dk_at dksX0_setArrow_0 0 rfl rfl)
theorem dX0_setArrow_1 : decode cX0_setArrow 1 = .ok (.iconst 1, 1) := dk_4 (dk_at dksX0_setArrow_0 1 rfl rfl)
theorem dX0_setArrow_2 : decode cX0_setArrow 2 = .ok (.bipush 9, 2) := dk_16 9 (dk_at dksX0_setArrow_0 2 rfl rfl)
theorem dX0_setArrow_4 : decode cX0_setArrow 4 = .ok (.invokestatic 65, 3) := dk_184 0 65 (dk_at dksX0_setArrow_0 4 rfl rfl)
theorem dX0_setArrow_7 : decode cX0_setArrow 7 = .ok (.ifCond .ne 5, 3) := dk_154 0 5 (dk_at dksX0_setArrow_0 7 rfl rfl)
theorem dX0_setArrow_10 : decode cX0_setArrow 10 = .ok (.iconst (-1), 1) := dk_2 (dk_at dksX0_setArrow_0 10 rfl rfl)
theorem dX0_setArrow_11 : decode cX0_setArrow 11 = .ok (.ireturn, 1) := dk_172 (dk_at dksX0_setArrow_0 11 rfl rfl)
theorem dX0_setArrow_12 : decode cX0_setArrow 12 = .ok (.aload_n 0, 1) := dk_42 (dk_at dksX0_setArrow_0 12 rfl rfl)
theorem dX0_setArrow_13 : decode cX0_setArrow 13 = .ok (.getfield 26, 3) := dk_180 0 26 (dk_at dksX0_setArrow_0 13 rfl rfl)
theorem dX0_setArrow_16 : decode cX0_setArrow 16 = .ok (.getfield 100, 3) := dk_180 0 100 (dk_at dksX0_setArrow_0 16 rfl rfl)
theorem dX0_setArrow_19 : decode cX0_setArrow 19 = .ok (.istore_n 2, 1) := dk_61 (dk_at dksX0_setArrow_0 19 rfl rfl)
theorem dX0_setArrow_20 : decode cX0_setArrow 20 = .ok (.aload_n 0, 1) := dk_42 (dk_at dksX0_setArrow_0 20 rfl rfl)
theorem dX0_setArrow_21 : decode cX0_setArrow 21 = .ok (.invokevirtual 115, 3) := dk_182 0 115 (dk_at dksX0_setArrow_0 21 rfl rfl)
theorem dX0_setArrow_24 : decode cX0_setArrow 24 = .ok (.iload_n 1, 1) := dk_27 (dk_at dksX0_setArrow_1 0 rfl rfl)
theorem dX0_setArrow_25 : decode cX0_setArrow 25 = .ok (.putfield 100, 3) := dk_181 0 100 (dk_at dksX0_setArrow_1 1 rfl rfl)
theorem dX0_setArrow_28 : decode cX0_setArrow 28 = .ok (.iload_n 2, 1) := dk_28 (dk_at dksX0_setArrow_1 4 rfl rfl)
theorem dX0_setArrow_29 : decode cX0_setArrow 29 = .ok (.ireturn, 1) := dk_172 (dk_at dksX0_setArrow_1 5 rfl rfl)
abbrev cX0_point : ByteArray := prog_1_method_23_code
def yX0_point : MethodName := ⟨RX0, "point", "(II)I"⟩
def dkwX0_point_4 : List UInt8 := [180, 0, 26, 45, 182, 0, 185, 172, 42, 180, 0, 26, 27, 182, 0, 188, 172, 2, 172]
abbrev dktX0_point_4 : List UInt8 := dkwX0_point_4 ++ []
def dkwX0_point_3 : List UInt8 := [45, 180, 0, 130, 172, 42, 180, 0, 26, 45, 182, 0, 144, 172, 42, 180, 0, 26, 45, 182, 0, 182, 172, 42]
abbrev dktX0_point_3 : List UInt8 := dkwX0_point_3 ++ dktX0_point_4
def dkwX0_point_2 : List UInt8 := [170, 0, 0, 0, 0, 75, 0, 0, 0, 0, 0, 0, 0, 4, 0, 0, 0, 34, 0, 0, 0, 39, 0, 0, 0, 48, 0, 0, 0, 57, 0, 0, 0, 66]
abbrev dktX0_point_2 : List UInt8 := dkwX0_point_2 ++ dktX0_point_3
def dkwX0_point_1 : List UInt8 := [78, 28]
abbrev dktX0_point_1 : List UInt8 := dkwX0_point_1 ++ dktX0_point_2
def dkwX0_point_0 : List UInt8 := [42, 27, 182, 0, 72, 154, 0, 5, 2, 172, 42, 180, 0, 26, 180, 0, 58, 27, 182, 0, 131, 192, 0, 118]
abbrev dktX0_point_0 : List UInt8 := dkwX0_point_0 ++ dktX0_point_1
theorem dksX0_point_0 : cX0_point.data.toList.drop 0 = dktX0_point_0 := by decide +kernel
theorem dksX0_point_1 : cX0_point.data.toList.drop 24 = dktX0_point_1 := dk_seg dksX0_point_0 24 rfl rfl
theorem dksX0_point_2 : cX0_point.data.toList.drop 26 = dktX0_point_2 := dk_seg dksX0_point_1 2 rfl rfl
theorem dksX0_point_3 : cX0_point.data.toList.drop 60 = dktX0_point_3 := dk_seg dksX0_point_2 34 rfl rfl
theorem dksX0_point_4 : cX0_point.data.toList.drop 84 = dktX0_point_4 := dk_seg dksX0_point_3 24 rfl rfl
theorem dX0_point_0 : decode cX0_point 0 = .ok (.aload_n 0, 1) := dk_42 (dk_at dksX0_point_0 0 rfl rfl)
theorem dX0_point_1 : decode cX0_point 1 = .ok (.iload_n 1, 1) := dk_27 (dk_at dksX0_point_0 1 rfl rfl)
theorem dX0_point_2 : decode cX0_point 2 = .ok (.invokevirtual 72, 3) := dk_182 0 72 (dk_at dksX0_point_0 2 rfl rfl)
theorem dX0_point_5 : decode cX0_point 5 = .ok (.ifCond .ne 5, 3) := dk_154 0 5 (dk_at dksX0_point_0 5 rfl rfl)
theorem dX0_point_8 : decode cX0_point 8 = .ok (.iconst (-1), 1) := dk_2 (dk_at dksX0_point_0 8 rfl rfl)
theorem dX0_point_9 : decode cX0_point 9 = .ok (.ireturn, 1) := dk_172 (dk_at dksX0_point_0 9 rfl rfl)
theorem dX0_point_10 : decode cX0_point 10 = .ok (.aload_n 0, 1) := dk_42 (dk_at dksX0_point_0 10 rfl rfl)
theorem dX0_point_11 : decode cX0_point 11 = .ok (.getfield 26, 3) := dk_180 0 26 (dk_at dksX0_point_0 11 rfl rfl)
theorem dX0_point_14 : decode cX0_point 14 = .ok (.getfield 58, 3) := dk_180 0 58 (dk_at dksX0_point_0 14 rfl rfl)
theorem dX0_point_17 : decode cX0_point 17 = .ok (.iload_n 1, 1) := dk_27 (dk_at dksX0_point_0 17 rfl rfl)
theorem dX0_point_18 : decode cX0_point 18 = .ok (.invokevirtual 131, 3) := dk_182 0 131 (dk_at dksX0_point_0 18 rfl rfl)
theorem dX0_point_21 : decode cX0_point 21 = .ok (.checkcast 118, 3) := dk_192 0 118 (dk_at dksX0_point_0 21 rfl rfl)
theorem dX0_point_24 : decode cX0_point 24 = .ok (.astore_n 3, 1) := dk_78 (dk_at dksX0_point_1 0 rfl rfl)
theorem dX0_point_25 : decode cX0_point 25 = .ok (.iload_n 2, 1) := dk_28 (dk_at dksX0_point_1 1 rfl rfl)
theorem dX0_point_26 : decode cX0_point 26 = .ok (.tableswitch 75 0 4 #[34, 39, 48, 57, 66], 34) := by decide +kernel
theorem dX0_point_60 : decode cX0_point 60 = .ok (.aload_n 3, 1) := dk_45 (dk_at dksX0_point_3 0 rfl rfl)
theorem dX0_point_61 : decode cX0_point 61 = .ok (.getfield 130, 3) := dk_180 0 130 (dk_at dksX0_point_3 1 rfl rfl)
theorem dX0_point_64 : decode cX0_point 64 = .ok (.ireturn, 1) := dk_172 (dk_at dksX0_point_3 4 rfl rfl)
theorem dX0_point_65 : decode cX0_point 65 = .ok (.aload_n 0, 1) := dk_42 (dk_at dksX0_point_3 5 rfl rfl)
theorem dX0_point_66 : decode cX0_point 66 = .ok (.getfield 26, 3) := dk_180 0 26 (dk_at dksX0_point_3 6 rfl rfl)
theorem dX0_point_69 : decode cX0_point 69 = .ok (.aload_n 3, 1) := dk_45 (dk_at dksX0_point_3 9 rfl rfl)
theorem dX0_point_70 : decode cX0_point 70 = .ok (.invokevirtual 144, 3) := dk_182 0 144 (dk_at dksX0_point_3 10 rfl rfl)
theorem dX0_point_73 : decode cX0_point 73 = .ok (.ireturn, 1) := dk_172 (dk_at dksX0_point_3 13 rfl rfl)
theorem dX0_point_74 : decode cX0_point 74 = .ok (.aload_n 0, 1) := dk_42 (dk_at dksX0_point_3 14 rfl rfl)
theorem dX0_point_75 : decode cX0_point 75 = .ok (.getfield 26, 3) := dk_180 0 26 (dk_at dksX0_point_3 15 rfl rfl)
theorem dX0_point_78 : decode cX0_point 78 = .ok (.aload_n 3, 1) := dk_45 (dk_at dksX0_point_3 18 rfl rfl)
theorem dX0_point_79 : decode cX0_point 79 = .ok (.invokevirtual 182, 3) := dk_182 0 182 (dk_at dksX0_point_3 19 rfl rfl)
theorem dX0_point_82 : decode cX0_point 82 = .ok (.ireturn, 1) := dk_172 (dk_at dksX0_point_3 22 rfl rfl)
theorem dX0_point_83 : decode cX0_point 83 = .ok (.aload_n 0, 1) := dk_42 (dk_at dksX0_point_3 23 rfl rfl)
theorem dX0_point_84 : decode cX0_point 84 = .ok (.getfield 26, 3) := dk_180 0 26 (dk_at dksX0_point_4 0 rfl rfl)
theorem dX0_point_87 : decode cX0_point 87 = .ok (.aload_n 3, 1) := dk_45 (dk_at dksX0_point_4 3 rfl rfl)
theorem dX0_point_88 : decode cX0_point 88 = .ok (.invokevirtual 185, 3) := dk_182 0 185 (dk_at dksX0_point_4 4 rfl rfl)
theorem dX0_point_91 : decode cX0_point 91 = .ok (.ireturn, 1) := dk_172 (dk_at dksX0_point_4 7 rfl rfl)
theorem dX0_point_92 : decode cX0_point 92 = .ok (.aload_n 0, 1) := dk_42 (dk_at dksX0_point_4 8 rfl rfl)
theorem dX0_point_93 : decode cX0_point 93 = .ok (.getfield 26, 3) := dk_180 0 26 (dk_at dksX0_point_4 9 rfl rfl)
theorem dX0_point_96 : decode cX0_point 96 = .ok (.iload_n 1, 1) := dk_27 (dk_at dksX0_point_4 12 rfl rfl)
theorem dX0_point_97 : decode cX0_point 97 = .ok (.invokevirtual 188, 3) := dk_182 0 188 (dk_at dksX0_point_4 13 rfl rfl)
theorem dX0_point_100 : decode cX0_point 100 = .ok (.ireturn, 1) := dk_172 (dk_at dksX0_point_4 16 rfl rfl)
theorem dX0_point_101 : decode cX0_point 101 = .ok (.iconst (-1), 1) := dk_2 (dk_at dksX0_point_4 17 rfl rfl)
theorem dX0_point_102 : decode cX0_point 102 = .ok (.ireturn, 1) := dk_172 (dk_at dksX0_point_4 18 rfl rfl)
abbrev cX0_least : ByteArray := prog_1_method_2_code
def yX0_least : MethodName := ⟨RX0, "least", "(Ljava/util/List;LDimensionLines$Rank;)Ljava/lang/Object;"⟩
def dkwX0_least_2 : List UInt8 := [167, 0, 4, 44, 77, 132, 3, 1, 167, 255, 205, 44, 176]
abbrev dktX0_least_2 : List UInt8 := dkwX0_least_2 ++ []
def dkwX0_least_1 : List UInt8 := [198, 0, 21, 43, 25, 4, 185, 0, 11, 2, 0, 43, 44, 185, 0, 11, 2, 0, 162, 0, 8, 25, 4]
abbrev dktX0_least_1 : List UInt8 := dkwX0_least_1 ++ dktX0_least_2
def dkwX0_least_0 : List UInt8 := [1, 77, 3, 62, 29, 42, 185, 0, 1, 1, 0, 162, 0, 47, 42, 29, 185, 0, 7, 2, 0, 58, 4, 44]
abbrev dktX0_least_0 : List UInt8 := dkwX0_least_0 ++ dktX0_least_1
theorem dksX0_least_0 : cX0_least.data.toList.drop 0 = dktX0_least_0 := by decide +kernel
theorem dksX0_least_1 : cX0_least.data.toList.drop 24 = dktX0_least_1 := dk_seg dksX0_least_0 24 rfl rfl
theorem dksX0_least_2 : cX0_least.data.toList.drop 47 = dktX0_least_2 := dk_seg dksX0_least_1 23 rfl rfl
theorem dX0_least_0 : decode cX0_least 0 = .ok (.aconst_null, 1) := dk_1 (dk_at dksX0_least_0 0 rfl rfl)
theorem dX0_least_1 : decode cX0_least 1 = .ok (.astore_n 2, 1) := dk_77 (dk_at dksX0_least_0 1 rfl rfl)
theorem dX0_least_2 : decode cX0_least 2 = .ok (.iconst 0, 1) := dk_3 (dk_at dksX0_least_0 2 rfl rfl)
theorem dX0_least_3 : decode cX0_least 3 = .ok (.istore_n 3, 1) := dk_62 (dk_at dksX0_least_0 3 rfl rfl)
theorem dX0_least_4 : decode cX0_least 4 = .ok (.iload_n 3, 1) := dk_29 (dk_at dksX0_least_0 4 rfl rfl)
theorem dX0_least_5 : decode cX0_least 5 = .ok (.aload_n 0, 1) := dk_42 (dk_at dksX0_least_0 5 rfl rfl)
theorem dX0_least_6 : decode cX0_least 6 = .ok (.invokeinterface 1 1, 5) := by decide +kernel
theorem dX0_least_11 : decode cX0_least 11 = .ok (.if_icmp .ge 47, 3) := dk_162 0 47 (dk_at dksX0_least_0 11 rfl rfl)
theorem dX0_least_14 : decode cX0_least 14 = .ok (.aload_n 0, 1) := dk_42 (dk_at dksX0_least_0 14 rfl rfl)
theorem dX0_least_15 : decode cX0_least 15 = .ok (.iload_n 3, 1) := dk_29 (dk_at dksX0_least_0 15 rfl rfl)
theorem dX0_least_16 : decode cX0_least 16 = .ok (.invokeinterface 7 2, 5) := by decide +kernel
theorem dX0_least_21 : decode cX0_least 21 = .ok (.astore 4, 2) := dk_58 4 (dk_at dksX0_least_0 21 rfl rfl)
theorem dX0_least_23 : decode cX0_least 23 = .ok (.aload_n 2, 1) := dk_44 (dk_at dksX0_least_0 23 rfl rfl)
theorem dX0_least_24 : decode cX0_least 24 = .ok (.ifnull 21, 3) := dk_198 0 21 (dk_at dksX0_least_1 0 rfl rfl)
theorem dX0_least_27 : decode cX0_least 27 = .ok (.aload_n 1, 1) := dk_43 (dk_at dksX0_least_1 3 rfl rfl)
theorem dX0_least_28 : decode cX0_least 28 = .ok (.aload 4, 2) := dk_25 4 (dk_at dksX0_least_1 4 rfl rfl)
theorem dX0_least_30 : decode cX0_least 30 = .ok (.invokeinterface 11 2, 5) := by decide +kernel
theorem dX0_least_35 : decode cX0_least 35 = .ok (.aload_n 1, 1) := dk_43 (dk_at dksX0_least_1 11 rfl rfl)
theorem dX0_least_36 : decode cX0_least 36 = .ok (.aload_n 2, 1) := dk_44 (dk_at dksX0_least_1 12 rfl rfl)
theorem dX0_least_37 : decode cX0_least 37 = .ok (.invokeinterface 11 2, 5) := by decide +kernel
theorem dX0_least_42 : decode cX0_least 42 = .ok (.if_icmp .ge 8, 3) := dk_162 0 8 (dk_at dksX0_least_1 18 rfl rfl)
theorem dX0_least_45 : decode cX0_least 45 = .ok (.aload 4, 2) := dk_25 4 (dk_at dksX0_least_1 21 rfl rfl)
theorem dX0_least_47 : decode cX0_least 47 = .ok (.goto 4, 3) := dk_167 0 4 (dk_at dksX0_least_2 0 rfl rfl)
theorem dX0_least_50 : decode cX0_least 50 = .ok (.aload_n 2, 1) := dk_44 (dk_at dksX0_least_2 3 rfl rfl)
theorem dX0_least_51 : decode cX0_least 51 = .ok (.astore_n 2, 1) := dk_77 (dk_at dksX0_least_2 4 rfl rfl)
theorem dX0_least_52 : decode cX0_least 52 = .ok (.iinc 3 1, 3) := dk_132 3 1 (dk_at dksX0_least_2 5 rfl rfl)
theorem dX0_least_55 : decode cX0_least 55 = .ok (.goto (-51), 3) := dk_167 255 205 (dk_at dksX0_least_2 8 rfl rfl)
theorem dX0_least_58 : decode cX0_least 58 = .ok (.aload_n 2, 1) := dk_44 (dk_at dksX0_least_2 11 rfl rfl)
theorem dX0_least_59 : decode cX0_least 59 = .ok (.areturn, 1) := dk_176 (dk_at dksX0_least_2 12 rfl rfl)
abbrev cX0_dimension : ByteArray := prog_1_method_24_code
def yX0_dimension : MethodName := ⟨RX0, "dimension", "(II)I"⟩
def dkwX0_dimension_8 : List UInt8 := [153, 0, 7, 4, 167, 0, 15, 3, 167, 0, 11, 42, 180, 0, 26, 45, 182, 0, 212, 172]
abbrev dktX0_dimension_8 : List UInt8 := dkwX0_dimension_8 ++ []
def dkwX0_dimension_7 : List UInt8 := [158, 0, 10, 45, 180, 0, 206, 167, 0, 36, 17, 252, 25, 167, 0, 30, 42, 180, 0, 26, 27, 182, 0, 209]
abbrev dktX0_dimension_7 : List UInt8 := dkwX0_dimension_7 ++ dktX0_dimension_8
def dkwX0_dimension_6 : List UInt8 := [180, 0, 198, 167, 0, 62, 45, 180, 0, 201, 167, 0, 55, 45, 180, 0, 203, 167, 0, 48, 21, 4]
abbrev dktX0_dimension_6 : List UInt8 := dkwX0_dimension_6 ++ dktX0_dimension_7
def dkwX0_dimension_5 : List UInt8 := [45, 180, 0, 173, 167, 0, 83, 45, 180, 0, 176, 167, 0, 76, 45, 180, 0, 179, 167, 0, 69, 45]
abbrev dktX0_dimension_5 : List UInt8 := dkwX0_dimension_5 ++ dktX0_dimension_6
def dkwX0_dimension_4 : List UInt8 := [45, 180, 0, 141, 182, 0, 195, 167, 0, 104, 45, 182, 0, 134, 167, 0, 97, 45, 180, 0, 170, 167, 0, 90]
abbrev dktX0_dimension_4 : List UInt8 := dkwX0_dimension_4 ++ dktX0_dimension_5
def dkwX0_dimension_3 : List UInt8 := [42, 180, 0, 26, 180, 0, 58, 45, 180, 0, 137, 182, 0, 195, 167, 0, 121, 42, 180, 0, 26, 180, 0, 58]
abbrev dktX0_dimension_3 : List UInt8 := dkwX0_dimension_3 ++ dktX0_dimension_4
def dkwX0_dimension_2 : List UInt8 := [170, 0, 0, 0, 0, 0, 0, 191, 0, 0, 0, 0, 0, 0, 0, 11, 0, 0, 0, 64, 0, 0, 0, 81, 0, 0, 0, 98, 0, 0, 0, 105, 0, 0, 0, 112, 0, 0, 0, 119, 0, 0, 0, 126, 0, 0, 0, 133, 0, 0, 0, 140, 0, 0, 0, 147, 0, 0, 0, 154, 0, 0, 0, 172]
abbrev dktX0_dimension_2 : List UInt8 := dkwX0_dimension_2 ++ dktX0_dimension_3
def dkwX0_dimension_1 : List UInt8 := [180, 0, 69, 27, 182, 0, 131, 192, 0, 132, 78, 42, 180, 0, 26, 182, 0, 191, 182, 0, 62, 54, 4, 28]
abbrev dktX0_dimension_1 : List UInt8 := dkwX0_dimension_1 ++ dktX0_dimension_2
def dkwX0_dimension_0 : List UInt8 := [42, 27, 182, 0, 167, 153, 0, 13, 28, 3, 16, 12, 184, 0, 65, 154, 0, 5, 2, 172, 42, 180, 0, 26]
abbrev dktX0_dimension_0 : List UInt8 := dkwX0_dimension_0 ++ dktX0_dimension_1
theorem dksX0_dimension_0 : cX0_dimension.data.toList.drop 0 = dktX0_dimension_0 := by decide +kernel
theorem dksX0_dimension_1 : cX0_dimension.data.toList.drop 24 = dktX0_dimension_1 := dk_seg dksX0_dimension_0 24 rfl rfl
theorem dksX0_dimension_2 : cX0_dimension.data.toList.drop 48 = dktX0_dimension_2 := dk_seg dksX0_dimension_1 24 rfl rfl
theorem dksX0_dimension_3 : cX0_dimension.data.toList.drop 112 = dktX0_dimension_3 := dk_seg dksX0_dimension_2 64 rfl rfl
theorem dksX0_dimension_4 : cX0_dimension.data.toList.drop 136 = dktX0_dimension_4 := dk_seg dksX0_dimension_3 24 rfl rfl
theorem dksX0_dimension_5 : cX0_dimension.data.toList.drop 160 = dktX0_dimension_5 := dk_seg dksX0_dimension_4 24 rfl rfl
theorem dksX0_dimension_6 : cX0_dimension.data.toList.drop 182 = dktX0_dimension_6 := dk_seg dksX0_dimension_5 22 rfl rfl
theorem dksX0_dimension_7 : cX0_dimension.data.toList.drop 204 = dktX0_dimension_7 := dk_seg dksX0_dimension_6 22 rfl rfl
theorem dksX0_dimension_8 : cX0_dimension.data.toList.drop 228 = dktX0_dimension_8 := dk_seg dksX0_dimension_7 24 rfl rfl
theorem dX0_dimension_0 : decode cX0_dimension 0 = .ok (.aload_n 0, 1) := dk_42 (dk_at dksX0_dimension_0 0 rfl rfl)
theorem dX0_dimension_1 : decode cX0_dimension 1 = .ok (.iload_n 1, 1) := dk_27 (dk_at dksX0_dimension_0 1 rfl rfl)
theorem dX0_dimension_2 : decode cX0_dimension 2 = .ok (.invokevirtual 167, 3) := dk_182 0 167 (dk_at dksX0_dimension_0 2 rfl rfl)
theorem dX0_dimension_5 : decode cX0_dimension 5 = .ok (.ifCond .eq 13, 3) := dk_153 0 13 (dk_at dksX0_dimension_0 5 rfl rfl)
theorem dX0_dimension_8 : decode cX0_dimension 8 = .ok (.iload_n 2, 1) := dk_28 (dk_at dksX0_dimension_0 8 rfl rfl)
theorem dX0_dimension_9 : decode cX0_dimension 9 = .ok (.iconst 0, 1) := dk_3 (dk_at dksX0_dimension_0 9 rfl rfl)
theorem dX0_dimension_10 : decode cX0_dimension 10 = .ok (.bipush 12, 2) := dk_16 12 (dk_at dksX0_dimension_0 10 rfl rfl)
theorem dX0_dimension_12 : decode cX0_dimension 12 = .ok (.invokestatic 65, 3) := dk_184 0 65 (dk_at dksX0_dimension_0 12 rfl rfl)
theorem dX0_dimension_15 : decode cX0_dimension 15 = .ok (.ifCond .ne 5, 3) := dk_154 0 5 (dk_at dksX0_dimension_0 15 rfl rfl)
theorem dX0_dimension_18 : decode cX0_dimension 18 = .ok (.iconst (-1), 1) := dk_2 (dk_at dksX0_dimension_0 18 rfl rfl)
theorem dX0_dimension_19 : decode cX0_dimension 19 = .ok (.ireturn, 1) := dk_172 (dk_at dksX0_dimension_0 19 rfl rfl)
theorem dX0_dimension_20 : decode cX0_dimension 20 = .ok (.aload_n 0, 1) := dk_42 (dk_at dksX0_dimension_0 20 rfl rfl)
theorem dX0_dimension_21 : decode cX0_dimension 21 = .ok (.getfield 26, 3) := dk_180 0 26 (dk_at dksX0_dimension_0 21 rfl rfl)
theorem dX0_dimension_24 : decode cX0_dimension 24 = .ok (.getfield 69, 3) := dk_180 0 69 (dk_at dksX0_dimension_1 0 rfl rfl)
theorem dX0_dimension_27 : decode cX0_dimension 27 = .ok (.iload_n 1, 1) := dk_27 (dk_at dksX0_dimension_1 3 rfl rfl)
theorem dX0_dimension_28 : decode cX0_dimension 28 = .ok (.invokevirtual 131, 3) := dk_182 0 131 (dk_at dksX0_dimension_1 4 rfl rfl)
theorem dX0_dimension_31 : decode cX0_dimension 31 = .ok (.checkcast 132, 3) := dk_192 0 132 (dk_at dksX0_dimension_1 7 rfl rfl)
theorem dX0_dimension_34 : decode cX0_dimension 34 = .ok (.astore_n 3, 1) := dk_78 (dk_at dksX0_dimension_1 10 rfl rfl)
theorem dX0_dimension_35 : decode cX0_dimension 35 = .ok (.aload_n 0, 1) := dk_42 (dk_at dksX0_dimension_1 11 rfl rfl)
theorem dX0_dimension_36 : decode cX0_dimension 36 = .ok (.getfield 26, 3) := dk_180 0 26 (dk_at dksX0_dimension_1 12 rfl rfl)
theorem dX0_dimension_39 : decode cX0_dimension 39 = .ok (.invokevirtual 191, 3) := dk_182 0 191 (dk_at dksX0_dimension_1 15 rfl rfl)
theorem dX0_dimension_42 : decode cX0_dimension 42 = .ok (.invokevirtual 62, 3) := dk_182 0 62 (dk_at dksX0_dimension_1 18 rfl rfl)
theorem dX0_dimension_45 : decode cX0_dimension 45 = .ok (.istore 4, 2) := dk_54 4 (dk_at dksX0_dimension_1 21 rfl rfl)
theorem dX0_dimension_47 : decode cX0_dimension 47 = .ok (.iload_n 2, 1) := dk_28 (dk_at dksX0_dimension_1 23 rfl rfl)
theorem dX0_dimension_48 : decode cX0_dimension 48 = .ok (.tableswitch 191 0 11 #[64, 81, 98, 105, 112, 119, 126, 133, 140, 147, 154, 172], 64) := by decide +kernel
theorem dX0_dimension_112 : decode cX0_dimension 112 = .ok (.aload_n 0, 1) := dk_42 (dk_at dksX0_dimension_3 0 rfl rfl)
theorem dX0_dimension_113 : decode cX0_dimension 113 = .ok (.getfield 26, 3) := dk_180 0 26 (dk_at dksX0_dimension_3 1 rfl rfl)
theorem dX0_dimension_116 : decode cX0_dimension 116 = .ok (.getfield 58, 3) := dk_180 0 58 (dk_at dksX0_dimension_3 4 rfl rfl)
theorem dX0_dimension_119 : decode cX0_dimension 119 = .ok (.aload_n 3, 1) := dk_45 (dk_at dksX0_dimension_3 7 rfl rfl)
theorem dX0_dimension_120 : decode cX0_dimension 120 = .ok (.getfield 137, 3) := dk_180 0 137 (dk_at dksX0_dimension_3 8 rfl rfl)
theorem dX0_dimension_123 : decode cX0_dimension 123 = .ok (.invokevirtual 195, 3) := dk_182 0 195 (dk_at dksX0_dimension_3 11 rfl rfl)
theorem dX0_dimension_126 : decode cX0_dimension 126 = .ok (.goto 121, 3) := dk_167 0 121 (dk_at dksX0_dimension_3 14 rfl rfl)
theorem dX0_dimension_129 : decode cX0_dimension 129 = .ok (.aload_n 0, 1) := dk_42 (dk_at dksX0_dimension_3 17 rfl rfl)
theorem dX0_dimension_130 : decode cX0_dimension 130 = .ok (.getfield 26, 3) := dk_180 0 26 (dk_at dksX0_dimension_3 18 rfl rfl)
theorem dX0_dimension_133 : decode cX0_dimension 133 = .ok (.getfield 58, 3) := dk_180 0 58 (dk_at dksX0_dimension_3 21 rfl rfl)
theorem dX0_dimension_136 : decode cX0_dimension 136 = .ok (.aload_n 3, 1) := dk_45 (dk_at dksX0_dimension_4 0 rfl rfl)
theorem dX0_dimension_137 : decode cX0_dimension 137 = .ok (.getfield 141, 3) := dk_180 0 141 (dk_at dksX0_dimension_4 1 rfl rfl)
theorem dX0_dimension_140 : decode cX0_dimension 140 = .ok (.invokevirtual 195, 3) := dk_182 0 195 (dk_at dksX0_dimension_4 4 rfl rfl)
theorem dX0_dimension_143 : decode cX0_dimension 143 = .ok (.goto 104, 3) := dk_167 0 104 (dk_at dksX0_dimension_4 7 rfl rfl)
theorem dX0_dimension_146 : decode cX0_dimension 146 = .ok (.aload_n 3, 1) := dk_45 (dk_at dksX0_dimension_4 10 rfl rfl)
theorem dX0_dimension_147 : decode cX0_dimension 147 = .ok (.invokevirtual 134, 3) := dk_182 0 134 (dk_at dksX0_dimension_4 11 rfl rfl)
theorem dX0_dimension_150 : decode cX0_dimension 150 = .ok (.goto 97, 3) := dk_167 0 97 (dk_at dksX0_dimension_4 14 rfl rfl)
theorem dX0_dimension_153 : decode cX0_dimension 153 = .ok (.aload_n 3, 1) := dk_45 (dk_at dksX0_dimension_4 17 rfl rfl)
theorem dX0_dimension_154 : decode cX0_dimension 154 = .ok (.getfield 170, 3) := dk_180 0 170 (dk_at dksX0_dimension_4 18 rfl rfl)
theorem dX0_dimension_157 : decode cX0_dimension 157 = .ok (.goto 90, 3) := dk_167 0 90 (dk_at dksX0_dimension_4 21 rfl rfl)
theorem dX0_dimension_160 : decode cX0_dimension 160 = .ok (.aload_n 3, 1) := dk_45 (dk_at dksX0_dimension_5 0 rfl rfl)
theorem dX0_dimension_161 : decode cX0_dimension 161 = .ok (.getfield 173, 3) := dk_180 0 173 (dk_at dksX0_dimension_5 1 rfl rfl)
theorem dX0_dimension_164 : decode cX0_dimension 164 = .ok (.goto 83, 3) := dk_167 0 83 (dk_at dksX0_dimension_5 4 rfl rfl)
theorem dX0_dimension_167 : decode cX0_dimension 167 = .ok (.aload_n 3, 1) := dk_45 (dk_at dksX0_dimension_5 7 rfl rfl)
theorem dX0_dimension_168 : decode cX0_dimension 168 = .ok (.getfield 176, 3) := dk_180 0 176 (dk_at dksX0_dimension_5 8 rfl rfl)
theorem dX0_dimension_171 : decode cX0_dimension 171 = .ok (.goto 76, 3) := dk_167 0 76 (dk_at dksX0_dimension_5 11 rfl rfl)
theorem dX0_dimension_174 : decode cX0_dimension 174 = .ok (.aload_n 3, 1) := dk_45 (dk_at dksX0_dimension_5 14 rfl rfl)
theorem dX0_dimension_175 : decode cX0_dimension 175 = .ok (.getfield 179, 3) := dk_180 0 179 (dk_at dksX0_dimension_5 15 rfl rfl)
theorem dX0_dimension_178 : decode cX0_dimension 178 = .ok (.goto 69, 3) := dk_167 0 69 (dk_at dksX0_dimension_5 18 rfl rfl)
theorem dX0_dimension_181 : decode cX0_dimension 181 = .ok (.aload_n 3, 1) := dk_45 (dk_at dksX0_dimension_5 21 rfl rfl)
theorem dX0_dimension_182 : decode cX0_dimension 182 = .ok (.getfield 198, 3) := dk_180 0 198 (dk_at dksX0_dimension_6 0 rfl rfl)
theorem dX0_dimension_185 : decode cX0_dimension 185 = .ok (.goto 62, 3) := dk_167 0 62 (dk_at dksX0_dimension_6 3 rfl rfl)
theorem dX0_dimension_188 : decode cX0_dimension 188 = .ok (.aload_n 3, 1) := dk_45 (dk_at dksX0_dimension_6 6 rfl rfl)
theorem dX0_dimension_189 : decode cX0_dimension 189 = .ok (.getfield 201, 3) := dk_180 0 201 (dk_at dksX0_dimension_6 7 rfl rfl)
theorem dX0_dimension_192 : decode cX0_dimension 192 = .ok (.goto 55, 3) := dk_167 0 55 (dk_at dksX0_dimension_6 10 rfl rfl)
theorem dX0_dimension_195 : decode cX0_dimension 195 = .ok (.aload_n 3, 1) := dk_45 (dk_at dksX0_dimension_6 13 rfl rfl)
theorem dX0_dimension_196 : decode cX0_dimension 196 = .ok (.getfield 203, 3) := dk_180 0 203 (dk_at dksX0_dimension_6 14 rfl rfl)
theorem dX0_dimension_199 : decode cX0_dimension 199 = .ok (.goto 48, 3) := dk_167 0 48 (dk_at dksX0_dimension_6 17 rfl rfl)
theorem dX0_dimension_202 : decode cX0_dimension 202 = .ok (.iload 4, 2) := dk_21 4 (dk_at dksX0_dimension_6 20 rfl rfl)
theorem dX0_dimension_204 : decode cX0_dimension 204 = .ok (.ifCond .le 10, 3) := dk_158 0 10 (dk_at dksX0_dimension_7 0 rfl rfl)
theorem dX0_dimension_207 : decode cX0_dimension 207 = .ok (.aload_n 3, 1) := dk_45 (dk_at dksX0_dimension_7 3 rfl rfl)
theorem dX0_dimension_208 : decode cX0_dimension 208 = .ok (.getfield 206, 3) := dk_180 0 206 (dk_at dksX0_dimension_7 4 rfl rfl)
theorem dX0_dimension_211 : decode cX0_dimension 211 = .ok (.goto 36, 3) := dk_167 0 36 (dk_at dksX0_dimension_7 7 rfl rfl)
theorem dX0_dimension_214 : decode cX0_dimension 214 = .ok (.sipush (-999), 3) := dk_17 252 25 (dk_at dksX0_dimension_7 10 rfl rfl)
theorem dX0_dimension_217 : decode cX0_dimension 217 = .ok (.goto 30, 3) := dk_167 0 30 (dk_at dksX0_dimension_7 13 rfl rfl)
theorem dX0_dimension_220 : decode cX0_dimension 220 = .ok (.aload_n 0, 1) := dk_42 (dk_at dksX0_dimension_7 16 rfl rfl)
theorem dX0_dimension_221 : decode cX0_dimension 221 = .ok (.getfield 26, 3) := dk_180 0 26 (dk_at dksX0_dimension_7 17 rfl rfl)
theorem dX0_dimension_224 : decode cX0_dimension 224 = .ok (.iload_n 1, 1) := dk_27 (dk_at dksX0_dimension_7 20 rfl rfl)
theorem dX0_dimension_225 : decode cX0_dimension 225 = .ok (.invokevirtual 209, 3) := dk_182 0 209 (dk_at dksX0_dimension_7 21 rfl rfl)
theorem dX0_dimension_228 : decode cX0_dimension 228 = .ok (.ifCond .eq 7, 3) := dk_153 0 7 (dk_at dksX0_dimension_8 0 rfl rfl)
theorem dX0_dimension_231 : decode cX0_dimension 231 = .ok (.iconst 1, 1) := dk_4 (dk_at dksX0_dimension_8 3 rfl rfl)
theorem dX0_dimension_232 : decode cX0_dimension 232 = .ok (.goto 15, 3) := dk_167 0 15 (dk_at dksX0_dimension_8 4 rfl rfl)
theorem dX0_dimension_235 : decode cX0_dimension 235 = .ok (.iconst 0, 1) := dk_3 (dk_at dksX0_dimension_8 7 rfl rfl)
theorem dX0_dimension_236 : decode cX0_dimension 236 = .ok (.goto 11, 3) := dk_167 0 11 (dk_at dksX0_dimension_8 8 rfl rfl)
theorem dX0_dimension_239 : decode cX0_dimension 239 = .ok (.aload_n 0, 1) := dk_42 (dk_at dksX0_dimension_8 11 rfl rfl)
theorem dX0_dimension_240 : decode cX0_dimension 240 = .ok (.getfield 26, 3) := dk_180 0 26 (dk_at dksX0_dimension_8 12 rfl rfl)
theorem dX0_dimension_243 : decode cX0_dimension 243 = .ok (.aload_n 3, 1) := dk_45 (dk_at dksX0_dimension_8 15 rfl rfl)
theorem dX0_dimension_244 : decode cX0_dimension 244 = .ok (.invokevirtual 212, 3) := dk_182 0 212 (dk_at dksX0_dimension_8 16 rfl rfl)
theorem dX0_dimension_247 : decode cX0_dimension 247 = .ok (.ireturn, 1) := dk_172 (dk_at dksX0_dimension_8 19 rfl rfl)
abbrev cX0_at : ByteArray := prog_1_method_25_code
def yX0_at : MethodName := ⟨RX0, "at", "(II)I"⟩
def dkwX0_at_4 : List UInt8 := [21, 4, 172, 132, 4, 1, 167, 255, 187, 17, 252, 25, 172]
abbrev dktX0_at_4 : List UInt8 := dkwX0_at_4 ++ []
def dkwX0_at_3 : List UInt8 := [180, 0, 206, 27, 160, 0, 23, 28, 25, 5, 180, 0, 201, 25, 5, 180, 0, 203, 184, 0, 65, 153, 0, 6]
abbrev dktX0_at_3 : List UInt8 := dkwX0_at_3 ++ dktX0_at_4
def dkwX0_at_2 : List UInt8 := [162, 0, 55, 42, 180, 0, 26, 180, 0, 69, 21, 4, 182, 0, 131, 192, 0, 132, 58, 5, 25, 5]
abbrev dktX0_at_2 : List UInt8 := dkwX0_at_2 ++ dktX0_at_3
def dkwX0_at_1 : List UInt8 := [182, 0, 215, 62, 3, 54, 4, 21, 4, 42, 180, 0, 26, 180, 0, 69, 182, 0, 62, 162, 0, 60, 27, 29]
abbrev dktX0_at_1 : List UInt8 := dkwX0_at_1 ++ dktX0_at_2
def dkwX0_at_0 : List UInt8 := [27, 155, 0, 15, 28, 16, 247, 17, 1, 144, 184, 0, 65, 154, 0, 5, 2, 172, 42, 180, 0, 26]
abbrev dktX0_at_0 : List UInt8 := dkwX0_at_0 ++ dktX0_at_1
theorem dksX0_at_0 : cX0_at.data.toList.drop 0 = dktX0_at_0 := by decide +kernel
theorem dksX0_at_1 : cX0_at.data.toList.drop 22 = dktX0_at_1 := dk_seg dksX0_at_0 22 rfl rfl
theorem dksX0_at_2 : cX0_at.data.toList.drop 46 = dktX0_at_2 := dk_seg dksX0_at_1 24 rfl rfl
theorem dksX0_at_3 : cX0_at.data.toList.drop 68 = dktX0_at_3 := dk_seg dksX0_at_2 22 rfl rfl
theorem dksX0_at_4 : cX0_at.data.toList.drop 92 = dktX0_at_4 := dk_seg dksX0_at_3 24 rfl rfl
theorem dX0_at_0 : decode cX0_at 0 = .ok (.iload_n 1, 1) := dk_27 (dk_at dksX0_at_0 0 rfl rfl)
theorem dX0_at_1 : decode cX0_at 1 = .ok (.ifCond .lt 15, 3) := dk_155 0 15 (dk_at dksX0_at_0 1 rfl rfl)
theorem dX0_at_4 : decode cX0_at 4 = .ok (.iload_n 2, 1) := dk_28 (dk_at dksX0_at_0 4 rfl rfl)
theorem dX0_at_5 : decode cX0_at 5 = .ok (.bipush (-9), 2) := dk_16 247 (dk_at dksX0_at_0 5 rfl rfl)
theorem dX0_at_7 : decode cX0_at 7 = .ok (.sipush 400, 3) := dk_17 1 144 (dk_at dksX0_at_0 7 rfl rfl)
theorem dX0_at_10 : decode cX0_at 10 = .ok (.invokestatic 65, 3) := dk_184 0 65 (dk_at dksX0_at_0 10 rfl rfl)
theorem dX0_at_13 : decode cX0_at 13 = .ok (.ifCond .ne 5, 3) := dk_154 0 5 (dk_at dksX0_at_0 13 rfl rfl)
theorem dX0_at_16 : decode cX0_at 16 = .ok (.iconst (-1), 1) := dk_2 (dk_at dksX0_at_0 16 rfl rfl)
theorem dX0_at_17 : decode cX0_at 17 = .ok (.ireturn, 1) := dk_172 (dk_at dksX0_at_0 17 rfl rfl)
theorem dX0_at_18 : decode cX0_at 18 = .ok (.aload_n 0, 1) := dk_42 (dk_at dksX0_at_0 18 rfl rfl)
theorem dX0_at_19 : decode cX0_at 19 = .ok (.getfield 26, 3) := dk_180 0 26 (dk_at dksX0_at_0 19 rfl rfl)
theorem dX0_at_22 : decode cX0_at 22 = .ok (.invokevirtual 215, 3) := dk_182 0 215 (dk_at dksX0_at_1 0 rfl rfl)
theorem dX0_at_25 : decode cX0_at 25 = .ok (.istore_n 3, 1) := dk_62 (dk_at dksX0_at_1 3 rfl rfl)
theorem dX0_at_26 : decode cX0_at 26 = .ok (.iconst 0, 1) := dk_3 (dk_at dksX0_at_1 4 rfl rfl)
theorem dX0_at_27 : decode cX0_at 27 = .ok (.istore 4, 2) := dk_54 4 (dk_at dksX0_at_1 5 rfl rfl)
theorem dX0_at_29 : decode cX0_at 29 = .ok (.iload 4, 2) := dk_21 4 (dk_at dksX0_at_1 7 rfl rfl)
theorem dX0_at_31 : decode cX0_at 31 = .ok (.aload_n 0, 1) := dk_42 (dk_at dksX0_at_1 9 rfl rfl)
theorem dX0_at_32 : decode cX0_at 32 = .ok (.getfield 26, 3) := dk_180 0 26 (dk_at dksX0_at_1 10 rfl rfl)
theorem dX0_at_35 : decode cX0_at 35 = .ok (.getfield 69, 3) := dk_180 0 69 (dk_at dksX0_at_1 13 rfl rfl)
theorem dX0_at_38 : decode cX0_at 38 = .ok (.invokevirtual 62, 3) := dk_182 0 62 (dk_at dksX0_at_1 16 rfl rfl)
theorem dX0_at_41 : decode cX0_at 41 = .ok (.if_icmp .ge 60, 3) := dk_162 0 60 (dk_at dksX0_at_1 19 rfl rfl)
theorem dX0_at_44 : decode cX0_at 44 = .ok (.iload_n 1, 1) := dk_27 (dk_at dksX0_at_1 22 rfl rfl)
theorem dX0_at_45 : decode cX0_at 45 = .ok (.iload_n 3, 1) := dk_29 (dk_at dksX0_at_1 23 rfl rfl)
theorem dX0_at_46 : decode cX0_at 46 = .ok (.if_icmp .ge 55, 3) := dk_162 0 55 (dk_at dksX0_at_2 0 rfl rfl)
theorem dX0_at_49 : decode cX0_at 49 = .ok (.aload_n 0, 1) := dk_42 (dk_at dksX0_at_2 3 rfl rfl)
theorem dX0_at_50 : decode cX0_at 50 = .ok (.getfield 26, 3) := dk_180 0 26 (dk_at dksX0_at_2 4 rfl rfl)
theorem dX0_at_53 : decode cX0_at 53 = .ok (.getfield 69, 3) := dk_180 0 69 (dk_at dksX0_at_2 7 rfl rfl)
theorem dX0_at_56 : decode cX0_at 56 = .ok (.iload 4, 2) := dk_21 4 (dk_at dksX0_at_2 10 rfl rfl)
theorem dX0_at_58 : decode cX0_at 58 = .ok (.invokevirtual 131, 3) := dk_182 0 131 (dk_at dksX0_at_2 12 rfl rfl)
theorem dX0_at_61 : decode cX0_at 61 = .ok (.checkcast 132, 3) := dk_192 0 132 (dk_at dksX0_at_2 15 rfl rfl)
theorem dX0_at_64 : decode cX0_at 64 = .ok (.astore 5, 2) := dk_58 5 (dk_at dksX0_at_2 18 rfl rfl)
theorem dX0_at_66 : decode cX0_at 66 = .ok (.aload 5, 2) := dk_25 5 (dk_at dksX0_at_2 20 rfl rfl)
theorem dX0_at_68 : decode cX0_at 68 = .ok (.getfield 206, 3) := dk_180 0 206 (dk_at dksX0_at_3 0 rfl rfl)
theorem dX0_at_71 : decode cX0_at 71 = .ok (.iload_n 1, 1) := dk_27 (dk_at dksX0_at_3 3 rfl rfl)
theorem dX0_at_72 : decode cX0_at 72 = .ok (.if_icmp .ne 23, 3) := dk_160 0 23 (dk_at dksX0_at_3 4 rfl rfl)
theorem dX0_at_75 : decode cX0_at 75 = .ok (.iload_n 2, 1) := dk_28 (dk_at dksX0_at_3 7 rfl rfl)
theorem dX0_at_76 : decode cX0_at 76 = .ok (.aload 5, 2) := dk_25 5 (dk_at dksX0_at_3 8 rfl rfl)
theorem dX0_at_78 : decode cX0_at 78 = .ok (.getfield 201, 3) := dk_180 0 201 (dk_at dksX0_at_3 10 rfl rfl)
theorem dX0_at_81 : decode cX0_at 81 = .ok (.aload 5, 2) := dk_25 5 (dk_at dksX0_at_3 13 rfl rfl)
theorem dX0_at_83 : decode cX0_at 83 = .ok (.getfield 203, 3) := dk_180 0 203 (dk_at dksX0_at_3 15 rfl rfl)
theorem dX0_at_86 : decode cX0_at 86 = .ok (.invokestatic 65, 3) := dk_184 0 65 (dk_at dksX0_at_3 18 rfl rfl)
theorem dX0_at_89 : decode cX0_at 89 = .ok (.ifCond .eq 6, 3) := dk_153 0 6 (dk_at dksX0_at_3 21 rfl rfl)
theorem dX0_at_92 : decode cX0_at 92 = .ok (.iload 4, 2) := dk_21 4 (dk_at dksX0_at_4 0 rfl rfl)
theorem dX0_at_94 : decode cX0_at 94 = .ok (.ireturn, 1) := dk_172 (dk_at dksX0_at_4 2 rfl rfl)
theorem dX0_at_95 : decode cX0_at 95 = .ok (.iinc 4 1, 3) := dk_132 4 1 (dk_at dksX0_at_4 3 rfl rfl)
theorem dX0_at_98 : decode cX0_at 98 = .ok (.goto (-69), 3) := dk_167 255 187 (dk_at dksX0_at_4 6 rfl rfl)
theorem dX0_at_101 : decode cX0_at 101 = .ok (.sipush (-999), 3) := dk_17 252 25 (dk_at dksX0_at_4 9 rfl rfl)
theorem dX0_at_104 : decode cX0_at 104 = .ok (.ireturn, 1) := dk_172 (dk_at dksX0_at_4 12 rfl rfl)
abbrev cX0_distance : ByteArray := prog_1_method_26_code
def yX0_distance : MethodName := ⟨RX0, "distance", "(IIZ)I"⟩
def dkwX0_distance_2 : List UInt8 := [167, 0, 10, 25, 4, 27, 28, 182, 0, 230, 172]
abbrev dktX0_distance_2 : List UInt8 := dkwX0_distance_2 ++ []
def dkwX0_distance_1 : List UInt8 := [182, 0, 222, 154, 0, 9, 17, 252, 25, 167, 0, 24, 29, 153, 0, 13, 25, 4, 27, 28, 182, 0, 227]
abbrev dktX0_distance_1 : List UInt8 := dkwX0_distance_1 ++ dktX0_distance_2
def dkwX0_distance_0 : List UInt8 := [42, 27, 28, 182, 0, 147, 154, 0, 5, 2, 172, 42, 180, 0, 26, 182, 0, 218, 58, 4, 25, 4, 27, 28]
abbrev dktX0_distance_0 : List UInt8 := dkwX0_distance_0 ++ dktX0_distance_1
theorem dksX0_distance_0 : cX0_distance.data.toList.drop 0 = dktX0_distance_0 := by decide +kernel
theorem dksX0_distance_1 : cX0_distance.data.toList.drop 24 = dktX0_distance_1 := dk_seg dksX0_distance_0 24 rfl rfl
theorem dksX0_distance_2 : cX0_distance.data.toList.drop 47 = dktX0_distance_2 := dk_seg dksX0_distance_1 23 rfl rfl
theorem dX0_distance_0 : decode cX0_distance 0 = .ok (.aload_n 0, 1) := dk_42 (dk_at dksX0_distance_0 0 rfl rfl)
theorem dX0_distance_1 : decode cX0_distance 1 = .ok (.iload_n 1, 1) := dk_27 (dk_at dksX0_distance_0 1 rfl rfl)
theorem dX0_distance_2 : decode cX0_distance 2 = .ok (.iload_n 2, 1) := dk_28 (dk_at dksX0_distance_0 2 rfl rfl)
theorem dX0_distance_3 : decode cX0_distance 3 = .ok (.invokevirtual 147, 3) := dk_182 0 147 (dk_at dksX0_distance_0 3 rfl rfl)
theorem dX0_distance_6 : decode cX0_distance 6 = .ok (.ifCond .ne 5, 3) := dk_154 0 5 (dk_at dksX0_distance_0 6 rfl rfl)
theorem dX0_distance_9 : decode cX0_distance 9 = .ok (.iconst (-1), 1) := dk_2 (dk_at dksX0_distance_0 9 rfl rfl)
theorem dX0_distance_10 : decode cX0_distance 10 = .ok (.ireturn, 1) := dk_172 (dk_at dksX0_distance_0 10 rfl rfl)
theorem dX0_distance_11 : decode cX0_distance 11 = .ok (.aload_n 0, 1) := dk_42 (dk_at dksX0_distance_0 11 rfl rfl)
theorem dX0_distance_12 : decode cX0_distance 12 = .ok (.getfield 26, 3) := dk_180 0 26 (dk_at dksX0_distance_0 12 rfl rfl)
theorem dX0_distance_15 : decode cX0_distance 15 = .ok (.invokevirtual 218, 3) := dk_182 0 218 (dk_at dksX0_distance_0 15 rfl rfl)
theorem dX0_distance_18 : decode cX0_distance 18 = .ok (.astore 4, 2) := dk_58 4 (dk_at dksX0_distance_0 18 rfl rfl)
theorem dX0_distance_20 : decode cX0_distance 20 = .ok (.aload 4, 2) := dk_25 4 (dk_at dksX0_distance_0 20 rfl rfl)
theorem dX0_distance_22 : decode cX0_distance 22 = .ok (.iload_n 1, 1) := dk_27 (dk_at dksX0_distance_0 22 rfl rfl)
theorem dX0_distance_23 : decode cX0_distance 23 = .ok (.iload_n 2, 1) := dk_28 (dk_at dksX0_distance_0 23 rfl rfl)
theorem dX0_distance_24 : decode cX0_distance 24 = .ok (.invokevirtual 222, 3) := dk_182 0 222 (dk_at dksX0_distance_1 0 rfl rfl)
theorem dX0_distance_27 : decode cX0_distance 27 = .ok (.ifCond .ne 9, 3) := dk_154 0 9 (dk_at dksX0_distance_1 3 rfl rfl)
theorem dX0_distance_30 : decode cX0_distance 30 = .ok (.sipush (-999), 3) := dk_17 252 25 (dk_at dksX0_distance_1 6 rfl rfl)
theorem dX0_distance_33 : decode cX0_distance 33 = .ok (.goto 24, 3) := dk_167 0 24 (dk_at dksX0_distance_1 9 rfl rfl)
theorem dX0_distance_36 : decode cX0_distance 36 = .ok (.iload_n 3, 1) := dk_29 (dk_at dksX0_distance_1 12 rfl rfl)
theorem dX0_distance_37 : decode cX0_distance 37 = .ok (.ifCond .eq 13, 3) := dk_153 0 13 (dk_at dksX0_distance_1 13 rfl rfl)
theorem dX0_distance_40 : decode cX0_distance 40 = .ok (.aload 4, 2) := dk_25 4 (dk_at dksX0_distance_1 16 rfl rfl)
theorem dX0_distance_42 : decode cX0_distance 42 = .ok (.iload_n 1, 1) := dk_27 (dk_at dksX0_distance_1 18 rfl rfl)
theorem dX0_distance_43 : decode cX0_distance 43 = .ok (.iload_n 2, 1) := dk_28 (dk_at dksX0_distance_1 19 rfl rfl)
theorem dX0_distance_44 : decode cX0_distance 44 = .ok (.invokevirtual 227, 3) := dk_182 0 227 (dk_at dksX0_distance_1 20 rfl rfl)
theorem dX0_distance_47 : decode cX0_distance 47 = .ok (.goto 10, 3) := dk_167 0 10 (dk_at dksX0_distance_2 0 rfl rfl)
theorem dX0_distance_50 : decode cX0_distance 50 = .ok (.aload 4, 2) := dk_25 4 (dk_at dksX0_distance_2 3 rfl rfl)
theorem dX0_distance_52 : decode cX0_distance 52 = .ok (.iload_n 1, 1) := dk_27 (dk_at dksX0_distance_2 5 rfl rfl)
theorem dX0_distance_53 : decode cX0_distance 53 = .ok (.iload_n 2, 1) := dk_28 (dk_at dksX0_distance_2 6 rfl rfl)
theorem dX0_distance_54 : decode cX0_distance 54 = .ok (.invokevirtual 230, 3) := dk_182 0 230 (dk_at dksX0_distance_2 7 rfl rfl)
theorem dX0_distance_57 : decode cX0_distance 57 = .ok (.ireturn, 1) := dk_172 (dk_at dksX0_distance_2 10 rfl rfl)
abbrev cX0_ifExact : ByteArray := prog_1_method_27_code
def yX0_ifExact : MethodName := ⟨RX0, "ifExact", "(III)I"⟩
def dkwX0_ifExact_2 : List UInt8 := [17, 252, 25, 172]
abbrev dktX0_ifExact_2 : List UInt8 := dkwX0_ifExact_2 ++ []
def dkwX0_ifExact_1 : List UInt8 := [182, 0, 218, 28, 29, 182, 0, 222, 153, 0, 16, 42, 180, 0, 26, 27, 28, 29, 182, 0, 232, 167, 0, 6]
abbrev dktX0_ifExact_1 : List UInt8 := dkwX0_ifExact_1 ++ dktX0_ifExact_2
def dkwX0_ifExact_0 : List UInt8 := [42, 27, 182, 0, 167, 153, 0, 12, 42, 28, 29, 182, 0, 147, 154, 0, 5, 2, 172, 42, 180, 0, 26]
abbrev dktX0_ifExact_0 : List UInt8 := dkwX0_ifExact_0 ++ dktX0_ifExact_1
theorem dksX0_ifExact_0 : cX0_ifExact.data.toList.drop 0 = dktX0_ifExact_0 := by decide +kernel
theorem dksX0_ifExact_1 : cX0_ifExact.data.toList.drop 23 = dktX0_ifExact_1 := dk_seg dksX0_ifExact_0 23 rfl rfl
theorem dksX0_ifExact_2 : cX0_ifExact.data.toList.drop 47 = dktX0_ifExact_2 := dk_seg dksX0_ifExact_1 24 rfl rfl
theorem dX0_ifExact_0 : decode cX0_ifExact 0 = .ok (.aload_n 0, 1) := dk_42 (dk_at dksX0_ifExact_0 0 rfl rfl)
theorem dX0_ifExact_1 : decode cX0_ifExact 1 = .ok (.iload_n 1, 1) := dk_27 (dk_at dksX0_ifExact_0 1 rfl rfl)
theorem dX0_ifExact_2 : decode cX0_ifExact 2 = .ok (.invokevirtual 167, 3) := dk_182 0 167 (dk_at dksX0_ifExact_0 2 rfl rfl)
theorem dX0_ifExact_5 : decode cX0_ifExact 5 = .ok (.ifCond .eq 12, 3) := dk_153 0 12 (dk_at dksX0_ifExact_0 5 rfl rfl)
theorem dX0_ifExact_8 : decode cX0_ifExact 8 = .ok (.aload_n 0, 1) := dk_42 (dk_at dksX0_ifExact_0 8 rfl rfl)
theorem dX0_ifExact_9 : decode cX0_ifExact 9 = .ok (.iload_n 2, 1) := dk_28 (dk_at dksX0_ifExact_0 9 rfl rfl)
theorem dX0_ifExact_10 : decode cX0_ifExact 10 = .ok (.iload_n 3, 1) := dk_29 (dk_at dksX0_ifExact_0 10 rfl rfl)
theorem dX0_ifExact_11 : decode cX0_ifExact 11 = .ok (.invokevirtual 147, 3) := dk_182 0 147 (dk_at dksX0_ifExact_0 11 rfl rfl)
theorem dX0_ifExact_14 : decode cX0_ifExact 14 = .ok (.ifCond .ne 5, 3) := dk_154 0 5 (dk_at dksX0_ifExact_0 14 rfl rfl)
theorem dX0_ifExact_17 : decode cX0_ifExact 17 = .ok (.iconst (-1), 1) := dk_2 (dk_at dksX0_ifExact_0 17 rfl rfl)
theorem dX0_ifExact_18 : decode cX0_ifExact 18 = .ok (.ireturn, 1) := dk_172 (dk_at dksX0_ifExact_0 18 rfl rfl)
theorem dX0_ifExact_19 : decode cX0_ifExact 19 = .ok (.aload_n 0, 1) := dk_42 (dk_at dksX0_ifExact_0 19 rfl rfl)
theorem dX0_ifExact_20 : decode cX0_ifExact 20 = .ok (.getfield 26, 3) := dk_180 0 26 (dk_at dksX0_ifExact_0 20 rfl rfl)
theorem dX0_ifExact_23 : decode cX0_ifExact 23 = .ok (.invokevirtual 218, 3) := dk_182 0 218 (dk_at dksX0_ifExact_1 0 rfl rfl)
theorem dX0_ifExact_26 : decode cX0_ifExact 26 = .ok (.iload_n 2, 1) := dk_28 (dk_at dksX0_ifExact_1 3 rfl rfl)
theorem dX0_ifExact_27 : decode cX0_ifExact 27 = .ok (.iload_n 3, 1) := dk_29 (dk_at dksX0_ifExact_1 4 rfl rfl)
theorem dX0_ifExact_28 : decode cX0_ifExact 28 = .ok (.invokevirtual 222, 3) := dk_182 0 222 (dk_at dksX0_ifExact_1 5 rfl rfl)
theorem dX0_ifExact_31 : decode cX0_ifExact 31 = .ok (.ifCond .eq 16, 3) := dk_153 0 16 (dk_at dksX0_ifExact_1 8 rfl rfl)
theorem dX0_ifExact_34 : decode cX0_ifExact 34 = .ok (.aload_n 0, 1) := dk_42 (dk_at dksX0_ifExact_1 11 rfl rfl)
theorem dX0_ifExact_35 : decode cX0_ifExact 35 = .ok (.getfield 26, 3) := dk_180 0 26 (dk_at dksX0_ifExact_1 12 rfl rfl)
theorem dX0_ifExact_38 : decode cX0_ifExact 38 = .ok (.iload_n 1, 1) := dk_27 (dk_at dksX0_ifExact_1 15 rfl rfl)
theorem dX0_ifExact_39 : decode cX0_ifExact 39 = .ok (.iload_n 2, 1) := dk_28 (dk_at dksX0_ifExact_1 16 rfl rfl)
theorem dX0_ifExact_40 : decode cX0_ifExact 40 = .ok (.iload_n 3, 1) := dk_29 (dk_at dksX0_ifExact_1 17 rfl rfl)
theorem dX0_ifExact_41 : decode cX0_ifExact 41 = .ok (.invokevirtual 232, 3) := dk_182 0 232 (dk_at dksX0_ifExact_1 18 rfl rfl)
theorem dX0_ifExact_44 : decode cX0_ifExact 44 = .ok (.goto 6, 3) := dk_167 0 6 (dk_at dksX0_ifExact_1 21 rfl rfl)
theorem dX0_ifExact_47 : decode cX0_ifExact 47 = .ok (.sipush (-999), 3) := dk_17 252 25 (dk_at dksX0_ifExact_2 0 rfl rfl)
theorem dX0_ifExact_50 : decode cX0_ifExact 50 = .ok (.ireturn, 1) := dk_172 (dk_at dksX0_ifExact_2 3 rfl rfl)
abbrev cX0_critical : ByteArray := prog_1_method_28_code
def yX0_critical : MethodName := ⟨RX0, "critical", "(II)I"⟩
def dkwX0_critical_4 : List UInt8 := [167, 255, 202, 29, 172]
abbrev dktX0_critical_4 : List UInt8 := dkwX0_critical_4 ++ []
def dkwX0_critical_3 : List UInt8 := [21, 4, 164, 0, 8, 21, 5, 167, 0, 4, 29, 62, 21, 4, 21, 6, 184, 0, 157, 54, 4, 132, 5, 1]
abbrev dktX0_critical_3 : List UInt8 := dkwX0_critical_3 ++ dktX0_critical_4
def dkwX0_critical_2 : List UInt8 := [180, 0, 69, 182, 0, 62, 162, 0, 45, 42, 180, 0, 26, 21, 5, 27, 28, 182, 0, 232, 54, 6, 21, 6]
abbrev dktX0_critical_2 : List UInt8 := dkwX0_critical_2 ++ dktX0_critical_3
def dkwX0_critical_1 : List UInt8 := [154, 0, 7, 17, 252, 25, 172, 17, 252, 25, 62, 2, 54, 4, 3, 54, 5, 21, 5, 42, 180, 0, 26]
abbrev dktX0_critical_1 : List UInt8 := dkwX0_critical_1 ++ dktX0_critical_2
def dkwX0_critical_0 : List UInt8 := [42, 27, 28, 182, 0, 147, 154, 0, 5, 2, 172, 42, 180, 0, 26, 182, 0, 218, 27, 28, 182, 0, 222]
abbrev dktX0_critical_0 : List UInt8 := dkwX0_critical_0 ++ dktX0_critical_1
theorem dksX0_critical_0 : cX0_critical.data.toList.drop 0 = dktX0_critical_0 := by decide +kernel
theorem dksX0_critical_1 : cX0_critical.data.toList.drop 23 = dktX0_critical_1 := dk_seg dksX0_critical_0 23 rfl rfl
theorem dksX0_critical_2 : cX0_critical.data.toList.drop 46 = dktX0_critical_2 := dk_seg dksX0_critical_1 23 rfl rfl
theorem dksX0_critical_3 : cX0_critical.data.toList.drop 70 = dktX0_critical_3 := dk_seg dksX0_critical_2 24 rfl rfl
theorem dksX0_critical_4 : cX0_critical.data.toList.drop 94 = dktX0_critical_4 := dk_seg dksX0_critical_3 24 rfl rfl
theorem dX0_critical_0 : decode cX0_critical 0 = .ok (.aload_n 0, 1) := dk_42 (dk_at dksX0_critical_0 0 rfl rfl)
theorem dX0_critical_1 : decode cX0_critical 1 = .ok (.iload_n 1, 1) := dk_27 (dk_at dksX0_critical_0 1 rfl rfl)
theorem dX0_critical_2 : decode cX0_critical 2 = .ok (.iload_n 2, 1) := dk_28 (dk_at dksX0_critical_0 2 rfl rfl)
theorem dX0_critical_3 : decode cX0_critical 3 = .ok (.invokevirtual 147, 3) := dk_182 0 147 (dk_at dksX0_critical_0 3 rfl rfl)
theorem dX0_critical_6 : decode cX0_critical 6 = .ok (.ifCond .ne 5, 3) := dk_154 0 5 (dk_at dksX0_critical_0 6 rfl rfl)
theorem dX0_critical_9 : decode cX0_critical 9 = .ok (.iconst (-1), 1) := dk_2 (dk_at dksX0_critical_0 9 rfl rfl)
theorem dX0_critical_10 : decode cX0_critical 10 = .ok (.ireturn, 1) := dk_172 (dk_at dksX0_critical_0 10 rfl rfl)
theorem dX0_critical_11 : decode cX0_critical 11 = .ok (.aload_n 0, 1) := dk_42 (dk_at dksX0_critical_0 11 rfl rfl)
theorem dX0_critical_12 : decode cX0_critical 12 = .ok (.getfield 26, 3) := dk_180 0 26 (dk_at dksX0_critical_0 12 rfl rfl)
theorem dX0_critical_15 : decode cX0_critical 15 = .ok (.invokevirtual 218, 3) := dk_182 0 218 (dk_at dksX0_critical_0 15 rfl rfl)
theorem dX0_critical_18 : decode cX0_critical 18 = .ok (.iload_n 1, 1) := dk_27 (dk_at dksX0_critical_0 18 rfl rfl)
theorem dX0_critical_19 : decode cX0_critical 19 = .ok (.iload_n 2, 1) := dk_28 (dk_at dksX0_critical_0 19 rfl rfl)
theorem dX0_critical_20 : decode cX0_critical 20 = .ok (.invokevirtual 222, 3) := dk_182 0 222 (dk_at dksX0_critical_0 20 rfl rfl)
theorem dX0_critical_23 : decode cX0_critical 23 = .ok (.ifCond .ne 7, 3) := dk_154 0 7 (dk_at dksX0_critical_1 0 rfl rfl)
theorem dX0_critical_26 : decode cX0_critical 26 = .ok (.sipush (-999), 3) := dk_17 252 25 (dk_at dksX0_critical_1 3 rfl rfl)
theorem dX0_critical_29 : decode cX0_critical 29 = .ok (.ireturn, 1) := dk_172 (dk_at dksX0_critical_1 6 rfl rfl)
theorem dX0_critical_30 : decode cX0_critical 30 = .ok (.sipush (-999), 3) := dk_17 252 25 (dk_at dksX0_critical_1 7 rfl rfl)
theorem dX0_critical_33 : decode cX0_critical 33 = .ok (.istore_n 3, 1) := dk_62 (dk_at dksX0_critical_1 10 rfl rfl)
theorem dX0_critical_34 : decode cX0_critical 34 = .ok (.iconst (-1), 1) := dk_2 (dk_at dksX0_critical_1 11 rfl rfl)
theorem dX0_critical_35 : decode cX0_critical 35 = .ok (.istore 4, 2) := dk_54 4 (dk_at dksX0_critical_1 12 rfl rfl)
theorem dX0_critical_37 : decode cX0_critical 37 = .ok (.iconst 0, 1) := dk_3 (dk_at dksX0_critical_1 14 rfl rfl)
theorem dX0_critical_38 : decode cX0_critical 38 = .ok (.istore 5, 2) := dk_54 5 (dk_at dksX0_critical_1 15 rfl rfl)
theorem dX0_critical_40 : decode cX0_critical 40 = .ok (.iload 5, 2) := dk_21 5 (dk_at dksX0_critical_1 17 rfl rfl)
theorem dX0_critical_42 : decode cX0_critical 42 = .ok (.aload_n 0, 1) := dk_42 (dk_at dksX0_critical_1 19 rfl rfl)
theorem dX0_critical_43 : decode cX0_critical 43 = .ok (.getfield 26, 3) := dk_180 0 26 (dk_at dksX0_critical_1 20 rfl rfl)
theorem dX0_critical_46 : decode cX0_critical 46 = .ok (.getfield 69, 3) := dk_180 0 69 (dk_at dksX0_critical_2 0 rfl rfl)
theorem dX0_critical_49 : decode cX0_critical 49 = .ok (.invokevirtual 62, 3) := dk_182 0 62 (dk_at dksX0_critical_2 3 rfl rfl)
theorem dX0_critical_52 : decode cX0_critical 52 = .ok (.if_icmp .ge 45, 3) := dk_162 0 45 (dk_at dksX0_critical_2 6 rfl rfl)
theorem dX0_critical_55 : decode cX0_critical 55 = .ok (.aload_n 0, 1) := dk_42 (dk_at dksX0_critical_2 9 rfl rfl)
theorem dX0_critical_56 : decode cX0_critical 56 = .ok (.getfield 26, 3) := dk_180 0 26 (dk_at dksX0_critical_2 10 rfl rfl)
theorem dX0_critical_59 : decode cX0_critical 59 = .ok (.iload 5, 2) := dk_21 5 (dk_at dksX0_critical_2 13 rfl rfl)
theorem dX0_critical_61 : decode cX0_critical 61 = .ok (.iload_n 1, 1) := dk_27 (dk_at dksX0_critical_2 15 rfl rfl)
theorem dX0_critical_62 : decode cX0_critical 62 = .ok (.iload_n 2, 1) := dk_28 (dk_at dksX0_critical_2 16 rfl rfl)
theorem dX0_critical_63 : decode cX0_critical 63 = .ok (.invokevirtual 232, 3) := dk_182 0 232 (dk_at dksX0_critical_2 17 rfl rfl)
theorem dX0_critical_66 : decode cX0_critical 66 = .ok (.istore 6, 2) := dk_54 6 (dk_at dksX0_critical_2 20 rfl rfl)
theorem dX0_critical_68 : decode cX0_critical 68 = .ok (.iload 6, 2) := dk_21 6 (dk_at dksX0_critical_2 22 rfl rfl)
theorem dX0_critical_70 : decode cX0_critical 70 = .ok (.iload 4, 2) := dk_21 4 (dk_at dksX0_critical_3 0 rfl rfl)
theorem dX0_critical_72 : decode cX0_critical 72 = .ok (.if_icmp .le 8, 3) := dk_164 0 8 (dk_at dksX0_critical_3 2 rfl rfl)
theorem dX0_critical_75 : decode cX0_critical 75 = .ok (.iload 5, 2) := dk_21 5 (dk_at dksX0_critical_3 5 rfl rfl)
theorem dX0_critical_77 : decode cX0_critical 77 = .ok (.goto 4, 3) := dk_167 0 4 (dk_at dksX0_critical_3 7 rfl rfl)
theorem dX0_critical_80 : decode cX0_critical 80 = .ok (.iload_n 3, 1) := dk_29 (dk_at dksX0_critical_3 10 rfl rfl)
theorem dX0_critical_81 : decode cX0_critical 81 = .ok (.istore_n 3, 1) := dk_62 (dk_at dksX0_critical_3 11 rfl rfl)
theorem dX0_critical_82 : decode cX0_critical 82 = .ok (.iload 4, 2) := dk_21 4 (dk_at dksX0_critical_3 12 rfl rfl)
theorem dX0_critical_84 : decode cX0_critical 84 = .ok (.iload 6, 2) := dk_21 6 (dk_at dksX0_critical_3 14 rfl rfl)
theorem dX0_critical_86 : decode cX0_critical 86 = .ok (.invokestatic 157, 3) := dk_184 0 157 (dk_at dksX0_critical_3 16 rfl rfl)
theorem dX0_critical_89 : decode cX0_critical 89 = .ok (.istore 4, 2) := dk_54 4 (dk_at dksX0_critical_3 19 rfl rfl)
theorem dX0_critical_91 : decode cX0_critical 91 = .ok (.iinc 5 1, 3) := dk_132 5 1 (dk_at dksX0_critical_3 21 rfl rfl)
theorem dX0_critical_94 : decode cX0_critical 94 = .ok (.goto (-54), 3) := dk_167 255 202 (dk_at dksX0_critical_4 0 rfl rfl)
theorem dX0_critical_97 : decode cX0_critical 97 = .ok (.iload_n 3, 1) := dk_29 (dk_at dksX0_critical_4 3 rfl rfl)
theorem dX0_critical_98 : decode cX0_critical 98 = .ok (.ireturn, 1) := dk_172 (dk_at dksX0_critical_4 4 rfl rfl)
abbrev cX0_needed : ByteArray := prog_1_method_29_code
def yX0_needed : MethodName := ⟨RX0, "needed", "()I"⟩
def dkwX0_needed_2 : List UInt8 := [180, 0, 69, 182, 0, 62, 172]
abbrev dktX0_needed_2 : List UInt8 := dkwX0_needed_2 ++ []
def dkwX0_needed_1 : List UInt8 := [182, 0, 209, 153, 0, 12, 43, 180, 0, 69, 28, 182, 0, 127, 87, 132, 2, 255, 167, 255, 232, 43]
abbrev dktX0_needed_1 : List UInt8 := dkwX0_needed_1 ++ dktX0_needed_2
def dkwX0_needed_0 : List UInt8 := [42, 180, 0, 26, 182, 0, 50, 76, 43, 180, 0, 69, 182, 0, 62, 4, 100, 61, 28, 155, 0, 26, 43, 28]
abbrev dktX0_needed_0 : List UInt8 := dkwX0_needed_0 ++ dktX0_needed_1
theorem dksX0_needed_0 : cX0_needed.data.toList.drop 0 = dktX0_needed_0 := by decide +kernel
theorem dksX0_needed_1 : cX0_needed.data.toList.drop 24 = dktX0_needed_1 := dk_seg dksX0_needed_0 24 rfl rfl
theorem dksX0_needed_2 : cX0_needed.data.toList.drop 46 = dktX0_needed_2 := dk_seg dksX0_needed_1 22 rfl rfl
theorem dX0_needed_0 : decode cX0_needed 0 = .ok (.aload_n 0, 1) := dk_42 (dk_at dksX0_needed_0 0 rfl rfl)
theorem dX0_needed_1 : decode cX0_needed 1 = .ok (.getfield 26, 3) := dk_180 0 26 (dk_at dksX0_needed_0 1 rfl rfl)
theorem dX0_needed_4 : decode cX0_needed 4 = .ok (.invokevirtual 50, 3) := dk_182 0 50 (dk_at dksX0_needed_0 4 rfl rfl)
theorem dX0_needed_7 : decode cX0_needed 7 = .ok (.astore_n 1, 1) := dk_76 (dk_at dksX0_needed_0 7 rfl rfl)
theorem dX0_needed_8 : decode cX0_needed 8 = .ok (.aload_n 1, 1) := dk_43 (dk_at dksX0_needed_0 8 rfl rfl)
theorem dX0_needed_9 : decode cX0_needed 9 = .ok (.getfield 69, 3) := dk_180 0 69 (dk_at dksX0_needed_0 9 rfl rfl)
theorem dX0_needed_12 : decode cX0_needed 12 = .ok (.invokevirtual 62, 3) := dk_182 0 62 (dk_at dksX0_needed_0 12 rfl rfl)
theorem dX0_needed_15 : decode cX0_needed 15 = .ok (.iconst 1, 1) := dk_4 (dk_at dksX0_needed_0 15 rfl rfl)
theorem dX0_needed_16 : decode cX0_needed 16 = .ok (.isub, 1) := dk_100 (dk_at dksX0_needed_0 16 rfl rfl)
theorem dX0_needed_17 : decode cX0_needed 17 = .ok (.istore_n 2, 1) := dk_61 (dk_at dksX0_needed_0 17 rfl rfl)
theorem dX0_needed_18 : decode cX0_needed 18 = .ok (.iload_n 2, 1) := dk_28 (dk_at dksX0_needed_0 18 rfl rfl)
theorem dX0_needed_19 : decode cX0_needed 19 = .ok (.ifCond .lt 26, 3) := dk_155 0 26 (dk_at dksX0_needed_0 19 rfl rfl)
theorem dX0_needed_22 : decode cX0_needed 22 = .ok (.aload_n 1, 1) := dk_43 (dk_at dksX0_needed_0 22 rfl rfl)
theorem dX0_needed_23 : decode cX0_needed 23 = .ok (.iload_n 2, 1) := dk_28 (dk_at dksX0_needed_0 23 rfl rfl)
theorem dX0_needed_24 : decode cX0_needed 24 = .ok (.invokevirtual 209, 3) := dk_182 0 209 (dk_at dksX0_needed_1 0 rfl rfl)
theorem dX0_needed_27 : decode cX0_needed 27 = .ok (.ifCond .eq 12, 3) := dk_153 0 12 (dk_at dksX0_needed_1 3 rfl rfl)
theorem dX0_needed_30 : decode cX0_needed 30 = .ok (.aload_n 1, 1) := dk_43 (dk_at dksX0_needed_1 6 rfl rfl)
theorem dX0_needed_31 : decode cX0_needed 31 = .ok (.getfield 69, 3) := dk_180 0 69 (dk_at dksX0_needed_1 7 rfl rfl)
theorem dX0_needed_34 : decode cX0_needed 34 = .ok (.iload_n 2, 1) := dk_28 (dk_at dksX0_needed_1 10 rfl rfl)
theorem dX0_needed_35 : decode cX0_needed 35 = .ok (.invokevirtual 127, 3) := dk_182 0 127 (dk_at dksX0_needed_1 11 rfl rfl)
theorem dX0_needed_38 : decode cX0_needed 38 = .ok (.pop, 1) := dk_87 (dk_at dksX0_needed_1 14 rfl rfl)
theorem dX0_needed_39 : decode cX0_needed 39 = .ok (.iinc 2 (-1), 3) := dk_132 2 255 (dk_at dksX0_needed_1 15 rfl rfl)
theorem dX0_needed_42 : decode cX0_needed 42 = .ok (.goto (-24), 3) := dk_167 255 232 (dk_at dksX0_needed_1 18 rfl rfl)
theorem dX0_needed_45 : decode cX0_needed 45 = .ok (.aload_n 1, 1) := dk_43 (dk_at dksX0_needed_1 21 rfl rfl)
theorem dX0_needed_46 : decode cX0_needed 46 = .ok (.getfield 69, 3) := dk_180 0 69 (dk_at dksX0_needed_2 0 rfl rfl)
theorem dX0_needed_49 : decode cX0_needed 49 = .ok (.invokevirtual 62, 3) := dk_182 0 62 (dk_at dksX0_needed_2 3 rfl rfl)
theorem dX0_needed_52 : decode cX0_needed 52 = .ok (.ireturn, 1) := dk_172 (dk_at dksX0_needed_2 6 rfl rfl)
abbrev cX0_chain : ByteArray := prog_1_method_32_code
def yX0_chain : MethodName := ⟨RX0, "chain", "(II)I"⟩
def dkwX0_chain_11 : List UInt8 := [182, 0, 131, 192, 0, 132, 180, 0, 206, 167, 0, 6, 17, 252, 25, 172]
abbrev dktX0_chain_11 : List UInt8 := dkwX0_chain_11 ++ []
def dkwX0_chain_10 : List UInt8 := [27, 45, 182, 1, 14, 167, 0, 34, 17, 252, 25, 167, 0, 28, 21, 5, 153, 0, 20, 45, 180, 0, 236, 3]
abbrev dktX0_chain_10 : List UInt8 := dkwX0_chain_10 ++ dktX0_chain_11
def dkwX0_chain_9 : List UInt8 := [167, 0, 63, 45, 186, 1, 13, 0, 0, 184, 1, 8, 167, 0, 51, 21, 4, 153, 0, 15, 42, 180, 0, 26]
abbrev dktX0_chain_9 : List UInt8 := dkwX0_chain_9 ++ dktX0_chain_10
def dkwX0_chain_8 : List UInt8 := [167, 0, 87, 45, 186, 1, 7, 0, 0, 184, 1, 8, 167, 0, 75, 45, 186, 1, 12, 0, 0, 184, 1, 8]
abbrev dktX0_chain_8 : List UInt8 := dkwX0_chain_8 ++ dktX0_chain_9
def dkwX0_chain_7 : List UInt8 := [21, 4, 154, 0, 9, 17, 252, 25, 167, 0, 102, 45, 184, 1, 3, 153, 0, 7, 4, 167, 0, 91, 3]
abbrev dktX0_chain_7 : List UInt8 := dkwX0_chain_7 ++ dktX0_chain_8
def dkwX0_chain_6 : List UInt8 := [17, 252, 25, 167, 0, 131, 21, 4, 153, 0, 10, 45, 180, 1, 2, 167, 0, 119, 17, 252, 25, 167, 0, 113]
abbrev dktX0_chain_6 : List UInt8 := dkwX0_chain_6 ++ dktX0_chain_7
def dkwX0_chain_5 : List UInt8 := [45, 180, 0, 236, 182, 0, 62, 167, 0, 149, 21, 4, 153, 0, 10, 45, 180, 0, 242, 167, 0, 137]
abbrev dktX0_chain_5 : List UInt8 := dkwX0_chain_5 ++ dktX0_chain_6
def dkwX0_chain_4 : List UInt8 := [170, 0, 0, 0, 0, 0, 178, 0, 0, 0, 0, 0, 0, 0, 7, 0, 0, 0, 47, 0, 0, 0, 57, 0, 0, 0, 75, 0, 0, 0, 93, 0, 0, 0, 119, 0, 0, 0, 131, 0, 0, 0, 143, 0, 0, 0, 155]
abbrev dktX0_chain_4 : List UInt8 := dkwX0_chain_4 ++ dktX0_chain_5
def dkwX0_chain_3 : List UInt8 := [3, 54, 5, 28]
abbrev dktX0_chain_3 : List UInt8 := dkwX0_chain_3 ++ dktX0_chain_4
def dkwX0_chain_2 : List UInt8 := [54, 4, 21, 4, 153, 0, 20, 42, 180, 0, 26, 182, 0, 191, 182, 0, 243, 154, 0, 7, 4, 167, 0, 4]
abbrev dktX0_chain_2 : List UInt8 := dkwX0_chain_2 ++ dktX0_chain_3
def dkwX0_chain_1 : List UInt8 := [180, 0, 26, 27, 182, 0, 255, 78, 45, 180, 0, 236, 182, 0, 243, 154, 0, 7, 4, 167, 0, 4, 3]
abbrev dktX0_chain_1 : List UInt8 := dkwX0_chain_1 ++ dktX0_chain_2
def dkwX0_chain_0 : List UInt8 := [27, 4, 8, 184, 0, 65, 153, 0, 13, 28, 3, 16, 8, 184, 0, 65, 154, 0, 5, 2, 172, 42]
abbrev dktX0_chain_0 : List UInt8 := dkwX0_chain_0 ++ dktX0_chain_1
theorem dksX0_chain_0 : cX0_chain.data.toList.drop 0 = dktX0_chain_0 := by decide +kernel
theorem dksX0_chain_1 : cX0_chain.data.toList.drop 22 = dktX0_chain_1 := dk_seg dksX0_chain_0 22 rfl rfl
theorem dksX0_chain_2 : cX0_chain.data.toList.drop 45 = dktX0_chain_2 := dk_seg dksX0_chain_1 23 rfl rfl
theorem dksX0_chain_3 : cX0_chain.data.toList.drop 69 = dktX0_chain_3 := dk_seg dksX0_chain_2 24 rfl rfl
theorem dksX0_chain_4 : cX0_chain.data.toList.drop 73 = dktX0_chain_4 := dk_seg dksX0_chain_3 4 rfl rfl
theorem dksX0_chain_5 : cX0_chain.data.toList.drop 120 = dktX0_chain_5 := dk_seg dksX0_chain_4 47 rfl rfl
theorem dksX0_chain_6 : cX0_chain.data.toList.drop 142 = dktX0_chain_6 := dk_seg dksX0_chain_5 22 rfl rfl
theorem dksX0_chain_7 : cX0_chain.data.toList.drop 166 = dktX0_chain_7 := dk_seg dksX0_chain_6 24 rfl rfl
theorem dksX0_chain_8 : cX0_chain.data.toList.drop 189 = dktX0_chain_8 := dk_seg dksX0_chain_7 23 rfl rfl
theorem dksX0_chain_9 : cX0_chain.data.toList.drop 213 = dktX0_chain_9 := dk_seg dksX0_chain_8 24 rfl rfl
theorem dksX0_chain_10 : cX0_chain.data.toList.drop 237 = dktX0_chain_10 := dk_seg dksX0_chain_9 24 rfl rfl
theorem dksX0_chain_11 : cX0_chain.data.toList.drop 261 = dktX0_chain_11 := dk_seg dksX0_chain_10 24 rfl rfl
theorem dX0_chain_0 : decode cX0_chain 0 = .ok (.iload_n 1, 1) := dk_27 (dk_at dksX0_chain_0 0 rfl rfl)
theorem dX0_chain_1 : decode cX0_chain 1 = .ok (.iconst 1, 1) := dk_4 (dk_at dksX0_chain_0 1 rfl rfl)
theorem dX0_chain_2 : decode cX0_chain 2 = .ok (.iconst 5, 1) := dk_8 (dk_at dksX0_chain_0 2 rfl rfl)
theorem dX0_chain_3 : decode cX0_chain 3 = .ok (.invokestatic 65, 3) := dk_184 0 65 (dk_at dksX0_chain_0 3 rfl rfl)
theorem dX0_chain_6 : decode cX0_chain 6 = .ok (.ifCond .eq 13, 3) := dk_153 0 13 (dk_at dksX0_chain_0 6 rfl rfl)
theorem dX0_chain_9 : decode cX0_chain 9 = .ok (.iload_n 2, 1) := dk_28 (dk_at dksX0_chain_0 9 rfl rfl)
theorem dX0_chain_10 : decode cX0_chain 10 = .ok (.iconst 0, 1) := dk_3 (dk_at dksX0_chain_0 10 rfl rfl)
theorem dX0_chain_11 : decode cX0_chain 11 = .ok (.bipush 8, 2) := dk_16 8 (dk_at dksX0_chain_0 11 rfl rfl)
theorem dX0_chain_13 : decode cX0_chain 13 = .ok (.invokestatic 65, 3) := dk_184 0 65 (dk_at dksX0_chain_0 13 rfl rfl)
theorem dX0_chain_16 : decode cX0_chain 16 = .ok (.ifCond .ne 5, 3) := dk_154 0 5 (dk_at dksX0_chain_0 16 rfl rfl)
theorem dX0_chain_19 : decode cX0_chain 19 = .ok (.iconst (-1), 1) := dk_2 (dk_at dksX0_chain_0 19 rfl rfl)
theorem dX0_chain_20 : decode cX0_chain 20 = .ok (.ireturn, 1) := dk_172 (dk_at dksX0_chain_0 20 rfl rfl)
theorem dX0_chain_21 : decode cX0_chain 21 = .ok (.aload_n 0, 1) := dk_42 (dk_at dksX0_chain_0 21 rfl rfl)
theorem dX0_chain_22 : decode cX0_chain 22 = .ok (.getfield 26, 3) := dk_180 0 26 (dk_at dksX0_chain_1 0 rfl rfl)
theorem dX0_chain_25 : decode cX0_chain 25 = .ok (.iload_n 1, 1) := dk_27 (dk_at dksX0_chain_1 3 rfl rfl)
theorem dX0_chain_26 : decode cX0_chain 26 = .ok (.invokevirtual 255, 3) := dk_182 0 255 (dk_at dksX0_chain_1 4 rfl rfl)
theorem dX0_chain_29 : decode cX0_chain 29 = .ok (.astore_n 3, 1) := dk_78 (dk_at dksX0_chain_1 7 rfl rfl)
theorem dX0_chain_30 : decode cX0_chain 30 = .ok (.aload_n 3, 1) := dk_45 (dk_at dksX0_chain_1 8 rfl rfl)
theorem dX0_chain_31 : decode cX0_chain 31 = .ok (.getfield 236, 3) := dk_180 0 236 (dk_at dksX0_chain_1 9 rfl rfl)
theorem dX0_chain_34 : decode cX0_chain 34 = .ok (.invokevirtual 243, 3) := dk_182 0 243 (dk_at dksX0_chain_1 12 rfl rfl)
theorem dX0_chain_37 : decode cX0_chain 37 = .ok (.ifCond .ne 7, 3) := dk_154 0 7 (dk_at dksX0_chain_1 15 rfl rfl)
theorem dX0_chain_40 : decode cX0_chain 40 = .ok (.iconst 1, 1) := dk_4 (dk_at dksX0_chain_1 18 rfl rfl)
theorem dX0_chain_41 : decode cX0_chain 41 = .ok (.goto 4, 3) := dk_167 0 4 (dk_at dksX0_chain_1 19 rfl rfl)
theorem dX0_chain_44 : decode cX0_chain 44 = .ok (.iconst 0, 1) := dk_3 (dk_at dksX0_chain_1 22 rfl rfl)
theorem dX0_chain_45 : decode cX0_chain 45 = .ok (.istore 4, 2) := dk_54 4 (dk_at dksX0_chain_2 0 rfl rfl)
theorem dX0_chain_47 : decode cX0_chain 47 = .ok (.iload 4, 2) := dk_21 4 (dk_at dksX0_chain_2 2 rfl rfl)
theorem dX0_chain_49 : decode cX0_chain 49 = .ok (.ifCond .eq 20, 3) := dk_153 0 20 (dk_at dksX0_chain_2 4 rfl rfl)
theorem dX0_chain_52 : decode cX0_chain 52 = .ok (.aload_n 0, 1) := dk_42 (dk_at dksX0_chain_2 7 rfl rfl)
theorem dX0_chain_53 : decode cX0_chain 53 = .ok (.getfield 26, 3) := dk_180 0 26 (dk_at dksX0_chain_2 8 rfl rfl)
theorem dX0_chain_56 : decode cX0_chain 56 = .ok (.invokevirtual 191, 3) := dk_182 0 191 (dk_at dksX0_chain_2 11 rfl rfl)
theorem dX0_chain_59 : decode cX0_chain 59 = .ok (.invokevirtual 243, 3) := dk_182 0 243 (dk_at dksX0_chain_2 14 rfl rfl)
theorem dX0_chain_62 : decode cX0_chain 62 = .ok (.ifCond .ne 7, 3) := dk_154 0 7 (dk_at dksX0_chain_2 17 rfl rfl)
theorem dX0_chain_65 : decode cX0_chain 65 = .ok (.iconst 1, 1) := dk_4 (dk_at dksX0_chain_2 20 rfl rfl)
theorem dX0_chain_66 : decode cX0_chain 66 = .ok (.goto 4, 3) := dk_167 0 4 (dk_at dksX0_chain_2 21 rfl rfl)
theorem dX0_chain_69 : decode cX0_chain 69 = .ok (.iconst 0, 1) := dk_3 (dk_at dksX0_chain_3 0 rfl rfl)
theorem dX0_chain_70 : decode cX0_chain 70 = .ok (.istore 5, 2) := dk_54 5 (dk_at dksX0_chain_3 1 rfl rfl)
theorem dX0_chain_72 : decode cX0_chain 72 = .ok (.iload_n 2, 1) := dk_28 (dk_at dksX0_chain_3 3 rfl rfl)
theorem dX0_chain_73 : decode cX0_chain 73 = .ok (.tableswitch 178 0 7 #[47, 57, 75, 93, 119, 131, 143, 155], 47) := by decide +kernel
theorem dX0_chain_120 : decode cX0_chain 120 = .ok (.aload_n 3, 1) := dk_45 (dk_at dksX0_chain_5 0 rfl rfl)
theorem dX0_chain_121 : decode cX0_chain 121 = .ok (.getfield 236, 3) := dk_180 0 236 (dk_at dksX0_chain_5 1 rfl rfl)
theorem dX0_chain_124 : decode cX0_chain 124 = .ok (.invokevirtual 62, 3) := dk_182 0 62 (dk_at dksX0_chain_5 4 rfl rfl)
theorem dX0_chain_127 : decode cX0_chain 127 = .ok (.goto 149, 3) := dk_167 0 149 (dk_at dksX0_chain_5 7 rfl rfl)
theorem dX0_chain_130 : decode cX0_chain 130 = .ok (.iload 4, 2) := dk_21 4 (dk_at dksX0_chain_5 10 rfl rfl)
theorem dX0_chain_132 : decode cX0_chain 132 = .ok (.ifCond .eq 10, 3) := dk_153 0 10 (dk_at dksX0_chain_5 12 rfl rfl)
theorem dX0_chain_135 : decode cX0_chain 135 = .ok (.aload_n 3, 1) := dk_45 (dk_at dksX0_chain_5 15 rfl rfl)
theorem dX0_chain_136 : decode cX0_chain 136 = .ok (.getfield 242, 3) := dk_180 0 242 (dk_at dksX0_chain_5 16 rfl rfl)
theorem dX0_chain_139 : decode cX0_chain 139 = .ok (.goto 137, 3) := dk_167 0 137 (dk_at dksX0_chain_5 19 rfl rfl)
theorem dX0_chain_142 : decode cX0_chain 142 = .ok (.sipush (-999), 3) := dk_17 252 25 (dk_at dksX0_chain_6 0 rfl rfl)
theorem dX0_chain_145 : decode cX0_chain 145 = .ok (.goto 131, 3) := dk_167 0 131 (dk_at dksX0_chain_6 3 rfl rfl)
theorem dX0_chain_148 : decode cX0_chain 148 = .ok (.iload 4, 2) := dk_21 4 (dk_at dksX0_chain_6 6 rfl rfl)
theorem dX0_chain_150 : decode cX0_chain 150 = .ok (.ifCond .eq 10, 3) := dk_153 0 10 (dk_at dksX0_chain_6 8 rfl rfl)
theorem dX0_chain_153 : decode cX0_chain 153 = .ok (.aload_n 3, 1) := dk_45 (dk_at dksX0_chain_6 11 rfl rfl)
theorem dX0_chain_154 : decode cX0_chain 154 = .ok (.getfield 258, 3) := dk_180 1 2 (dk_at dksX0_chain_6 12 rfl rfl)
theorem dX0_chain_157 : decode cX0_chain 157 = .ok (.goto 119, 3) := dk_167 0 119 (dk_at dksX0_chain_6 15 rfl rfl)
theorem dX0_chain_160 : decode cX0_chain 160 = .ok (.sipush (-999), 3) := dk_17 252 25 (dk_at dksX0_chain_6 18 rfl rfl)
theorem dX0_chain_163 : decode cX0_chain 163 = .ok (.goto 113, 3) := dk_167 0 113 (dk_at dksX0_chain_6 21 rfl rfl)
theorem dX0_chain_166 : decode cX0_chain 166 = .ok (.iload 4, 2) := dk_21 4 (dk_at dksX0_chain_7 0 rfl rfl)
theorem dX0_chain_168 : decode cX0_chain 168 = .ok (.ifCond .ne 9, 3) := dk_154 0 9 (dk_at dksX0_chain_7 2 rfl rfl)
theorem dX0_chain_171 : decode cX0_chain 171 = .ok (.sipush (-999), 3) := dk_17 252 25 (dk_at dksX0_chain_7 5 rfl rfl)
theorem dX0_chain_174 : decode cX0_chain 174 = .ok (.goto 102, 3) := dk_167 0 102 (dk_at dksX0_chain_7 8 rfl rfl)
theorem dX0_chain_177 : decode cX0_chain 177 = .ok (.aload_n 3, 1) := dk_45 (dk_at dksX0_chain_7 11 rfl rfl)
theorem dX0_chain_178 : decode cX0_chain 178 = .ok (.invokestatic 259, 3) := dk_184 1 3 (dk_at dksX0_chain_7 12 rfl rfl)
theorem dX0_chain_181 : decode cX0_chain 181 = .ok (.ifCond .eq 7, 3) := dk_153 0 7 (dk_at dksX0_chain_7 15 rfl rfl)
theorem dX0_chain_184 : decode cX0_chain 184 = .ok (.iconst 1, 1) := dk_4 (dk_at dksX0_chain_7 18 rfl rfl)
theorem dX0_chain_185 : decode cX0_chain 185 = .ok (.goto 91, 3) := dk_167 0 91 (dk_at dksX0_chain_7 19 rfl rfl)
theorem dX0_chain_188 : decode cX0_chain 188 = .ok (.iconst 0, 1) := dk_3 (dk_at dksX0_chain_7 22 rfl rfl)
theorem dX0_chain_189 : decode cX0_chain 189 = .ok (.goto 87, 3) := dk_167 0 87 (dk_at dksX0_chain_8 0 rfl rfl)
theorem dX0_chain_192 : decode cX0_chain 192 = .ok (.aload_n 3, 1) := dk_45 (dk_at dksX0_chain_8 3 rfl rfl)
theorem dX0_chain_193 : decode cX0_chain 193 = .ok (.invokedynamic 263, 5) := by decide +kernel
theorem dX0_chain_198 : decode cX0_chain 198 = .ok (.invokestatic 264, 3) := dk_184 1 8 (dk_at dksX0_chain_8 9 rfl rfl)
theorem dX0_chain_201 : decode cX0_chain 201 = .ok (.goto 75, 3) := dk_167 0 75 (dk_at dksX0_chain_8 12 rfl rfl)
theorem dX0_chain_204 : decode cX0_chain 204 = .ok (.aload_n 3, 1) := dk_45 (dk_at dksX0_chain_8 15 rfl rfl)
theorem dX0_chain_205 : decode cX0_chain 205 = .ok (.invokedynamic 268, 5) := by decide +kernel
theorem dX0_chain_210 : decode cX0_chain 210 = .ok (.invokestatic 264, 3) := dk_184 1 8 (dk_at dksX0_chain_8 21 rfl rfl)
theorem dX0_chain_213 : decode cX0_chain 213 = .ok (.goto 63, 3) := dk_167 0 63 (dk_at dksX0_chain_9 0 rfl rfl)
theorem dX0_chain_216 : decode cX0_chain 216 = .ok (.aload_n 3, 1) := dk_45 (dk_at dksX0_chain_9 3 rfl rfl)
theorem dX0_chain_217 : decode cX0_chain 217 = .ok (.invokedynamic 269, 5) := by decide +kernel
theorem dX0_chain_222 : decode cX0_chain 222 = .ok (.invokestatic 264, 3) := dk_184 1 8 (dk_at dksX0_chain_9 9 rfl rfl)
theorem dX0_chain_225 : decode cX0_chain 225 = .ok (.goto 51, 3) := dk_167 0 51 (dk_at dksX0_chain_9 12 rfl rfl)
theorem dX0_chain_228 : decode cX0_chain 228 = .ok (.iload 4, 2) := dk_21 4 (dk_at dksX0_chain_9 15 rfl rfl)
theorem dX0_chain_230 : decode cX0_chain 230 = .ok (.ifCond .eq 15, 3) := dk_153 0 15 (dk_at dksX0_chain_9 17 rfl rfl)
theorem dX0_chain_233 : decode cX0_chain 233 = .ok (.aload_n 0, 1) := dk_42 (dk_at dksX0_chain_9 20 rfl rfl)
theorem dX0_chain_234 : decode cX0_chain 234 = .ok (.getfield 26, 3) := dk_180 0 26 (dk_at dksX0_chain_9 21 rfl rfl)
theorem dX0_chain_237 : decode cX0_chain 237 = .ok (.iload_n 1, 1) := dk_27 (dk_at dksX0_chain_10 0 rfl rfl)
theorem dX0_chain_238 : decode cX0_chain 238 = .ok (.aload_n 3, 1) := dk_45 (dk_at dksX0_chain_10 1 rfl rfl)
theorem dX0_chain_239 : decode cX0_chain 239 = .ok (.invokevirtual 270, 3) := dk_182 1 14 (dk_at dksX0_chain_10 2 rfl rfl)
theorem dX0_chain_242 : decode cX0_chain 242 = .ok (.goto 34, 3) := dk_167 0 34 (dk_at dksX0_chain_10 5 rfl rfl)
theorem dX0_chain_245 : decode cX0_chain 245 = .ok (.sipush (-999), 3) := dk_17 252 25 (dk_at dksX0_chain_10 8 rfl rfl)
theorem dX0_chain_248 : decode cX0_chain 248 = .ok (.goto 28, 3) := dk_167 0 28 (dk_at dksX0_chain_10 11 rfl rfl)
theorem dX0_chain_251 : decode cX0_chain 251 = .ok (.iload 5, 2) := dk_21 5 (dk_at dksX0_chain_10 14 rfl rfl)
theorem dX0_chain_253 : decode cX0_chain 253 = .ok (.ifCond .eq 20, 3) := dk_153 0 20 (dk_at dksX0_chain_10 16 rfl rfl)
theorem dX0_chain_256 : decode cX0_chain 256 = .ok (.aload_n 3, 1) := dk_45 (dk_at dksX0_chain_10 19 rfl rfl)
theorem dX0_chain_257 : decode cX0_chain 257 = .ok (.getfield 236, 3) := dk_180 0 236 (dk_at dksX0_chain_10 20 rfl rfl)
theorem dX0_chain_260 : decode cX0_chain 260 = .ok (.iconst 0, 1) := dk_3 (dk_at dksX0_chain_10 23 rfl rfl)
theorem dX0_chain_261 : decode cX0_chain 261 = .ok (.invokevirtual 131, 3) := dk_182 0 131 (dk_at dksX0_chain_11 0 rfl rfl)
theorem dX0_chain_264 : decode cX0_chain 264 = .ok (.checkcast 132, 3) := dk_192 0 132 (dk_at dksX0_chain_11 3 rfl rfl)
theorem dX0_chain_267 : decode cX0_chain 267 = .ok (.getfield 206, 3) := dk_180 0 206 (dk_at dksX0_chain_11 6 rfl rfl)
theorem dX0_chain_270 : decode cX0_chain 270 = .ok (.goto 6, 3) := dk_167 0 6 (dk_at dksX0_chain_11 9 rfl rfl)
theorem dX0_chain_273 : decode cX0_chain 273 = .ok (.sipush (-999), 3) := dk_17 252 25 (dk_at dksX0_chain_11 12 rfl rfl)
theorem dX0_chain_276 : decode cX0_chain 276 = .ok (.ireturn, 1) := dk_172 (dk_at dksX0_chain_11 15 rfl rfl)
abbrev cX0_isClosed : ByteArray := prog_1_method_30_code
def yX0_isClosed : MethodName := ⟨RX0, "isClosed", "(LDimensionLines$Unit;)Z"⟩
def dkwX0_isClosed_3 : List UInt8 := [180, 0, 141, 180, 0, 130, 62, 167, 255, 197, 27, 172]
abbrev dktX0_isClosed_3 : List UInt8 := dkwX0_isClosed_3 ++ []
def dkwX0_isClosed_2 : List UInt8 := [182, 0, 253, 87, 25, 4, 180, 0, 137, 180, 0, 130, 29, 160, 0, 7, 4, 167, 0, 4, 3, 60, 25, 4]
abbrev dktX0_isClosed_2 : List UInt8 := dkwX0_isClosed_2 ++ dktX0_isClosed_3
def dkwX0_isClosed_1 : List UInt8 := [154, 0, 58, 27, 153, 0, 54, 44, 186, 0, 247, 0, 0, 184, 0, 250, 192, 0, 132, 58, 4, 44, 25, 4]
abbrev dktX0_isClosed_1 : List UInt8 := dkwX0_isClosed_1 ++ dktX0_isClosed_2
def dkwX0_isClosed_0 : List UInt8 := [4, 60, 187, 0, 63, 89, 42, 180, 0, 236, 183, 0, 239, 77, 42, 180, 0, 242, 62, 44, 182, 0, 243]
abbrev dktX0_isClosed_0 : List UInt8 := dkwX0_isClosed_0 ++ dktX0_isClosed_1
theorem dksX0_isClosed_0 : cX0_isClosed.data.toList.drop 0 = dktX0_isClosed_0 := by decide +kernel
theorem dksX0_isClosed_1 : cX0_isClosed.data.toList.drop 23 = dktX0_isClosed_1 := dk_seg dksX0_isClosed_0 23 rfl rfl
theorem dksX0_isClosed_2 : cX0_isClosed.data.toList.drop 47 = dktX0_isClosed_2 := dk_seg dksX0_isClosed_1 24 rfl rfl
theorem dksX0_isClosed_3 : cX0_isClosed.data.toList.drop 71 = dktX0_isClosed_3 := dk_seg dksX0_isClosed_2 24 rfl rfl
theorem dX0_isClosed_0 : decode cX0_isClosed 0 = .ok (.iconst 1, 1) := dk_4 (dk_at dksX0_isClosed_0 0 rfl rfl)
theorem dX0_isClosed_1 : decode cX0_isClosed 1 = .ok (.istore_n 1, 1) := dk_60 (dk_at dksX0_isClosed_0 1 rfl rfl)
theorem dX0_isClosed_2 : decode cX0_isClosed 2 = .ok (.new 63, 3) := dk_187 0 63 (dk_at dksX0_isClosed_0 2 rfl rfl)
theorem dX0_isClosed_5 : decode cX0_isClosed 5 = .ok (.dup, 1) := dk_89 (dk_at dksX0_isClosed_0 5 rfl rfl)
theorem dX0_isClosed_6 : decode cX0_isClosed 6 = .ok (.aload_n 0, 1) := dk_42 (dk_at dksX0_isClosed_0 6 rfl rfl)
theorem dX0_isClosed_7 : decode cX0_isClosed 7 = .ok (.getfield 236, 3) := dk_180 0 236 (dk_at dksX0_isClosed_0 7 rfl rfl)
theorem dX0_isClosed_10 : decode cX0_isClosed 10 = .ok (.invokespecial 239, 3) := dk_183 0 239 (dk_at dksX0_isClosed_0 10 rfl rfl)
theorem dX0_isClosed_13 : decode cX0_isClosed 13 = .ok (.astore_n 2, 1) := dk_77 (dk_at dksX0_isClosed_0 13 rfl rfl)
theorem dX0_isClosed_14 : decode cX0_isClosed 14 = .ok (.aload_n 0, 1) := dk_42 (dk_at dksX0_isClosed_0 14 rfl rfl)
theorem dX0_isClosed_15 : decode cX0_isClosed 15 = .ok (.getfield 242, 3) := dk_180 0 242 (dk_at dksX0_isClosed_0 15 rfl rfl)
theorem dX0_isClosed_18 : decode cX0_isClosed 18 = .ok (.istore_n 3, 1) := dk_62 (dk_at dksX0_isClosed_0 18 rfl rfl)
theorem dX0_isClosed_19 : decode cX0_isClosed 19 = .ok (.aload_n 2, 1) := dk_44 (dk_at dksX0_isClosed_0 19 rfl rfl)
theorem dX0_isClosed_20 : decode cX0_isClosed 20 = .ok (.invokevirtual 243, 3) := dk_182 0 243 (dk_at dksX0_isClosed_0 20 rfl rfl)
theorem dX0_isClosed_23 : decode cX0_isClosed 23 = .ok (.ifCond .ne 58, 3) := dk_154 0 58 (dk_at dksX0_isClosed_1 0 rfl rfl)
theorem dX0_isClosed_26 : decode cX0_isClosed 26 = .ok (.iload_n 1, 1) := dk_27 (dk_at dksX0_isClosed_1 3 rfl rfl)
theorem dX0_isClosed_27 : decode cX0_isClosed 27 = .ok (.ifCond .eq 54, 3) := dk_153 0 54 (dk_at dksX0_isClosed_1 4 rfl rfl)
theorem dX0_isClosed_30 : decode cX0_isClosed 30 = .ok (.aload_n 2, 1) := dk_44 (dk_at dksX0_isClosed_1 7 rfl rfl)
theorem dX0_isClosed_31 : decode cX0_isClosed 31 = .ok (.invokedynamic 247, 5) := by decide +kernel
theorem dX0_isClosed_36 : decode cX0_isClosed 36 = .ok (.invokestatic 250, 3) := dk_184 0 250 (dk_at dksX0_isClosed_1 13 rfl rfl)
theorem dX0_isClosed_39 : decode cX0_isClosed 39 = .ok (.checkcast 132, 3) := dk_192 0 132 (dk_at dksX0_isClosed_1 16 rfl rfl)
theorem dX0_isClosed_42 : decode cX0_isClosed 42 = .ok (.astore 4, 2) := dk_58 4 (dk_at dksX0_isClosed_1 19 rfl rfl)
theorem dX0_isClosed_44 : decode cX0_isClosed 44 = .ok (.aload_n 2, 1) := dk_44 (dk_at dksX0_isClosed_1 21 rfl rfl)
theorem dX0_isClosed_45 : decode cX0_isClosed 45 = .ok (.aload 4, 2) := dk_25 4 (dk_at dksX0_isClosed_1 22 rfl rfl)
theorem dX0_isClosed_47 : decode cX0_isClosed 47 = .ok (.invokevirtual 253, 3) := dk_182 0 253 (dk_at dksX0_isClosed_2 0 rfl rfl)
theorem dX0_isClosed_50 : decode cX0_isClosed 50 = .ok (.pop, 1) := dk_87 (dk_at dksX0_isClosed_2 3 rfl rfl)
theorem dX0_isClosed_51 : decode cX0_isClosed 51 = .ok (.aload 4, 2) := dk_25 4 (dk_at dksX0_isClosed_2 4 rfl rfl)
theorem dX0_isClosed_53 : decode cX0_isClosed 53 = .ok (.getfield 137, 3) := dk_180 0 137 (dk_at dksX0_isClosed_2 6 rfl rfl)
theorem dX0_isClosed_56 : decode cX0_isClosed 56 = .ok (.getfield 130, 3) := dk_180 0 130 (dk_at dksX0_isClosed_2 9 rfl rfl)
theorem dX0_isClosed_59 : decode cX0_isClosed 59 = .ok (.iload_n 3, 1) := dk_29 (dk_at dksX0_isClosed_2 12 rfl rfl)
theorem dX0_isClosed_60 : decode cX0_isClosed 60 = .ok (.if_icmp .ne 7, 3) := dk_160 0 7 (dk_at dksX0_isClosed_2 13 rfl rfl)
theorem dX0_isClosed_63 : decode cX0_isClosed 63 = .ok (.iconst 1, 1) := dk_4 (dk_at dksX0_isClosed_2 16 rfl rfl)
theorem dX0_isClosed_64 : decode cX0_isClosed 64 = .ok (.goto 4, 3) := dk_167 0 4 (dk_at dksX0_isClosed_2 17 rfl rfl)
theorem dX0_isClosed_67 : decode cX0_isClosed 67 = .ok (.iconst 0, 1) := dk_3 (dk_at dksX0_isClosed_2 20 rfl rfl)
theorem dX0_isClosed_68 : decode cX0_isClosed 68 = .ok (.istore_n 1, 1) := dk_60 (dk_at dksX0_isClosed_2 21 rfl rfl)
theorem dX0_isClosed_69 : decode cX0_isClosed 69 = .ok (.aload 4, 2) := dk_25 4 (dk_at dksX0_isClosed_2 22 rfl rfl)
theorem dX0_isClosed_71 : decode cX0_isClosed 71 = .ok (.getfield 141, 3) := dk_180 0 141 (dk_at dksX0_isClosed_3 0 rfl rfl)
theorem dX0_isClosed_74 : decode cX0_isClosed 74 = .ok (.getfield 130, 3) := dk_180 0 130 (dk_at dksX0_isClosed_3 3 rfl rfl)
theorem dX0_isClosed_77 : decode cX0_isClosed 77 = .ok (.istore_n 3, 1) := dk_62 (dk_at dksX0_isClosed_3 6 rfl rfl)
theorem dX0_isClosed_78 : decode cX0_isClosed 78 = .ok (.goto (-59), 3) := dk_167 255 197 (dk_at dksX0_isClosed_3 7 rfl rfl)
theorem dX0_isClosed_81 : decode cX0_isClosed 81 = .ok (.iload_n 1, 1) := dk_27 (dk_at dksX0_isClosed_3 10 rfl rfl)
theorem dX0_isClosed_82 : decode cX0_isClosed 82 = .ok (.ireturn, 1) := dk_172 (dk_at dksX0_isClosed_3 11 rfl rfl)
abbrev cX0_lambda_isClosed_0 : ByteArray := prog_1_method_42_code
def yX0_lambda_isClosed_0 : MethodName := ⟨RX0, "lambda$isClosed$0", "(LDimensionLines$Dimension;)I"⟩
def dkwX0_lambda_isClosed_0_0 : List UInt8 := [42, 180, 0, 137, 180, 0, 130, 172]
abbrev dktX0_lambda_isClosed_0_0 : List UInt8 := dkwX0_lambda_isClosed_0_0 ++ []
theorem dksX0_lambda_isClosed_0_0 : cX0_lambda_isClosed_0.data.toList.drop 0 = dktX0_lambda_isClosed_0_0 := by decide +kernel
theorem dX0_lambda_isClosed_0_0 : decode cX0_lambda_isClosed_0 0 = .ok (.aload_n 0, 1) := dk_42 (dk_at dksX0_lambda_isClosed_0_0 0 rfl rfl)
theorem dX0_lambda_isClosed_0_1 : decode cX0_lambda_isClosed_0 1 = .ok (.getfield 137, 3) := dk_180 0 137 (dk_at dksX0_lambda_isClosed_0_0 1 rfl rfl)
theorem dX0_lambda_isClosed_0_4 : decode cX0_lambda_isClosed_0 4 = .ok (.getfield 130, 3) := dk_180 0 130 (dk_at dksX0_lambda_isClosed_0_0 4 rfl rfl)
theorem dX0_lambda_isClosed_0_7 : decode cX0_lambda_isClosed_0 7 = .ok (.ireturn, 1) := dk_172 (dk_at dksX0_lambda_isClosed_0_0 7 rfl rfl)
abbrev cX0_lambda_chain_1 : ByteArray := prog_1_method_41_code
def yX0_lambda_chain_1 : MethodName := ⟨RX0, "lambda$chain$1", "(LDimensionLines$Dimension;)I"⟩
theorem dX0_lambda_chain_1_0 : decode cX0_lambda_chain_1 0 = .ok (.aload_n 0, 1) := by decide +kernel
theorem dX0_lambda_chain_1_1 : decode cX0_lambda_chain_1 1 = .ok (.invokevirtual 134, 3) := by decide +kernel
theorem dX0_lambda_chain_1_4 : decode cX0_lambda_chain_1 4 = .ok (.ireturn, 1) := by decide +kernel
abbrev cX0_sum : ByteArray := prog_1_method_31_code
def yX0_sum : MethodName := ⟨RX0, "sum", "(LDimensionLines$Unit;LDimensionLines$Rank;)I"⟩
def dkwX0_sum_1 : List UInt8 := [182, 0, 131, 185, 0, 11, 2, 0, 96, 61, 132, 3, 1, 167, 255, 225, 28, 172]
abbrev dktX0_sum_1 : List UInt8 := dkwX0_sum_1 ++ []
def dkwX0_sum_0 : List UInt8 := [3, 61, 3, 62, 29, 42, 180, 0, 236, 182, 0, 62, 162, 0, 26, 28, 43, 42, 180, 0, 236, 29]
abbrev dktX0_sum_0 : List UInt8 := dkwX0_sum_0 ++ dktX0_sum_1
theorem dksX0_sum_0 : cX0_sum.data.toList.drop 0 = dktX0_sum_0 := by decide +kernel
theorem dksX0_sum_1 : cX0_sum.data.toList.drop 22 = dktX0_sum_1 := dk_seg dksX0_sum_0 22 rfl rfl
theorem dX0_sum_0 : decode cX0_sum 0 = .ok (.iconst 0, 1) := dk_3 (dk_at dksX0_sum_0 0 rfl rfl)
theorem dX0_sum_1 : decode cX0_sum 1 = .ok (.istore_n 2, 1) := dk_61 (dk_at dksX0_sum_0 1 rfl rfl)
theorem dX0_sum_2 : decode cX0_sum 2 = .ok (.iconst 0, 1) := dk_3 (dk_at dksX0_sum_0 2 rfl rfl)
theorem dX0_sum_3 : decode cX0_sum 3 = .ok (.istore_n 3, 1) := dk_62 (dk_at dksX0_sum_0 3 rfl rfl)
theorem dX0_sum_4 : decode cX0_sum 4 = .ok (.iload_n 3, 1) := dk_29 (dk_at dksX0_sum_0 4 rfl rfl)
theorem dX0_sum_5 : decode cX0_sum 5 = .ok (.aload_n 0, 1) := dk_42 (dk_at dksX0_sum_0 5 rfl rfl)
theorem dX0_sum_6 : decode cX0_sum 6 = .ok (.getfield 236, 3) := dk_180 0 236 (dk_at dksX0_sum_0 6 rfl rfl)
theorem dX0_sum_9 : decode cX0_sum 9 = .ok (.invokevirtual 62, 3) := dk_182 0 62 (dk_at dksX0_sum_0 9 rfl rfl)
theorem dX0_sum_12 : decode cX0_sum 12 = .ok (.if_icmp .ge 26, 3) := dk_162 0 26 (dk_at dksX0_sum_0 12 rfl rfl)
theorem dX0_sum_15 : decode cX0_sum 15 = .ok (.iload_n 2, 1) := dk_28 (dk_at dksX0_sum_0 15 rfl rfl)
theorem dX0_sum_16 : decode cX0_sum 16 = .ok (.aload_n 1, 1) := dk_43 (dk_at dksX0_sum_0 16 rfl rfl)
theorem dX0_sum_17 : decode cX0_sum 17 = .ok (.aload_n 0, 1) := dk_42 (dk_at dksX0_sum_0 17 rfl rfl)
theorem dX0_sum_18 : decode cX0_sum 18 = .ok (.getfield 236, 3) := dk_180 0 236 (dk_at dksX0_sum_0 18 rfl rfl)
theorem dX0_sum_21 : decode cX0_sum 21 = .ok (.iload_n 3, 1) := dk_29 (dk_at dksX0_sum_0 21 rfl rfl)
theorem dX0_sum_22 : decode cX0_sum 22 = .ok (.invokevirtual 131, 3) := dk_182 0 131 (dk_at dksX0_sum_1 0 rfl rfl)
theorem dX0_sum_25 : decode cX0_sum 25 = .ok (.invokeinterface 11 2, 5) := by decide +kernel
theorem dX0_sum_30 : decode cX0_sum 30 = .ok (.iadd, 1) := dk_96 (dk_at dksX0_sum_1 8 rfl rfl)
theorem dX0_sum_31 : decode cX0_sum 31 = .ok (.istore_n 2, 1) := dk_61 (dk_at dksX0_sum_1 9 rfl rfl)
theorem dX0_sum_32 : decode cX0_sum 32 = .ok (.iinc 3 1, 3) := dk_132 3 1 (dk_at dksX0_sum_1 10 rfl rfl)
theorem dX0_sum_35 : decode cX0_sum 35 = .ok (.goto (-31), 3) := dk_167 255 225 (dk_at dksX0_sum_1 13 rfl rfl)
theorem dX0_sum_38 : decode cX0_sum 38 = .ok (.iload_n 2, 1) := dk_28 (dk_at dksX0_sum_1 16 rfl rfl)
theorem dX0_sum_39 : decode cX0_sum 39 = .ok (.ireturn, 1) := dk_172 (dk_at dksX0_sum_1 17 rfl rfl)
abbrev cX0_lambda_chain_2 : ByteArray := prog_1_method_40_code
def yX0_lambda_chain_2 : MethodName := ⟨RX0, "lambda$chain$2", "(LDimensionLines$Dimension;)I"⟩
theorem dX0_lambda_chain_2_0 : decode cX0_lambda_chain_2 0 = .ok (.aload_n 0, 1) := by decide +kernel
theorem dX0_lambda_chain_2_1 : decode cX0_lambda_chain_2 1 = .ok (.getfield 170, 3) := by decide +kernel
theorem dX0_lambda_chain_2_4 : decode cX0_lambda_chain_2 4 = .ok (.ireturn, 1) := by decide +kernel
abbrev cX0_lambda_chain_3 : ByteArray := prog_1_method_39_code
def yX0_lambda_chain_3 : MethodName := ⟨RX0, "lambda$chain$3", "(LDimensionLines$Dimension;)I"⟩
theorem dX0_lambda_chain_3_0 : decode cX0_lambda_chain_3 0 = .ok (.aload_n 0, 1) := by decide +kernel
theorem dX0_lambda_chain_3_1 : decode cX0_lambda_chain_3 1 = .ok (.getfield 173, 3) := by decide +kernel
theorem dX0_lambda_chain_3_4 : decode cX0_lambda_chain_3 4 = .ok (.ireturn, 1) := by decide +kernel
abbrev cX0_ifArrow : ByteArray := prog_1_method_33_code
def yX0_ifArrow : MethodName := ⟨RX0, "ifArrow", "(I)I"⟩
def dkwX0_ifArrow_1 : List UInt8 := [181, 0, 100, 44, 182, 0, 215, 172]
abbrev dktX0_ifArrow_1 : List UInt8 := dkwX0_ifArrow_1 ++ []
def dkwX0_ifArrow_0 : List UInt8 := [27, 4, 16, 9, 184, 0, 65, 154, 0, 5, 2, 172, 42, 180, 0, 26, 182, 0, 50, 77, 44, 27]
abbrev dktX0_ifArrow_0 : List UInt8 := dkwX0_ifArrow_0 ++ dktX0_ifArrow_1
theorem dksX0_ifArrow_0 : cX0_ifArrow.data.toList.drop 0 = dktX0_ifArrow_0 := by decide +kernel
theorem dksX0_ifArrow_1 : cX0_ifArrow.data.toList.drop 22 = dktX0_ifArrow_1 := dk_seg dksX0_ifArrow_0 22 rfl rfl
theorem dX0_ifArrow_0 : decode cX0_ifArrow 0 = .ok (.iload_n 1, 1) := dk_27 (dk_at dksX0_ifArrow_0 0 rfl rfl)
theorem dX0_ifArrow_1 : decode cX0_ifArrow 1 = .ok (.iconst 1, 1) := dk_4 (dk_at dksX0_ifArrow_0 1 rfl rfl)
theorem dX0_ifArrow_2 : decode cX0_ifArrow 2 = .ok (.bipush 9, 2) := dk_16 9 (dk_at dksX0_ifArrow_0 2 rfl rfl)
theorem dX0_ifArrow_4 : decode cX0_ifArrow 4 = .ok (.invokestatic 65, 3) := dk_184 0 65 (dk_at dksX0_ifArrow_0 4 rfl rfl)
theorem dX0_ifArrow_7 : decode cX0_ifArrow 7 = .ok (.ifCond .ne 5, 3) := dk_154 0 5 (dk_at dksX0_ifArrow_0 7 rfl rfl)
theorem dX0_ifArrow_10 : decode cX0_ifArrow 10 = .ok (.iconst (-1), 1) := dk_2 (dk_at dksX0_ifArrow_0 10 rfl rfl)
theorem dX0_ifArrow_11 : decode cX0_ifArrow 11 = .ok (.ireturn, 1) := dk_172 (dk_at dksX0_ifArrow_0 11 rfl rfl)
theorem dX0_ifArrow_12 : decode cX0_ifArrow 12 = .ok (.aload_n 0, 1) := dk_42 (dk_at dksX0_ifArrow_0 12 rfl rfl)
theorem dX0_ifArrow_13 : decode cX0_ifArrow 13 = .ok (.getfield 26, 3) := dk_180 0 26 (dk_at dksX0_ifArrow_0 13 rfl rfl)
theorem dX0_ifArrow_16 : decode cX0_ifArrow 16 = .ok (.invokevirtual 50, 3) := dk_182 0 50 (dk_at dksX0_ifArrow_0 16 rfl rfl)
theorem dX0_ifArrow_19 : decode cX0_ifArrow 19 = .ok (.astore_n 2, 1) := dk_77 (dk_at dksX0_ifArrow_0 19 rfl rfl)
theorem dX0_ifArrow_20 : decode cX0_ifArrow 20 = .ok (.aload_n 2, 1) := dk_44 (dk_at dksX0_ifArrow_0 20 rfl rfl)
theorem dX0_ifArrow_21 : decode cX0_ifArrow 21 = .ok (.iload_n 1, 1) := dk_27 (dk_at dksX0_ifArrow_0 21 rfl rfl)
theorem dX0_ifArrow_22 : decode cX0_ifArrow 22 = .ok (.putfield 100, 3) := dk_181 0 100 (dk_at dksX0_ifArrow_1 0 rfl rfl)
theorem dX0_ifArrow_25 : decode cX0_ifArrow 25 = .ok (.aload_n 2, 1) := dk_44 (dk_at dksX0_ifArrow_1 3 rfl rfl)
theorem dX0_ifArrow_26 : decode cX0_ifArrow 26 = .ok (.invokevirtual 215, 3) := dk_182 0 215 (dk_at dksX0_ifArrow_1 4 rfl rfl)
theorem dX0_ifArrow_29 : decode cX0_ifArrow 29 = .ok (.ireturn, 1) := dk_172 (dk_at dksX0_ifArrow_1 7 rfl rfl)
abbrev cX0_undo : ByteArray := prog_1_method_34_code
def yX0_undo : MethodName := ⟨RX0, "undo", "()I"⟩
def dkwX0_undo_2 : List UInt8 := [180, 0, 40, 172]
abbrev dktX0_undo_2 : List UInt8 := dkwX0_undo_2 ++ []
def dkwX0_undo_1 : List UInt8 := [180, 0, 32, 42, 180, 0, 40, 50, 181, 0, 26, 42, 180, 0, 32, 42, 180, 0, 40, 1, 83, 42]
abbrev dktX0_undo_1 : List UInt8 := dkwX0_undo_1 ++ dktX0_undo_2
def dkwX0_undo_0 : List UInt8 := [42, 180, 0, 40, 154, 0, 6, 16, 254, 172, 42, 89, 180, 0, 40, 4, 100, 181, 0, 40, 42, 42]
abbrev dktX0_undo_0 : List UInt8 := dkwX0_undo_0 ++ dktX0_undo_1
theorem dksX0_undo_0 : cX0_undo.data.toList.drop 0 = dktX0_undo_0 := by decide +kernel
theorem dksX0_undo_1 : cX0_undo.data.toList.drop 22 = dktX0_undo_1 := dk_seg dksX0_undo_0 22 rfl rfl
theorem dksX0_undo_2 : cX0_undo.data.toList.drop 44 = dktX0_undo_2 := dk_seg dksX0_undo_1 22 rfl rfl
theorem dX0_undo_0 : decode cX0_undo 0 = .ok (.aload_n 0, 1) := dk_42 (dk_at dksX0_undo_0 0 rfl rfl)
theorem dX0_undo_1 : decode cX0_undo 1 = .ok (.getfield 40, 3) := dk_180 0 40 (dk_at dksX0_undo_0 1 rfl rfl)
theorem dX0_undo_4 : decode cX0_undo 4 = .ok (.ifCond .ne 6, 3) := dk_154 0 6 (dk_at dksX0_undo_0 4 rfl rfl)
theorem dX0_undo_7 : decode cX0_undo 7 = .ok (.bipush (-2), 2) := dk_16 254 (dk_at dksX0_undo_0 7 rfl rfl)
theorem dX0_undo_9 : decode cX0_undo 9 = .ok (.ireturn, 1) := dk_172 (dk_at dksX0_undo_0 9 rfl rfl)
theorem dX0_undo_10 : decode cX0_undo 10 = .ok (.aload_n 0, 1) := dk_42 (dk_at dksX0_undo_0 10 rfl rfl)
theorem dX0_undo_11 : decode cX0_undo 11 = .ok (.dup, 1) := dk_89 (dk_at dksX0_undo_0 11 rfl rfl)
theorem dX0_undo_12 : decode cX0_undo 12 = .ok (.getfield 40, 3) := dk_180 0 40 (dk_at dksX0_undo_0 12 rfl rfl)
theorem dX0_undo_15 : decode cX0_undo 15 = .ok (.iconst 1, 1) := dk_4 (dk_at dksX0_undo_0 15 rfl rfl)
theorem dX0_undo_16 : decode cX0_undo 16 = .ok (.isub, 1) := dk_100 (dk_at dksX0_undo_0 16 rfl rfl)
theorem dX0_undo_17 : decode cX0_undo 17 = .ok (.putfield 40, 3) := dk_181 0 40 (dk_at dksX0_undo_0 17 rfl rfl)
theorem dX0_undo_20 : decode cX0_undo 20 = .ok (.aload_n 0, 1) := dk_42 (dk_at dksX0_undo_0 20 rfl rfl)
theorem dX0_undo_21 : decode cX0_undo 21 = .ok (.aload_n 0, 1) := dk_42 (dk_at dksX0_undo_0 21 rfl rfl)
theorem dX0_undo_22 : decode cX0_undo 22 = .ok (.getfield 32, 3) := dk_180 0 32 (dk_at dksX0_undo_1 0 rfl rfl)
theorem dX0_undo_25 : decode cX0_undo 25 = .ok (.aload_n 0, 1) := dk_42 (dk_at dksX0_undo_1 3 rfl rfl)
theorem dX0_undo_26 : decode cX0_undo 26 = .ok (.getfield 40, 3) := dk_180 0 40 (dk_at dksX0_undo_1 4 rfl rfl)
theorem dX0_undo_29 : decode cX0_undo 29 = .ok (.aaload, 1) := dk_50 (dk_at dksX0_undo_1 7 rfl rfl)
theorem dX0_undo_30 : decode cX0_undo 30 = .ok (.putfield 26, 3) := dk_181 0 26 (dk_at dksX0_undo_1 8 rfl rfl)
theorem dX0_undo_33 : decode cX0_undo 33 = .ok (.aload_n 0, 1) := dk_42 (dk_at dksX0_undo_1 11 rfl rfl)
theorem dX0_undo_34 : decode cX0_undo 34 = .ok (.getfield 32, 3) := dk_180 0 32 (dk_at dksX0_undo_1 12 rfl rfl)
theorem dX0_undo_37 : decode cX0_undo 37 = .ok (.aload_n 0, 1) := dk_42 (dk_at dksX0_undo_1 15 rfl rfl)
theorem dX0_undo_38 : decode cX0_undo 38 = .ok (.getfield 40, 3) := dk_180 0 40 (dk_at dksX0_undo_1 16 rfl rfl)
theorem dX0_undo_41 : decode cX0_undo 41 = .ok (.aconst_null, 1) := dk_1 (dk_at dksX0_undo_1 19 rfl rfl)
theorem dX0_undo_42 : decode cX0_undo 42 = .ok (.aastore, 1) := dk_83 (dk_at dksX0_undo_1 20 rfl rfl)
theorem dX0_undo_43 : decode cX0_undo 43 = .ok (.aload_n 0, 1) := dk_42 (dk_at dksX0_undo_1 21 rfl rfl)
theorem dX0_undo_44 : decode cX0_undo 44 = .ok (.getfield 40, 3) := dk_180 0 40 (dk_at dksX0_undo_2 0 rfl rfl)
theorem dX0_undo_47 : decode cX0_undo 47 = .ok (.ireturn, 1) := dk_172 (dk_at dksX0_undo_2 3 rfl rfl)
abbrev cX0_count : ByteArray := prog_1_method_35_code
def yX0_count : MethodName := ⟨RX0, "count", "(I)I"⟩
def dkwX0_count_5 : List UInt8 := [180, 0, 97, 172, 42, 180, 0, 26, 180, 0, 100, 172, 42, 180, 0, 76, 172, 42, 180, 0, 40, 172, 2, 172]
abbrev dktX0_count_5 : List UInt8 := dkwX0_count_5 ++ []
def dkwX0_count_4 : List UInt8 := [182, 1, 18, 172, 42, 180, 0, 26, 182, 1, 21, 172, 42, 180, 0, 26, 182, 1, 24, 172, 42, 180, 0, 26]
abbrev dktX0_count_4 : List UInt8 := dkwX0_count_4 ++ dktX0_count_5
def dkwX0_count_3 : List UInt8 := [180, 0, 26, 182, 0, 191, 182, 0, 62, 172, 42, 180, 0, 26, 182, 0, 215, 172, 42, 180, 0, 26]
abbrev dktX0_count_3 : List UInt8 := dkwX0_count_3 ++ dktX0_count_4
def dkwX0_count_2 : List UInt8 := [42, 180, 0, 26, 180, 0, 58, 182, 0, 62, 172, 42, 180, 0, 26, 180, 0, 69, 182, 0, 62, 172, 42]
abbrev dktX0_count_2 : List UInt8 := dkwX0_count_2 ++ dktX0_count_3
def dkwX0_count_1 : List UInt8 := [170, 0, 0, 0, 0, 0, 150, 0, 0, 0, 0, 0, 0, 0, 10, 0, 0, 0, 59, 0, 0, 0, 70, 0, 0, 0, 81, 0, 0, 0, 92, 0, 0, 0, 100, 0, 0, 0, 108, 0, 0, 0, 116, 0, 0, 0, 124, 0, 0, 0, 132, 0, 0, 0, 140, 0, 0, 0, 145]
abbrev dktX0_count_1 : List UInt8 := dkwX0_count_1 ++ dktX0_count_2
def dkwX0_count_0 : List UInt8 := [27]
abbrev dktX0_count_0 : List UInt8 := dkwX0_count_0 ++ dktX0_count_1
theorem dksX0_count_0 : cX0_count.data.toList.drop 0 = dktX0_count_0 := by decide +kernel
theorem dksX0_count_1 : cX0_count.data.toList.drop 1 = dktX0_count_1 := dk_seg dksX0_count_0 1 rfl rfl
theorem dksX0_count_2 : cX0_count.data.toList.drop 60 = dktX0_count_2 := dk_seg dksX0_count_1 59 rfl rfl
theorem dksX0_count_3 : cX0_count.data.toList.drop 83 = dktX0_count_3 := dk_seg dksX0_count_2 23 rfl rfl
theorem dksX0_count_4 : cX0_count.data.toList.drop 105 = dktX0_count_4 := dk_seg dksX0_count_3 22 rfl rfl
theorem dksX0_count_5 : cX0_count.data.toList.drop 129 = dktX0_count_5 := dk_seg dksX0_count_4 24 rfl rfl
theorem dX0_count_0 : decode cX0_count 0 = .ok (.iload_n 1, 1) := dk_27 (dk_at dksX0_count_0 0 rfl rfl)
theorem dX0_count_1 : decode cX0_count 1 = .ok (.tableswitch 150 0 10 #[59, 70, 81, 92, 100, 108, 116, 124, 132, 140, 145], 59) := by decide +kernel
theorem dX0_count_60 : decode cX0_count 60 = .ok (.aload_n 0, 1) := dk_42 (dk_at dksX0_count_2 0 rfl rfl)
theorem dX0_count_61 : decode cX0_count 61 = .ok (.getfield 26, 3) := dk_180 0 26 (dk_at dksX0_count_2 1 rfl rfl)
theorem dX0_count_64 : decode cX0_count 64 = .ok (.getfield 58, 3) := dk_180 0 58 (dk_at dksX0_count_2 4 rfl rfl)
theorem dX0_count_67 : decode cX0_count 67 = .ok (.invokevirtual 62, 3) := dk_182 0 62 (dk_at dksX0_count_2 7 rfl rfl)
theorem dX0_count_70 : decode cX0_count 70 = .ok (.ireturn, 1) := dk_172 (dk_at dksX0_count_2 10 rfl rfl)
theorem dX0_count_71 : decode cX0_count 71 = .ok (.aload_n 0, 1) := dk_42 (dk_at dksX0_count_2 11 rfl rfl)
theorem dX0_count_72 : decode cX0_count 72 = .ok (.getfield 26, 3) := dk_180 0 26 (dk_at dksX0_count_2 12 rfl rfl)
theorem dX0_count_75 : decode cX0_count 75 = .ok (.getfield 69, 3) := dk_180 0 69 (dk_at dksX0_count_2 15 rfl rfl)
theorem dX0_count_78 : decode cX0_count 78 = .ok (.invokevirtual 62, 3) := dk_182 0 62 (dk_at dksX0_count_2 18 rfl rfl)
theorem dX0_count_81 : decode cX0_count 81 = .ok (.ireturn, 1) := dk_172 (dk_at dksX0_count_2 21 rfl rfl)
theorem dX0_count_82 : decode cX0_count 82 = .ok (.aload_n 0, 1) := dk_42 (dk_at dksX0_count_2 22 rfl rfl)
theorem dX0_count_83 : decode cX0_count 83 = .ok (.getfield 26, 3) := dk_180 0 26 (dk_at dksX0_count_3 0 rfl rfl)
theorem dX0_count_86 : decode cX0_count 86 = .ok (.invokevirtual 191, 3) := dk_182 0 191 (dk_at dksX0_count_3 3 rfl rfl)
theorem dX0_count_89 : decode cX0_count 89 = .ok (.invokevirtual 62, 3) := dk_182 0 62 (dk_at dksX0_count_3 6 rfl rfl)
theorem dX0_count_92 : decode cX0_count 92 = .ok (.ireturn, 1) := dk_172 (dk_at dksX0_count_3 9 rfl rfl)
theorem dX0_count_93 : decode cX0_count 93 = .ok (.aload_n 0, 1) := dk_42 (dk_at dksX0_count_3 10 rfl rfl)
theorem dX0_count_94 : decode cX0_count 94 = .ok (.getfield 26, 3) := dk_180 0 26 (dk_at dksX0_count_3 11 rfl rfl)
theorem dX0_count_97 : decode cX0_count 97 = .ok (.invokevirtual 215, 3) := dk_182 0 215 (dk_at dksX0_count_3 14 rfl rfl)
theorem dX0_count_100 : decode cX0_count 100 = .ok (.ireturn, 1) := dk_172 (dk_at dksX0_count_3 17 rfl rfl)
theorem dX0_count_101 : decode cX0_count 101 = .ok (.aload_n 0, 1) := dk_42 (dk_at dksX0_count_3 18 rfl rfl)
theorem dX0_count_102 : decode cX0_count 102 = .ok (.getfield 26, 3) := dk_180 0 26 (dk_at dksX0_count_3 19 rfl rfl)
theorem dX0_count_105 : decode cX0_count 105 = .ok (.invokevirtual 274, 3) := dk_182 1 18 (dk_at dksX0_count_4 0 rfl rfl)
theorem dX0_count_108 : decode cX0_count 108 = .ok (.ireturn, 1) := dk_172 (dk_at dksX0_count_4 3 rfl rfl)
theorem dX0_count_109 : decode cX0_count 109 = .ok (.aload_n 0, 1) := dk_42 (dk_at dksX0_count_4 4 rfl rfl)
theorem dX0_count_110 : decode cX0_count 110 = .ok (.getfield 26, 3) := dk_180 0 26 (dk_at dksX0_count_4 5 rfl rfl)
theorem dX0_count_113 : decode cX0_count 113 = .ok (.invokevirtual 277, 3) := dk_182 1 21 (dk_at dksX0_count_4 8 rfl rfl)
theorem dX0_count_116 : decode cX0_count 116 = .ok (.ireturn, 1) := dk_172 (dk_at dksX0_count_4 11 rfl rfl)
theorem dX0_count_117 : decode cX0_count 117 = .ok (.aload_n 0, 1) := dk_42 (dk_at dksX0_count_4 12 rfl rfl)
theorem dX0_count_118 : decode cX0_count 118 = .ok (.getfield 26, 3) := dk_180 0 26 (dk_at dksX0_count_4 13 rfl rfl)
theorem dX0_count_121 : decode cX0_count 121 = .ok (.invokevirtual 280, 3) := dk_182 1 24 (dk_at dksX0_count_4 16 rfl rfl)
theorem dX0_count_124 : decode cX0_count 124 = .ok (.ireturn, 1) := dk_172 (dk_at dksX0_count_4 19 rfl rfl)
theorem dX0_count_125 : decode cX0_count 125 = .ok (.aload_n 0, 1) := dk_42 (dk_at dksX0_count_4 20 rfl rfl)
theorem dX0_count_126 : decode cX0_count 126 = .ok (.getfield 26, 3) := dk_180 0 26 (dk_at dksX0_count_4 21 rfl rfl)
theorem dX0_count_129 : decode cX0_count 129 = .ok (.getfield 97, 3) := dk_180 0 97 (dk_at dksX0_count_5 0 rfl rfl)
theorem dX0_count_132 : decode cX0_count 132 = .ok (.ireturn, 1) := dk_172 (dk_at dksX0_count_5 3 rfl rfl)
theorem dX0_count_133 : decode cX0_count 133 = .ok (.aload_n 0, 1) := dk_42 (dk_at dksX0_count_5 4 rfl rfl)
theorem dX0_count_134 : decode cX0_count 134 = .ok (.getfield 26, 3) := dk_180 0 26 (dk_at dksX0_count_5 5 rfl rfl)
theorem dX0_count_137 : decode cX0_count 137 = .ok (.getfield 100, 3) := dk_180 0 100 (dk_at dksX0_count_5 8 rfl rfl)
theorem dX0_count_140 : decode cX0_count 140 = .ok (.ireturn, 1) := dk_172 (dk_at dksX0_count_5 11 rfl rfl)
theorem dX0_count_141 : decode cX0_count 141 = .ok (.aload_n 0, 1) := dk_42 (dk_at dksX0_count_5 12 rfl rfl)
theorem dX0_count_142 : decode cX0_count 142 = .ok (.getfield 76, 3) := dk_180 0 76 (dk_at dksX0_count_5 13 rfl rfl)
theorem dX0_count_145 : decode cX0_count 145 = .ok (.ireturn, 1) := dk_172 (dk_at dksX0_count_5 16 rfl rfl)
theorem dX0_count_146 : decode cX0_count 146 = .ok (.aload_n 0, 1) := dk_42 (dk_at dksX0_count_5 17 rfl rfl)
theorem dX0_count_147 : decode cX0_count 147 = .ok (.getfield 40, 3) := dk_180 0 40 (dk_at dksX0_count_5 18 rfl rfl)
theorem dX0_count_150 : decode cX0_count 150 = .ok (.ireturn, 1) := dk_172 (dk_at dksX0_count_5 21 rfl rfl)
theorem dX0_count_151 : decode cX0_count 151 = .ok (.iconst (-1), 1) := dk_2 (dk_at dksX0_count_5 22 rfl rfl)
theorem dX0_count_152 : decode cX0_count 152 = .ok (.ireturn, 1) := dk_172 (dk_at dksX0_count_5 23 rfl rfl)
abbrev cX0_digest : ByteArray := prog_1_method_38_code
def yX0_digest : MethodName := ⟨RX0, "digest", "()J"⟩
def dkwX0_digest_9 : List UInt8 := [184, 1, 33, 173]
abbrev dktX0_digest_9 : List UInt8 := dkwX0_digest_9 ++ []
def dkwX0_digest_8 : List UInt8 := [184, 1, 33, 64, 132, 4, 1, 167, 255, 233, 132, 3, 1, 167, 255, 219, 31, 42, 182, 1, 57, 133]
abbrev dktX0_digest_8 : List UInt8 := dkwX0_digest_8 ++ dktX0_digest_9
def dkwX0_digest_7 : List UInt8 := [29, 8, 163, 0, 38, 3, 54, 4, 21, 4, 16, 8, 163, 0, 22, 31, 42, 29, 21, 4, 182, 1, 55, 133]
abbrev dktX0_digest_7 : List UInt8 := dkwX0_digest_7 ++ dktX0_digest_8
def dkwX0_digest_6 : List UInt8 := [180, 0, 58, 182, 0, 62, 162, 0, 16, 42, 31, 29, 182, 1, 51, 64, 132, 3, 1, 167, 255, 232, 4, 62]
abbrev dktX0_digest_6 : List UInt8 := dkwX0_digest_6 ++ dktX0_digest_7
def dkwX0_digest_5 : List UInt8 := [184, 1, 33, 64, 132, 4, 1, 167, 255, 233, 132, 3, 1, 167, 255, 210, 3, 62, 29, 42, 180, 0, 26]
abbrev dktX0_digest_5 : List UInt8 := dkwX0_digest_5 ++ dktX0_digest_6
def dkwX0_digest_4 : List UInt8 := [162, 0, 38, 3, 54, 4, 21, 4, 16, 12, 163, 0, 22, 31, 42, 29, 21, 4, 182, 1, 48, 133]
abbrev dktX0_digest_4 : List UInt8 := dkwX0_digest_4 ++ dktX0_digest_5
def dkwX0_digest_3 : List UInt8 := [167, 255, 234, 132, 3, 1, 167, 255, 211, 3, 62, 29, 42, 180, 0, 26, 180, 0, 69, 182, 0, 62]
abbrev dktX0_digest_3 : List UInt8 := dkwX0_digest_3 ++ dktX0_digest_4
def dkwX0_digest_2 : List UInt8 := [54, 4, 21, 4, 7, 163, 0, 22, 31, 42, 29, 21, 4, 182, 1, 45, 133, 184, 1, 33, 64, 132, 4, 1]
abbrev dktX0_digest_2 : List UInt8 := dkwX0_digest_2 ++ dktX0_digest_3
def dkwX0_digest_1 : List UInt8 := [132, 3, 1, 167, 255, 236, 3, 62, 29, 42, 180, 0, 26, 180, 0, 58, 182, 0, 62, 162, 0, 37, 3]
abbrev dktX0_digest_1 : List UInt8 := dkwX0_digest_1 ++ dktX0_digest_2
def dkwX0_digest_0 : List UInt8 := [20, 1, 40, 64, 3, 62, 29, 16, 10, 163, 0, 20, 31, 42, 29, 182, 1, 42, 133, 184, 1, 33, 64]
abbrev dktX0_digest_0 : List UInt8 := dkwX0_digest_0 ++ dktX0_digest_1
theorem dksX0_digest_0 : cX0_digest.data.toList.drop 0 = dktX0_digest_0 := by decide +kernel
theorem dksX0_digest_1 : cX0_digest.data.toList.drop 23 = dktX0_digest_1 := dk_seg dksX0_digest_0 23 rfl rfl
theorem dksX0_digest_2 : cX0_digest.data.toList.drop 46 = dktX0_digest_2 := dk_seg dksX0_digest_1 23 rfl rfl
theorem dksX0_digest_3 : cX0_digest.data.toList.drop 70 = dktX0_digest_3 := dk_seg dksX0_digest_2 24 rfl rfl
theorem dksX0_digest_4 : cX0_digest.data.toList.drop 92 = dktX0_digest_4 := dk_seg dksX0_digest_3 22 rfl rfl
theorem dksX0_digest_5 : cX0_digest.data.toList.drop 114 = dktX0_digest_5 := dk_seg dksX0_digest_4 22 rfl rfl
theorem dksX0_digest_6 : cX0_digest.data.toList.drop 137 = dktX0_digest_6 := dk_seg dksX0_digest_5 23 rfl rfl
theorem dksX0_digest_7 : cX0_digest.data.toList.drop 161 = dktX0_digest_7 := dk_seg dksX0_digest_6 24 rfl rfl
theorem dksX0_digest_8 : cX0_digest.data.toList.drop 185 = dktX0_digest_8 := dk_seg dksX0_digest_7 24 rfl rfl
theorem dksX0_digest_9 : cX0_digest.data.toList.drop 207 = dktX0_digest_9 := dk_seg dksX0_digest_8 22 rfl rfl
theorem dX0_digest_0 : decode cX0_digest 0 = .ok (.ldc2_w 296, 3) := dk_20 1 40 (dk_at dksX0_digest_0 0 rfl rfl)
theorem dX0_digest_3 : decode cX0_digest 3 = .ok (.lstore_n 1, 1) := dk_64 (dk_at dksX0_digest_0 3 rfl rfl)
theorem dX0_digest_4 : decode cX0_digest 4 = .ok (.iconst 0, 1) := dk_3 (dk_at dksX0_digest_0 4 rfl rfl)
theorem dX0_digest_5 : decode cX0_digest 5 = .ok (.istore_n 3, 1) := dk_62 (dk_at dksX0_digest_0 5 rfl rfl)
theorem dX0_digest_6 : decode cX0_digest 6 = .ok (.iload_n 3, 1) := dk_29 (dk_at dksX0_digest_0 6 rfl rfl)
theorem dX0_digest_7 : decode cX0_digest 7 = .ok (.bipush 10, 2) := dk_16 10 (dk_at dksX0_digest_0 7 rfl rfl)
theorem dX0_digest_9 : decode cX0_digest 9 = .ok (.if_icmp .gt 20, 3) := dk_163 0 20 (dk_at dksX0_digest_0 9 rfl rfl)
theorem dX0_digest_12 : decode cX0_digest 12 = .ok (.lload_n 1, 1) := dk_31 (dk_at dksX0_digest_0 12 rfl rfl)
theorem dX0_digest_13 : decode cX0_digest 13 = .ok (.aload_n 0, 1) := dk_42 (dk_at dksX0_digest_0 13 rfl rfl)
theorem dX0_digest_14 : decode cX0_digest 14 = .ok (.iload_n 3, 1) := dk_29 (dk_at dksX0_digest_0 14 rfl rfl)
theorem dX0_digest_15 : decode cX0_digest 15 = .ok (.invokevirtual 298, 3) := dk_182 1 42 (dk_at dksX0_digest_0 15 rfl rfl)
theorem dX0_digest_18 : decode cX0_digest 18 = .ok (.i2l, 1) := dk_133 (dk_at dksX0_digest_0 18 rfl rfl)
theorem dX0_digest_19 : decode cX0_digest 19 = .ok (.invokestatic 289, 3) := dk_184 1 33 (dk_at dksX0_digest_0 19 rfl rfl)
theorem dX0_digest_22 : decode cX0_digest 22 = .ok (.lstore_n 1, 1) := dk_64 (dk_at dksX0_digest_0 22 rfl rfl)
theorem dX0_digest_23 : decode cX0_digest 23 = .ok (.iinc 3 1, 3) := dk_132 3 1 (dk_at dksX0_digest_1 0 rfl rfl)
theorem dX0_digest_26 : decode cX0_digest 26 = .ok (.goto (-20), 3) := dk_167 255 236 (dk_at dksX0_digest_1 3 rfl rfl)
theorem dX0_digest_29 : decode cX0_digest 29 = .ok (.iconst 0, 1) := dk_3 (dk_at dksX0_digest_1 6 rfl rfl)
theorem dX0_digest_30 : decode cX0_digest 30 = .ok (.istore_n 3, 1) := dk_62 (dk_at dksX0_digest_1 7 rfl rfl)
theorem dX0_digest_31 : decode cX0_digest 31 = .ok (.iload_n 3, 1) := dk_29 (dk_at dksX0_digest_1 8 rfl rfl)
theorem dX0_digest_32 : decode cX0_digest 32 = .ok (.aload_n 0, 1) := dk_42 (dk_at dksX0_digest_1 9 rfl rfl)
theorem dX0_digest_33 : decode cX0_digest 33 = .ok (.getfield 26, 3) := dk_180 0 26 (dk_at dksX0_digest_1 10 rfl rfl)
theorem dX0_digest_36 : decode cX0_digest 36 = .ok (.getfield 58, 3) := dk_180 0 58 (dk_at dksX0_digest_1 13 rfl rfl)
theorem dX0_digest_39 : decode cX0_digest 39 = .ok (.invokevirtual 62, 3) := dk_182 0 62 (dk_at dksX0_digest_1 16 rfl rfl)
theorem dX0_digest_42 : decode cX0_digest 42 = .ok (.if_icmp .ge 37, 3) := dk_162 0 37 (dk_at dksX0_digest_1 19 rfl rfl)
theorem dX0_digest_45 : decode cX0_digest 45 = .ok (.iconst 0, 1) := dk_3 (dk_at dksX0_digest_1 22 rfl rfl)
theorem dX0_digest_46 : decode cX0_digest 46 = .ok (.istore 4, 2) := dk_54 4 (dk_at dksX0_digest_2 0 rfl rfl)
theorem dX0_digest_48 : decode cX0_digest 48 = .ok (.iload 4, 2) := dk_21 4 (dk_at dksX0_digest_2 2 rfl rfl)
theorem dX0_digest_50 : decode cX0_digest 50 = .ok (.iconst 4, 1) := dk_7 (dk_at dksX0_digest_2 4 rfl rfl)
theorem dX0_digest_51 : decode cX0_digest 51 = .ok (.if_icmp .gt 22, 3) := dk_163 0 22 (dk_at dksX0_digest_2 5 rfl rfl)
theorem dX0_digest_54 : decode cX0_digest 54 = .ok (.lload_n 1, 1) := dk_31 (dk_at dksX0_digest_2 8 rfl rfl)
theorem dX0_digest_55 : decode cX0_digest 55 = .ok (.aload_n 0, 1) := dk_42 (dk_at dksX0_digest_2 9 rfl rfl)
theorem dX0_digest_56 : decode cX0_digest 56 = .ok (.iload_n 3, 1) := dk_29 (dk_at dksX0_digest_2 10 rfl rfl)
theorem dX0_digest_57 : decode cX0_digest 57 = .ok (.iload 4, 2) := dk_21 4 (dk_at dksX0_digest_2 11 rfl rfl)
theorem dX0_digest_59 : decode cX0_digest 59 = .ok (.invokevirtual 301, 3) := dk_182 1 45 (dk_at dksX0_digest_2 13 rfl rfl)
theorem dX0_digest_62 : decode cX0_digest 62 = .ok (.i2l, 1) := dk_133 (dk_at dksX0_digest_2 16 rfl rfl)
theorem dX0_digest_63 : decode cX0_digest 63 = .ok (.invokestatic 289, 3) := dk_184 1 33 (dk_at dksX0_digest_2 17 rfl rfl)
theorem dX0_digest_66 : decode cX0_digest 66 = .ok (.lstore_n 1, 1) := dk_64 (dk_at dksX0_digest_2 20 rfl rfl)
theorem dX0_digest_67 : decode cX0_digest 67 = .ok (.iinc 4 1, 3) := dk_132 4 1 (dk_at dksX0_digest_2 21 rfl rfl)
theorem dX0_digest_70 : decode cX0_digest 70 = .ok (.goto (-22), 3) := dk_167 255 234 (dk_at dksX0_digest_3 0 rfl rfl)
theorem dX0_digest_73 : decode cX0_digest 73 = .ok (.iinc 3 1, 3) := dk_132 3 1 (dk_at dksX0_digest_3 3 rfl rfl)
theorem dX0_digest_76 : decode cX0_digest 76 = .ok (.goto (-45), 3) := dk_167 255 211 (dk_at dksX0_digest_3 6 rfl rfl)
theorem dX0_digest_79 : decode cX0_digest 79 = .ok (.iconst 0, 1) := dk_3 (dk_at dksX0_digest_3 9 rfl rfl)
theorem dX0_digest_80 : decode cX0_digest 80 = .ok (.istore_n 3, 1) := dk_62 (dk_at dksX0_digest_3 10 rfl rfl)
theorem dX0_digest_81 : decode cX0_digest 81 = .ok (.iload_n 3, 1) := dk_29 (dk_at dksX0_digest_3 11 rfl rfl)
theorem dX0_digest_82 : decode cX0_digest 82 = .ok (.aload_n 0, 1) := dk_42 (dk_at dksX0_digest_3 12 rfl rfl)
theorem dX0_digest_83 : decode cX0_digest 83 = .ok (.getfield 26, 3) := dk_180 0 26 (dk_at dksX0_digest_3 13 rfl rfl)
theorem dX0_digest_86 : decode cX0_digest 86 = .ok (.getfield 69, 3) := dk_180 0 69 (dk_at dksX0_digest_3 16 rfl rfl)
theorem dX0_digest_89 : decode cX0_digest 89 = .ok (.invokevirtual 62, 3) := dk_182 0 62 (dk_at dksX0_digest_3 19 rfl rfl)
theorem dX0_digest_92 : decode cX0_digest 92 = .ok (.if_icmp .ge 38, 3) := dk_162 0 38 (dk_at dksX0_digest_4 0 rfl rfl)
theorem dX0_digest_95 : decode cX0_digest 95 = .ok (.iconst 0, 1) := dk_3 (dk_at dksX0_digest_4 3 rfl rfl)
theorem dX0_digest_96 : decode cX0_digest 96 = .ok (.istore 4, 2) := dk_54 4 (dk_at dksX0_digest_4 4 rfl rfl)
theorem dX0_digest_98 : decode cX0_digest 98 = .ok (.iload 4, 2) := dk_21 4 (dk_at dksX0_digest_4 6 rfl rfl)
theorem dX0_digest_100 : decode cX0_digest 100 = .ok (.bipush 12, 2) := dk_16 12 (dk_at dksX0_digest_4 8 rfl rfl)
theorem dX0_digest_102 : decode cX0_digest 102 = .ok (.if_icmp .gt 22, 3) := dk_163 0 22 (dk_at dksX0_digest_4 10 rfl rfl)
theorem dX0_digest_105 : decode cX0_digest 105 = .ok (.lload_n 1, 1) := dk_31 (dk_at dksX0_digest_4 13 rfl rfl)
theorem dX0_digest_106 : decode cX0_digest 106 = .ok (.aload_n 0, 1) := dk_42 (dk_at dksX0_digest_4 14 rfl rfl)
theorem dX0_digest_107 : decode cX0_digest 107 = .ok (.iload_n 3, 1) := dk_29 (dk_at dksX0_digest_4 15 rfl rfl)
theorem dX0_digest_108 : decode cX0_digest 108 = .ok (.iload 4, 2) := dk_21 4 (dk_at dksX0_digest_4 16 rfl rfl)
theorem dX0_digest_110 : decode cX0_digest 110 = .ok (.invokevirtual 304, 3) := dk_182 1 48 (dk_at dksX0_digest_4 18 rfl rfl)
theorem dX0_digest_113 : decode cX0_digest 113 = .ok (.i2l, 1) := dk_133 (dk_at dksX0_digest_4 21 rfl rfl)
theorem dX0_digest_114 : decode cX0_digest 114 = .ok (.invokestatic 289, 3) := dk_184 1 33 (dk_at dksX0_digest_5 0 rfl rfl)
theorem dX0_digest_117 : decode cX0_digest 117 = .ok (.lstore_n 1, 1) := dk_64 (dk_at dksX0_digest_5 3 rfl rfl)
theorem dX0_digest_118 : decode cX0_digest 118 = .ok (.iinc 4 1, 3) := dk_132 4 1 (dk_at dksX0_digest_5 4 rfl rfl)
theorem dX0_digest_121 : decode cX0_digest 121 = .ok (.goto (-23), 3) := dk_167 255 233 (dk_at dksX0_digest_5 7 rfl rfl)
theorem dX0_digest_124 : decode cX0_digest 124 = .ok (.iinc 3 1, 3) := dk_132 3 1 (dk_at dksX0_digest_5 10 rfl rfl)
theorem dX0_digest_127 : decode cX0_digest 127 = .ok (.goto (-46), 3) := dk_167 255 210 (dk_at dksX0_digest_5 13 rfl rfl)
theorem dX0_digest_130 : decode cX0_digest 130 = .ok (.iconst 0, 1) := dk_3 (dk_at dksX0_digest_5 16 rfl rfl)
theorem dX0_digest_131 : decode cX0_digest 131 = .ok (.istore_n 3, 1) := dk_62 (dk_at dksX0_digest_5 17 rfl rfl)
theorem dX0_digest_132 : decode cX0_digest 132 = .ok (.iload_n 3, 1) := dk_29 (dk_at dksX0_digest_5 18 rfl rfl)
theorem dX0_digest_133 : decode cX0_digest 133 = .ok (.aload_n 0, 1) := dk_42 (dk_at dksX0_digest_5 19 rfl rfl)
theorem dX0_digest_134 : decode cX0_digest 134 = .ok (.getfield 26, 3) := dk_180 0 26 (dk_at dksX0_digest_5 20 rfl rfl)
theorem dX0_digest_137 : decode cX0_digest 137 = .ok (.getfield 58, 3) := dk_180 0 58 (dk_at dksX0_digest_6 0 rfl rfl)
theorem dX0_digest_140 : decode cX0_digest 140 = .ok (.invokevirtual 62, 3) := dk_182 0 62 (dk_at dksX0_digest_6 3 rfl rfl)
theorem dX0_digest_143 : decode cX0_digest 143 = .ok (.if_icmp .ge 16, 3) := dk_162 0 16 (dk_at dksX0_digest_6 6 rfl rfl)
theorem dX0_digest_146 : decode cX0_digest 146 = .ok (.aload_n 0, 1) := dk_42 (dk_at dksX0_digest_6 9 rfl rfl)
theorem dX0_digest_147 : decode cX0_digest 147 = .ok (.lload_n 1, 1) := dk_31 (dk_at dksX0_digest_6 10 rfl rfl)
theorem dX0_digest_148 : decode cX0_digest 148 = .ok (.iload_n 3, 1) := dk_29 (dk_at dksX0_digest_6 11 rfl rfl)
theorem dX0_digest_149 : decode cX0_digest 149 = .ok (.invokevirtual 307, 3) := dk_182 1 51 (dk_at dksX0_digest_6 12 rfl rfl)
theorem dX0_digest_152 : decode cX0_digest 152 = .ok (.lstore_n 1, 1) := dk_64 (dk_at dksX0_digest_6 15 rfl rfl)
theorem dX0_digest_153 : decode cX0_digest 153 = .ok (.iinc 3 1, 3) := dk_132 3 1 (dk_at dksX0_digest_6 16 rfl rfl)
theorem dX0_digest_156 : decode cX0_digest 156 = .ok (.goto (-24), 3) := dk_167 255 232 (dk_at dksX0_digest_6 19 rfl rfl)
theorem dX0_digest_159 : decode cX0_digest 159 = .ok (.iconst 1, 1) := dk_4 (dk_at dksX0_digest_6 22 rfl rfl)
theorem dX0_digest_160 : decode cX0_digest 160 = .ok (.istore_n 3, 1) := dk_62 (dk_at dksX0_digest_6 23 rfl rfl)
theorem dX0_digest_161 : decode cX0_digest 161 = .ok (.iload_n 3, 1) := dk_29 (dk_at dksX0_digest_7 0 rfl rfl)
theorem dX0_digest_162 : decode cX0_digest 162 = .ok (.iconst 5, 1) := dk_8 (dk_at dksX0_digest_7 1 rfl rfl)
theorem dX0_digest_163 : decode cX0_digest 163 = .ok (.if_icmp .gt 38, 3) := dk_163 0 38 (dk_at dksX0_digest_7 2 rfl rfl)
theorem dX0_digest_166 : decode cX0_digest 166 = .ok (.iconst 0, 1) := dk_3 (dk_at dksX0_digest_7 5 rfl rfl)
theorem dX0_digest_167 : decode cX0_digest 167 = .ok (.istore 4, 2) := dk_54 4 (dk_at dksX0_digest_7 6 rfl rfl)
theorem dX0_digest_169 : decode cX0_digest 169 = .ok (.iload 4, 2) := dk_21 4 (dk_at dksX0_digest_7 8 rfl rfl)
theorem dX0_digest_171 : decode cX0_digest 171 = .ok (.bipush 8, 2) := dk_16 8 (dk_at dksX0_digest_7 10 rfl rfl)
theorem dX0_digest_173 : decode cX0_digest 173 = .ok (.if_icmp .gt 22, 3) := dk_163 0 22 (dk_at dksX0_digest_7 12 rfl rfl)
theorem dX0_digest_176 : decode cX0_digest 176 = .ok (.lload_n 1, 1) := dk_31 (dk_at dksX0_digest_7 15 rfl rfl)
theorem dX0_digest_177 : decode cX0_digest 177 = .ok (.aload_n 0, 1) := dk_42 (dk_at dksX0_digest_7 16 rfl rfl)
theorem dX0_digest_178 : decode cX0_digest 178 = .ok (.iload_n 3, 1) := dk_29 (dk_at dksX0_digest_7 17 rfl rfl)
theorem dX0_digest_179 : decode cX0_digest 179 = .ok (.iload 4, 2) := dk_21 4 (dk_at dksX0_digest_7 18 rfl rfl)
theorem dX0_digest_181 : decode cX0_digest 181 = .ok (.invokevirtual 311, 3) := dk_182 1 55 (dk_at dksX0_digest_7 20 rfl rfl)
theorem dX0_digest_184 : decode cX0_digest 184 = .ok (.i2l, 1) := dk_133 (dk_at dksX0_digest_7 23 rfl rfl)
theorem dX0_digest_185 : decode cX0_digest 185 = .ok (.invokestatic 289, 3) := dk_184 1 33 (dk_at dksX0_digest_8 0 rfl rfl)
theorem dX0_digest_188 : decode cX0_digest 188 = .ok (.lstore_n 1, 1) := dk_64 (dk_at dksX0_digest_8 3 rfl rfl)
theorem dX0_digest_189 : decode cX0_digest 189 = .ok (.iinc 4 1, 3) := dk_132 4 1 (dk_at dksX0_digest_8 4 rfl rfl)
theorem dX0_digest_192 : decode cX0_digest 192 = .ok (.goto (-23), 3) := dk_167 255 233 (dk_at dksX0_digest_8 7 rfl rfl)
theorem dX0_digest_195 : decode cX0_digest 195 = .ok (.iinc 3 1, 3) := dk_132 3 1 (dk_at dksX0_digest_8 10 rfl rfl)
theorem dX0_digest_198 : decode cX0_digest 198 = .ok (.goto (-37), 3) := dk_167 255 219 (dk_at dksX0_digest_8 13 rfl rfl)
theorem dX0_digest_201 : decode cX0_digest 201 = .ok (.lload_n 1, 1) := dk_31 (dk_at dksX0_digest_8 16 rfl rfl)
theorem dX0_digest_202 : decode cX0_digest 202 = .ok (.aload_n 0, 1) := dk_42 (dk_at dksX0_digest_8 17 rfl rfl)
theorem dX0_digest_203 : decode cX0_digest 203 = .ok (.invokevirtual 313, 3) := dk_182 1 57 (dk_at dksX0_digest_8 18 rfl rfl)
theorem dX0_digest_206 : decode cX0_digest 206 = .ok (.i2l, 1) := dk_133 (dk_at dksX0_digest_8 21 rfl rfl)
theorem dX0_digest_207 : decode cX0_digest 207 = .ok (.invokestatic 289, 3) := dk_184 1 33 (dk_at dksX0_digest_9 0 rfl rfl)
theorem dX0_digest_210 : decode cX0_digest 210 = .ok (.lreturn, 1) := dk_173 (dk_at dksX0_digest_9 3 rfl rfl)
abbrev cX0_mixed : ByteArray := prog_1_method_36_code
def yX0_mixed : MethodName := ⟨RX0, "mixed", "(JJ)J"⟩
def dkwX0_mixed_0 : List UInt8 := [20, 1, 27, 30, 105, 32, 97, 173]
abbrev dktX0_mixed_0 : List UInt8 := dkwX0_mixed_0 ++ []
theorem dksX0_mixed_0 : cX0_mixed.data.toList.drop 0 = dktX0_mixed_0 := by decide +kernel
theorem dX0_mixed_0 : decode cX0_mixed 0 = .ok (.ldc2_w 283, 3) := dk_20 1 27 (dk_at dksX0_mixed_0 0 rfl rfl)
theorem dX0_mixed_3 : decode cX0_mixed 3 = .ok (.lload_n 0, 1) := dk_30 (dk_at dksX0_mixed_0 3 rfl rfl)
theorem dX0_mixed_4 : decode cX0_mixed 4 = .ok (.lmul, 1) := dk_105 (dk_at dksX0_mixed_0 4 rfl rfl)
theorem dX0_mixed_5 : decode cX0_mixed 5 = .ok (.lload_n 2, 1) := dk_32 (dk_at dksX0_mixed_0 5 rfl rfl)
theorem dX0_mixed_6 : decode cX0_mixed 6 = .ok (.ladd, 1) := dk_97 (dk_at dksX0_mixed_0 6 rfl rfl)
theorem dX0_mixed_7 : decode cX0_mixed 7 = .ok (.lreturn, 1) := dk_173 (dk_at dksX0_mixed_0 7 rfl rfl)
abbrev cX0_mixedPoint : ByteArray := prog_1_method_37_code
def yX0_mixedPoint : MethodName := ⟨RX0, "mixedPoint", "(JI)J"⟩
def dkwX0_mixedPoint_3 : List UInt8 := [173]
abbrev dktX0_mixedPoint_3 : List UInt8 := dkwX0_mixedPoint_3 ++ []
def dkwX0_mixedPoint_2 : List UInt8 := [184, 1, 33, 42, 29, 21, 6, 182, 1, 37, 133, 184, 1, 33, 55, 4, 132, 6, 1, 167, 255, 199, 22, 4]
abbrev dktX0_mixedPoint_2 : List UInt8 := dkwX0_mixedPoint_2 ++ dktX0_mixedPoint_3
def dkwX0_mixedPoint_1 : List UInt8 := [22, 4, 42, 29, 21, 6, 3, 182, 1, 29, 133, 184, 1, 33, 42, 29, 21, 6, 4, 182, 1, 29, 133]
abbrev dktX0_mixedPoint_1 : List UInt8 := dkwX0_mixedPoint_1 ++ dktX0_mixedPoint_2
def dkwX0_mixedPoint_0 : List UInt8 := [31, 55, 4, 29, 4, 96, 54, 6, 21, 6, 42, 180, 0, 26, 180, 0, 58, 182, 0, 62, 162, 0, 48]
abbrev dktX0_mixedPoint_0 : List UInt8 := dkwX0_mixedPoint_0 ++ dktX0_mixedPoint_1
theorem dksX0_mixedPoint_0 : cX0_mixedPoint.data.toList.drop 0 = dktX0_mixedPoint_0 := by decide +kernel
theorem dksX0_mixedPoint_1 : cX0_mixedPoint.data.toList.drop 23 = dktX0_mixedPoint_1 := dk_seg dksX0_mixedPoint_0 23 rfl rfl
theorem dksX0_mixedPoint_2 : cX0_mixedPoint.data.toList.drop 46 = dktX0_mixedPoint_2 := dk_seg dksX0_mixedPoint_1 23 rfl rfl
theorem dksX0_mixedPoint_3 : cX0_mixedPoint.data.toList.drop 70 = dktX0_mixedPoint_3 := dk_seg dksX0_mixedPoint_2 24 rfl rfl
theorem dX0_mixedPoint_0 : decode cX0_mixedPoint 0 = .ok (.lload_n 1, 1) := dk_31 (dk_at dksX0_mixedPoint_0 0 rfl rfl)
theorem dX0_mixedPoint_1 : decode cX0_mixedPoint 1 = .ok (.lstore 4, 2) := dk_55 4 (dk_at dksX0_mixedPoint_0 1 rfl rfl)
theorem dX0_mixedPoint_3 : decode cX0_mixedPoint 3 = .ok (.iload_n 3, 1) := dk_29 (dk_at dksX0_mixedPoint_0 3 rfl rfl)
theorem dX0_mixedPoint_4 : decode cX0_mixedPoint 4 = .ok (.iconst 1, 1) := dk_4 (dk_at dksX0_mixedPoint_0 4 rfl rfl)
theorem dX0_mixedPoint_5 : decode cX0_mixedPoint 5 = .ok (.iadd, 1) := dk_96 (dk_at dksX0_mixedPoint_0 5 rfl rfl)
theorem dX0_mixedPoint_6 : decode cX0_mixedPoint 6 = .ok (.istore 6, 2) := dk_54 6 (dk_at dksX0_mixedPoint_0 6 rfl rfl)
theorem dX0_mixedPoint_8 : decode cX0_mixedPoint 8 = .ok (.iload 6, 2) := dk_21 6 (dk_at dksX0_mixedPoint_0 8 rfl rfl)
theorem dX0_mixedPoint_10 : decode cX0_mixedPoint 10 = .ok (.aload_n 0, 1) := dk_42 (dk_at dksX0_mixedPoint_0 10 rfl rfl)
theorem dX0_mixedPoint_11 : decode cX0_mixedPoint 11 = .ok (.getfield 26, 3) := dk_180 0 26 (dk_at dksX0_mixedPoint_0 11 rfl rfl)
theorem dX0_mixedPoint_14 : decode cX0_mixedPoint 14 = .ok (.getfield 58, 3) := dk_180 0 58 (dk_at dksX0_mixedPoint_0 14 rfl rfl)
theorem dX0_mixedPoint_17 : decode cX0_mixedPoint 17 = .ok (.invokevirtual 62, 3) := dk_182 0 62 (dk_at dksX0_mixedPoint_0 17 rfl rfl)
theorem dX0_mixedPoint_20 : decode cX0_mixedPoint 20 = .ok (.if_icmp .ge 48, 3) := dk_162 0 48 (dk_at dksX0_mixedPoint_0 20 rfl rfl)
theorem dX0_mixedPoint_23 : decode cX0_mixedPoint 23 = .ok (.lload 4, 2) := dk_22 4 (dk_at dksX0_mixedPoint_1 0 rfl rfl)
theorem dX0_mixedPoint_25 : decode cX0_mixedPoint 25 = .ok (.aload_n 0, 1) := dk_42 (dk_at dksX0_mixedPoint_1 2 rfl rfl)
theorem dX0_mixedPoint_26 : decode cX0_mixedPoint 26 = .ok (.iload_n 3, 1) := dk_29 (dk_at dksX0_mixedPoint_1 3 rfl rfl)
theorem dX0_mixedPoint_27 : decode cX0_mixedPoint 27 = .ok (.iload 6, 2) := dk_21 6 (dk_at dksX0_mixedPoint_1 4 rfl rfl)
theorem dX0_mixedPoint_29 : decode cX0_mixedPoint 29 = .ok (.iconst 0, 1) := dk_3 (dk_at dksX0_mixedPoint_1 6 rfl rfl)
theorem dX0_mixedPoint_30 : decode cX0_mixedPoint 30 = .ok (.invokevirtual 285, 3) := dk_182 1 29 (dk_at dksX0_mixedPoint_1 7 rfl rfl)
theorem dX0_mixedPoint_33 : decode cX0_mixedPoint 33 = .ok (.i2l, 1) := dk_133 (dk_at dksX0_mixedPoint_1 10 rfl rfl)
theorem dX0_mixedPoint_34 : decode cX0_mixedPoint 34 = .ok (.invokestatic 289, 3) := dk_184 1 33 (dk_at dksX0_mixedPoint_1 11 rfl rfl)
theorem dX0_mixedPoint_37 : decode cX0_mixedPoint 37 = .ok (.aload_n 0, 1) := dk_42 (dk_at dksX0_mixedPoint_1 14 rfl rfl)
theorem dX0_mixedPoint_38 : decode cX0_mixedPoint 38 = .ok (.iload_n 3, 1) := dk_29 (dk_at dksX0_mixedPoint_1 15 rfl rfl)
theorem dX0_mixedPoint_39 : decode cX0_mixedPoint 39 = .ok (.iload 6, 2) := dk_21 6 (dk_at dksX0_mixedPoint_1 16 rfl rfl)
theorem dX0_mixedPoint_41 : decode cX0_mixedPoint 41 = .ok (.iconst 1, 1) := dk_4 (dk_at dksX0_mixedPoint_1 18 rfl rfl)
theorem dX0_mixedPoint_42 : decode cX0_mixedPoint 42 = .ok (.invokevirtual 285, 3) := dk_182 1 29 (dk_at dksX0_mixedPoint_1 19 rfl rfl)
theorem dX0_mixedPoint_45 : decode cX0_mixedPoint 45 = .ok (.i2l, 1) := dk_133 (dk_at dksX0_mixedPoint_1 22 rfl rfl)
theorem dX0_mixedPoint_46 : decode cX0_mixedPoint 46 = .ok (.invokestatic 289, 3) := dk_184 1 33 (dk_at dksX0_mixedPoint_2 0 rfl rfl)
theorem dX0_mixedPoint_49 : decode cX0_mixedPoint 49 = .ok (.aload_n 0, 1) := dk_42 (dk_at dksX0_mixedPoint_2 3 rfl rfl)
theorem dX0_mixedPoint_50 : decode cX0_mixedPoint 50 = .ok (.iload_n 3, 1) := dk_29 (dk_at dksX0_mixedPoint_2 4 rfl rfl)
theorem dX0_mixedPoint_51 : decode cX0_mixedPoint 51 = .ok (.iload 6, 2) := dk_21 6 (dk_at dksX0_mixedPoint_2 5 rfl rfl)
theorem dX0_mixedPoint_53 : decode cX0_mixedPoint 53 = .ok (.invokevirtual 293, 3) := dk_182 1 37 (dk_at dksX0_mixedPoint_2 7 rfl rfl)
theorem dX0_mixedPoint_56 : decode cX0_mixedPoint 56 = .ok (.i2l, 1) := dk_133 (dk_at dksX0_mixedPoint_2 10 rfl rfl)
theorem dX0_mixedPoint_57 : decode cX0_mixedPoint 57 = .ok (.invokestatic 289, 3) := dk_184 1 33 (dk_at dksX0_mixedPoint_2 11 rfl rfl)
theorem dX0_mixedPoint_60 : decode cX0_mixedPoint 60 = .ok (.lstore 4, 2) := dk_55 4 (dk_at dksX0_mixedPoint_2 14 rfl rfl)
theorem dX0_mixedPoint_62 : decode cX0_mixedPoint 62 = .ok (.iinc 6 1, 3) := dk_132 6 1 (dk_at dksX0_mixedPoint_2 16 rfl rfl)
theorem dX0_mixedPoint_65 : decode cX0_mixedPoint 65 = .ok (.goto (-57), 3) := dk_167 255 199 (dk_at dksX0_mixedPoint_2 19 rfl rfl)
theorem dX0_mixedPoint_68 : decode cX0_mixedPoint 68 = .ok (.lload 4, 2) := dk_22 4 (dk_at dksX0_mixedPoint_2 22 rfl rfl)
theorem dX0_mixedPoint_70 : decode cX0_mixedPoint 70 = .ok (.lreturn, 1) := dk_173 (dk_at dksX0_mixedPoint_3 0 rfl rfl)
theorem q86 : (Jvm.Cond.initialized "DimensionLines") ∈ lw_all := lw_g (lw_at lw_m1 1 rfl) rfl
theorem q113 : (Jvm.Cond.instantiable "DimensionLines" (6 : Nat)) ∈ lw_all := lw_g (lw_at lw_m1 28 rfl) rfl
theorem q115 : (Jvm.Cond.instanceMethod ({ cls := "DimensionLines", name := "<init>", desc := "()V" } : Jvm.MethodName)) ∈ lw_all := lw_g (lw_at lw_m1 30 rfl) rfl
theorem q116 : (Jvm.Cond.code ({ cls := "DimensionLines", name := "<init>", desc := "()V" } : Jvm.MethodName) prog_1_method_3_code (1 : Nat) (Option.none : Option Jvm.ClassFile.FieldType)) ∈ lw_all := lw_g (lw_at lw_m1 31 rfl) rfl
theorem q117 : (Jvm.Cond.methodLink "DimensionLines" (17 : Nat) ({ cls := "java/lang/Object", name := "<init>", desc := "()V" } : Jvm.MethodName)) ∈ lw_all := lw_g (lw_at lw_m1 32 rfl) rfl
theorem q120 : (Jvm.Cond.classLink "DimensionLines" (23 : Nat) "DimensionLines$Drawing") ∈ lw_all := lw_g (lw_at lw_m1 35 rfl) rfl
theorem q122 : (Jvm.Cond.methodLinkNest "DimensionLines" (25 : Nat) ({ cls := "DimensionLines$Drawing", name := "<init>", desc := "()V" } : Jvm.MethodName) "DimensionLines") ∈ lw_tbl := lw_at lw_m1 37 rfl
theorem q156 : (Jvm.Cond.fieldLinkNest "DimensionLines" (58 : Nat) "DimensionLines$Drawing" "points" "Ljava/util/ArrayList;" "DimensionLines") ∈ lw_tbl := lw_at lw_m1 71 rfl
theorem q160 : (Jvm.Cond.fieldLinkNest "DimensionLines" (69 : Nat) "DimensionLines$Drawing" "dimensions" "Ljava/util/ArrayList;" "DimensionLines") ∈ lw_tbl := lw_at lw_m1 75 rfl
theorem q163 : (Jvm.Cond.fieldLinkNest "DimensionLines" (97 : Nat) "DimensionLines$Drawing" "letter" "I" "DimensionLines") ∈ lw_tbl := lw_at lw_m1 78 rfl
theorem q165 : (Jvm.Cond.fieldLinkNest "DimensionLines" (100 : Nat) "DimensionLines$Drawing" "arrow" "I" "DimensionLines") ∈ lw_tbl := lw_at lw_m1 80 rfl
theorem q185 : (Jvm.Cond.fieldLink "DimensionLines" (26 : Nat) "DimensionLines" "now" "LDimensionLines$Drawing;") ∈ lw_all := lw_g (lw_at lw_m1 100 rfl) rfl
theorem q186 : (Jvm.Cond.fieldLink "DimensionLines" (32 : Nat) "DimensionLines" "past" "[LDimensionLines$Drawing;") ∈ lw_all := lw_g (lw_at lw_m1 101 rfl) rfl
theorem q187 : (Jvm.Cond.fieldLink "DimensionLines" (40 : Nat) "DimensionLines" "pastCount" "I") ∈ lw_all := lw_g (lw_at lw_m1 102 rfl) rfl
theorem q188 : (Jvm.Cond.fieldLink "DimensionLines" (36 : Nat) "DimensionLines" "text" "[C") ∈ lw_all := lw_g (lw_at lw_m1 103 rfl) rfl
theorem q189 : (Jvm.Cond.fieldLink "DimensionLines" (76 : Nat) "DimensionLines" "typed" "I") ∈ lw_all := lw_g (lw_at lw_m1 104 rfl) rfl
theorem q190 : (Jvm.Cond.fieldLink "DimensionLines" (79 : Nat) "DimensionLines" "fault" "I") ∈ lw_all := lw_g (lw_at lw_m1 105 rfl) rfl
theorem q191 : (Jvm.Cond.lays "DimensionLines" "DimensionLines" "now" "LDimensionLines$Drawing;") ∈ lw_all := lw_g (lw_at lw_m1 106 rfl) rfl
theorem q192 : (Jvm.Cond.soleField "DimensionLines" "now") ∈ lw_all := lw_g (lw_at lw_m1 107 rfl) rfl
theorem q193 : (Jvm.Cond.laysFinal "DimensionLines" "DimensionLines" "past" "[LDimensionLines$Drawing;") ∈ lw_all := lw_g (lw_at lw_m1 108 rfl) rfl
theorem q194 : (Jvm.Cond.soleField "DimensionLines" "past") ∈ lw_all := lw_g (lw_at lw_m1 109 rfl) rfl
theorem q195 : (Jvm.Cond.lays "DimensionLines" "DimensionLines" "pastCount" "I") ∈ lw_all := lw_g (lw_at lw_m1 110 rfl) rfl
theorem q196 : (Jvm.Cond.soleField "DimensionLines" "pastCount") ∈ lw_all := lw_g (lw_at lw_m1 111 rfl) rfl
theorem q197 : (Jvm.Cond.laysFinal "DimensionLines" "DimensionLines" "text" "[C") ∈ lw_all := lw_g (lw_at lw_m1 112 rfl) rfl
theorem q198 : (Jvm.Cond.soleField "DimensionLines" "text") ∈ lw_all := lw_g (lw_at lw_m1 113 rfl) rfl
theorem q199 : (Jvm.Cond.lays "DimensionLines" "DimensionLines" "typed" "I") ∈ lw_all := lw_g (lw_at lw_m1 114 rfl) rfl
theorem q200 : (Jvm.Cond.soleField "DimensionLines" "typed") ∈ lw_all := lw_g (lw_at lw_m1 115 rfl) rfl
theorem q201 : (Jvm.Cond.lays "DimensionLines" "DimensionLines" "fault" "I") ∈ lw_all := lw_g (lw_at lw_m1 116 rfl) rfl
theorem q202 : (Jvm.Cond.soleField "DimensionLines" "fault") ∈ lw_all := lw_g (lw_at lw_m1 117 rfl) rfl
theorem q203 : (Jvm.Cond.superclass "DimensionLines" "java/lang/Object") ∈ lw_all := lw_g (lw_at lw_m1 118 rfl) rfl
theorem q206 : (Jvm.Cond.instanceMethod ({ cls := "DimensionLines", name := "type", desc := "(I)I" } : Jvm.MethodName)) ∈ lw_all := lw_g (lw_at lw_m1 121 rfl) rfl
theorem q207 : (Jvm.Cond.selects "DimensionLines" ({ cls := "DimensionLines", name := "type", desc := "(I)I" } : Jvm.MethodName) ({ cls := "DimensionLines", name := "type", desc := "(I)I" } : Jvm.MethodName)) ∈ lw_all := lw_g (lw_at lw_m1 122 rfl) rfl
theorem q208 : (Jvm.Cond.code ({ cls := "DimensionLines", name := "type", desc := "(I)I" } : Jvm.MethodName) prog_1_method_9_code (2 : Nat) (Option.some Jvm.ClassFile.FieldType.int)) ∈ lw_all := lw_g (lw_at lw_m1 123 rfl) rfl
theorem q209 : (Jvm.Cond.methodLink "DimensionLines" (65 : Nat) ({ cls := "DimensionLines", name := "in", desc := "(III)Z" } : Jvm.MethodName)) ∈ lw_all := lw_g (lw_at lw_m1 124 rfl) rfl
theorem q210 : (Jvm.Cond.static ({ cls := "DimensionLines", name := "in", desc := "(III)Z" } : Jvm.MethodName)) ∈ lw_all := lw_g (lw_at lw_m1 125 rfl) rfl
theorem q211 : (Jvm.Cond.code ({ cls := "DimensionLines", name := "in", desc := "(III)Z" } : Jvm.MethodName) prog_1_method_1_code (3 : Nat) (Option.some Jvm.ClassFile.FieldType.boolean)) ∈ lw_all := lw_g (lw_at lw_m1 126 rfl) rfl
theorem q213 : (Jvm.Cond.instanceMethod ({ cls := "DimensionLines", name := "clearText", desc := "()I" } : Jvm.MethodName)) ∈ lw_all := lw_g (lw_at lw_m1 128 rfl) rfl
theorem q214 : (Jvm.Cond.selects "DimensionLines" ({ cls := "DimensionLines", name := "clearText", desc := "()I" } : Jvm.MethodName) ({ cls := "DimensionLines", name := "clearText", desc := "()I" } : Jvm.MethodName)) ∈ lw_all := lw_g (lw_at lw_m1 129 rfl) rfl
theorem q215 : (Jvm.Cond.code ({ cls := "DimensionLines", name := "clearText", desc := "()I" } : Jvm.MethodName) prog_1_method_10_code (2 : Nat) (Option.some Jvm.ClassFile.FieldType.int)) ∈ lw_all := lw_g (lw_at lw_m1 130 rfl) rfl
theorem q217 : (Jvm.Cond.instanceMethod ({ cls := "DimensionLines", name := "load", desc := "()I" } : Jvm.MethodName)) ∈ lw_all := lw_g (lw_at lw_m1 132 rfl) rfl
theorem q218 : (Jvm.Cond.selects "DimensionLines" ({ cls := "DimensionLines", name := "load", desc := "()I" } : Jvm.MethodName) ({ cls := "DimensionLines", name := "load", desc := "()I" } : Jvm.MethodName)) ∈ lw_all := lw_g (lw_at lw_m1 133 rfl) rfl
theorem q219 : (Jvm.Cond.codeWith ({ cls := "DimensionLines", name := "load", desc := "()I" } : Jvm.MethodName) prog_1_method_11_code (2 : Nat) (Option.some Jvm.ClassFile.FieldType.int) [((5 : Nat), (69 : Nat), (70 : Nat), (103 : Nat))]) ∈ lw_all := lw_g (lw_at lw_m1 134 rfl) rfl
theorem q220 : (Jvm.Cond.classLink "DimensionLines" (103 : Nat) "DimensionLines$Fault") ∈ lw_all := lw_g (lw_at lw_m1 135 rfl) rfl
theorem q221 : (Jvm.Cond.classLink "DimensionLines" (82 : Nat) "DimensionLines$Reader") ∈ lw_all := lw_g (lw_at lw_m1 136 rfl) rfl
theorem q223 : (Jvm.Cond.classLink "DimensionLines" (84 : Nat) "java/lang/StringBuilder") ∈ lw_all := lw_g (lw_at lw_m1 138 rfl) rfl
theorem q225 : (Jvm.Cond.methodLink "DimensionLines" (86 : Nat) ({ cls := "java/lang/StringBuilder", name := "<init>", desc := "()V" } : Jvm.MethodName)) ∈ lw_all := lw_g (lw_at lw_m1 140 rfl) rfl
theorem q254 : (Jvm.Cond.methodLink "DimensionLines" (87 : Nat) ({ cls := "java/lang/StringBuilder", name := "append", desc := "([CII)Ljava/lang/StringBuilder;" } : Jvm.MethodName)) ∈ lw_all := lw_g (lw_at lw_m1 169 rfl) rfl
theorem q359 : (Jvm.Cond.methodLink "DimensionLines" (91 : Nat) ({ cls := "DimensionLines$Reader", name := "<init>", desc := "(Ljava/lang/CharSequence;)V" } : Jvm.MethodName)) ∈ lw_all := lw_g (lw_at lw_m2 34 rfl) rfl
theorem q375 : (Jvm.Cond.methodLink "DimensionLines" (94 : Nat) ({ cls := "DimensionLines$Reader", name := "read", desc := "()LDimensionLines$Drawing;" } : Jvm.MethodName)) ∈ lw_all := lw_g (lw_at lw_m2 50 rfl) rfl
theorem q473 : (Jvm.Cond.fieldLinkNest "DimensionLines" (105 : Nat) "DimensionLines$Fault" "kind" "I" "DimensionLines") ∈ lw_tbl := lw_at lw_m2 148 rfl
theorem q475 : (Jvm.Cond.fieldLinkNest "DimensionLines" (108 : Nat) "DimensionLines$Fault" "position" "I" "DimensionLines") ∈ lw_tbl := lw_at lw_m2 150 rfl
theorem q516 : (Jvm.Cond.fieldLinkNest "DimensionLines" (130 : Nat) "DimensionLines$Point" "position" "I" "DimensionLines") ∈ lw_tbl := lw_at lw_m2 191 rfl
theorem q543 : (Jvm.Cond.selects "DimensionLines" ({ cls := "java/lang/Object", name := "getClass", desc := "()Ljava/lang/Class;" } : Jvm.MethodName) ({ cls := "java/lang/Object", name := "getClass", desc := "()Ljava/lang/Class;" } : Jvm.MethodName)) ∈ lw_all := lw_g (lw_at lw_m2 218 rfl) rfl
theorem q590 : (Jvm.Cond.fieldLinkNest "DimensionLines" (137 : Nat) "DimensionLines$Dimension" "first" "LDimensionLines$Point;" "DimensionLines") ∈ lw_tbl := lw_at lw_m3 25 rfl
theorem q595 : (Jvm.Cond.fieldLinkNest "DimensionLines" (141 : Nat) "DimensionLines$Dimension" "second" "LDimensionLines$Point;" "DimensionLines") ∈ lw_tbl := lw_at lw_m3 30 rfl
theorem q599 : (Jvm.Cond.fieldLinkNest "DimensionLines" (170 : Nat) "DimensionLines$Dimension" "minus" "I" "DimensionLines") ∈ lw_tbl := lw_at lw_m3 34 rfl
theorem q603 : (Jvm.Cond.fieldLinkNest "DimensionLines" (173 : Nat) "DimensionLines$Dimension" "plus" "I" "DimensionLines") ∈ lw_tbl := lw_at lw_m3 38 rfl
theorem q606 : (Jvm.Cond.fieldLinkNest "DimensionLines" (176 : Nat) "DimensionLines$Dimension" "chain" "I" "DimensionLines") ∈ lw_tbl := lw_at lw_m3 41 rfl
theorem q609 : (Jvm.Cond.fieldLinkNest "DimensionLines" (179 : Nat) "DimensionLines$Dimension" "least" "I" "DimensionLines") ∈ lw_tbl := lw_at lw_m3 44 rfl
theorem q611 : (Jvm.Cond.fieldLinkNest "DimensionLines" (198 : Nat) "DimensionLines$Dimension" "form" "I" "DimensionLines") ∈ lw_tbl := lw_at lw_m3 46 rfl
theorem q613 : (Jvm.Cond.fieldLinkNest "DimensionLines" (201 : Nat) "DimensionLines$Dimension" "begin" "I" "DimensionLines") ∈ lw_tbl := lw_at lw_m3 48 rfl
theorem q615 : (Jvm.Cond.fieldLinkNest "DimensionLines" (203 : Nat) "DimensionLines$Dimension" "end" "I" "DimensionLines") ∈ lw_tbl := lw_at lw_m3 50 rfl
theorem q618 : (Jvm.Cond.fieldLinkNest "DimensionLines" (206 : Nat) "DimensionLines$Dimension" "lane" "I" "DimensionLines") ∈ lw_tbl := lw_at lw_m3 53 rfl
theorem q640 : (Jvm.Cond.methodLink "DimensionLines" (54 : Nat) ({ cls := "DimensionLines", name := "become", desc := "(LDimensionLines$Drawing;)V" } : Jvm.MethodName)) ∈ lw_all := lw_g (lw_at lw_m3 75 rfl) rfl
theorem q641 : (Jvm.Cond.privateMethod ({ cls := "DimensionLines", name := "become", desc := "(LDimensionLines$Drawing;)V" } : Jvm.MethodName)) ∈ lw_tbl := lw_at lw_m3 76 rfl
theorem q642 : (Jvm.Cond.instanceMethod ({ cls := "DimensionLines", name := "become", desc := "(LDimensionLines$Drawing;)V" } : Jvm.MethodName)) ∈ lw_all := lw_g (lw_at lw_m3 77 rfl) rfl
theorem q643 : (Jvm.Cond.code ({ cls := "DimensionLines", name := "become", desc := "(LDimensionLines$Drawing;)V" } : Jvm.MethodName) prog_1_method_4_code (2 : Nat) (Option.none : Option Jvm.ClassFile.FieldType)) ∈ lw_all := lw_g (lw_at lw_m3 78 rfl) rfl
theorem q644 : (Jvm.Cond.methodLink "DimensionLines" (44 : Nat) ({ cls := "java/lang/System", name := "arraycopy", desc := "(Ljava/lang/Object;ILjava/lang/Object;II)V" } : Jvm.MethodName)) ∈ lw_all := lw_g (lw_at lw_m3 79 rfl) rfl
theorem q645 : (Jvm.Cond.methodLink "DimensionLines" (62 : Nat) ({ cls := "java/util/ArrayList", name := "size", desc := "()I" } : Jvm.MethodName)) ∈ lw_all := lw_g (lw_at lw_m3 80 rfl) rfl
theorem q647 : (Jvm.Cond.instanceMethod ({ cls := "DimensionLines", name := "faultKind", desc := "()I" } : Jvm.MethodName)) ∈ lw_all := lw_g (lw_at lw_m3 82 rfl) rfl
theorem q648 : (Jvm.Cond.selects "DimensionLines" ({ cls := "DimensionLines", name := "faultKind", desc := "()I" } : Jvm.MethodName) ({ cls := "DimensionLines", name := "faultKind", desc := "()I" } : Jvm.MethodName)) ∈ lw_all := lw_g (lw_at lw_m3 83 rfl) rfl
theorem q649 : (Jvm.Cond.code ({ cls := "DimensionLines", name := "faultKind", desc := "()I" } : Jvm.MethodName) prog_1_method_12_code (1 : Nat) (Option.some Jvm.ClassFile.FieldType.int)) ∈ lw_all := lw_g (lw_at lw_m3 84 rfl) rfl
theorem q651 : (Jvm.Cond.instanceMethod ({ cls := "DimensionLines", name := "addPoint", desc := "(I)I" } : Jvm.MethodName)) ∈ lw_all := lw_g (lw_at lw_m3 86 rfl) rfl
theorem q652 : (Jvm.Cond.selects "DimensionLines" ({ cls := "DimensionLines", name := "addPoint", desc := "(I)I" } : Jvm.MethodName) ({ cls := "DimensionLines", name := "addPoint", desc := "(I)I" } : Jvm.MethodName)) ∈ lw_all := lw_g (lw_at lw_m3 87 rfl) rfl
theorem q653 : (Jvm.Cond.code ({ cls := "DimensionLines", name := "addPoint", desc := "(I)I" } : Jvm.MethodName) prog_1_method_13_code (2 : Nat) (Option.some Jvm.ClassFile.FieldType.int)) ∈ lw_all := lw_g (lw_at lw_m3 88 rfl) rfl
theorem q654 : (Jvm.Cond.methodLink "DimensionLines" (111 : Nat) ({ cls := "DimensionLines$Drawing", name := "pointAt", desc := "(I)I" } : Jvm.MethodName)) ∈ lw_all := lw_g (lw_at lw_m3 89 rfl) rfl
theorem q661 : (Jvm.Cond.methodLink "DimensionLines" (115 : Nat) ({ cls := "DimensionLines", name := "begin", desc := "()LDimensionLines$Drawing;" } : Jvm.MethodName)) ∈ lw_all := lw_g (lw_at lw_m3 96 rfl) rfl
theorem q662 : (Jvm.Cond.privateMethod ({ cls := "DimensionLines", name := "begin", desc := "()LDimensionLines$Drawing;" } : Jvm.MethodName)) ∈ lw_tbl := lw_at lw_m3 97 rfl
theorem q663 : (Jvm.Cond.instanceMethod ({ cls := "DimensionLines", name := "begin", desc := "()LDimensionLines$Drawing;" } : Jvm.MethodName)) ∈ lw_all := lw_g (lw_at lw_m3 98 rfl) rfl
theorem q664 : (Jvm.Cond.code ({ cls := "DimensionLines", name := "begin", desc := "()LDimensionLines$Drawing;" } : Jvm.MethodName) prog_1_method_5_code (1 : Nat) (Option.some (Jvm.ClassFile.FieldType.object "DimensionLines$Drawing"))) ∈ lw_all := lw_g (lw_at lw_m3 99 rfl) rfl
theorem q665 : (Jvm.Cond.methodLink "DimensionLines" (50 : Nat) ({ cls := "DimensionLines$Drawing", name := "copy", desc := "()LDimensionLines$Drawing;" } : Jvm.MethodName)) ∈ lw_all := lw_g (lw_at lw_m3 100 rfl) rfl
theorem q686 : (Jvm.Cond.selects "DimensionLines" ({ cls := "java/lang/Object", name := "equals", desc := "(Ljava/lang/Object;)Z" } : Jvm.MethodName) ({ cls := "java/lang/Object", name := "equals", desc := "(Ljava/lang/Object;)Z" } : Jvm.MethodName)) ∈ lw_all := lw_g (lw_at lw_m3 121 rfl) rfl
theorem q698 : (Jvm.Cond.classLink "DimensionLines" (118 : Nat) "DimensionLines$Point") ∈ lw_all := lw_g (lw_at lw_m3 133 rfl) rfl
theorem q699 : (Jvm.Cond.methodLink "DimensionLines" (120 : Nat) ({ cls := "DimensionLines$Point", name := "<init>", desc := "(I)V" } : Jvm.MethodName)) ∈ lw_all := lw_g (lw_at lw_m3 134 rfl) rfl
theorem q700 : (Jvm.Cond.methodLink "DimensionLines" (123 : Nat) ({ cls := "DimensionLines$Drawing", name := "insert", desc := "(LDimensionLines$Point;)I" } : Jvm.MethodName)) ∈ lw_all := lw_g (lw_at lw_m3 135 rfl) rfl
theorem q714 : (Jvm.Cond.instanceMethod ({ cls := "DimensionLines", name := "movePoint", desc := "(II)I" } : Jvm.MethodName)) ∈ lw_all := lw_g (lw_at lw_m3 149 rfl) rfl
theorem q715 : (Jvm.Cond.selects "DimensionLines" ({ cls := "DimensionLines", name := "movePoint", desc := "(II)I" } : Jvm.MethodName) ({ cls := "DimensionLines", name := "movePoint", desc := "(II)I" } : Jvm.MethodName)) ∈ lw_all := lw_g (lw_at lw_m3 150 rfl) rfl
theorem q716 : (Jvm.Cond.code ({ cls := "DimensionLines", name := "movePoint", desc := "(II)I" } : Jvm.MethodName) prog_1_method_14_code (9 : Nat) (Option.some Jvm.ClassFile.FieldType.int)) ∈ lw_all := lw_g (lw_at lw_m3 151 rfl) rfl
theorem q717 : (Jvm.Cond.methodLink "DimensionLines" (72 : Nat) ({ cls := "DimensionLines", name := "isPoint", desc := "(I)Z" } : Jvm.MethodName)) ∈ lw_all := lw_g (lw_at lw_m3 152 rfl) rfl
theorem q718 : (Jvm.Cond.privateMethod ({ cls := "DimensionLines", name := "isPoint", desc := "(I)Z" } : Jvm.MethodName)) ∈ lw_tbl := lw_at lw_m3 153 rfl
theorem q719 : (Jvm.Cond.instanceMethod ({ cls := "DimensionLines", name := "isPoint", desc := "(I)Z" } : Jvm.MethodName)) ∈ lw_all := lw_g (lw_at lw_m3 154 rfl) rfl
theorem q720 : (Jvm.Cond.code ({ cls := "DimensionLines", name := "isPoint", desc := "(I)Z" } : Jvm.MethodName) prog_1_method_6_code (2 : Nat) (Option.some Jvm.ClassFile.FieldType.boolean)) ∈ lw_all := lw_g (lw_at lw_m3 155 rfl) rfl
theorem q721 : (Jvm.Cond.methodLink "DimensionLines" (127 : Nat) ({ cls := "java/util/ArrayList", name := "remove", desc := "(I)Ljava/lang/Object;" } : Jvm.MethodName)) ∈ lw_all := lw_g (lw_at lw_m3 156 rfl) rfl
theorem q729 : (Jvm.Cond.methodLink "DimensionLines" (131 : Nat) ({ cls := "java/util/ArrayList", name := "get", desc := "(I)Ljava/lang/Object;" } : Jvm.MethodName)) ∈ lw_all := lw_g (lw_at lw_m3 164 rfl) rfl
theorem q730 : (Jvm.Cond.classLink "DimensionLines" (132 : Nat) "DimensionLines$Dimension") ∈ lw_all := lw_g (lw_at lw_m3 165 rfl) rfl
theorem q731 : (Jvm.Cond.methodLink "DimensionLines" (134 : Nat) ({ cls := "DimensionLines$Dimension", name := "value", desc := "()I" } : Jvm.MethodName)) ∈ lw_all := lw_g (lw_at lw_m3 166 rfl) rfl
theorem q736 : (Jvm.Cond.instanceMethod ({ cls := "DimensionLines", name := "dropPoint", desc := "(I)I" } : Jvm.MethodName)) ∈ lw_all := lw_g (lw_at lw_m3 171 rfl) rfl
theorem q737 : (Jvm.Cond.selects "DimensionLines" ({ cls := "DimensionLines", name := "dropPoint", desc := "(I)I" } : Jvm.MethodName) ({ cls := "DimensionLines", name := "dropPoint", desc := "(I)I" } : Jvm.MethodName)) ∈ lw_all := lw_g (lw_at lw_m3 172 rfl) rfl
theorem q738 : (Jvm.Cond.code ({ cls := "DimensionLines", name := "dropPoint", desc := "(I)I" } : Jvm.MethodName) prog_1_method_15_code (2 : Nat) (Option.some Jvm.ClassFile.FieldType.int)) ∈ lw_all := lw_g (lw_at lw_m3 173 rfl) rfl
theorem q739 : (Jvm.Cond.methodLink "DimensionLines" (144 : Nat) ({ cls := "DimensionLines$Drawing", name := "uses", desc := "(LDimensionLines$Point;)I" } : Jvm.MethodName)) ∈ lw_all := lw_g (lw_at lw_m3 174 rfl) rfl
theorem q748 : (Jvm.Cond.instanceMethod ({ cls := "DimensionLines", name := "add", desc := "(II)I" } : Jvm.MethodName)) ∈ lw_all := lw_g (lw_at lw_m3 183 rfl) rfl
theorem q749 : (Jvm.Cond.selects "DimensionLines" ({ cls := "DimensionLines", name := "add", desc := "(II)I" } : Jvm.MethodName) ({ cls := "DimensionLines", name := "add", desc := "(II)I" } : Jvm.MethodName)) ∈ lw_all := lw_g (lw_at lw_m3 184 rfl) rfl
theorem q750 : (Jvm.Cond.code ({ cls := "DimensionLines", name := "add", desc := "(II)I" } : Jvm.MethodName) prog_1_method_16_code (4 : Nat) (Option.some Jvm.ClassFile.FieldType.int)) ∈ lw_all := lw_g (lw_at lw_m3 185 rfl) rfl
theorem q751 : (Jvm.Cond.methodLink "DimensionLines" (147 : Nat) ({ cls := "DimensionLines", name := "arePoints", desc := "(II)Z" } : Jvm.MethodName)) ∈ lw_all := lw_g (lw_at lw_m3 186 rfl) rfl
theorem q752 : (Jvm.Cond.privateMethod ({ cls := "DimensionLines", name := "arePoints", desc := "(II)Z" } : Jvm.MethodName)) ∈ lw_tbl := lw_at lw_m3 187 rfl
theorem q753 : (Jvm.Cond.instanceMethod ({ cls := "DimensionLines", name := "arePoints", desc := "(II)Z" } : Jvm.MethodName)) ∈ lw_all := lw_g (lw_at lw_m3 188 rfl) rfl
theorem q754 : (Jvm.Cond.code ({ cls := "DimensionLines", name := "arePoints", desc := "(II)Z" } : Jvm.MethodName) prog_1_method_8_code (3 : Nat) (Option.some Jvm.ClassFile.FieldType.boolean)) ∈ lw_all := lw_g (lw_at lw_m3 189 rfl) rfl
theorem q755 : (Jvm.Cond.methodLink "DimensionLines" (151 : Nat) ({ cls := "java/lang/Math", name := "min", desc := "(II)I" } : Jvm.MethodName)) ∈ lw_all := lw_g (lw_at lw_m3 190 rfl) rfl
theorem q756 : (Jvm.Cond.methodLink "DimensionLines" (157 : Nat) ({ cls := "java/lang/Math", name := "max", desc := "(II)I" } : Jvm.MethodName)) ∈ lw_all := lw_g (lw_at lw_m3 191 rfl) rfl
theorem q757 : (Jvm.Cond.methodLink "DimensionLines" (160 : Nat) ({ cls := "DimensionLines$Dimension", name := "<init>", desc := "(LDimensionLines$Point;LDimensionLines$Point;)V" } : Jvm.MethodName)) ∈ lw_all := lw_g (lw_at lw_m3 192 rfl) rfl
theorem q758 : (Jvm.Cond.methodLink "DimensionLines" (163 : Nat) ({ cls := "java/util/ArrayList", name := "add", desc := "(Ljava/lang/Object;)Z" } : Jvm.MethodName)) ∈ lw_all := lw_g (lw_at lw_m3 193 rfl) rfl
theorem q760 : (Jvm.Cond.instanceMethod ({ cls := "DimensionLines", name := "drop", desc := "(I)I" } : Jvm.MethodName)) ∈ lw_all := lw_g (lw_at lw_m3 195 rfl) rfl
theorem q761 : (Jvm.Cond.selects "DimensionLines" ({ cls := "DimensionLines", name := "drop", desc := "(I)I" } : Jvm.MethodName) ({ cls := "DimensionLines", name := "drop", desc := "(I)I" } : Jvm.MethodName)) ∈ lw_all := lw_g (lw_at lw_m3 196 rfl) rfl
theorem q762 : (Jvm.Cond.code ({ cls := "DimensionLines", name := "drop", desc := "(I)I" } : Jvm.MethodName) prog_1_method_17_code (2 : Nat) (Option.some Jvm.ClassFile.FieldType.int)) ∈ lw_all := lw_g (lw_at lw_m3 197 rfl) rfl
theorem q763 : (Jvm.Cond.methodLink "DimensionLines" (167 : Nat) ({ cls := "DimensionLines", name := "isDimension", desc := "(I)Z" } : Jvm.MethodName)) ∈ lw_all := lw_g (lw_at lw_m3 198 rfl) rfl
theorem q764 : (Jvm.Cond.privateMethod ({ cls := "DimensionLines", name := "isDimension", desc := "(I)Z" } : Jvm.MethodName)) ∈ lw_tbl := lw_at lw_m3 199 rfl
theorem q765 : (Jvm.Cond.instanceMethod ({ cls := "DimensionLines", name := "isDimension", desc := "(I)Z" } : Jvm.MethodName)) ∈ lw_all := lw_g (lw_at lw_m3 200 rfl) rfl
theorem q766 : (Jvm.Cond.code ({ cls := "DimensionLines", name := "isDimension", desc := "(I)Z" } : Jvm.MethodName) prog_1_method_7_code (2 : Nat) (Option.some Jvm.ClassFile.FieldType.boolean)) ∈ lw_all := lw_g (lw_at lw_m3 201 rfl) rfl
theorem q768 : (Jvm.Cond.instanceMethod ({ cls := "DimensionLines", name := "setTolerance", desc := "(III)I" } : Jvm.MethodName)) ∈ lw_all := lw_g (lw_at lw_m3 203 rfl) rfl
theorem q769 : (Jvm.Cond.selects "DimensionLines" ({ cls := "DimensionLines", name := "setTolerance", desc := "(III)I" } : Jvm.MethodName) ({ cls := "DimensionLines", name := "setTolerance", desc := "(III)I" } : Jvm.MethodName)) ∈ lw_all := lw_g (lw_at lw_m3 204 rfl) rfl
theorem q770 : (Jvm.Cond.code ({ cls := "DimensionLines", name := "setTolerance", desc := "(III)I" } : Jvm.MethodName) prog_1_method_18_code (6 : Nat) (Option.some Jvm.ClassFile.FieldType.int)) ∈ lw_all := lw_g (lw_at lw_m3 205 rfl) rfl
theorem q772 : (Jvm.Cond.instanceMethod ({ cls := "DimensionLines", name := "setChain", desc := "(II)I" } : Jvm.MethodName)) ∈ lw_all := lw_g (lw_at lw_m3 207 rfl) rfl
theorem q773 : (Jvm.Cond.selects "DimensionLines" ({ cls := "DimensionLines", name := "setChain", desc := "(II)I" } : Jvm.MethodName) ({ cls := "DimensionLines", name := "setChain", desc := "(II)I" } : Jvm.MethodName)) ∈ lw_all := lw_g (lw_at lw_m3 208 rfl) rfl
theorem q774 : (Jvm.Cond.code ({ cls := "DimensionLines", name := "setChain", desc := "(II)I" } : Jvm.MethodName) prog_1_method_19_code (5 : Nat) (Option.some Jvm.ClassFile.FieldType.int)) ∈ lw_all := lw_g (lw_at lw_m3 209 rfl) rfl
theorem q776 : (Jvm.Cond.instanceMethod ({ cls := "DimensionLines", name := "setLeast", desc := "(II)I" } : Jvm.MethodName)) ∈ lw_all := lw_g (lw_at lw_m3 211 rfl) rfl
theorem q777 : (Jvm.Cond.selects "DimensionLines" ({ cls := "DimensionLines", name := "setLeast", desc := "(II)I" } : Jvm.MethodName) ({ cls := "DimensionLines", name := "setLeast", desc := "(II)I" } : Jvm.MethodName)) ∈ lw_all := lw_g (lw_at lw_m3 212 rfl) rfl
theorem q778 : (Jvm.Cond.code ({ cls := "DimensionLines", name := "setLeast", desc := "(II)I" } : Jvm.MethodName) prog_1_method_20_code (5 : Nat) (Option.some Jvm.ClassFile.FieldType.int)) ∈ lw_all := lw_g (lw_at lw_m3 213 rfl) rfl
theorem q780 : (Jvm.Cond.instanceMethod ({ cls := "DimensionLines", name := "setLetter", desc := "(I)I" } : Jvm.MethodName)) ∈ lw_all := lw_g (lw_at lw_m3 215 rfl) rfl
theorem q781 : (Jvm.Cond.selects "DimensionLines" ({ cls := "DimensionLines", name := "setLetter", desc := "(I)I" } : Jvm.MethodName) ({ cls := "DimensionLines", name := "setLetter", desc := "(I)I" } : Jvm.MethodName)) ∈ lw_all := lw_g (lw_at lw_m3 216 rfl) rfl
theorem q782 : (Jvm.Cond.code ({ cls := "DimensionLines", name := "setLetter", desc := "(I)I" } : Jvm.MethodName) prog_1_method_21_code (3 : Nat) (Option.some Jvm.ClassFile.FieldType.int)) ∈ lw_all := lw_g (lw_at lw_m3 217 rfl) rfl
theorem q784 : (Jvm.Cond.instanceMethod ({ cls := "DimensionLines", name := "setArrow", desc := "(I)I" } : Jvm.MethodName)) ∈ lw_all := lw_g (lw_at lw_m3 219 rfl) rfl
theorem q785 : (Jvm.Cond.selects "DimensionLines" ({ cls := "DimensionLines", name := "setArrow", desc := "(I)I" } : Jvm.MethodName) ({ cls := "DimensionLines", name := "setArrow", desc := "(I)I" } : Jvm.MethodName)) ∈ lw_all := lw_g (lw_at lw_m3 220 rfl) rfl
theorem q786 : (Jvm.Cond.code ({ cls := "DimensionLines", name := "setArrow", desc := "(I)I" } : Jvm.MethodName) prog_1_method_22_code (3 : Nat) (Option.some Jvm.ClassFile.FieldType.int)) ∈ lw_all := lw_g (lw_at lw_m3 221 rfl) rfl
theorem q788 : (Jvm.Cond.instanceMethod ({ cls := "DimensionLines", name := "point", desc := "(II)I" } : Jvm.MethodName)) ∈ lw_all := lw_g (lw_at lw_m3 223 rfl) rfl
theorem q789 : (Jvm.Cond.selects "DimensionLines" ({ cls := "DimensionLines", name := "point", desc := "(II)I" } : Jvm.MethodName) ({ cls := "DimensionLines", name := "point", desc := "(II)I" } : Jvm.MethodName)) ∈ lw_all := lw_g (lw_at lw_m3 224 rfl) rfl
theorem q790 : (Jvm.Cond.code ({ cls := "DimensionLines", name := "point", desc := "(II)I" } : Jvm.MethodName) prog_1_method_23_code (4 : Nat) (Option.some Jvm.ClassFile.FieldType.int)) ∈ lw_all := lw_g (lw_at lw_m3 225 rfl) rfl
theorem q791 : (Jvm.Cond.methodLink "DimensionLines" (182 : Nat) ({ cls := "DimensionLines$Drawing", name := "top", desc := "(LDimensionLines$Point;)I" } : Jvm.MethodName)) ∈ lw_all := lw_g (lw_at lw_m3 226 rfl) rfl
theorem q821 : (Jvm.Cond.fieldLinkNest "DimensionLines" (236 : Nat) "DimensionLines$Unit" "dimensions" "Ljava/util/ArrayList;" "DimensionLines") ∈ lw_tbl := lw_at lw_m4 16 rfl
theorem q826 : (Jvm.Cond.fieldLinkNest "DimensionLines" (242 : Nat) "DimensionLines$Unit" "begin" "I" "DimensionLines") ∈ lw_tbl := lw_at lw_m4 21 rfl
theorem q829 : (Jvm.Cond.fieldLinkNest "DimensionLines" (258 : Nat) "DimensionLines$Unit" "end" "I" "DimensionLines") ∈ lw_tbl := lw_at lw_m4 24 rfl
theorem q893 : (Jvm.Cond.static ({ cls := "DimensionLines", name := "least", desc := "(Ljava/util/List;LDimensionLines$Rank;)Ljava/lang/Object;" } : Jvm.MethodName)) ∈ lw_all := lw_g (lw_at lw_m4 88 rfl) rfl
theorem q894 : (Jvm.Cond.code ({ cls := "DimensionLines", name := "least", desc := "(Ljava/util/List;LDimensionLines$Rank;)Ljava/lang/Object;" } : Jvm.MethodName) prog_1_method_2_code (5 : Nat) (Option.some (Jvm.ClassFile.FieldType.object "java/lang/Object"))) ∈ lw_all := lw_g (lw_at lw_m4 89 rfl) rfl
theorem q895 : (Jvm.Cond.interfaceEntry "DimensionLines" (1 : Nat)) ∈ lw_tbl := lw_at lw_m4 90 rfl
theorem q896 : (Jvm.Cond.methodLink "DimensionLines" (1 : Nat) ({ cls := "java/util/List", name := "size", desc := "()I" } : Jvm.MethodName)) ∈ lw_all := lw_g (lw_at lw_m4 91 rfl) rfl
theorem q903 : (Jvm.Cond.interfaceEntry "DimensionLines" (7 : Nat)) ∈ lw_tbl := lw_at lw_m4 98 rfl
theorem q904 : (Jvm.Cond.methodLink "DimensionLines" (7 : Nat) ({ cls := "java/util/List", name := "get", desc := "(I)Ljava/lang/Object;" } : Jvm.MethodName)) ∈ lw_all := lw_g (lw_at lw_m4 99 rfl) rfl
theorem q910 : (Jvm.Cond.interfaceEntry "DimensionLines" (11 : Nat)) ∈ lw_tbl := lw_at lw_m4 105 rfl
theorem q911 : (Jvm.Cond.methodLink "DimensionLines" (11 : Nat) ({ cls := "DimensionLines$Rank", name := "of", desc := "(Ljava/lang/Object;)I" } : Jvm.MethodName)) ∈ lw_all := lw_g (lw_at lw_m4 106 rfl) rfl
theorem q948 : (Jvm.Cond.methodLink "DimensionLines" (185 : Nat) ({ cls := "DimensionLines$Drawing", name := "crossingsOf", desc := "(LDimensionLines$Point;)I" } : Jvm.MethodName)) ∈ lw_all := lw_g (lw_at lw_m4 143 rfl) rfl
theorem q961 : (Jvm.Cond.methodLink "DimensionLines" (188 : Nat) ({ cls := "DimensionLines$Drawing", name := "group", desc := "(I)I" } : Jvm.MethodName)) ∈ lw_all := lw_g (lw_at lw_m4 156 rfl) rfl
theorem q1003 : (Jvm.Cond.instanceMethod ({ cls := "DimensionLines", name := "dimension", desc := "(II)I" } : Jvm.MethodName)) ∈ lw_all := lw_g (lw_at lw_m4 198 rfl) rfl
theorem q1004 : (Jvm.Cond.selects "DimensionLines" ({ cls := "DimensionLines", name := "dimension", desc := "(II)I" } : Jvm.MethodName) ({ cls := "DimensionLines", name := "dimension", desc := "(II)I" } : Jvm.MethodName)) ∈ lw_all := lw_g (lw_at lw_m4 199 rfl) rfl
theorem q1005 : (Jvm.Cond.code ({ cls := "DimensionLines", name := "dimension", desc := "(II)I" } : Jvm.MethodName) prog_1_method_24_code (5 : Nat) (Option.some Jvm.ClassFile.FieldType.int)) ∈ lw_all := lw_g (lw_at lw_m4 200 rfl) rfl
theorem q1006 : (Jvm.Cond.methodLink "DimensionLines" (191 : Nat) ({ cls := "DimensionLines$Drawing", name := "units", desc := "()Ljava/util/ArrayList;" } : Jvm.MethodName)) ∈ lw_all := lw_g (lw_at lw_m4 201 rfl) rfl
theorem q1007 : (Jvm.Cond.methodLink "DimensionLines" (195 : Nat) ({ cls := "java/util/ArrayList", name := "indexOf", desc := "(Ljava/lang/Object;)I" } : Jvm.MethodName)) ∈ lw_all := lw_g (lw_at lw_m4 202 rfl) rfl
theorem q1008 : (Jvm.Cond.methodLink "DimensionLines" (209 : Nat) ({ cls := "DimensionLines$Drawing", name := "isSuperfluous", desc := "(I)Z" } : Jvm.MethodName)) ∈ lw_all := lw_g (lw_at lw_m4 203 rfl) rfl
theorem q1021 : (Jvm.Cond.methodLink "DimensionLines" (212 : Nat) ({ cls := "DimensionLines$Drawing", name := "crossingsOf", desc := "(LDimensionLines$Dimension;)I" } : Jvm.MethodName)) ∈ lw_all := lw_g (lw_at lw_m4 216 rfl) rfl
theorem q1026 : (Jvm.Cond.instanceMethod ({ cls := "DimensionLines", name := "at", desc := "(II)I" } : Jvm.MethodName)) ∈ lw_all := lw_g (lw_at lw_m4 221 rfl) rfl
theorem q1027 : (Jvm.Cond.selects "DimensionLines" ({ cls := "DimensionLines", name := "at", desc := "(II)I" } : Jvm.MethodName) ({ cls := "DimensionLines", name := "at", desc := "(II)I" } : Jvm.MethodName)) ∈ lw_all := lw_g (lw_at lw_m4 222 rfl) rfl
theorem q1028 : (Jvm.Cond.code ({ cls := "DimensionLines", name := "at", desc := "(II)I" } : Jvm.MethodName) prog_1_method_25_code (6 : Nat) (Option.some Jvm.ClassFile.FieldType.int)) ∈ lw_all := lw_g (lw_at lw_m4 223 rfl) rfl
theorem q1029 : (Jvm.Cond.methodLink "DimensionLines" (215 : Nat) ({ cls := "DimensionLines$Drawing", name := "lanes", desc := "()I" } : Jvm.MethodName)) ∈ lw_all := lw_g (lw_at lw_m4 224 rfl) rfl
theorem q1034 : (Jvm.Cond.instanceMethod ({ cls := "DimensionLines", name := "distance", desc := "(IIZ)I" } : Jvm.MethodName)) ∈ lw_all := lw_g (lw_at lw_m4 229 rfl) rfl
theorem q1035 : (Jvm.Cond.selects "DimensionLines" ({ cls := "DimensionLines", name := "distance", desc := "(IIZ)I" } : Jvm.MethodName) ({ cls := "DimensionLines", name := "distance", desc := "(IIZ)I" } : Jvm.MethodName)) ∈ lw_all := lw_g (lw_at lw_m4 230 rfl) rfl
theorem q1036 : (Jvm.Cond.code ({ cls := "DimensionLines", name := "distance", desc := "(IIZ)I" } : Jvm.MethodName) prog_1_method_26_code (5 : Nat) (Option.some Jvm.ClassFile.FieldType.int)) ∈ lw_all := lw_g (lw_at lw_m4 231 rfl) rfl
theorem q1037 : (Jvm.Cond.methodLink "DimensionLines" (218 : Nat) ({ cls := "DimensionLines$Drawing", name := "bounds", desc := "()LDimensionLines$Bounds;" } : Jvm.MethodName)) ∈ lw_all := lw_g (lw_at lw_m4 232 rfl) rfl
theorem q1038 : (Jvm.Cond.methodLink "DimensionLines" (222 : Nat) ({ cls := "DimensionLines$Bounds", name := "areBound", desc := "(II)Z" } : Jvm.MethodName)) ∈ lw_all := lw_g (lw_at lw_m4 233 rfl) rfl
theorem q1039 : (Jvm.Cond.methodLink "DimensionLines" (227 : Nat) ({ cls := "DimensionLines$Bounds", name := "greatest", desc := "(II)I" } : Jvm.MethodName)) ∈ lw_all := lw_g (lw_at lw_m4 234 rfl) rfl
theorem q1040 : (Jvm.Cond.methodLink "DimensionLines" (230 : Nat) ({ cls := "DimensionLines$Bounds", name := "least", desc := "(II)I" } : Jvm.MethodName)) ∈ lw_all := lw_g (lw_at lw_m4 235 rfl) rfl
theorem q1042 : (Jvm.Cond.instanceMethod ({ cls := "DimensionLines", name := "ifExact", desc := "(III)I" } : Jvm.MethodName)) ∈ lw_all := lw_g (lw_at lw_m4 237 rfl) rfl
theorem q1043 : (Jvm.Cond.selects "DimensionLines" ({ cls := "DimensionLines", name := "ifExact", desc := "(III)I" } : Jvm.MethodName) ({ cls := "DimensionLines", name := "ifExact", desc := "(III)I" } : Jvm.MethodName)) ∈ lw_all := lw_g (lw_at lw_m4 238 rfl) rfl
theorem q1044 : (Jvm.Cond.code ({ cls := "DimensionLines", name := "ifExact", desc := "(III)I" } : Jvm.MethodName) prog_1_method_27_code (4 : Nat) (Option.some Jvm.ClassFile.FieldType.int)) ∈ lw_all := lw_g (lw_at lw_m4 239 rfl) rfl
theorem q1045 : (Jvm.Cond.methodLink "DimensionLines" (232 : Nat) ({ cls := "DimensionLines$Drawing", name := "gain", desc := "(III)I" } : Jvm.MethodName)) ∈ lw_all := lw_g (lw_at lw_m5 0 rfl) rfl
theorem q1056 : (Jvm.Cond.instanceMethod ({ cls := "DimensionLines", name := "critical", desc := "(II)I" } : Jvm.MethodName)) ∈ lw_all := lw_g (lw_at lw_m5 11 rfl) rfl
theorem q1057 : (Jvm.Cond.selects "DimensionLines" ({ cls := "DimensionLines", name := "critical", desc := "(II)I" } : Jvm.MethodName) ({ cls := "DimensionLines", name := "critical", desc := "(II)I" } : Jvm.MethodName)) ∈ lw_all := lw_g (lw_at lw_m5 12 rfl) rfl
theorem q1058 : (Jvm.Cond.code ({ cls := "DimensionLines", name := "critical", desc := "(II)I" } : Jvm.MethodName) prog_1_method_28_code (7 : Nat) (Option.some Jvm.ClassFile.FieldType.int)) ∈ lw_all := lw_g (lw_at lw_m5 13 rfl) rfl
theorem q1060 : (Jvm.Cond.instanceMethod ({ cls := "DimensionLines", name := "needed", desc := "()I" } : Jvm.MethodName)) ∈ lw_all := lw_g (lw_at lw_m5 15 rfl) rfl
theorem q1061 : (Jvm.Cond.selects "DimensionLines" ({ cls := "DimensionLines", name := "needed", desc := "()I" } : Jvm.MethodName) ({ cls := "DimensionLines", name := "needed", desc := "()I" } : Jvm.MethodName)) ∈ lw_all := lw_g (lw_at lw_m5 16 rfl) rfl
theorem q1062 : (Jvm.Cond.code ({ cls := "DimensionLines", name := "needed", desc := "()I" } : Jvm.MethodName) prog_1_method_29_code (3 : Nat) (Option.some Jvm.ClassFile.FieldType.int)) ∈ lw_all := lw_g (lw_at lw_m5 17 rfl) rfl
theorem q1064 : (Jvm.Cond.instanceMethod ({ cls := "DimensionLines", name := "chain", desc := "(II)I" } : Jvm.MethodName)) ∈ lw_all := lw_g (lw_at lw_m5 19 rfl) rfl
theorem q1065 : (Jvm.Cond.selects "DimensionLines" ({ cls := "DimensionLines", name := "chain", desc := "(II)I" } : Jvm.MethodName) ({ cls := "DimensionLines", name := "chain", desc := "(II)I" } : Jvm.MethodName)) ∈ lw_all := lw_g (lw_at lw_m5 20 rfl) rfl
theorem q1066 : (Jvm.Cond.code ({ cls := "DimensionLines", name := "chain", desc := "(II)I" } : Jvm.MethodName) prog_1_method_32_code (6 : Nat) (Option.some Jvm.ClassFile.FieldType.int)) ∈ lw_all := lw_g (lw_at lw_m5 21 rfl) rfl
theorem q1067 : (Jvm.Cond.methodLink "DimensionLines" (255 : Nat) ({ cls := "DimensionLines$Drawing", name := "chain", desc := "(I)LDimensionLines$Unit;" } : Jvm.MethodName)) ∈ lw_all := lw_g (lw_at lw_m5 22 rfl) rfl
theorem q1071 : (Jvm.Cond.methodLink "DimensionLines" (243 : Nat) ({ cls := "java/util/ArrayList", name := "isEmpty", desc := "()Z" } : Jvm.MethodName)) ∈ lw_all := lw_g (lw_at lw_m5 26 rfl) rfl
theorem q1072 : (Jvm.Cond.methodLink "DimensionLines" (259 : Nat) ({ cls := "DimensionLines", name := "isClosed", desc := "(LDimensionLines$Unit;)Z" } : Jvm.MethodName)) ∈ lw_all := lw_g (lw_at lw_m5 27 rfl) rfl
theorem q1073 : (Jvm.Cond.static ({ cls := "DimensionLines", name := "isClosed", desc := "(LDimensionLines$Unit;)Z" } : Jvm.MethodName)) ∈ lw_all := lw_g (lw_at lw_m5 28 rfl) rfl
theorem q1074 : (Jvm.Cond.code ({ cls := "DimensionLines", name := "isClosed", desc := "(LDimensionLines$Unit;)Z" } : Jvm.MethodName) prog_1_method_30_code (5 : Nat) (Option.some Jvm.ClassFile.FieldType.boolean)) ∈ lw_all := lw_g (lw_at lw_m5 29 rfl) rfl
theorem q1075 : (Jvm.Cond.classLink "DimensionLines" (63 : Nat) "java/util/ArrayList") ∈ lw_all := lw_g (lw_at lw_m5 30 rfl) rfl
theorem q1076 : (Jvm.Cond.methodLink "DimensionLines" (239 : Nat) ({ cls := "java/util/ArrayList", name := "<init>", desc := "(Ljava/util/Collection;)V" } : Jvm.MethodName)) ∈ lw_all := lw_g (lw_at lw_m5 31 rfl) rfl
theorem q1100 : (Jvm.Cond.static ({ cls := "DimensionLines", name := "lambda$isClosed$0", desc := "(LDimensionLines$Dimension;)I" } : Jvm.MethodName)) ∈ lw_all := lw_g (lw_at lw_m5 55 rfl) rfl
theorem q1101 : (Jvm.Cond.code ({ cls := "DimensionLines", name := "lambda$isClosed$0", desc := "(LDimensionLines$Dimension;)I" } : Jvm.MethodName) prog_1_method_42_code (1 : Nat) (Option.some Jvm.ClassFile.FieldType.int)) ∈ lw_all := lw_g (lw_at lw_m5 56 rfl) rfl
theorem q1102 : (Jvm.Cond.methodLink "DimensionLines" (250 : Nat) ({ cls := "DimensionLines", name := "least", desc := "(Ljava/util/List;LDimensionLines$Rank;)Ljava/lang/Object;" } : Jvm.MethodName)) ∈ lw_all := lw_g (lw_at lw_m5 57 rfl) rfl
theorem q1103 : (Jvm.Cond.methodLink "DimensionLines" (253 : Nat) ({ cls := "java/util/ArrayList", name := "remove", desc := "(Ljava/lang/Object;)Z" } : Jvm.MethodName)) ∈ lw_all := lw_g (lw_at lw_m5 58 rfl) rfl
theorem q1104 : (Jvm.Cond.static ({ cls := "DimensionLines", name := "lambda$chain$1", desc := "(LDimensionLines$Dimension;)I" } : Jvm.MethodName)) ∈ lw_all := lw_g (lw_at lw_m5 59 rfl) rfl
theorem q1105 : (Jvm.Cond.code ({ cls := "DimensionLines", name := "lambda$chain$1", desc := "(LDimensionLines$Dimension;)I" } : Jvm.MethodName) prog_1_method_41_code (1 : Nat) (Option.some Jvm.ClassFile.FieldType.int)) ∈ lw_all := lw_g (lw_at lw_m5 60 rfl) rfl
theorem q1106 : (Jvm.Cond.methodLink "DimensionLines" (264 : Nat) ({ cls := "DimensionLines", name := "sum", desc := "(LDimensionLines$Unit;LDimensionLines$Rank;)I" } : Jvm.MethodName)) ∈ lw_all := lw_g (lw_at lw_m5 61 rfl) rfl
theorem q1107 : (Jvm.Cond.static ({ cls := "DimensionLines", name := "sum", desc := "(LDimensionLines$Unit;LDimensionLines$Rank;)I" } : Jvm.MethodName)) ∈ lw_all := lw_g (lw_at lw_m5 62 rfl) rfl
theorem q1108 : (Jvm.Cond.code ({ cls := "DimensionLines", name := "sum", desc := "(LDimensionLines$Unit;LDimensionLines$Rank;)I" } : Jvm.MethodName) prog_1_method_31_code (4 : Nat) (Option.some Jvm.ClassFile.FieldType.int)) ∈ lw_all := lw_g (lw_at lw_m5 63 rfl) rfl
theorem q1109 : (Jvm.Cond.static ({ cls := "DimensionLines", name := "lambda$chain$2", desc := "(LDimensionLines$Dimension;)I" } : Jvm.MethodName)) ∈ lw_all := lw_g (lw_at lw_m5 64 rfl) rfl
theorem q1110 : (Jvm.Cond.code ({ cls := "DimensionLines", name := "lambda$chain$2", desc := "(LDimensionLines$Dimension;)I" } : Jvm.MethodName) prog_1_method_40_code (1 : Nat) (Option.some Jvm.ClassFile.FieldType.int)) ∈ lw_all := lw_g (lw_at lw_m5 65 rfl) rfl
theorem q1111 : (Jvm.Cond.static ({ cls := "DimensionLines", name := "lambda$chain$3", desc := "(LDimensionLines$Dimension;)I" } : Jvm.MethodName)) ∈ lw_all := lw_g (lw_at lw_m5 66 rfl) rfl
theorem q1112 : (Jvm.Cond.code ({ cls := "DimensionLines", name := "lambda$chain$3", desc := "(LDimensionLines$Dimension;)I" } : Jvm.MethodName) prog_1_method_39_code (1 : Nat) (Option.some Jvm.ClassFile.FieldType.int)) ∈ lw_all := lw_g (lw_at lw_m5 67 rfl) rfl
theorem q1113 : (Jvm.Cond.methodLink "DimensionLines" (270 : Nat) ({ cls := "DimensionLines$Drawing", name := "over", desc := "(ILDimensionLines$Unit;)I" } : Jvm.MethodName)) ∈ lw_all := lw_g (lw_at lw_m5 68 rfl) rfl
theorem q1118 : (Jvm.Cond.instanceMethod ({ cls := "DimensionLines", name := "ifArrow", desc := "(I)I" } : Jvm.MethodName)) ∈ lw_all := lw_g (lw_at lw_m5 73 rfl) rfl
theorem q1119 : (Jvm.Cond.selects "DimensionLines" ({ cls := "DimensionLines", name := "ifArrow", desc := "(I)I" } : Jvm.MethodName) ({ cls := "DimensionLines", name := "ifArrow", desc := "(I)I" } : Jvm.MethodName)) ∈ lw_all := lw_g (lw_at lw_m5 74 rfl) rfl
theorem q1120 : (Jvm.Cond.code ({ cls := "DimensionLines", name := "ifArrow", desc := "(I)I" } : Jvm.MethodName) prog_1_method_33_code (3 : Nat) (Option.some Jvm.ClassFile.FieldType.int)) ∈ lw_all := lw_g (lw_at lw_m5 75 rfl) rfl
theorem q1122 : (Jvm.Cond.instanceMethod ({ cls := "DimensionLines", name := "undo", desc := "()I" } : Jvm.MethodName)) ∈ lw_all := lw_g (lw_at lw_m5 77 rfl) rfl
theorem q1123 : (Jvm.Cond.selects "DimensionLines" ({ cls := "DimensionLines", name := "undo", desc := "()I" } : Jvm.MethodName) ({ cls := "DimensionLines", name := "undo", desc := "()I" } : Jvm.MethodName)) ∈ lw_all := lw_g (lw_at lw_m5 78 rfl) rfl
theorem q1124 : (Jvm.Cond.code ({ cls := "DimensionLines", name := "undo", desc := "()I" } : Jvm.MethodName) prog_1_method_34_code (1 : Nat) (Option.some Jvm.ClassFile.FieldType.int)) ∈ lw_all := lw_g (lw_at lw_m5 79 rfl) rfl
theorem q1126 : (Jvm.Cond.instanceMethod ({ cls := "DimensionLines", name := "count", desc := "(I)I" } : Jvm.MethodName)) ∈ lw_all := lw_g (lw_at lw_m5 81 rfl) rfl
theorem q1127 : (Jvm.Cond.selects "DimensionLines" ({ cls := "DimensionLines", name := "count", desc := "(I)I" } : Jvm.MethodName) ({ cls := "DimensionLines", name := "count", desc := "(I)I" } : Jvm.MethodName)) ∈ lw_all := lw_g (lw_at lw_m5 82 rfl) rfl
theorem q1128 : (Jvm.Cond.code ({ cls := "DimensionLines", name := "count", desc := "(I)I" } : Jvm.MethodName) prog_1_method_35_code (2 : Nat) (Option.some Jvm.ClassFile.FieldType.int)) ∈ lw_all := lw_g (lw_at lw_m5 83 rfl) rfl
theorem q1129 : (Jvm.Cond.methodLink "DimensionLines" (274 : Nat) ({ cls := "DimensionLines$Drawing", name := "crossings", desc := "()I" } : Jvm.MethodName)) ∈ lw_all := lw_g (lw_at lw_m5 84 rfl) rfl
theorem q1134 : (Jvm.Cond.methodLink "DimensionLines" (277 : Nat) ({ cls := "DimensionLines$Drawing", name := "groups", desc := "()I" } : Jvm.MethodName)) ∈ lw_all := lw_g (lw_at lw_m5 89 rfl) rfl
theorem q1138 : (Jvm.Cond.methodLink "DimensionLines" (280 : Nat) ({ cls := "DimensionLines$Drawing", name := "superfluous", desc := "()I" } : Jvm.MethodName)) ∈ lw_all := lw_g (lw_at lw_m5 93 rfl) rfl
theorem q1144 : (Jvm.Cond.instanceMethod ({ cls := "DimensionLines", name := "digest", desc := "()J" } : Jvm.MethodName)) ∈ lw_all := lw_g (lw_at lw_m5 99 rfl) rfl
theorem q1145 : (Jvm.Cond.selects "DimensionLines" ({ cls := "DimensionLines", name := "digest", desc := "()J" } : Jvm.MethodName) ({ cls := "DimensionLines", name := "digest", desc := "()J" } : Jvm.MethodName)) ∈ lw_all := lw_g (lw_at lw_m5 100 rfl) rfl
theorem q1146 : (Jvm.Cond.code ({ cls := "DimensionLines", name := "digest", desc := "()J" } : Jvm.MethodName) prog_1_method_38_code (5 : Nat) (Option.some Jvm.ClassFile.FieldType.long)) ∈ lw_all := lw_g (lw_at lw_m5 101 rfl) rfl
theorem q1147 : (Jvm.Cond.constantLong "DimensionLines" (296 : Nat) (18841 : Int64)) ∈ lw_all := lw_g (lw_at lw_m5 102 rfl) rfl
theorem q1148 : (Jvm.Cond.methodLink "DimensionLines" (298 : Nat) ({ cls := "DimensionLines", name := "count", desc := "(I)I" } : Jvm.MethodName)) ∈ lw_all := lw_g (lw_at lw_m5 103 rfl) rfl
theorem q1149 : (Jvm.Cond.methodLink "DimensionLines" (289 : Nat) ({ cls := "DimensionLines", name := "mixed", desc := "(JJ)J" } : Jvm.MethodName)) ∈ lw_all := lw_g (lw_at lw_m5 104 rfl) rfl
theorem q1150 : (Jvm.Cond.static ({ cls := "DimensionLines", name := "mixed", desc := "(JJ)J" } : Jvm.MethodName)) ∈ lw_all := lw_g (lw_at lw_m5 105 rfl) rfl
theorem q1151 : (Jvm.Cond.code ({ cls := "DimensionLines", name := "mixed", desc := "(JJ)J" } : Jvm.MethodName) prog_1_method_36_code (4 : Nat) (Option.some Jvm.ClassFile.FieldType.long)) ∈ lw_all := lw_g (lw_at lw_m5 106 rfl) rfl
theorem q1152 : (Jvm.Cond.constantLong "DimensionLines" (283 : Nat) (31 : Int64)) ∈ lw_all := lw_g (lw_at lw_m5 107 rfl) rfl
theorem q1153 : (Jvm.Cond.methodLink "DimensionLines" (301 : Nat) ({ cls := "DimensionLines", name := "point", desc := "(II)I" } : Jvm.MethodName)) ∈ lw_all := lw_g (lw_at lw_m5 108 rfl) rfl
theorem q1154 : (Jvm.Cond.methodLink "DimensionLines" (304 : Nat) ({ cls := "DimensionLines", name := "dimension", desc := "(II)I" } : Jvm.MethodName)) ∈ lw_all := lw_g (lw_at lw_m5 109 rfl) rfl
theorem q1155 : (Jvm.Cond.methodLink "DimensionLines" (307 : Nat) ({ cls := "DimensionLines", name := "mixedPoint", desc := "(JI)J" } : Jvm.MethodName)) ∈ lw_all := lw_g (lw_at lw_m5 110 rfl) rfl
theorem q1156 : (Jvm.Cond.privateMethod ({ cls := "DimensionLines", name := "mixedPoint", desc := "(JI)J" } : Jvm.MethodName)) ∈ lw_tbl := lw_at lw_m5 111 rfl
theorem q1157 : (Jvm.Cond.instanceMethod ({ cls := "DimensionLines", name := "mixedPoint", desc := "(JI)J" } : Jvm.MethodName)) ∈ lw_all := lw_g (lw_at lw_m5 112 rfl) rfl
theorem q1158 : (Jvm.Cond.code ({ cls := "DimensionLines", name := "mixedPoint", desc := "(JI)J" } : Jvm.MethodName) prog_1_method_37_code (7 : Nat) (Option.some Jvm.ClassFile.FieldType.long)) ∈ lw_all := lw_g (lw_at lw_m5 113 rfl) rfl
theorem q1159 : (Jvm.Cond.methodLink "DimensionLines" (285 : Nat) ({ cls := "DimensionLines", name := "distance", desc := "(IIZ)I" } : Jvm.MethodName)) ∈ lw_all := lw_g (lw_at lw_m5 114 rfl) rfl
theorem q1160 : (Jvm.Cond.methodLink "DimensionLines" (293 : Nat) ({ cls := "DimensionLines", name := "critical", desc := "(II)I" } : Jvm.MethodName)) ∈ lw_all := lw_g (lw_at lw_m5 115 rfl) rfl
theorem q1161 : (Jvm.Cond.methodLink "DimensionLines" (311 : Nat) ({ cls := "DimensionLines", name := "chain", desc := "(II)I" } : Jvm.MethodName)) ∈ lw_all := lw_g (lw_at lw_m5 116 rfl) rfl
theorem q1162 : (Jvm.Cond.methodLink "DimensionLines" (313 : Nat) ({ cls := "DimensionLines", name := "needed", desc := "()I" } : Jvm.MethodName)) ∈ lw_all := lw_g (lw_at lw_m5 117 rfl) rfl
theorem q1600 : (Jvm.Cond.castable "DimensionLines" "java/lang/Object") ∈ lw_tbl := lw_at lw_m7 75 rfl
theorem in_X0 : ∀ w ∈ wsX00, w ∈ lw_all := lw_in wsX00 [191, 193, 195, 197, 199, 201] (by decide +kernel) (by decide +kernel)

/-! DimensionLines$Drawing -/
set_option maxRecDepth 100000
def RX1 : String := "DimensionLines$Drawing"
def TX1 : u_T := fun k => match k with
  | 0 => ("DimensionLines$Drawing", "points", "Ljava/util/ArrayList;", true)
  | 1 => ("DimensionLines$Drawing", "dimensions", "Ljava/util/ArrayList;", true)
  | 2 => ("DimensionLines$Drawing", "letter", "I", false)
  | 3 => ("DimensionLines$Drawing", "arrow", "I", false)
  | 4 => ("DimensionLines$Drawing", "units", "Ljava/util/ArrayList;", false)
  | 5 => ("DimensionLines$Drawing", "bounds", "LDimensionLines$Bounds;", false)
  | _ => ("DimensionLines$Drawing", "exact", "[LDimensionLines$Bounds;", true)
def tyX1 : Nat → FieldType := fun k => match k with
  | 0 => .object "java/util/ArrayList"
  | 1 => .object "java/util/ArrayList"
  | 2 => .int
  | 3 => .int
  | 4 => .object "java/util/ArrayList"
  | 5 => .object "DimensionLines$Bounds"
  | _ => .array (.object "DimensionLines$Bounds")
abbrev wsX10 : List Cond := u_ws RX1 TX1 7
theorem nmX1 : ∀ a, a < 7 → ∀ b, b < 7 → a ≠ b → (TX1 a).2.1 ≠ (TX1 b).2.1 := by decide +kernel
theorem tyX1_ok : ∀ k, k < 7 → parseFieldDescriptor (TX1 k).2.2.1 = some (tyX1 k) := by decide +kernel
abbrev cX1_init : ByteArray := prog_4_method_1_code
def yX1_init : MethodName := ⟨RX1, "<init>", "()V"⟩
def dkwX1_init_1 : List UInt8 := [181, 0, 18, 42, 7, 181, 0, 21, 42, 6, 181, 0, 25, 42, 16, 16, 189, 0, 28, 181, 0, 30, 177]
abbrev dktX1_init_1 : List UInt8 := dkwX1_init_1 ++ []
def dkwX1_init_0 : List UInt8 := [42, 183, 0, 3, 42, 187, 0, 9, 89, 183, 0, 11, 181, 0, 12, 42, 187, 0, 9, 89, 183, 0, 11]
abbrev dktX1_init_0 : List UInt8 := dkwX1_init_0 ++ dktX1_init_1
theorem dksX1_init_0 : cX1_init.data.toList.drop 0 = dktX1_init_0 := by decide +kernel
theorem dksX1_init_1 : cX1_init.data.toList.drop 23 = dktX1_init_1 := dk_seg dksX1_init_0 23 rfl rfl
theorem dX1_init_0 : decode cX1_init 0 = .ok (.aload_n 0, 1) := dk_42 (dk_at dksX1_init_0 0 rfl rfl)
theorem dX1_init_1 : decode cX1_init 1 = .ok (.invokespecial 3, 3) := dk_183 0 3 (dk_at dksX1_init_0 1 rfl rfl)
theorem dX1_init_4 : decode cX1_init 4 = .ok (.aload_n 0, 1) := dk_42 (dk_at dksX1_init_0 4 rfl rfl)
theorem dX1_init_5 : decode cX1_init 5 = .ok (.new 9, 3) := dk_187 0 9 (dk_at dksX1_init_0 5 rfl rfl)
theorem dX1_init_8 : decode cX1_init 8 = .ok (.dup, 1) := dk_89 (dk_at dksX1_init_0 8 rfl rfl)
theorem dX1_init_9 : decode cX1_init 9 = .ok (.invokespecial 11, 3) := dk_183 0 11 (dk_at dksX1_init_0 9 rfl rfl)
theorem dX1_init_12 : decode cX1_init 12 = .ok (.putfield 12, 3) := dk_181 0 12 (dk_at dksX1_init_0 12 rfl rfl)
theorem dX1_init_15 : decode cX1_init 15 = .ok (.aload_n 0, 1) := dk_42 (dk_at dksX1_init_0 15 rfl rfl)
theorem dX1_init_16 : decode cX1_init 16 = .ok (.new 9, 3) := dk_187 0 9 (dk_at dksX1_init_0 16 rfl rfl)
theorem dX1_init_19 : decode cX1_init 19 = .ok (.dup, 1) := dk_89 (dk_at dksX1_init_0 19 rfl rfl)
theorem dX1_init_20 : decode cX1_init 20 = .ok (.invokespecial 11, 3) := dk_183 0 11 (dk_at dksX1_init_0 20 rfl rfl)
theorem dX1_init_23 : decode cX1_init 23 = .ok (.putfield 18, 3) := dk_181 0 18 (dk_at dksX1_init_1 0 rfl rfl)
theorem dX1_init_26 : decode cX1_init 26 = .ok (.aload_n 0, 1) := dk_42 (dk_at dksX1_init_1 3 rfl rfl)
theorem dX1_init_27 : decode cX1_init 27 = .ok (.iconst 4, 1) := dk_7 (dk_at dksX1_init_1 4 rfl rfl)
theorem dX1_init_28 : decode cX1_init 28 = .ok (.putfield 21, 3) := dk_181 0 21 (dk_at dksX1_init_1 5 rfl rfl)
theorem dX1_init_31 : decode cX1_init 31 = .ok (.aload_n 0, 1) := dk_42 (dk_at dksX1_init_1 8 rfl rfl)
theorem dX1_init_32 : decode cX1_init 32 = .ok (.iconst 3, 1) := dk_6 (dk_at dksX1_init_1 9 rfl rfl)
theorem dX1_init_33 : decode cX1_init 33 = .ok (.putfield 25, 3) := dk_181 0 25 (dk_at dksX1_init_1 10 rfl rfl)
theorem dX1_init_36 : decode cX1_init 36 = .ok (.aload_n 0, 1) := dk_42 (dk_at dksX1_init_1 13 rfl rfl)
theorem dX1_init_37 : decode cX1_init 37 = .ok (.bipush 16, 2) := dk_16 16 (dk_at dksX1_init_1 14 rfl rfl)
theorem dX1_init_39 : decode cX1_init 39 = .ok (.anewarray 28, 3) := dk_189 0 28 (dk_at dksX1_init_1 16 rfl rfl)
theorem dX1_init_42 : decode cX1_init 42 = .ok (.putfield 30, 3) := dk_181 0 30 (dk_at dksX1_init_1 19 rfl rfl)
theorem dX1_init_45 : decode cX1_init 45 = .ok (.return_, 1) := dk_177 (dk_at dksX1_init_1 22 rfl rfl)
abbrev cX1_pointAt : ByteArray := prog_4_method_3_code
def yX1_pointAt : MethodName := ⟨RX1, "pointAt", "(I)I"⟩
def dkwX1_pointAt_1 : List UInt8 := [180, 0, 45, 27, 160, 0, 5, 28, 172, 132, 2, 1, 167, 255, 222, 17, 252, 25, 172]
abbrev dktX1_pointAt_1 : List UInt8 := dkwX1_pointAt_1 ++ []
def dkwX1_pointAt_0 : List UInt8 := [3, 61, 28, 42, 180, 0, 12, 182, 0, 35, 162, 0, 29, 42, 180, 0, 12, 28, 182, 0, 41, 192, 0, 39]
abbrev dktX1_pointAt_0 : List UInt8 := dkwX1_pointAt_0 ++ dktX1_pointAt_1
theorem dksX1_pointAt_0 : cX1_pointAt.data.toList.drop 0 = dktX1_pointAt_0 := by decide +kernel
theorem dksX1_pointAt_1 : cX1_pointAt.data.toList.drop 24 = dktX1_pointAt_1 := dk_seg dksX1_pointAt_0 24 rfl rfl
theorem dX1_pointAt_0 : decode cX1_pointAt 0 = .ok (.iconst 0, 1) := dk_3 (dk_at dksX1_pointAt_0 0 rfl rfl)
theorem dX1_pointAt_1 : decode cX1_pointAt 1 = .ok (.istore_n 2, 1) := dk_61 (dk_at dksX1_pointAt_0 1 rfl rfl)
theorem dX1_pointAt_2 : decode cX1_pointAt 2 = .ok (.iload_n 2, 1) := dk_28 (dk_at dksX1_pointAt_0 2 rfl rfl)
theorem dX1_pointAt_3 : decode cX1_pointAt 3 = .ok (.aload_n 0, 1) := dk_42 (dk_at dksX1_pointAt_0 3 rfl rfl)
theorem dX1_pointAt_4 : decode cX1_pointAt 4 = .ok (.getfield 12, 3) := dk_180 0 12 (dk_at dksX1_pointAt_0 4 rfl rfl)
theorem dX1_pointAt_7 : decode cX1_pointAt 7 = .ok (.invokevirtual 35, 3) := dk_182 0 35 (dk_at dksX1_pointAt_0 7 rfl rfl)
theorem dX1_pointAt_10 : decode cX1_pointAt 10 = .ok (.if_icmp .ge 29, 3) := dk_162 0 29 (dk_at dksX1_pointAt_0 10 rfl rfl)
theorem dX1_pointAt_13 : decode cX1_pointAt 13 = .ok (.aload_n 0, 1) := dk_42 (dk_at dksX1_pointAt_0 13 rfl rfl)
theorem dX1_pointAt_14 : decode cX1_pointAt 14 = .ok (.getfield 12, 3) := dk_180 0 12 (dk_at dksX1_pointAt_0 14 rfl rfl)
theorem dX1_pointAt_17 : decode cX1_pointAt 17 = .ok (.iload_n 2, 1) := dk_28 (dk_at dksX1_pointAt_0 17 rfl rfl)
theorem dX1_pointAt_18 : decode cX1_pointAt 18 = .ok (.invokevirtual 41, 3) := dk_182 0 41 (dk_at dksX1_pointAt_0 18 rfl rfl)
theorem dX1_pointAt_21 : decode cX1_pointAt 21 = .ok (.checkcast 39, 3) := dk_192 0 39 (dk_at dksX1_pointAt_0 21 rfl rfl)
theorem dX1_pointAt_24 : decode cX1_pointAt 24 = .ok (.getfield 45, 3) := dk_180 0 45 (dk_at dksX1_pointAt_1 0 rfl rfl)
theorem dX1_pointAt_27 : decode cX1_pointAt 27 = .ok (.iload_n 1, 1) := dk_27 (dk_at dksX1_pointAt_1 3 rfl rfl)
theorem dX1_pointAt_28 : decode cX1_pointAt 28 = .ok (.if_icmp .ne 5, 3) := dk_160 0 5 (dk_at dksX1_pointAt_1 4 rfl rfl)
theorem dX1_pointAt_31 : decode cX1_pointAt 31 = .ok (.iload_n 2, 1) := dk_28 (dk_at dksX1_pointAt_1 7 rfl rfl)
theorem dX1_pointAt_32 : decode cX1_pointAt 32 = .ok (.ireturn, 1) := dk_172 (dk_at dksX1_pointAt_1 8 rfl rfl)
theorem dX1_pointAt_33 : decode cX1_pointAt 33 = .ok (.iinc 2 1, 3) := dk_132 2 1 (dk_at dksX1_pointAt_1 9 rfl rfl)
theorem dX1_pointAt_36 : decode cX1_pointAt 36 = .ok (.goto (-34), 3) := dk_167 255 222 (dk_at dksX1_pointAt_1 12 rfl rfl)
theorem dX1_pointAt_39 : decode cX1_pointAt 39 = .ok (.sipush (-999), 3) := dk_17 252 25 (dk_at dksX1_pointAt_1 15 rfl rfl)
theorem dX1_pointAt_42 : decode cX1_pointAt 42 = .ok (.ireturn, 1) := dk_172 (dk_at dksX1_pointAt_1 18 rfl rfl)
abbrev cX1_copy : ByteArray := prog_4_method_2_code
def yX1_copy : MethodName := ⟨RX1, "copy", "()LDimensionLines$Drawing;"⟩
def dkwX1_copy_8 : List UInt8 := [180, 0, 18, 25, 4, 182, 0, 51, 87, 132, 2, 1, 167, 255, 133, 43, 176]
abbrev dktX1_copy_8 : List UInt8 := dkwX1_copy_8 ++ []
def dkwX1_copy_7 : List UInt8 := [181, 0, 74, 25, 4, 45, 180, 0, 77, 181, 0, 77, 25, 4, 45, 180, 0, 80, 181, 0, 80, 43]
abbrev dktX1_copy_7 : List UInt8 := dkwX1_copy_7 ++ dktX1_copy_8
def dkwX1_copy_6 : List UInt8 := [192, 0, 39, 183, 0, 68, 58, 4, 25, 4, 45, 180, 0, 71, 181, 0, 71, 25, 4, 45, 180, 0, 74]
abbrev dktX1_copy_6 : List UInt8 := dkwX1_copy_6 ++ dktX1_copy_7
def dkwX1_copy_5 : List UInt8 := [182, 0, 41, 192, 0, 39, 43, 180, 0, 12, 42, 180, 0, 12, 45, 180, 0, 65, 182, 0, 61, 182, 0, 41]
abbrev dktX1_copy_5 : List UInt8 := dkwX1_copy_5 ++ dktX1_copy_6
def dkwX1_copy_4 : List UInt8 := [192, 0, 55, 78, 187, 0, 55, 89, 43, 180, 0, 12, 42, 180, 0, 12, 45, 180, 0, 57, 182, 0, 61]
abbrev dktX1_copy_4 : List UInt8 := dkwX1_copy_4 ++ dktX1_copy_5
def dkwX1_copy_3 : List UInt8 := [167, 255, 213, 3, 61, 28, 42, 180, 0, 18, 182, 0, 35, 162, 0, 118, 42, 180, 0, 18, 28, 182, 0, 41]
abbrev dktX1_copy_3 : List UInt8 := dkwX1_copy_3 ++ dktX1_copy_4
def dkwX1_copy_2 : List UInt8 := [180, 0, 12, 28, 182, 0, 41, 192, 0, 39, 180, 0, 45, 183, 0, 48, 182, 0, 51, 87, 132, 2, 1]
abbrev dktX1_copy_2 : List UInt8 := dkwX1_copy_2 ++ dktX1_copy_3
def dkwX1_copy_1 : List UInt8 := [3, 61, 28, 42, 180, 0, 12, 182, 0, 35, 162, 0, 38, 43, 180, 0, 12, 187, 0, 39, 89, 42]
abbrev dktX1_copy_1 : List UInt8 := dkwX1_copy_1 ++ dktX1_copy_2
def dkwX1_copy_0 : List UInt8 := [187, 0, 13, 89, 183, 0, 34, 76, 43, 42, 180, 0, 21, 181, 0, 21, 43, 42, 180, 0, 25, 181, 0, 25]
abbrev dktX1_copy_0 : List UInt8 := dkwX1_copy_0 ++ dktX1_copy_1
theorem dksX1_copy_0 : cX1_copy.data.toList.drop 0 = dktX1_copy_0 := by decide +kernel
theorem dksX1_copy_1 : cX1_copy.data.toList.drop 24 = dktX1_copy_1 := dk_seg dksX1_copy_0 24 rfl rfl
theorem dksX1_copy_2 : cX1_copy.data.toList.drop 46 = dktX1_copy_2 := dk_seg dksX1_copy_1 22 rfl rfl
theorem dksX1_copy_3 : cX1_copy.data.toList.drop 69 = dktX1_copy_3 := dk_seg dksX1_copy_2 23 rfl rfl
theorem dksX1_copy_4 : cX1_copy.data.toList.drop 93 = dktX1_copy_4 := dk_seg dksX1_copy_3 24 rfl rfl
theorem dksX1_copy_5 : cX1_copy.data.toList.drop 116 = dktX1_copy_5 := dk_seg dksX1_copy_4 23 rfl rfl
theorem dksX1_copy_6 : cX1_copy.data.toList.drop 140 = dktX1_copy_6 := dk_seg dksX1_copy_5 24 rfl rfl
theorem dksX1_copy_7 : cX1_copy.data.toList.drop 163 = dktX1_copy_7 := dk_seg dksX1_copy_6 23 rfl rfl
theorem dksX1_copy_8 : cX1_copy.data.toList.drop 185 = dktX1_copy_8 := dk_seg dksX1_copy_7 22 rfl rfl
theorem dX1_copy_0 : decode cX1_copy 0 = .ok (.new 13, 3) := dk_187 0 13 (dk_at dksX1_copy_0 0 rfl rfl)
theorem dX1_copy_3 : decode cX1_copy 3 = .ok (.dup, 1) := dk_89 (dk_at dksX1_copy_0 3 rfl rfl)
theorem dX1_copy_4 : decode cX1_copy 4 = .ok (.invokespecial 34, 3) := dk_183 0 34 (dk_at dksX1_copy_0 4 rfl rfl)
theorem dX1_copy_7 : decode cX1_copy 7 = .ok (.astore_n 1, 1) := dk_76 (dk_at dksX1_copy_0 7 rfl rfl)
theorem dX1_copy_8 : decode cX1_copy 8 = .ok (.aload_n 1, 1) := dk_43 (dk_at dksX1_copy_0 8 rfl rfl)
theorem dX1_copy_9 : decode cX1_copy 9 = .ok (.aload_n 0, 1) := dk_42 (dk_at dksX1_copy_0 9 rfl rfl)
theorem dX1_copy_10 : decode cX1_copy 10 = .ok (.getfield 21, 3) := dk_180 0 21 (dk_at dksX1_copy_0 10 rfl rfl)
theorem dX1_copy_13 : decode cX1_copy 13 = .ok (.putfield 21, 3) := dk_181 0 21 (dk_at dksX1_copy_0 13 rfl rfl)
theorem dX1_copy_16 : decode cX1_copy 16 = .ok (.aload_n 1, 1) := dk_43 (dk_at dksX1_copy_0 16 rfl rfl)
theorem dX1_copy_17 : decode cX1_copy 17 = .ok (.aload_n 0, 1) := dk_42 (dk_at dksX1_copy_0 17 rfl rfl)
theorem dX1_copy_18 : decode cX1_copy 18 = .ok (.getfield 25, 3) := dk_180 0 25 (dk_at dksX1_copy_0 18 rfl rfl)
theorem dX1_copy_21 : decode cX1_copy 21 = .ok (.putfield 25, 3) := dk_181 0 25 (dk_at dksX1_copy_0 21 rfl rfl)
theorem dX1_copy_24 : decode cX1_copy 24 = .ok (.iconst 0, 1) := dk_3 (dk_at dksX1_copy_1 0 rfl rfl)
theorem dX1_copy_25 : decode cX1_copy 25 = .ok (.istore_n 2, 1) := dk_61 (dk_at dksX1_copy_1 1 rfl rfl)
theorem dX1_copy_26 : decode cX1_copy 26 = .ok (.iload_n 2, 1) := dk_28 (dk_at dksX1_copy_1 2 rfl rfl)
theorem dX1_copy_27 : decode cX1_copy 27 = .ok (.aload_n 0, 1) := dk_42 (dk_at dksX1_copy_1 3 rfl rfl)
theorem dX1_copy_28 : decode cX1_copy 28 = .ok (.getfield 12, 3) := dk_180 0 12 (dk_at dksX1_copy_1 4 rfl rfl)
theorem dX1_copy_31 : decode cX1_copy 31 = .ok (.invokevirtual 35, 3) := dk_182 0 35 (dk_at dksX1_copy_1 7 rfl rfl)
theorem dX1_copy_34 : decode cX1_copy 34 = .ok (.if_icmp .ge 38, 3) := dk_162 0 38 (dk_at dksX1_copy_1 10 rfl rfl)
theorem dX1_copy_37 : decode cX1_copy 37 = .ok (.aload_n 1, 1) := dk_43 (dk_at dksX1_copy_1 13 rfl rfl)
theorem dX1_copy_38 : decode cX1_copy 38 = .ok (.getfield 12, 3) := dk_180 0 12 (dk_at dksX1_copy_1 14 rfl rfl)
theorem dX1_copy_41 : decode cX1_copy 41 = .ok (.new 39, 3) := dk_187 0 39 (dk_at dksX1_copy_1 17 rfl rfl)
theorem dX1_copy_44 : decode cX1_copy 44 = .ok (.dup, 1) := dk_89 (dk_at dksX1_copy_1 20 rfl rfl)
theorem dX1_copy_45 : decode cX1_copy 45 = .ok (.aload_n 0, 1) := dk_42 (dk_at dksX1_copy_1 21 rfl rfl)
theorem dX1_copy_46 : decode cX1_copy 46 = .ok (.getfield 12, 3) := dk_180 0 12 (dk_at dksX1_copy_2 0 rfl rfl)
theorem dX1_copy_49 : decode cX1_copy 49 = .ok (.iload_n 2, 1) := dk_28 (dk_at dksX1_copy_2 3 rfl rfl)
theorem dX1_copy_50 : decode cX1_copy 50 = .ok (.invokevirtual 41, 3) := dk_182 0 41 (dk_at dksX1_copy_2 4 rfl rfl)
theorem dX1_copy_53 : decode cX1_copy 53 = .ok (.checkcast 39, 3) := dk_192 0 39 (dk_at dksX1_copy_2 7 rfl rfl)
theorem dX1_copy_56 : decode cX1_copy 56 = .ok (.getfield 45, 3) := dk_180 0 45 (dk_at dksX1_copy_2 10 rfl rfl)
theorem dX1_copy_59 : decode cX1_copy 59 = .ok (.invokespecial 48, 3) := dk_183 0 48 (dk_at dksX1_copy_2 13 rfl rfl)
theorem dX1_copy_62 : decode cX1_copy 62 = .ok (.invokevirtual 51, 3) := dk_182 0 51 (dk_at dksX1_copy_2 16 rfl rfl)
theorem dX1_copy_65 : decode cX1_copy 65 = .ok (.pop, 1) := dk_87 (dk_at dksX1_copy_2 19 rfl rfl)
theorem dX1_copy_66 : decode cX1_copy 66 = .ok (.iinc 2 1, 3) := dk_132 2 1 (dk_at dksX1_copy_2 20 rfl rfl)
theorem dX1_copy_69 : decode cX1_copy 69 = .ok (.goto (-43), 3) := dk_167 255 213 (dk_at dksX1_copy_3 0 rfl rfl)
theorem dX1_copy_72 : decode cX1_copy 72 = .ok (.iconst 0, 1) := dk_3 (dk_at dksX1_copy_3 3 rfl rfl)
theorem dX1_copy_73 : decode cX1_copy 73 = .ok (.istore_n 2, 1) := dk_61 (dk_at dksX1_copy_3 4 rfl rfl)
theorem dX1_copy_74 : decode cX1_copy 74 = .ok (.iload_n 2, 1) := dk_28 (dk_at dksX1_copy_3 5 rfl rfl)
theorem dX1_copy_75 : decode cX1_copy 75 = .ok (.aload_n 0, 1) := dk_42 (dk_at dksX1_copy_3 6 rfl rfl)
theorem dX1_copy_76 : decode cX1_copy 76 = .ok (.getfield 18, 3) := dk_180 0 18 (dk_at dksX1_copy_3 7 rfl rfl)
theorem dX1_copy_79 : decode cX1_copy 79 = .ok (.invokevirtual 35, 3) := dk_182 0 35 (dk_at dksX1_copy_3 10 rfl rfl)
theorem dX1_copy_82 : decode cX1_copy 82 = .ok (.if_icmp .ge 118, 3) := dk_162 0 118 (dk_at dksX1_copy_3 13 rfl rfl)
theorem dX1_copy_85 : decode cX1_copy 85 = .ok (.aload_n 0, 1) := dk_42 (dk_at dksX1_copy_3 16 rfl rfl)
theorem dX1_copy_86 : decode cX1_copy 86 = .ok (.getfield 18, 3) := dk_180 0 18 (dk_at dksX1_copy_3 17 rfl rfl)
theorem dX1_copy_89 : decode cX1_copy 89 = .ok (.iload_n 2, 1) := dk_28 (dk_at dksX1_copy_3 20 rfl rfl)
theorem dX1_copy_90 : decode cX1_copy 90 = .ok (.invokevirtual 41, 3) := dk_182 0 41 (dk_at dksX1_copy_3 21 rfl rfl)
theorem dX1_copy_93 : decode cX1_copy 93 = .ok (.checkcast 55, 3) := dk_192 0 55 (dk_at dksX1_copy_4 0 rfl rfl)
theorem dX1_copy_96 : decode cX1_copy 96 = .ok (.astore_n 3, 1) := dk_78 (dk_at dksX1_copy_4 3 rfl rfl)
theorem dX1_copy_97 : decode cX1_copy 97 = .ok (.new 55, 3) := dk_187 0 55 (dk_at dksX1_copy_4 4 rfl rfl)
theorem dX1_copy_100 : decode cX1_copy 100 = .ok (.dup, 1) := dk_89 (dk_at dksX1_copy_4 7 rfl rfl)
theorem dX1_copy_101 : decode cX1_copy 101 = .ok (.aload_n 1, 1) := dk_43 (dk_at dksX1_copy_4 8 rfl rfl)
theorem dX1_copy_102 : decode cX1_copy 102 = .ok (.getfield 12, 3) := dk_180 0 12 (dk_at dksX1_copy_4 9 rfl rfl)
theorem dX1_copy_105 : decode cX1_copy 105 = .ok (.aload_n 0, 1) := dk_42 (dk_at dksX1_copy_4 12 rfl rfl)
theorem dX1_copy_106 : decode cX1_copy 106 = .ok (.getfield 12, 3) := dk_180 0 12 (dk_at dksX1_copy_4 13 rfl rfl)
theorem dX1_copy_109 : decode cX1_copy 109 = .ok (.aload_n 3, 1) := dk_45 (dk_at dksX1_copy_4 16 rfl rfl)
theorem dX1_copy_110 : decode cX1_copy 110 = .ok (.getfield 57, 3) := dk_180 0 57 (dk_at dksX1_copy_4 17 rfl rfl)
theorem dX1_copy_113 : decode cX1_copy 113 = .ok (.invokevirtual 61, 3) := dk_182 0 61 (dk_at dksX1_copy_4 20 rfl rfl)
theorem dX1_copy_116 : decode cX1_copy 116 = .ok (.invokevirtual 41, 3) := dk_182 0 41 (dk_at dksX1_copy_5 0 rfl rfl)
theorem dX1_copy_119 : decode cX1_copy 119 = .ok (.checkcast 39, 3) := dk_192 0 39 (dk_at dksX1_copy_5 3 rfl rfl)
theorem dX1_copy_122 : decode cX1_copy 122 = .ok (.aload_n 1, 1) := dk_43 (dk_at dksX1_copy_5 6 rfl rfl)
theorem dX1_copy_123 : decode cX1_copy 123 = .ok (.getfield 12, 3) := dk_180 0 12 (dk_at dksX1_copy_5 7 rfl rfl)
theorem dX1_copy_126 : decode cX1_copy 126 = .ok (.aload_n 0, 1) := dk_42 (dk_at dksX1_copy_5 10 rfl rfl)
theorem dX1_copy_127 : decode cX1_copy 127 = .ok (.getfield 12, 3) := dk_180 0 12 (dk_at dksX1_copy_5 11 rfl rfl)
theorem dX1_copy_130 : decode cX1_copy 130 = .ok (.aload_n 3, 1) := dk_45 (dk_at dksX1_copy_5 14 rfl rfl)
theorem dX1_copy_131 : decode cX1_copy 131 = .ok (.getfield 65, 3) := dk_180 0 65 (dk_at dksX1_copy_5 15 rfl rfl)
theorem dX1_copy_134 : decode cX1_copy 134 = .ok (.invokevirtual 61, 3) := dk_182 0 61 (dk_at dksX1_copy_5 18 rfl rfl)
theorem dX1_copy_137 : decode cX1_copy 137 = .ok (.invokevirtual 41, 3) := dk_182 0 41 (dk_at dksX1_copy_5 21 rfl rfl)
theorem dX1_copy_140 : decode cX1_copy 140 = .ok (.checkcast 39, 3) := dk_192 0 39 (dk_at dksX1_copy_6 0 rfl rfl)
theorem dX1_copy_143 : decode cX1_copy 143 = .ok (.invokespecial 68, 3) := dk_183 0 68 (dk_at dksX1_copy_6 3 rfl rfl)
theorem dX1_copy_146 : decode cX1_copy 146 = .ok (.astore 4, 2) := dk_58 4 (dk_at dksX1_copy_6 6 rfl rfl)
theorem dX1_copy_148 : decode cX1_copy 148 = .ok (.aload 4, 2) := dk_25 4 (dk_at dksX1_copy_6 8 rfl rfl)
theorem dX1_copy_150 : decode cX1_copy 150 = .ok (.aload_n 3, 1) := dk_45 (dk_at dksX1_copy_6 10 rfl rfl)
theorem dX1_copy_151 : decode cX1_copy 151 = .ok (.getfield 71, 3) := dk_180 0 71 (dk_at dksX1_copy_6 11 rfl rfl)
theorem dX1_copy_154 : decode cX1_copy 154 = .ok (.putfield 71, 3) := dk_181 0 71 (dk_at dksX1_copy_6 14 rfl rfl)
theorem dX1_copy_157 : decode cX1_copy 157 = .ok (.aload 4, 2) := dk_25 4 (dk_at dksX1_copy_6 17 rfl rfl)
theorem dX1_copy_159 : decode cX1_copy 159 = .ok (.aload_n 3, 1) := dk_45 (dk_at dksX1_copy_6 19 rfl rfl)
theorem dX1_copy_160 : decode cX1_copy 160 = .ok (.getfield 74, 3) := dk_180 0 74 (dk_at dksX1_copy_6 20 rfl rfl)
theorem dX1_copy_163 : decode cX1_copy 163 = .ok (.putfield 74, 3) := dk_181 0 74 (dk_at dksX1_copy_7 0 rfl rfl)
theorem dX1_copy_166 : decode cX1_copy 166 = .ok (.aload 4, 2) := dk_25 4 (dk_at dksX1_copy_7 3 rfl rfl)
theorem dX1_copy_168 : decode cX1_copy 168 = .ok (.aload_n 3, 1) := dk_45 (dk_at dksX1_copy_7 5 rfl rfl)
theorem dX1_copy_169 : decode cX1_copy 169 = .ok (.getfield 77, 3) := dk_180 0 77 (dk_at dksX1_copy_7 6 rfl rfl)
theorem dX1_copy_172 : decode cX1_copy 172 = .ok (.putfield 77, 3) := dk_181 0 77 (dk_at dksX1_copy_7 9 rfl rfl)
theorem dX1_copy_175 : decode cX1_copy 175 = .ok (.aload 4, 2) := dk_25 4 (dk_at dksX1_copy_7 12 rfl rfl)
theorem dX1_copy_177 : decode cX1_copy 177 = .ok (.aload_n 3, 1) := dk_45 (dk_at dksX1_copy_7 14 rfl rfl)
theorem dX1_copy_178 : decode cX1_copy 178 = .ok (.getfield 80, 3) := dk_180 0 80 (dk_at dksX1_copy_7 15 rfl rfl)
theorem dX1_copy_181 : decode cX1_copy 181 = .ok (.putfield 80, 3) := dk_181 0 80 (dk_at dksX1_copy_7 18 rfl rfl)
theorem dX1_copy_184 : decode cX1_copy 184 = .ok (.aload_n 1, 1) := dk_43 (dk_at dksX1_copy_7 21 rfl rfl)
theorem dX1_copy_185 : decode cX1_copy 185 = .ok (.getfield 18, 3) := dk_180 0 18 (dk_at dksX1_copy_8 0 rfl rfl)
theorem dX1_copy_188 : decode cX1_copy 188 = .ok (.aload 4, 2) := dk_25 4 (dk_at dksX1_copy_8 3 rfl rfl)
theorem dX1_copy_190 : decode cX1_copy 190 = .ok (.invokevirtual 51, 3) := dk_182 0 51 (dk_at dksX1_copy_8 5 rfl rfl)
theorem dX1_copy_193 : decode cX1_copy 193 = .ok (.pop, 1) := dk_87 (dk_at dksX1_copy_8 8 rfl rfl)
theorem dX1_copy_194 : decode cX1_copy 194 = .ok (.iinc 2 1, 3) := dk_132 2 1 (dk_at dksX1_copy_8 9 rfl rfl)
theorem dX1_copy_197 : decode cX1_copy 197 = .ok (.goto (-123), 3) := dk_167 255 133 (dk_at dksX1_copy_8 12 rfl rfl)
theorem dX1_copy_200 : decode cX1_copy 200 = .ok (.aload_n 1, 1) := dk_43 (dk_at dksX1_copy_8 15 rfl rfl)
theorem dX1_copy_201 : decode cX1_copy 201 = .ok (.areturn, 1) := dk_176 (dk_at dksX1_copy_8 16 rfl rfl)
abbrev cX1_insert : ByteArray := prog_4_method_4_code
def yX1_insert : MethodName := ⟨RX1, "insert", "(LDimensionLines$Point;)I"⟩
def dkwX1_insert_2 : List UInt8 := [182, 0, 83, 28, 172]
abbrev dktX1_insert_2 : List UInt8 := dkwX1_insert_2 ++ []
def dkwX1_insert_1 : List UInt8 := [180, 0, 45, 43, 180, 0, 45, 162, 0, 9, 132, 2, 1, 167, 255, 221, 42, 180, 0, 12, 28, 43]
abbrev dktX1_insert_1 : List UInt8 := dkwX1_insert_1 ++ dktX1_insert_2
def dkwX1_insert_0 : List UInt8 := [3, 61, 28, 42, 180, 0, 12, 182, 0, 35, 162, 0, 30, 42, 180, 0, 12, 28, 182, 0, 41, 192, 0, 39]
abbrev dktX1_insert_0 : List UInt8 := dkwX1_insert_0 ++ dktX1_insert_1
theorem dksX1_insert_0 : cX1_insert.data.toList.drop 0 = dktX1_insert_0 := by decide +kernel
theorem dksX1_insert_1 : cX1_insert.data.toList.drop 24 = dktX1_insert_1 := dk_seg dksX1_insert_0 24 rfl rfl
theorem dksX1_insert_2 : cX1_insert.data.toList.drop 46 = dktX1_insert_2 := dk_seg dksX1_insert_1 22 rfl rfl
theorem dX1_insert_0 : decode cX1_insert 0 = .ok (.iconst 0, 1) := dk_3 (dk_at dksX1_insert_0 0 rfl rfl)
theorem dX1_insert_1 : decode cX1_insert 1 = .ok (.istore_n 2, 1) := dk_61 (dk_at dksX1_insert_0 1 rfl rfl)
theorem dX1_insert_2 : decode cX1_insert 2 = .ok (.iload_n 2, 1) := dk_28 (dk_at dksX1_insert_0 2 rfl rfl)
theorem dX1_insert_3 : decode cX1_insert 3 = .ok (.aload_n 0, 1) := dk_42 (dk_at dksX1_insert_0 3 rfl rfl)
theorem dX1_insert_4 : decode cX1_insert 4 = .ok (.getfield 12, 3) := dk_180 0 12 (dk_at dksX1_insert_0 4 rfl rfl)
theorem dX1_insert_7 : decode cX1_insert 7 = .ok (.invokevirtual 35, 3) := dk_182 0 35 (dk_at dksX1_insert_0 7 rfl rfl)
theorem dX1_insert_10 : decode cX1_insert 10 = .ok (.if_icmp .ge 30, 3) := dk_162 0 30 (dk_at dksX1_insert_0 10 rfl rfl)
theorem dX1_insert_13 : decode cX1_insert 13 = .ok (.aload_n 0, 1) := dk_42 (dk_at dksX1_insert_0 13 rfl rfl)
theorem dX1_insert_14 : decode cX1_insert 14 = .ok (.getfield 12, 3) := dk_180 0 12 (dk_at dksX1_insert_0 14 rfl rfl)
theorem dX1_insert_17 : decode cX1_insert 17 = .ok (.iload_n 2, 1) := dk_28 (dk_at dksX1_insert_0 17 rfl rfl)
theorem dX1_insert_18 : decode cX1_insert 18 = .ok (.invokevirtual 41, 3) := dk_182 0 41 (dk_at dksX1_insert_0 18 rfl rfl)
theorem dX1_insert_21 : decode cX1_insert 21 = .ok (.checkcast 39, 3) := dk_192 0 39 (dk_at dksX1_insert_0 21 rfl rfl)
theorem dX1_insert_24 : decode cX1_insert 24 = .ok (.getfield 45, 3) := dk_180 0 45 (dk_at dksX1_insert_1 0 rfl rfl)
theorem dX1_insert_27 : decode cX1_insert 27 = .ok (.aload_n 1, 1) := dk_43 (dk_at dksX1_insert_1 3 rfl rfl)
theorem dX1_insert_28 : decode cX1_insert 28 = .ok (.getfield 45, 3) := dk_180 0 45 (dk_at dksX1_insert_1 4 rfl rfl)
theorem dX1_insert_31 : decode cX1_insert 31 = .ok (.if_icmp .ge 9, 3) := dk_162 0 9 (dk_at dksX1_insert_1 7 rfl rfl)
theorem dX1_insert_34 : decode cX1_insert 34 = .ok (.iinc 2 1, 3) := dk_132 2 1 (dk_at dksX1_insert_1 10 rfl rfl)
theorem dX1_insert_37 : decode cX1_insert 37 = .ok (.goto (-35), 3) := dk_167 255 221 (dk_at dksX1_insert_1 13 rfl rfl)
theorem dX1_insert_40 : decode cX1_insert 40 = .ok (.aload_n 0, 1) := dk_42 (dk_at dksX1_insert_1 16 rfl rfl)
theorem dX1_insert_41 : decode cX1_insert 41 = .ok (.getfield 12, 3) := dk_180 0 12 (dk_at dksX1_insert_1 17 rfl rfl)
theorem dX1_insert_44 : decode cX1_insert 44 = .ok (.iload_n 2, 1) := dk_28 (dk_at dksX1_insert_1 20 rfl rfl)
theorem dX1_insert_45 : decode cX1_insert 45 = .ok (.aload_n 1, 1) := dk_43 (dk_at dksX1_insert_1 21 rfl rfl)
theorem dX1_insert_46 : decode cX1_insert 46 = .ok (.invokevirtual 83, 3) := dk_182 0 83 (dk_at dksX1_insert_2 0 rfl rfl)
theorem dX1_insert_49 : decode cX1_insert 49 = .ok (.iload_n 2, 1) := dk_28 (dk_at dksX1_insert_2 3 rfl rfl)
theorem dX1_insert_50 : decode cX1_insert 50 = .ok (.ireturn, 1) := dk_172 (dk_at dksX1_insert_2 4 rfl rfl)
abbrev cX1_uses : ByteArray := prog_4_method_5_code
def yX1_uses : MethodName := ⟨RX1, "uses", "(LDimensionLines$Point;)I"⟩
def dkwX1_uses_2 : List UInt8 := [172]
abbrev dktX1_uses_2 : List UInt8 := dkwX1_uses_2 ++ []
def dkwX1_uses_1 : List UInt8 := [192, 0, 55, 43, 182, 0, 86, 153, 0, 7, 4, 167, 0, 4, 3, 96, 61, 132, 3, 1, 167, 255, 216, 28]
abbrev dktX1_uses_1 : List UInt8 := dkwX1_uses_1 ++ dktX1_uses_2
def dkwX1_uses_0 : List UInt8 := [3, 61, 3, 62, 29, 42, 180, 0, 18, 182, 0, 35, 162, 0, 35, 28, 42, 180, 0, 18, 29, 182, 0, 41]
abbrev dktX1_uses_0 : List UInt8 := dkwX1_uses_0 ++ dktX1_uses_1
theorem dksX1_uses_0 : cX1_uses.data.toList.drop 0 = dktX1_uses_0 := by decide +kernel
theorem dksX1_uses_1 : cX1_uses.data.toList.drop 24 = dktX1_uses_1 := dk_seg dksX1_uses_0 24 rfl rfl
theorem dksX1_uses_2 : cX1_uses.data.toList.drop 48 = dktX1_uses_2 := dk_seg dksX1_uses_1 24 rfl rfl
theorem dX1_uses_0 : decode cX1_uses 0 = .ok (.iconst 0, 1) := dk_3 (dk_at dksX1_uses_0 0 rfl rfl)
theorem dX1_uses_1 : decode cX1_uses 1 = .ok (.istore_n 2, 1) := dk_61 (dk_at dksX1_uses_0 1 rfl rfl)
theorem dX1_uses_2 : decode cX1_uses 2 = .ok (.iconst 0, 1) := dk_3 (dk_at dksX1_uses_0 2 rfl rfl)
theorem dX1_uses_3 : decode cX1_uses 3 = .ok (.istore_n 3, 1) := dk_62 (dk_at dksX1_uses_0 3 rfl rfl)
theorem dX1_uses_4 : decode cX1_uses 4 = .ok (.iload_n 3, 1) := dk_29 (dk_at dksX1_uses_0 4 rfl rfl)
theorem dX1_uses_5 : decode cX1_uses 5 = .ok (.aload_n 0, 1) := dk_42 (dk_at dksX1_uses_0 5 rfl rfl)
theorem dX1_uses_6 : decode cX1_uses 6 = .ok (.getfield 18, 3) := dk_180 0 18 (dk_at dksX1_uses_0 6 rfl rfl)
theorem dX1_uses_9 : decode cX1_uses 9 = .ok (.invokevirtual 35, 3) := dk_182 0 35 (dk_at dksX1_uses_0 9 rfl rfl)
theorem dX1_uses_12 : decode cX1_uses 12 = .ok (.if_icmp .ge 35, 3) := dk_162 0 35 (dk_at dksX1_uses_0 12 rfl rfl)
theorem dX1_uses_15 : decode cX1_uses 15 = .ok (.iload_n 2, 1) := dk_28 (dk_at dksX1_uses_0 15 rfl rfl)
theorem dX1_uses_16 : decode cX1_uses 16 = .ok (.aload_n 0, 1) := dk_42 (dk_at dksX1_uses_0 16 rfl rfl)
theorem dX1_uses_17 : decode cX1_uses 17 = .ok (.getfield 18, 3) := dk_180 0 18 (dk_at dksX1_uses_0 17 rfl rfl)
theorem dX1_uses_20 : decode cX1_uses 20 = .ok (.iload_n 3, 1) := dk_29 (dk_at dksX1_uses_0 20 rfl rfl)
theorem dX1_uses_21 : decode cX1_uses 21 = .ok (.invokevirtual 41, 3) := dk_182 0 41 (dk_at dksX1_uses_0 21 rfl rfl)
theorem dX1_uses_24 : decode cX1_uses 24 = .ok (.checkcast 55, 3) := dk_192 0 55 (dk_at dksX1_uses_1 0 rfl rfl)
theorem dX1_uses_27 : decode cX1_uses 27 = .ok (.aload_n 1, 1) := dk_43 (dk_at dksX1_uses_1 3 rfl rfl)
theorem dX1_uses_28 : decode cX1_uses 28 = .ok (.invokevirtual 86, 3) := dk_182 0 86 (dk_at dksX1_uses_1 4 rfl rfl)
theorem dX1_uses_31 : decode cX1_uses 31 = .ok (.ifCond .eq 7, 3) := dk_153 0 7 (dk_at dksX1_uses_1 7 rfl rfl)
theorem dX1_uses_34 : decode cX1_uses 34 = .ok (.iconst 1, 1) := dk_4 (dk_at dksX1_uses_1 10 rfl rfl)
theorem dX1_uses_35 : decode cX1_uses 35 = .ok (.goto 4, 3) := dk_167 0 4 (dk_at dksX1_uses_1 11 rfl rfl)
theorem dX1_uses_38 : decode cX1_uses 38 = .ok (.iconst 0, 1) := dk_3 (dk_at dksX1_uses_1 14 rfl rfl)
theorem dX1_uses_39 : decode cX1_uses 39 = .ok (.iadd, 1) := dk_96 (dk_at dksX1_uses_1 15 rfl rfl)
theorem dX1_uses_40 : decode cX1_uses 40 = .ok (.istore_n 2, 1) := dk_61 (dk_at dksX1_uses_1 16 rfl rfl)
theorem dX1_uses_41 : decode cX1_uses 41 = .ok (.iinc 3 1, 3) := dk_132 3 1 (dk_at dksX1_uses_1 17 rfl rfl)
theorem dX1_uses_44 : decode cX1_uses 44 = .ok (.goto (-40), 3) := dk_167 255 216 (dk_at dksX1_uses_1 20 rfl rfl)
theorem dX1_uses_47 : decode cX1_uses 47 = .ok (.iload_n 2, 1) := dk_28 (dk_at dksX1_uses_1 23 rfl rfl)
theorem dX1_uses_48 : decode cX1_uses 48 = .ok (.ireturn, 1) := dk_172 (dk_at dksX1_uses_2 0 rfl rfl)
abbrev cX1_top : ByteArray := prog_4_method_11_code
def yX1_top : MethodName := ⟨RX1, "top", "(LDimensionLines$Point;)I"⟩
def dkwX1_top_3 : List UInt8 := [172]
abbrev dktX1_top_3 : List UInt8 := dkwX1_top_3 ++ []
def dkwX1_top_2 : List UInt8 := [182, 0, 41, 192, 0, 55, 180, 0, 154, 184, 0, 135, 167, 0, 4, 28, 61, 132, 3, 1, 167, 255, 194, 28]
abbrev dktX1_top_2 : List UInt8 := dkwX1_top_2 ++ dktX1_top_3
def dkwX1_top_1 : List UInt8 := [42, 180, 0, 18, 29, 182, 0, 41, 192, 0, 55, 43, 182, 0, 86, 153, 0, 24, 28, 42, 180, 0, 18, 29]
abbrev dktX1_top_1 : List UInt8 := dkwX1_top_1 ++ dktX1_top_2
def dkwX1_top_0 : List UInt8 := [17, 252, 25, 61, 3, 62, 29, 42, 180, 0, 18, 182, 0, 35, 162, 0, 57, 42, 182, 0, 152, 198, 0, 50]
abbrev dktX1_top_0 : List UInt8 := dkwX1_top_0 ++ dktX1_top_1
theorem dksX1_top_0 : cX1_top.data.toList.drop 0 = dktX1_top_0 := by decide +kernel
theorem dksX1_top_1 : cX1_top.data.toList.drop 24 = dktX1_top_1 := dk_seg dksX1_top_0 24 rfl rfl
theorem dksX1_top_2 : cX1_top.data.toList.drop 48 = dktX1_top_2 := dk_seg dksX1_top_1 24 rfl rfl
theorem dksX1_top_3 : cX1_top.data.toList.drop 72 = dktX1_top_3 := dk_seg dksX1_top_2 24 rfl rfl
theorem dX1_top_0 : decode cX1_top 0 = .ok (.sipush (-999), 3) := dk_17 252 25 (dk_at dksX1_top_0 0 rfl rfl)
theorem dX1_top_3 : decode cX1_top 3 = .ok (.istore_n 2, 1) := dk_61 (dk_at dksX1_top_0 3 rfl rfl)
theorem dX1_top_4 : decode cX1_top 4 = .ok (.iconst 0, 1) := dk_3 (dk_at dksX1_top_0 4 rfl rfl)
theorem dX1_top_5 : decode cX1_top 5 = .ok (.istore_n 3, 1) := dk_62 (dk_at dksX1_top_0 5 rfl rfl)
theorem dX1_top_6 : decode cX1_top 6 = .ok (.iload_n 3, 1) := dk_29 (dk_at dksX1_top_0 6 rfl rfl)
theorem dX1_top_7 : decode cX1_top 7 = .ok (.aload_n 0, 1) := dk_42 (dk_at dksX1_top_0 7 rfl rfl)
theorem dX1_top_8 : decode cX1_top 8 = .ok (.getfield 18, 3) := dk_180 0 18 (dk_at dksX1_top_0 8 rfl rfl)
theorem dX1_top_11 : decode cX1_top 11 = .ok (.invokevirtual 35, 3) := dk_182 0 35 (dk_at dksX1_top_0 11 rfl rfl)
theorem dX1_top_14 : decode cX1_top 14 = .ok (.if_icmp .ge 57, 3) := dk_162 0 57 (dk_at dksX1_top_0 14 rfl rfl)
theorem dX1_top_17 : decode cX1_top 17 = .ok (.aload_n 0, 1) := dk_42 (dk_at dksX1_top_0 17 rfl rfl)
theorem dX1_top_18 : decode cX1_top 18 = .ok (.invokevirtual 152, 3) := dk_182 0 152 (dk_at dksX1_top_0 18 rfl rfl)
theorem dX1_top_21 : decode cX1_top 21 = .ok (.ifnull 50, 3) := dk_198 0 50 (dk_at dksX1_top_0 21 rfl rfl)
theorem dX1_top_24 : decode cX1_top 24 = .ok (.aload_n 0, 1) := dk_42 (dk_at dksX1_top_1 0 rfl rfl)
theorem dX1_top_25 : decode cX1_top 25 = .ok (.getfield 18, 3) := dk_180 0 18 (dk_at dksX1_top_1 1 rfl rfl)
theorem dX1_top_28 : decode cX1_top 28 = .ok (.iload_n 3, 1) := dk_29 (dk_at dksX1_top_1 4 rfl rfl)
theorem dX1_top_29 : decode cX1_top 29 = .ok (.invokevirtual 41, 3) := dk_182 0 41 (dk_at dksX1_top_1 5 rfl rfl)
theorem dX1_top_32 : decode cX1_top 32 = .ok (.checkcast 55, 3) := dk_192 0 55 (dk_at dksX1_top_1 8 rfl rfl)
theorem dX1_top_35 : decode cX1_top 35 = .ok (.aload_n 1, 1) := dk_43 (dk_at dksX1_top_1 11 rfl rfl)
theorem dX1_top_36 : decode cX1_top 36 = .ok (.invokevirtual 86, 3) := dk_182 0 86 (dk_at dksX1_top_1 12 rfl rfl)
theorem dX1_top_39 : decode cX1_top 39 = .ok (.ifCond .eq 24, 3) := dk_153 0 24 (dk_at dksX1_top_1 15 rfl rfl)
theorem dX1_top_42 : decode cX1_top 42 = .ok (.iload_n 2, 1) := dk_28 (dk_at dksX1_top_1 18 rfl rfl)
theorem dX1_top_43 : decode cX1_top 43 = .ok (.aload_n 0, 1) := dk_42 (dk_at dksX1_top_1 19 rfl rfl)
theorem dX1_top_44 : decode cX1_top 44 = .ok (.getfield 18, 3) := dk_180 0 18 (dk_at dksX1_top_1 20 rfl rfl)
theorem dX1_top_47 : decode cX1_top 47 = .ok (.iload_n 3, 1) := dk_29 (dk_at dksX1_top_1 23 rfl rfl)
theorem dX1_top_48 : decode cX1_top 48 = .ok (.invokevirtual 41, 3) := dk_182 0 41 (dk_at dksX1_top_2 0 rfl rfl)
theorem dX1_top_51 : decode cX1_top 51 = .ok (.checkcast 55, 3) := dk_192 0 55 (dk_at dksX1_top_2 3 rfl rfl)
theorem dX1_top_54 : decode cX1_top 54 = .ok (.getfield 154, 3) := dk_180 0 154 (dk_at dksX1_top_2 6 rfl rfl)
theorem dX1_top_57 : decode cX1_top 57 = .ok (.invokestatic 135, 3) := dk_184 0 135 (dk_at dksX1_top_2 9 rfl rfl)
theorem dX1_top_60 : decode cX1_top 60 = .ok (.goto 4, 3) := dk_167 0 4 (dk_at dksX1_top_2 12 rfl rfl)
theorem dX1_top_63 : decode cX1_top 63 = .ok (.iload_n 2, 1) := dk_28 (dk_at dksX1_top_2 15 rfl rfl)
theorem dX1_top_64 : decode cX1_top 64 = .ok (.istore_n 2, 1) := dk_61 (dk_at dksX1_top_2 16 rfl rfl)
theorem dX1_top_65 : decode cX1_top 65 = .ok (.iinc 3 1, 3) := dk_132 3 1 (dk_at dksX1_top_2 17 rfl rfl)
theorem dX1_top_68 : decode cX1_top 68 = .ok (.goto (-62), 3) := dk_167 255 194 (dk_at dksX1_top_2 20 rfl rfl)
theorem dX1_top_71 : decode cX1_top 71 = .ok (.iload_n 2, 1) := dk_28 (dk_at dksX1_top_2 23 rfl rfl)
theorem dX1_top_72 : decode cX1_top 72 = .ok (.ireturn, 1) := dk_172 (dk_at dksX1_top_3 0 rfl rfl)
abbrev cX1_units : ByteArray := prog_4_method_7_code
def yX1_units : MethodName := ⟨RX1, "units", "()Ljava/util/ArrayList;"⟩
def dkwX1_units_2 : List UInt8 := [87, 42, 44, 182, 0, 121, 42, 180, 0, 100, 44, 182, 0, 51, 87, 167, 255, 216, 42, 180, 0, 100, 176]
abbrev dktX1_units_2 : List UInt8 := dkwX1_units_2 ++ []
def dkwX1_units_1 : List UInt8 := [182, 0, 107, 154, 0, 39, 43, 186, 0, 111, 0, 0, 184, 0, 115, 192, 0, 90, 77, 43, 44, 182, 0, 118]
abbrev dktX1_units_1 : List UInt8 := dkwX1_units_1 ++ dktX1_units_2
def dkwX1_units_0 : List UInt8 := [42, 180, 0, 100, 199, 0, 62, 42, 182, 0, 103, 76, 42, 187, 0, 9, 89, 183, 0, 11, 181, 0, 100, 43]
abbrev dktX1_units_0 : List UInt8 := dkwX1_units_0 ++ dktX1_units_1
theorem dksX1_units_0 : cX1_units.data.toList.drop 0 = dktX1_units_0 := by decide +kernel
theorem dksX1_units_1 : cX1_units.data.toList.drop 24 = dktX1_units_1 := dk_seg dksX1_units_0 24 rfl rfl
theorem dksX1_units_2 : cX1_units.data.toList.drop 48 = dktX1_units_2 := dk_seg dksX1_units_1 24 rfl rfl
theorem dX1_units_0 : decode cX1_units 0 = .ok (.aload_n 0, 1) := dk_42 (dk_at dksX1_units_0 0 rfl rfl)
theorem dX1_units_1 : decode cX1_units 1 = .ok (.getfield 100, 3) := dk_180 0 100 (dk_at dksX1_units_0 1 rfl rfl)
theorem dX1_units_4 : decode cX1_units 4 = .ok (.ifnonnull 62, 3) := dk_199 0 62 (dk_at dksX1_units_0 4 rfl rfl)
theorem dX1_units_7 : decode cX1_units 7 = .ok (.aload_n 0, 1) := dk_42 (dk_at dksX1_units_0 7 rfl rfl)
theorem dX1_units_8 : decode cX1_units 8 = .ok (.invokevirtual 103, 3) := dk_182 0 103 (dk_at dksX1_units_0 8 rfl rfl)
theorem dX1_units_11 : decode cX1_units 11 = .ok (.astore_n 1, 1) := dk_76 (dk_at dksX1_units_0 11 rfl rfl)
theorem dX1_units_12 : decode cX1_units 12 = .ok (.aload_n 0, 1) := dk_42 (dk_at dksX1_units_0 12 rfl rfl)
theorem dX1_units_13 : decode cX1_units 13 = .ok (.new 9, 3) := dk_187 0 9 (dk_at dksX1_units_0 13 rfl rfl)
theorem dX1_units_16 : decode cX1_units 16 = .ok (.dup, 1) := dk_89 (dk_at dksX1_units_0 16 rfl rfl)
theorem dX1_units_17 : decode cX1_units 17 = .ok (.invokespecial 11, 3) := dk_183 0 11 (dk_at dksX1_units_0 17 rfl rfl)
theorem dX1_units_20 : decode cX1_units 20 = .ok (.putfield 100, 3) := dk_181 0 100 (dk_at dksX1_units_0 20 rfl rfl)
theorem dX1_units_23 : decode cX1_units 23 = .ok (.aload_n 1, 1) := dk_43 (dk_at dksX1_units_0 23 rfl rfl)
theorem dX1_units_24 : decode cX1_units 24 = .ok (.invokevirtual 107, 3) := dk_182 0 107 (dk_at dksX1_units_1 0 rfl rfl)
theorem dX1_units_27 : decode cX1_units 27 = .ok (.ifCond .ne 39, 3) := dk_154 0 39 (dk_at dksX1_units_1 3 rfl rfl)
theorem dX1_units_30 : decode cX1_units 30 = .ok (.aload_n 1, 1) := dk_43 (dk_at dksX1_units_1 6 rfl rfl)
theorem dX1_units_31 : decode cX1_units 31 = .ok (.invokedynamic 111, 5) := by decide +kernel
theorem dX1_units_36 : decode cX1_units 36 = .ok (.invokestatic 115, 3) := dk_184 0 115 (dk_at dksX1_units_1 12 rfl rfl)
theorem dX1_units_39 : decode cX1_units 39 = .ok (.checkcast 90, 3) := dk_192 0 90 (dk_at dksX1_units_1 15 rfl rfl)
theorem dX1_units_42 : decode cX1_units 42 = .ok (.astore_n 2, 1) := dk_77 (dk_at dksX1_units_1 18 rfl rfl)
theorem dX1_units_43 : decode cX1_units 43 = .ok (.aload_n 1, 1) := dk_43 (dk_at dksX1_units_1 19 rfl rfl)
theorem dX1_units_44 : decode cX1_units 44 = .ok (.aload_n 2, 1) := dk_44 (dk_at dksX1_units_1 20 rfl rfl)
theorem dX1_units_45 : decode cX1_units 45 = .ok (.invokevirtual 118, 3) := dk_182 0 118 (dk_at dksX1_units_1 21 rfl rfl)
theorem dX1_units_48 : decode cX1_units 48 = .ok (.pop, 1) := dk_87 (dk_at dksX1_units_2 0 rfl rfl)
theorem dX1_units_49 : decode cX1_units 49 = .ok (.aload_n 0, 1) := dk_42 (dk_at dksX1_units_2 1 rfl rfl)
theorem dX1_units_50 : decode cX1_units 50 = .ok (.aload_n 2, 1) := dk_44 (dk_at dksX1_units_2 2 rfl rfl)
theorem dX1_units_51 : decode cX1_units 51 = .ok (.invokevirtual 121, 3) := dk_182 0 121 (dk_at dksX1_units_2 3 rfl rfl)
theorem dX1_units_54 : decode cX1_units 54 = .ok (.aload_n 0, 1) := dk_42 (dk_at dksX1_units_2 6 rfl rfl)
theorem dX1_units_55 : decode cX1_units 55 = .ok (.getfield 100, 3) := dk_180 0 100 (dk_at dksX1_units_2 7 rfl rfl)
theorem dX1_units_58 : decode cX1_units 58 = .ok (.aload_n 2, 1) := dk_44 (dk_at dksX1_units_2 10 rfl rfl)
theorem dX1_units_59 : decode cX1_units 59 = .ok (.invokevirtual 51, 3) := dk_182 0 51 (dk_at dksX1_units_2 11 rfl rfl)
theorem dX1_units_62 : decode cX1_units 62 = .ok (.pop, 1) := dk_87 (dk_at dksX1_units_2 14 rfl rfl)
theorem dX1_units_63 : decode cX1_units 63 = .ok (.goto (-40), 3) := dk_167 255 216 (dk_at dksX1_units_2 15 rfl rfl)
theorem dX1_units_66 : decode cX1_units 66 = .ok (.aload_n 0, 1) := dk_42 (dk_at dksX1_units_2 18 rfl rfl)
theorem dX1_units_67 : decode cX1_units 67 = .ok (.getfield 100, 3) := dk_180 0 100 (dk_at dksX1_units_2 19 rfl rfl)
theorem dX1_units_70 : decode cX1_units 70 = .ok (.areturn, 1) := dk_176 (dk_at dksX1_units_2 22 rfl rfl)
abbrev cX1_gathered : ByteArray := prog_4_method_6_code
def yX1_gathered : MethodName := ⟨RX1, "gathered", "()Ljava/util/ArrayList;"⟩
def dkwX1_gathered_4 : List UInt8 := [44, 25, 4, 180, 0, 77, 25, 5, 83, 25, 5, 25, 4, 182, 0, 97, 132, 3, 1, 167, 255, 158, 43, 176]
abbrev dktX1_gathered_4 : List UInt8 := dkwX1_gathered_4 ++ []
def dkwX1_gathered_3 : List UInt8 := [50, 58, 5, 25, 5, 199, 0, 19, 187, 0, 90, 89, 183, 0, 96, 58, 5, 43, 25, 5, 182, 0, 51, 87]
abbrev dktX1_gathered_3 : List UInt8 := dkwX1_gathered_3 ++ dktX1_gathered_4
def dkwX1_gathered_2 : List UInt8 := [180, 0, 25, 182, 0, 92, 25, 4, 180, 0, 77, 154, 0, 7, 1, 167, 0, 10, 44, 25, 4, 180, 0, 77]
abbrev dktX1_gathered_2 : List UInt8 := dkwX1_gathered_2 ++ dktX1_gathered_3
def dkwX1_gathered_1 : List UInt8 := [162, 0, 93, 42, 180, 0, 18, 29, 182, 0, 41, 192, 0, 55, 58, 4, 25, 4, 42, 180, 0, 21, 42]
abbrev dktX1_gathered_1 : List UInt8 := dkwX1_gathered_1 ++ dktX1_gathered_2
def dkwX1_gathered_0 : List UInt8 := [187, 0, 9, 89, 183, 0, 11, 76, 16, 6, 189, 0, 90, 77, 3, 62, 29, 42, 180, 0, 18, 182, 0, 35]
abbrev dktX1_gathered_0 : List UInt8 := dkwX1_gathered_0 ++ dktX1_gathered_1
theorem dksX1_gathered_0 : cX1_gathered.data.toList.drop 0 = dktX1_gathered_0 := by decide +kernel
theorem dksX1_gathered_1 : cX1_gathered.data.toList.drop 24 = dktX1_gathered_1 := dk_seg dksX1_gathered_0 24 rfl rfl
theorem dksX1_gathered_2 : cX1_gathered.data.toList.drop 47 = dktX1_gathered_2 := dk_seg dksX1_gathered_1 23 rfl rfl
theorem dksX1_gathered_3 : cX1_gathered.data.toList.drop 71 = dktX1_gathered_3 := dk_seg dksX1_gathered_2 24 rfl rfl
theorem dksX1_gathered_4 : cX1_gathered.data.toList.drop 95 = dktX1_gathered_4 := dk_seg dksX1_gathered_3 24 rfl rfl
theorem dX1_gathered_0 : decode cX1_gathered 0 = .ok (.new 9, 3) := dk_187 0 9 (dk_at dksX1_gathered_0 0 rfl rfl)
theorem dX1_gathered_3 : decode cX1_gathered 3 = .ok (.dup, 1) := dk_89 (dk_at dksX1_gathered_0 3 rfl rfl)
theorem dX1_gathered_4 : decode cX1_gathered 4 = .ok (.invokespecial 11, 3) := dk_183 0 11 (dk_at dksX1_gathered_0 4 rfl rfl)
theorem dX1_gathered_7 : decode cX1_gathered 7 = .ok (.astore_n 1, 1) := dk_76 (dk_at dksX1_gathered_0 7 rfl rfl)
theorem dX1_gathered_8 : decode cX1_gathered 8 = .ok (.bipush 6, 2) := dk_16 6 (dk_at dksX1_gathered_0 8 rfl rfl)
theorem dX1_gathered_10 : decode cX1_gathered 10 = .ok (.anewarray 90, 3) := dk_189 0 90 (dk_at dksX1_gathered_0 10 rfl rfl)
theorem dX1_gathered_13 : decode cX1_gathered 13 = .ok (.astore_n 2, 1) := dk_77 (dk_at dksX1_gathered_0 13 rfl rfl)
theorem dX1_gathered_14 : decode cX1_gathered 14 = .ok (.iconst 0, 1) := dk_3 (dk_at dksX1_gathered_0 14 rfl rfl)
theorem dX1_gathered_15 : decode cX1_gathered 15 = .ok (.istore_n 3, 1) := dk_62 (dk_at dksX1_gathered_0 15 rfl rfl)
theorem dX1_gathered_16 : decode cX1_gathered 16 = .ok (.iload_n 3, 1) := dk_29 (dk_at dksX1_gathered_0 16 rfl rfl)
theorem dX1_gathered_17 : decode cX1_gathered 17 = .ok (.aload_n 0, 1) := dk_42 (dk_at dksX1_gathered_0 17 rfl rfl)
theorem dX1_gathered_18 : decode cX1_gathered 18 = .ok (.getfield 18, 3) := dk_180 0 18 (dk_at dksX1_gathered_0 18 rfl rfl)
theorem dX1_gathered_21 : decode cX1_gathered 21 = .ok (.invokevirtual 35, 3) := dk_182 0 35 (dk_at dksX1_gathered_0 21 rfl rfl)
theorem dX1_gathered_24 : decode cX1_gathered 24 = .ok (.if_icmp .ge 93, 3) := dk_162 0 93 (dk_at dksX1_gathered_1 0 rfl rfl)
theorem dX1_gathered_27 : decode cX1_gathered 27 = .ok (.aload_n 0, 1) := dk_42 (dk_at dksX1_gathered_1 3 rfl rfl)
theorem dX1_gathered_28 : decode cX1_gathered 28 = .ok (.getfield 18, 3) := dk_180 0 18 (dk_at dksX1_gathered_1 4 rfl rfl)
theorem dX1_gathered_31 : decode cX1_gathered 31 = .ok (.iload_n 3, 1) := dk_29 (dk_at dksX1_gathered_1 7 rfl rfl)
theorem dX1_gathered_32 : decode cX1_gathered 32 = .ok (.invokevirtual 41, 3) := dk_182 0 41 (dk_at dksX1_gathered_1 8 rfl rfl)
theorem dX1_gathered_35 : decode cX1_gathered 35 = .ok (.checkcast 55, 3) := dk_192 0 55 (dk_at dksX1_gathered_1 11 rfl rfl)
theorem dX1_gathered_38 : decode cX1_gathered 38 = .ok (.astore 4, 2) := dk_58 4 (dk_at dksX1_gathered_1 14 rfl rfl)
theorem dX1_gathered_40 : decode cX1_gathered 40 = .ok (.aload 4, 2) := dk_25 4 (dk_at dksX1_gathered_1 16 rfl rfl)
theorem dX1_gathered_42 : decode cX1_gathered 42 = .ok (.aload_n 0, 1) := dk_42 (dk_at dksX1_gathered_1 18 rfl rfl)
theorem dX1_gathered_43 : decode cX1_gathered 43 = .ok (.getfield 21, 3) := dk_180 0 21 (dk_at dksX1_gathered_1 19 rfl rfl)
theorem dX1_gathered_46 : decode cX1_gathered 46 = .ok (.aload_n 0, 1) := dk_42 (dk_at dksX1_gathered_1 22 rfl rfl)
theorem dX1_gathered_47 : decode cX1_gathered 47 = .ok (.getfield 25, 3) := dk_180 0 25 (dk_at dksX1_gathered_2 0 rfl rfl)
theorem dX1_gathered_50 : decode cX1_gathered 50 = .ok (.invokevirtual 92, 3) := dk_182 0 92 (dk_at dksX1_gathered_2 3 rfl rfl)
theorem dX1_gathered_53 : decode cX1_gathered 53 = .ok (.aload 4, 2) := dk_25 4 (dk_at dksX1_gathered_2 6 rfl rfl)
theorem dX1_gathered_55 : decode cX1_gathered 55 = .ok (.getfield 77, 3) := dk_180 0 77 (dk_at dksX1_gathered_2 8 rfl rfl)
theorem dX1_gathered_58 : decode cX1_gathered 58 = .ok (.ifCond .ne 7, 3) := dk_154 0 7 (dk_at dksX1_gathered_2 11 rfl rfl)
theorem dX1_gathered_61 : decode cX1_gathered 61 = .ok (.aconst_null, 1) := dk_1 (dk_at dksX1_gathered_2 14 rfl rfl)
theorem dX1_gathered_62 : decode cX1_gathered 62 = .ok (.goto 10, 3) := dk_167 0 10 (dk_at dksX1_gathered_2 15 rfl rfl)
theorem dX1_gathered_65 : decode cX1_gathered 65 = .ok (.aload_n 2, 1) := dk_44 (dk_at dksX1_gathered_2 18 rfl rfl)
theorem dX1_gathered_66 : decode cX1_gathered 66 = .ok (.aload 4, 2) := dk_25 4 (dk_at dksX1_gathered_2 19 rfl rfl)
theorem dX1_gathered_68 : decode cX1_gathered 68 = .ok (.getfield 77, 3) := dk_180 0 77 (dk_at dksX1_gathered_2 21 rfl rfl)
theorem dX1_gathered_71 : decode cX1_gathered 71 = .ok (.aaload, 1) := dk_50 (dk_at dksX1_gathered_3 0 rfl rfl)
theorem dX1_gathered_72 : decode cX1_gathered 72 = .ok (.astore 5, 2) := dk_58 5 (dk_at dksX1_gathered_3 1 rfl rfl)
theorem dX1_gathered_74 : decode cX1_gathered 74 = .ok (.aload 5, 2) := dk_25 5 (dk_at dksX1_gathered_3 3 rfl rfl)
theorem dX1_gathered_76 : decode cX1_gathered 76 = .ok (.ifnonnull 19, 3) := dk_199 0 19 (dk_at dksX1_gathered_3 5 rfl rfl)
theorem dX1_gathered_79 : decode cX1_gathered 79 = .ok (.new 90, 3) := dk_187 0 90 (dk_at dksX1_gathered_3 8 rfl rfl)
theorem dX1_gathered_82 : decode cX1_gathered 82 = .ok (.dup, 1) := dk_89 (dk_at dksX1_gathered_3 11 rfl rfl)
theorem dX1_gathered_83 : decode cX1_gathered 83 = .ok (.invokespecial 96, 3) := dk_183 0 96 (dk_at dksX1_gathered_3 12 rfl rfl)
theorem dX1_gathered_86 : decode cX1_gathered 86 = .ok (.astore 5, 2) := dk_58 5 (dk_at dksX1_gathered_3 15 rfl rfl)
theorem dX1_gathered_88 : decode cX1_gathered 88 = .ok (.aload_n 1, 1) := dk_43 (dk_at dksX1_gathered_3 17 rfl rfl)
theorem dX1_gathered_89 : decode cX1_gathered 89 = .ok (.aload 5, 2) := dk_25 5 (dk_at dksX1_gathered_3 18 rfl rfl)
theorem dX1_gathered_91 : decode cX1_gathered 91 = .ok (.invokevirtual 51, 3) := dk_182 0 51 (dk_at dksX1_gathered_3 20 rfl rfl)
theorem dX1_gathered_94 : decode cX1_gathered 94 = .ok (.pop, 1) := dk_87 (dk_at dksX1_gathered_3 23 rfl rfl)
theorem dX1_gathered_95 : decode cX1_gathered 95 = .ok (.aload_n 2, 1) := dk_44 (dk_at dksX1_gathered_4 0 rfl rfl)
theorem dX1_gathered_96 : decode cX1_gathered 96 = .ok (.aload 4, 2) := dk_25 4 (dk_at dksX1_gathered_4 1 rfl rfl)
theorem dX1_gathered_98 : decode cX1_gathered 98 = .ok (.getfield 77, 3) := dk_180 0 77 (dk_at dksX1_gathered_4 3 rfl rfl)
theorem dX1_gathered_101 : decode cX1_gathered 101 = .ok (.aload 5, 2) := dk_25 5 (dk_at dksX1_gathered_4 6 rfl rfl)
theorem dX1_gathered_103 : decode cX1_gathered 103 = .ok (.aastore, 1) := dk_83 (dk_at dksX1_gathered_4 8 rfl rfl)
theorem dX1_gathered_104 : decode cX1_gathered 104 = .ok (.aload 5, 2) := dk_25 5 (dk_at dksX1_gathered_4 9 rfl rfl)
theorem dX1_gathered_106 : decode cX1_gathered 106 = .ok (.aload 4, 2) := dk_25 4 (dk_at dksX1_gathered_4 11 rfl rfl)
theorem dX1_gathered_108 : decode cX1_gathered 108 = .ok (.invokevirtual 97, 3) := dk_182 0 97 (dk_at dksX1_gathered_4 13 rfl rfl)
theorem dX1_gathered_111 : decode cX1_gathered 111 = .ok (.iinc 3 1, 3) := dk_132 3 1 (dk_at dksX1_gathered_4 16 rfl rfl)
theorem dX1_gathered_114 : decode cX1_gathered 114 = .ok (.goto (-98), 3) := dk_167 255 158 (dk_at dksX1_gathered_4 19 rfl rfl)
theorem dX1_gathered_117 : decode cX1_gathered 117 = .ok (.aload_n 1, 1) := dk_43 (dk_at dksX1_gathered_4 22 rfl rfl)
theorem dX1_gathered_118 : decode cX1_gathered 118 = .ok (.areturn, 1) := dk_176 (dk_at dksX1_gathered_4 23 rfl rfl)
abbrev cX1_lambda_units_0 : ByteArray := prog_4_method_25_code
def yX1_lambda_units_0 : MethodName := ⟨RX1, "lambda$units$0", "(LDimensionLines$Unit;)I"⟩
def dkwX1_lambda_units_0_0 : List UInt8 := [17, 3, 232, 42, 182, 0, 212, 104, 42, 182, 0, 215, 96, 172]
abbrev dktX1_lambda_units_0_0 : List UInt8 := dkwX1_lambda_units_0_0 ++ []
theorem dksX1_lambda_units_0_0 : cX1_lambda_units_0.data.toList.drop 0 = dktX1_lambda_units_0_0 := by decide +kernel
theorem dX1_lambda_units_0_0 : decode cX1_lambda_units_0 0 = .ok (.sipush 1000, 3) := dk_17 3 232 (dk_at dksX1_lambda_units_0_0 0 rfl rfl)
theorem dX1_lambda_units_0_3 : decode cX1_lambda_units_0 3 = .ok (.aload_n 0, 1) := dk_42 (dk_at dksX1_lambda_units_0_0 3 rfl rfl)
theorem dX1_lambda_units_0_4 : decode cX1_lambda_units_0 4 = .ok (.invokevirtual 212, 3) := dk_182 0 212 (dk_at dksX1_lambda_units_0_0 4 rfl rfl)
theorem dX1_lambda_units_0_7 : decode cX1_lambda_units_0 7 = .ok (.imul, 1) := dk_104 (dk_at dksX1_lambda_units_0_0 7 rfl rfl)
theorem dX1_lambda_units_0_8 : decode cX1_lambda_units_0 8 = .ok (.aload_n 0, 1) := dk_42 (dk_at dksX1_lambda_units_0_0 8 rfl rfl)
theorem dX1_lambda_units_0_9 : decode cX1_lambda_units_0 9 = .ok (.invokevirtual 215, 3) := dk_182 0 215 (dk_at dksX1_lambda_units_0_0 9 rfl rfl)
theorem dX1_lambda_units_0_12 : decode cX1_lambda_units_0 12 = .ok (.iadd, 1) := dk_96 (dk_at dksX1_lambda_units_0_0 12 rfl rfl)
theorem dX1_lambda_units_0_13 : decode cX1_lambda_units_0 13 = .ok (.ireturn, 1) := dk_172 (dk_at dksX1_lambda_units_0_0 13 rfl rfl)
abbrev cX1_place : ByteArray := prog_4_method_8_code
def yX1_place : MethodName := ⟨RX1, "place", "(LDimensionLines$Unit;)V"⟩
def dkwX1_place_3 : List UInt8 := [182, 0, 141, 154, 0, 9, 132, 2, 1, 167, 255, 244, 43, 28, 182, 0, 145, 177]
abbrev dktX1_place_3 : List UInt8 := dkwX1_place_3 ++ []
def dkwX1_place_2 : List UInt8 := [180, 0, 132, 4, 96, 184, 0, 135, 167, 0, 4, 28, 61, 132, 3, 1, 167, 255, 199, 42, 43, 28]
abbrev dktX1_place_2 : List UInt8 := dkwX1_place_2 ++ dktX1_place_3
def dkwX1_place_1 : List UInt8 := [182, 0, 41, 192, 0, 126, 182, 0, 128, 153, 0, 26, 28, 42, 180, 0, 100, 29, 182, 0, 41, 192, 0, 90]
abbrev dktX1_place_1 : List UInt8 := dkwX1_place_1 ++ dktX1_place_2
def dkwX1_place_0 : List UInt8 := [43, 180, 0, 125, 61, 3, 62, 29, 42, 180, 0, 100, 182, 0, 35, 162, 0, 52, 43, 42, 180, 0, 100, 29]
abbrev dktX1_place_0 : List UInt8 := dkwX1_place_0 ++ dktX1_place_1
theorem dksX1_place_0 : cX1_place.data.toList.drop 0 = dktX1_place_0 := by decide +kernel
theorem dksX1_place_1 : cX1_place.data.toList.drop 24 = dktX1_place_1 := dk_seg dksX1_place_0 24 rfl rfl
theorem dksX1_place_2 : cX1_place.data.toList.drop 48 = dktX1_place_2 := dk_seg dksX1_place_1 24 rfl rfl
theorem dksX1_place_3 : cX1_place.data.toList.drop 70 = dktX1_place_3 := dk_seg dksX1_place_2 22 rfl rfl
theorem dX1_place_0 : decode cX1_place 0 = .ok (.aload_n 1, 1) := dk_43 (dk_at dksX1_place_0 0 rfl rfl)
theorem dX1_place_1 : decode cX1_place 1 = .ok (.getfield 125, 3) := dk_180 0 125 (dk_at dksX1_place_0 1 rfl rfl)
theorem dX1_place_4 : decode cX1_place 4 = .ok (.istore_n 2, 1) := dk_61 (dk_at dksX1_place_0 4 rfl rfl)
theorem dX1_place_5 : decode cX1_place 5 = .ok (.iconst 0, 1) := dk_3 (dk_at dksX1_place_0 5 rfl rfl)
theorem dX1_place_6 : decode cX1_place 6 = .ok (.istore_n 3, 1) := dk_62 (dk_at dksX1_place_0 6 rfl rfl)
theorem dX1_place_7 : decode cX1_place 7 = .ok (.iload_n 3, 1) := dk_29 (dk_at dksX1_place_0 7 rfl rfl)
theorem dX1_place_8 : decode cX1_place 8 = .ok (.aload_n 0, 1) := dk_42 (dk_at dksX1_place_0 8 rfl rfl)
theorem dX1_place_9 : decode cX1_place 9 = .ok (.getfield 100, 3) := dk_180 0 100 (dk_at dksX1_place_0 9 rfl rfl)
theorem dX1_place_12 : decode cX1_place 12 = .ok (.invokevirtual 35, 3) := dk_182 0 35 (dk_at dksX1_place_0 12 rfl rfl)
theorem dX1_place_15 : decode cX1_place 15 = .ok (.if_icmp .ge 52, 3) := dk_162 0 52 (dk_at dksX1_place_0 15 rfl rfl)
theorem dX1_place_18 : decode cX1_place 18 = .ok (.aload_n 1, 1) := dk_43 (dk_at dksX1_place_0 18 rfl rfl)
theorem dX1_place_19 : decode cX1_place 19 = .ok (.aload_n 0, 1) := dk_42 (dk_at dksX1_place_0 19 rfl rfl)
theorem dX1_place_20 : decode cX1_place 20 = .ok (.getfield 100, 3) := dk_180 0 100 (dk_at dksX1_place_0 20 rfl rfl)
theorem dX1_place_23 : decode cX1_place 23 = .ok (.iload_n 3, 1) := dk_29 (dk_at dksX1_place_0 23 rfl rfl)
theorem dX1_place_24 : decode cX1_place 24 = .ok (.invokevirtual 41, 3) := dk_182 0 41 (dk_at dksX1_place_1 0 rfl rfl)
theorem dX1_place_27 : decode cX1_place 27 = .ok (.checkcast 126, 3) := dk_192 0 126 (dk_at dksX1_place_1 3 rfl rfl)
theorem dX1_place_30 : decode cX1_place 30 = .ok (.invokevirtual 128, 3) := dk_182 0 128 (dk_at dksX1_place_1 6 rfl rfl)
theorem dX1_place_33 : decode cX1_place 33 = .ok (.ifCond .eq 26, 3) := dk_153 0 26 (dk_at dksX1_place_1 9 rfl rfl)
theorem dX1_place_36 : decode cX1_place 36 = .ok (.iload_n 2, 1) := dk_28 (dk_at dksX1_place_1 12 rfl rfl)
theorem dX1_place_37 : decode cX1_place 37 = .ok (.aload_n 0, 1) := dk_42 (dk_at dksX1_place_1 13 rfl rfl)
theorem dX1_place_38 : decode cX1_place 38 = .ok (.getfield 100, 3) := dk_180 0 100 (dk_at dksX1_place_1 14 rfl rfl)
theorem dX1_place_41 : decode cX1_place 41 = .ok (.iload_n 3, 1) := dk_29 (dk_at dksX1_place_1 17 rfl rfl)
theorem dX1_place_42 : decode cX1_place 42 = .ok (.invokevirtual 41, 3) := dk_182 0 41 (dk_at dksX1_place_1 18 rfl rfl)
theorem dX1_place_45 : decode cX1_place 45 = .ok (.checkcast 90, 3) := dk_192 0 90 (dk_at dksX1_place_1 21 rfl rfl)
theorem dX1_place_48 : decode cX1_place 48 = .ok (.getfield 132, 3) := dk_180 0 132 (dk_at dksX1_place_2 0 rfl rfl)
theorem dX1_place_51 : decode cX1_place 51 = .ok (.iconst 1, 1) := dk_4 (dk_at dksX1_place_2 3 rfl rfl)
theorem dX1_place_52 : decode cX1_place 52 = .ok (.iadd, 1) := dk_96 (dk_at dksX1_place_2 4 rfl rfl)
theorem dX1_place_53 : decode cX1_place 53 = .ok (.invokestatic 135, 3) := dk_184 0 135 (dk_at dksX1_place_2 5 rfl rfl)
theorem dX1_place_56 : decode cX1_place 56 = .ok (.goto 4, 3) := dk_167 0 4 (dk_at dksX1_place_2 8 rfl rfl)
theorem dX1_place_59 : decode cX1_place 59 = .ok (.iload_n 2, 1) := dk_28 (dk_at dksX1_place_2 11 rfl rfl)
theorem dX1_place_60 : decode cX1_place 60 = .ok (.istore_n 2, 1) := dk_61 (dk_at dksX1_place_2 12 rfl rfl)
theorem dX1_place_61 : decode cX1_place 61 = .ok (.iinc 3 1, 3) := dk_132 3 1 (dk_at dksX1_place_2 13 rfl rfl)
theorem dX1_place_64 : decode cX1_place 64 = .ok (.goto (-57), 3) := dk_167 255 199 (dk_at dksX1_place_2 16 rfl rfl)
theorem dX1_place_67 : decode cX1_place 67 = .ok (.aload_n 0, 1) := dk_42 (dk_at dksX1_place_2 19 rfl rfl)
theorem dX1_place_68 : decode cX1_place 68 = .ok (.aload_n 1, 1) := dk_43 (dk_at dksX1_place_2 20 rfl rfl)
theorem dX1_place_69 : decode cX1_place 69 = .ok (.iload_n 2, 1) := dk_28 (dk_at dksX1_place_2 21 rfl rfl)
theorem dX1_place_70 : decode cX1_place 70 = .ok (.invokevirtual 141, 3) := dk_182 0 141 (dk_at dksX1_place_3 0 rfl rfl)
theorem dX1_place_73 : decode cX1_place 73 = .ok (.ifCond .ne 9, 3) := dk_154 0 9 (dk_at dksX1_place_3 3 rfl rfl)
theorem dX1_place_76 : decode cX1_place 76 = .ok (.iinc 2 1, 3) := dk_132 2 1 (dk_at dksX1_place_3 6 rfl rfl)
theorem dX1_place_79 : decode cX1_place 79 = .ok (.goto (-12), 3) := dk_167 255 244 (dk_at dksX1_place_3 9 rfl rfl)
theorem dX1_place_82 : decode cX1_place 82 = .ok (.aload_n 1, 1) := dk_43 (dk_at dksX1_place_3 12 rfl rfl)
theorem dX1_place_83 : decode cX1_place 83 = .ok (.iload_n 2, 1) := dk_28 (dk_at dksX1_place_3 13 rfl rfl)
theorem dX1_place_84 : decode cX1_place 84 = .ok (.invokevirtual 145, 3) := dk_182 0 145 (dk_at dksX1_place_3 14 rfl rfl)
theorem dX1_place_87 : decode cX1_place 87 = .ok (.return_, 1) := dk_177 (dk_at dksX1_place_3 17 rfl rfl)
abbrev cX1_isFree : ByteArray := prog_4_method_9_code
def yX1_isFree : MethodName := ⟨RX1, "isFree", "(LDimensionLines$Unit;I)Z"⟩
def dkwX1_isFree_3 : List UInt8 := [167, 255, 193, 29, 172]
abbrev dktX1_isFree_3 : List UInt8 := dkwX1_isFree_3 ++ []
def dkwX1_isFree_2 : List UInt8 := [21, 4, 182, 0, 41, 192, 0, 90, 182, 0, 148, 154, 0, 7, 4, 167, 0, 4, 3, 62, 132, 4, 1]
abbrev dktX1_isFree_2 : List UInt8 := dkwX1_isFree_2 ++ dktX1_isFree_3
def dkwX1_isFree_1 : List UInt8 := [180, 0, 100, 21, 4, 182, 0, 41, 192, 0, 90, 180, 0, 132, 28, 160, 0, 22, 43, 42, 180, 0, 100]
abbrev dktX1_isFree_1 : List UInt8 := dkwX1_isFree_1 ++ dktX1_isFree_2
def dkwX1_isFree_0 : List UInt8 := [4, 62, 3, 54, 4, 21, 4, 42, 180, 0, 100, 182, 0, 35, 162, 0, 57, 29, 153, 0, 45, 42]
abbrev dktX1_isFree_0 : List UInt8 := dkwX1_isFree_0 ++ dktX1_isFree_1
theorem dksX1_isFree_0 : cX1_isFree.data.toList.drop 0 = dktX1_isFree_0 := by decide +kernel
theorem dksX1_isFree_1 : cX1_isFree.data.toList.drop 22 = dktX1_isFree_1 := dk_seg dksX1_isFree_0 22 rfl rfl
theorem dksX1_isFree_2 : cX1_isFree.data.toList.drop 45 = dktX1_isFree_2 := dk_seg dksX1_isFree_1 23 rfl rfl
theorem dksX1_isFree_3 : cX1_isFree.data.toList.drop 68 = dktX1_isFree_3 := dk_seg dksX1_isFree_2 23 rfl rfl
theorem dX1_isFree_0 : decode cX1_isFree 0 = .ok (.iconst 1, 1) := dk_4 (dk_at dksX1_isFree_0 0 rfl rfl)
theorem dX1_isFree_1 : decode cX1_isFree 1 = .ok (.istore_n 3, 1) := dk_62 (dk_at dksX1_isFree_0 1 rfl rfl)
theorem dX1_isFree_2 : decode cX1_isFree 2 = .ok (.iconst 0, 1) := dk_3 (dk_at dksX1_isFree_0 2 rfl rfl)
theorem dX1_isFree_3 : decode cX1_isFree 3 = .ok (.istore 4, 2) := dk_54 4 (dk_at dksX1_isFree_0 3 rfl rfl)
theorem dX1_isFree_5 : decode cX1_isFree 5 = .ok (.iload 4, 2) := dk_21 4 (dk_at dksX1_isFree_0 5 rfl rfl)
theorem dX1_isFree_7 : decode cX1_isFree 7 = .ok (.aload_n 0, 1) := dk_42 (dk_at dksX1_isFree_0 7 rfl rfl)
theorem dX1_isFree_8 : decode cX1_isFree 8 = .ok (.getfield 100, 3) := dk_180 0 100 (dk_at dksX1_isFree_0 8 rfl rfl)
theorem dX1_isFree_11 : decode cX1_isFree 11 = .ok (.invokevirtual 35, 3) := dk_182 0 35 (dk_at dksX1_isFree_0 11 rfl rfl)
theorem dX1_isFree_14 : decode cX1_isFree 14 = .ok (.if_icmp .ge 57, 3) := dk_162 0 57 (dk_at dksX1_isFree_0 14 rfl rfl)
theorem dX1_isFree_17 : decode cX1_isFree 17 = .ok (.iload_n 3, 1) := dk_29 (dk_at dksX1_isFree_0 17 rfl rfl)
theorem dX1_isFree_18 : decode cX1_isFree 18 = .ok (.ifCond .eq 45, 3) := dk_153 0 45 (dk_at dksX1_isFree_0 18 rfl rfl)
theorem dX1_isFree_21 : decode cX1_isFree 21 = .ok (.aload_n 0, 1) := dk_42 (dk_at dksX1_isFree_0 21 rfl rfl)
theorem dX1_isFree_22 : decode cX1_isFree 22 = .ok (.getfield 100, 3) := dk_180 0 100 (dk_at dksX1_isFree_1 0 rfl rfl)
theorem dX1_isFree_25 : decode cX1_isFree 25 = .ok (.iload 4, 2) := dk_21 4 (dk_at dksX1_isFree_1 3 rfl rfl)
theorem dX1_isFree_27 : decode cX1_isFree 27 = .ok (.invokevirtual 41, 3) := dk_182 0 41 (dk_at dksX1_isFree_1 5 rfl rfl)
theorem dX1_isFree_30 : decode cX1_isFree 30 = .ok (.checkcast 90, 3) := dk_192 0 90 (dk_at dksX1_isFree_1 8 rfl rfl)
theorem dX1_isFree_33 : decode cX1_isFree 33 = .ok (.getfield 132, 3) := dk_180 0 132 (dk_at dksX1_isFree_1 11 rfl rfl)
theorem dX1_isFree_36 : decode cX1_isFree 36 = .ok (.iload_n 2, 1) := dk_28 (dk_at dksX1_isFree_1 14 rfl rfl)
theorem dX1_isFree_37 : decode cX1_isFree 37 = .ok (.if_icmp .ne 22, 3) := dk_160 0 22 (dk_at dksX1_isFree_1 15 rfl rfl)
theorem dX1_isFree_40 : decode cX1_isFree 40 = .ok (.aload_n 1, 1) := dk_43 (dk_at dksX1_isFree_1 18 rfl rfl)
theorem dX1_isFree_41 : decode cX1_isFree 41 = .ok (.aload_n 0, 1) := dk_42 (dk_at dksX1_isFree_1 19 rfl rfl)
theorem dX1_isFree_42 : decode cX1_isFree 42 = .ok (.getfield 100, 3) := dk_180 0 100 (dk_at dksX1_isFree_1 20 rfl rfl)
theorem dX1_isFree_45 : decode cX1_isFree 45 = .ok (.iload 4, 2) := dk_21 4 (dk_at dksX1_isFree_2 0 rfl rfl)
theorem dX1_isFree_47 : decode cX1_isFree 47 = .ok (.invokevirtual 41, 3) := dk_182 0 41 (dk_at dksX1_isFree_2 2 rfl rfl)
theorem dX1_isFree_50 : decode cX1_isFree 50 = .ok (.checkcast 90, 3) := dk_192 0 90 (dk_at dksX1_isFree_2 5 rfl rfl)
theorem dX1_isFree_53 : decode cX1_isFree 53 = .ok (.invokevirtual 148, 3) := dk_182 0 148 (dk_at dksX1_isFree_2 8 rfl rfl)
theorem dX1_isFree_56 : decode cX1_isFree 56 = .ok (.ifCond .ne 7, 3) := dk_154 0 7 (dk_at dksX1_isFree_2 11 rfl rfl)
theorem dX1_isFree_59 : decode cX1_isFree 59 = .ok (.iconst 1, 1) := dk_4 (dk_at dksX1_isFree_2 14 rfl rfl)
theorem dX1_isFree_60 : decode cX1_isFree 60 = .ok (.goto 4, 3) := dk_167 0 4 (dk_at dksX1_isFree_2 15 rfl rfl)
theorem dX1_isFree_63 : decode cX1_isFree 63 = .ok (.iconst 0, 1) := dk_3 (dk_at dksX1_isFree_2 18 rfl rfl)
theorem dX1_isFree_64 : decode cX1_isFree 64 = .ok (.istore_n 3, 1) := dk_62 (dk_at dksX1_isFree_2 19 rfl rfl)
theorem dX1_isFree_65 : decode cX1_isFree 65 = .ok (.iinc 4 1, 3) := dk_132 4 1 (dk_at dksX1_isFree_2 20 rfl rfl)
theorem dX1_isFree_68 : decode cX1_isFree 68 = .ok (.goto (-63), 3) := dk_167 255 193 (dk_at dksX1_isFree_3 0 rfl rfl)
theorem dX1_isFree_71 : decode cX1_isFree 71 = .ok (.iload_n 3, 1) := dk_29 (dk_at dksX1_isFree_3 3 rfl rfl)
theorem dX1_isFree_72 : decode cX1_isFree 72 = .ok (.ireturn, 1) := dk_172 (dk_at dksX1_isFree_3 4 rfl rfl)
abbrev cX1_crossingsOf : ByteArray := prog_4_method_15_code
def yX1_crossingsOf : MethodName := ⟨RX1, "crossingsOf", "(LDimensionLines$Point;)I"⟩
def dkwX1_crossingsOf_2 : List UInt8 := [167, 255, 215, 28, 172]
abbrev dktX1_crossingsOf_2 : List UInt8 := dkwX1_crossingsOf_2 ++ []
def dkwX1_crossingsOf_1 : List UInt8 := [182, 0, 41, 192, 0, 55, 182, 0, 167, 153, 0, 7, 4, 167, 0, 4, 3, 96, 61, 132, 3, 1]
abbrev dktX1_crossingsOf_1 : List UInt8 := dkwX1_crossingsOf_1 ++ dktX1_crossingsOf_2
def dkwX1_crossingsOf_0 : List UInt8 := [3, 61, 3, 62, 29, 42, 180, 0, 18, 182, 0, 35, 162, 0, 36, 28, 42, 43, 42, 180, 0, 18, 29]
abbrev dktX1_crossingsOf_0 : List UInt8 := dkwX1_crossingsOf_0 ++ dktX1_crossingsOf_1
theorem dksX1_crossingsOf_0 : cX1_crossingsOf.data.toList.drop 0 = dktX1_crossingsOf_0 := by decide +kernel
theorem dksX1_crossingsOf_1 : cX1_crossingsOf.data.toList.drop 23 = dktX1_crossingsOf_1 := dk_seg dksX1_crossingsOf_0 23 rfl rfl
theorem dksX1_crossingsOf_2 : cX1_crossingsOf.data.toList.drop 45 = dktX1_crossingsOf_2 := dk_seg dksX1_crossingsOf_1 22 rfl rfl
theorem dX1_crossingsOf_0 : decode cX1_crossingsOf 0 = .ok (.iconst 0, 1) := dk_3 (dk_at dksX1_crossingsOf_0 0 rfl rfl)
theorem dX1_crossingsOf_1 : decode cX1_crossingsOf 1 = .ok (.istore_n 2, 1) := dk_61 (dk_at dksX1_crossingsOf_0 1 rfl rfl)
theorem dX1_crossingsOf_2 : decode cX1_crossingsOf 2 = .ok (.iconst 0, 1) := dk_3 (dk_at dksX1_crossingsOf_0 2 rfl rfl)
theorem dX1_crossingsOf_3 : decode cX1_crossingsOf 3 = .ok (.istore_n 3, 1) := dk_62 (dk_at dksX1_crossingsOf_0 3 rfl rfl)
theorem dX1_crossingsOf_4 : decode cX1_crossingsOf 4 = .ok (.iload_n 3, 1) := dk_29 (dk_at dksX1_crossingsOf_0 4 rfl rfl)
theorem dX1_crossingsOf_5 : decode cX1_crossingsOf 5 = .ok (.aload_n 0, 1) := dk_42 (dk_at dksX1_crossingsOf_0 5 rfl rfl)
theorem dX1_crossingsOf_6 : decode cX1_crossingsOf 6 = .ok (.getfield 18, 3) := dk_180 0 18 (dk_at dksX1_crossingsOf_0 6 rfl rfl)
theorem dX1_crossingsOf_9 : decode cX1_crossingsOf 9 = .ok (.invokevirtual 35, 3) := dk_182 0 35 (dk_at dksX1_crossingsOf_0 9 rfl rfl)
theorem dX1_crossingsOf_12 : decode cX1_crossingsOf 12 = .ok (.if_icmp .ge 36, 3) := dk_162 0 36 (dk_at dksX1_crossingsOf_0 12 rfl rfl)
theorem dX1_crossingsOf_15 : decode cX1_crossingsOf 15 = .ok (.iload_n 2, 1) := dk_28 (dk_at dksX1_crossingsOf_0 15 rfl rfl)
theorem dX1_crossingsOf_16 : decode cX1_crossingsOf 16 = .ok (.aload_n 0, 1) := dk_42 (dk_at dksX1_crossingsOf_0 16 rfl rfl)
theorem dX1_crossingsOf_17 : decode cX1_crossingsOf 17 = .ok (.aload_n 1, 1) := dk_43 (dk_at dksX1_crossingsOf_0 17 rfl rfl)
theorem dX1_crossingsOf_18 : decode cX1_crossingsOf 18 = .ok (.aload_n 0, 1) := dk_42 (dk_at dksX1_crossingsOf_0 18 rfl rfl)
theorem dX1_crossingsOf_19 : decode cX1_crossingsOf 19 = .ok (.getfield 18, 3) := dk_180 0 18 (dk_at dksX1_crossingsOf_0 19 rfl rfl)
theorem dX1_crossingsOf_22 : decode cX1_crossingsOf 22 = .ok (.iload_n 3, 1) := dk_29 (dk_at dksX1_crossingsOf_0 22 rfl rfl)
theorem dX1_crossingsOf_23 : decode cX1_crossingsOf 23 = .ok (.invokevirtual 41, 3) := dk_182 0 41 (dk_at dksX1_crossingsOf_1 0 rfl rfl)
theorem dX1_crossingsOf_26 : decode cX1_crossingsOf 26 = .ok (.checkcast 55, 3) := dk_192 0 55 (dk_at dksX1_crossingsOf_1 3 rfl rfl)
theorem dX1_crossingsOf_29 : decode cX1_crossingsOf 29 = .ok (.invokevirtual 167, 3) := dk_182 0 167 (dk_at dksX1_crossingsOf_1 6 rfl rfl)
theorem dX1_crossingsOf_32 : decode cX1_crossingsOf 32 = .ok (.ifCond .eq 7, 3) := dk_153 0 7 (dk_at dksX1_crossingsOf_1 9 rfl rfl)
theorem dX1_crossingsOf_35 : decode cX1_crossingsOf 35 = .ok (.iconst 1, 1) := dk_4 (dk_at dksX1_crossingsOf_1 12 rfl rfl)
theorem dX1_crossingsOf_36 : decode cX1_crossingsOf 36 = .ok (.goto 4, 3) := dk_167 0 4 (dk_at dksX1_crossingsOf_1 13 rfl rfl)
theorem dX1_crossingsOf_39 : decode cX1_crossingsOf 39 = .ok (.iconst 0, 1) := dk_3 (dk_at dksX1_crossingsOf_1 16 rfl rfl)
theorem dX1_crossingsOf_40 : decode cX1_crossingsOf 40 = .ok (.iadd, 1) := dk_96 (dk_at dksX1_crossingsOf_1 17 rfl rfl)
theorem dX1_crossingsOf_41 : decode cX1_crossingsOf 41 = .ok (.istore_n 2, 1) := dk_61 (dk_at dksX1_crossingsOf_1 18 rfl rfl)
theorem dX1_crossingsOf_42 : decode cX1_crossingsOf 42 = .ok (.iinc 3 1, 3) := dk_132 3 1 (dk_at dksX1_crossingsOf_1 19 rfl rfl)
theorem dX1_crossingsOf_45 : decode cX1_crossingsOf 45 = .ok (.goto (-41), 3) := dk_167 255 215 (dk_at dksX1_crossingsOf_2 0 rfl rfl)
theorem dX1_crossingsOf_48 : decode cX1_crossingsOf 48 = .ok (.iload_n 2, 1) := dk_28 (dk_at dksX1_crossingsOf_2 3 rfl rfl)
theorem dX1_crossingsOf_49 : decode cX1_crossingsOf 49 = .ok (.ireturn, 1) := dk_172 (dk_at dksX1_crossingsOf_2 4 rfl rfl)
abbrev cX1_crosses : ByteArray := prog_4_method_12_code
def yX1_crosses : MethodName := ⟨RX1, "crosses", "(LDimensionLines$Point;LDimensionLines$Dimension;)Z"⟩
def dkwX1_crosses_1 : List UInt8 := [167, 0, 4, 3, 172]
abbrev dktX1_crosses_1 : List UInt8 := dkwX1_crosses_1 ++ []
def dkwX1_crosses_0 : List UInt8 := [42, 43, 182, 0, 155, 44, 180, 0, 154, 164, 0, 18, 44, 43, 180, 0, 45, 182, 0, 159, 153, 0, 7, 4]
abbrev dktX1_crosses_0 : List UInt8 := dkwX1_crosses_0 ++ dktX1_crosses_1
theorem dksX1_crosses_0 : cX1_crosses.data.toList.drop 0 = dktX1_crosses_0 := by decide +kernel
theorem dksX1_crosses_1 : cX1_crosses.data.toList.drop 24 = dktX1_crosses_1 := dk_seg dksX1_crosses_0 24 rfl rfl
theorem dX1_crosses_0 : decode cX1_crosses 0 = .ok (.aload_n 0, 1) := dk_42 (dk_at dksX1_crosses_0 0 rfl rfl)
theorem dX1_crosses_1 : decode cX1_crosses 1 = .ok (.aload_n 1, 1) := dk_43 (dk_at dksX1_crosses_0 1 rfl rfl)
theorem dX1_crosses_2 : decode cX1_crosses 2 = .ok (.invokevirtual 155, 3) := dk_182 0 155 (dk_at dksX1_crosses_0 2 rfl rfl)
theorem dX1_crosses_5 : decode cX1_crosses 5 = .ok (.aload_n 2, 1) := dk_44 (dk_at dksX1_crosses_0 5 rfl rfl)
theorem dX1_crosses_6 : decode cX1_crosses 6 = .ok (.getfield 154, 3) := dk_180 0 154 (dk_at dksX1_crosses_0 6 rfl rfl)
theorem dX1_crosses_9 : decode cX1_crosses 9 = .ok (.if_icmp .le 18, 3) := dk_164 0 18 (dk_at dksX1_crosses_0 9 rfl rfl)
theorem dX1_crosses_12 : decode cX1_crosses 12 = .ok (.aload_n 2, 1) := dk_44 (dk_at dksX1_crosses_0 12 rfl rfl)
theorem dX1_crosses_13 : decode cX1_crosses 13 = .ok (.aload_n 1, 1) := dk_43 (dk_at dksX1_crosses_0 13 rfl rfl)
theorem dX1_crosses_14 : decode cX1_crosses 14 = .ok (.getfield 45, 3) := dk_180 0 45 (dk_at dksX1_crosses_0 14 rfl rfl)
theorem dX1_crosses_17 : decode cX1_crosses 17 = .ok (.invokevirtual 159, 3) := dk_182 0 159 (dk_at dksX1_crosses_0 17 rfl rfl)
theorem dX1_crosses_20 : decode cX1_crosses 20 = .ok (.ifCond .eq 7, 3) := dk_153 0 7 (dk_at dksX1_crosses_0 20 rfl rfl)
theorem dX1_crosses_23 : decode cX1_crosses 23 = .ok (.iconst 1, 1) := dk_4 (dk_at dksX1_crosses_0 23 rfl rfl)
theorem dX1_crosses_24 : decode cX1_crosses 24 = .ok (.goto 4, 3) := dk_167 0 4 (dk_at dksX1_crosses_1 0 rfl rfl)
theorem dX1_crosses_27 : decode cX1_crosses 27 = .ok (.iconst 0, 1) := dk_3 (dk_at dksX1_crosses_1 3 rfl rfl)
theorem dX1_crosses_28 : decode cX1_crosses 28 = .ok (.ireturn, 1) := dk_172 (dk_at dksX1_crosses_1 4 rfl rfl)
abbrev cX1_group : ByteArray := prog_4_method_20_code
def yX1_group : MethodName := ⟨RX1, "group", "(I)I"⟩
def dkwX1_group_2 : List UInt8 := [167, 255, 214, 28, 172]
abbrev dktX1_group_2 : List UInt8 := dkwX1_group_2 ++ []
def dkwX1_group_1 : List UInt8 := [182, 0, 199, 172, 28, 42, 29, 182, 0, 203, 153, 0, 7, 4, 167, 0, 4, 3, 96, 61, 132, 3, 1]
abbrev dktX1_group_1 : List UInt8 := dkwX1_group_1 ++ dktX1_group_2
def dkwX1_group_0 : List UInt8 := [3, 61, 3, 62, 29, 27, 162, 0, 43, 42, 182, 0, 178, 29, 27, 182, 0, 184, 153, 0, 9, 42, 29]
abbrev dktX1_group_0 : List UInt8 := dkwX1_group_0 ++ dktX1_group_1
theorem dksX1_group_0 : cX1_group.data.toList.drop 0 = dktX1_group_0 := by decide +kernel
theorem dksX1_group_1 : cX1_group.data.toList.drop 23 = dktX1_group_1 := dk_seg dksX1_group_0 23 rfl rfl
theorem dksX1_group_2 : cX1_group.data.toList.drop 46 = dktX1_group_2 := dk_seg dksX1_group_1 23 rfl rfl
theorem dX1_group_0 : decode cX1_group 0 = .ok (.iconst 0, 1) := dk_3 (dk_at dksX1_group_0 0 rfl rfl)
theorem dX1_group_1 : decode cX1_group 1 = .ok (.istore_n 2, 1) := dk_61 (dk_at dksX1_group_0 1 rfl rfl)
theorem dX1_group_2 : decode cX1_group 2 = .ok (.iconst 0, 1) := dk_3 (dk_at dksX1_group_0 2 rfl rfl)
theorem dX1_group_3 : decode cX1_group 3 = .ok (.istore_n 3, 1) := dk_62 (dk_at dksX1_group_0 3 rfl rfl)
theorem dX1_group_4 : decode cX1_group 4 = .ok (.iload_n 3, 1) := dk_29 (dk_at dksX1_group_0 4 rfl rfl)
theorem dX1_group_5 : decode cX1_group 5 = .ok (.iload_n 1, 1) := dk_27 (dk_at dksX1_group_0 5 rfl rfl)
theorem dX1_group_6 : decode cX1_group 6 = .ok (.if_icmp .ge 43, 3) := dk_162 0 43 (dk_at dksX1_group_0 6 rfl rfl)
theorem dX1_group_9 : decode cX1_group 9 = .ok (.aload_n 0, 1) := dk_42 (dk_at dksX1_group_0 9 rfl rfl)
theorem dX1_group_10 : decode cX1_group 10 = .ok (.invokevirtual 178, 3) := dk_182 0 178 (dk_at dksX1_group_0 10 rfl rfl)
theorem dX1_group_13 : decode cX1_group 13 = .ok (.iload_n 3, 1) := dk_29 (dk_at dksX1_group_0 13 rfl rfl)
theorem dX1_group_14 : decode cX1_group 14 = .ok (.iload_n 1, 1) := dk_27 (dk_at dksX1_group_0 14 rfl rfl)
theorem dX1_group_15 : decode cX1_group 15 = .ok (.invokevirtual 184, 3) := dk_182 0 184 (dk_at dksX1_group_0 15 rfl rfl)
theorem dX1_group_18 : decode cX1_group 18 = .ok (.ifCond .eq 9, 3) := dk_153 0 9 (dk_at dksX1_group_0 18 rfl rfl)
theorem dX1_group_21 : decode cX1_group 21 = .ok (.aload_n 0, 1) := dk_42 (dk_at dksX1_group_0 21 rfl rfl)
theorem dX1_group_22 : decode cX1_group 22 = .ok (.iload_n 3, 1) := dk_29 (dk_at dksX1_group_0 22 rfl rfl)
theorem dX1_group_23 : decode cX1_group 23 = .ok (.invokevirtual 199, 3) := dk_182 0 199 (dk_at dksX1_group_1 0 rfl rfl)
theorem dX1_group_26 : decode cX1_group 26 = .ok (.ireturn, 1) := dk_172 (dk_at dksX1_group_1 3 rfl rfl)
theorem dX1_group_27 : decode cX1_group 27 = .ok (.iload_n 2, 1) := dk_28 (dk_at dksX1_group_1 4 rfl rfl)
theorem dX1_group_28 : decode cX1_group 28 = .ok (.aload_n 0, 1) := dk_42 (dk_at dksX1_group_1 5 rfl rfl)
theorem dX1_group_29 : decode cX1_group 29 = .ok (.iload_n 3, 1) := dk_29 (dk_at dksX1_group_1 6 rfl rfl)
theorem dX1_group_30 : decode cX1_group 30 = .ok (.invokevirtual 203, 3) := dk_182 0 203 (dk_at dksX1_group_1 7 rfl rfl)
theorem dX1_group_33 : decode cX1_group 33 = .ok (.ifCond .eq 7, 3) := dk_153 0 7 (dk_at dksX1_group_1 10 rfl rfl)
theorem dX1_group_36 : decode cX1_group 36 = .ok (.iconst 1, 1) := dk_4 (dk_at dksX1_group_1 13 rfl rfl)
theorem dX1_group_37 : decode cX1_group 37 = .ok (.goto 4, 3) := dk_167 0 4 (dk_at dksX1_group_1 14 rfl rfl)
theorem dX1_group_40 : decode cX1_group 40 = .ok (.iconst 0, 1) := dk_3 (dk_at dksX1_group_1 17 rfl rfl)
theorem dX1_group_41 : decode cX1_group 41 = .ok (.iadd, 1) := dk_96 (dk_at dksX1_group_1 18 rfl rfl)
theorem dX1_group_42 : decode cX1_group 42 = .ok (.istore_n 2, 1) := dk_61 (dk_at dksX1_group_1 19 rfl rfl)
theorem dX1_group_43 : decode cX1_group 43 = .ok (.iinc 3 1, 3) := dk_132 3 1 (dk_at dksX1_group_1 20 rfl rfl)
theorem dX1_group_46 : decode cX1_group 46 = .ok (.goto (-42), 3) := dk_167 255 214 (dk_at dksX1_group_2 0 rfl rfl)
theorem dX1_group_49 : decode cX1_group 49 = .ok (.iload_n 2, 1) := dk_28 (dk_at dksX1_group_2 3 rfl rfl)
theorem dX1_group_50 : decode cX1_group 50 = .ok (.ireturn, 1) := dk_172 (dk_at dksX1_group_2 4 rfl rfl)
abbrev cX1_bounds : ByteArray := prog_4_method_16_code
def yX1_bounds : MethodName := ⟨RX1, "bounds", "()LDimensionLines$Bounds;"⟩
def dkwX1_bounds_1 : List UInt8 := [181, 0, 171, 42, 180, 0, 171, 176]
abbrev dktX1_bounds_1 : List UInt8 := dkwX1_bounds_1 ++ []
def dkwX1_bounds_0 : List UInt8 := [42, 180, 0, 171, 199, 0, 21, 42, 187, 0, 28, 89, 42, 17, 252, 25, 17, 252, 25, 183, 0, 175]
abbrev dktX1_bounds_0 : List UInt8 := dkwX1_bounds_0 ++ dktX1_bounds_1
theorem dksX1_bounds_0 : cX1_bounds.data.toList.drop 0 = dktX1_bounds_0 := by decide +kernel
theorem dksX1_bounds_1 : cX1_bounds.data.toList.drop 22 = dktX1_bounds_1 := dk_seg dksX1_bounds_0 22 rfl rfl
theorem dX1_bounds_0 : decode cX1_bounds 0 = .ok (.aload_n 0, 1) := dk_42 (dk_at dksX1_bounds_0 0 rfl rfl)
theorem dX1_bounds_1 : decode cX1_bounds 1 = .ok (.getfield 171, 3) := dk_180 0 171 (dk_at dksX1_bounds_0 1 rfl rfl)
theorem dX1_bounds_4 : decode cX1_bounds 4 = .ok (.ifnonnull 21, 3) := dk_199 0 21 (dk_at dksX1_bounds_0 4 rfl rfl)
theorem dX1_bounds_7 : decode cX1_bounds 7 = .ok (.aload_n 0, 1) := dk_42 (dk_at dksX1_bounds_0 7 rfl rfl)
theorem dX1_bounds_8 : decode cX1_bounds 8 = .ok (.new 28, 3) := dk_187 0 28 (dk_at dksX1_bounds_0 8 rfl rfl)
theorem dX1_bounds_11 : decode cX1_bounds 11 = .ok (.dup, 1) := dk_89 (dk_at dksX1_bounds_0 11 rfl rfl)
theorem dX1_bounds_12 : decode cX1_bounds 12 = .ok (.aload_n 0, 1) := dk_42 (dk_at dksX1_bounds_0 12 rfl rfl)
theorem dX1_bounds_13 : decode cX1_bounds 13 = .ok (.sipush (-999), 3) := dk_17 252 25 (dk_at dksX1_bounds_0 13 rfl rfl)
theorem dX1_bounds_16 : decode cX1_bounds 16 = .ok (.sipush (-999), 3) := dk_17 252 25 (dk_at dksX1_bounds_0 16 rfl rfl)
theorem dX1_bounds_19 : decode cX1_bounds 19 = .ok (.invokespecial 175, 3) := dk_183 0 175 (dk_at dksX1_bounds_0 19 rfl rfl)
theorem dX1_bounds_22 : decode cX1_bounds 22 = .ok (.putfield 171, 3) := dk_181 0 171 (dk_at dksX1_bounds_1 0 rfl rfl)
theorem dX1_bounds_25 : decode cX1_bounds 25 = .ok (.aload_n 0, 1) := dk_42 (dk_at dksX1_bounds_1 3 rfl rfl)
theorem dX1_bounds_26 : decode cX1_bounds 26 = .ok (.getfield 171, 3) := dk_180 0 171 (dk_at dksX1_bounds_1 4 rfl rfl)
theorem dX1_bounds_29 : decode cX1_bounds 29 = .ok (.areturn, 1) := dk_176 (dk_at dksX1_bounds_1 7 rfl rfl)
abbrev cX1_isFirst : ByteArray := prog_4_method_21_code
def yX1_isFirst : MethodName := ⟨RX1, "isFirst", "(I)Z"⟩
def dkwX1_isFirst_1 : List UInt8 := [154, 0, 7, 4, 167, 0, 4, 3, 61, 132, 3, 1, 167, 255, 226, 28, 172]
abbrev dktX1_isFirst_1 : List UInt8 := dkwX1_isFirst_1 ++ []
def dkwX1_isFirst_0 : List UInt8 := [4, 61, 3, 62, 29, 27, 162, 0, 31, 28, 153, 0, 19, 42, 182, 0, 178, 29, 27, 182, 0, 184]
abbrev dktX1_isFirst_0 : List UInt8 := dkwX1_isFirst_0 ++ dktX1_isFirst_1
theorem dksX1_isFirst_0 : cX1_isFirst.data.toList.drop 0 = dktX1_isFirst_0 := by decide +kernel
theorem dksX1_isFirst_1 : cX1_isFirst.data.toList.drop 22 = dktX1_isFirst_1 := dk_seg dksX1_isFirst_0 22 rfl rfl
theorem dX1_isFirst_0 : decode cX1_isFirst 0 = .ok (.iconst 1, 1) := dk_4 (dk_at dksX1_isFirst_0 0 rfl rfl)
theorem dX1_isFirst_1 : decode cX1_isFirst 1 = .ok (.istore_n 2, 1) := dk_61 (dk_at dksX1_isFirst_0 1 rfl rfl)
theorem dX1_isFirst_2 : decode cX1_isFirst 2 = .ok (.iconst 0, 1) := dk_3 (dk_at dksX1_isFirst_0 2 rfl rfl)
theorem dX1_isFirst_3 : decode cX1_isFirst 3 = .ok (.istore_n 3, 1) := dk_62 (dk_at dksX1_isFirst_0 3 rfl rfl)
theorem dX1_isFirst_4 : decode cX1_isFirst 4 = .ok (.iload_n 3, 1) := dk_29 (dk_at dksX1_isFirst_0 4 rfl rfl)
theorem dX1_isFirst_5 : decode cX1_isFirst 5 = .ok (.iload_n 1, 1) := dk_27 (dk_at dksX1_isFirst_0 5 rfl rfl)
theorem dX1_isFirst_6 : decode cX1_isFirst 6 = .ok (.if_icmp .ge 31, 3) := dk_162 0 31 (dk_at dksX1_isFirst_0 6 rfl rfl)
theorem dX1_isFirst_9 : decode cX1_isFirst 9 = .ok (.iload_n 2, 1) := dk_28 (dk_at dksX1_isFirst_0 9 rfl rfl)
theorem dX1_isFirst_10 : decode cX1_isFirst 10 = .ok (.ifCond .eq 19, 3) := dk_153 0 19 (dk_at dksX1_isFirst_0 10 rfl rfl)
theorem dX1_isFirst_13 : decode cX1_isFirst 13 = .ok (.aload_n 0, 1) := dk_42 (dk_at dksX1_isFirst_0 13 rfl rfl)
theorem dX1_isFirst_14 : decode cX1_isFirst 14 = .ok (.invokevirtual 178, 3) := dk_182 0 178 (dk_at dksX1_isFirst_0 14 rfl rfl)
theorem dX1_isFirst_17 : decode cX1_isFirst 17 = .ok (.iload_n 3, 1) := dk_29 (dk_at dksX1_isFirst_0 17 rfl rfl)
theorem dX1_isFirst_18 : decode cX1_isFirst 18 = .ok (.iload_n 1, 1) := dk_27 (dk_at dksX1_isFirst_0 18 rfl rfl)
theorem dX1_isFirst_19 : decode cX1_isFirst 19 = .ok (.invokevirtual 184, 3) := dk_182 0 184 (dk_at dksX1_isFirst_0 19 rfl rfl)
theorem dX1_isFirst_22 : decode cX1_isFirst 22 = .ok (.ifCond .ne 7, 3) := dk_154 0 7 (dk_at dksX1_isFirst_1 0 rfl rfl)
theorem dX1_isFirst_25 : decode cX1_isFirst 25 = .ok (.iconst 1, 1) := dk_4 (dk_at dksX1_isFirst_1 3 rfl rfl)
theorem dX1_isFirst_26 : decode cX1_isFirst 26 = .ok (.goto 4, 3) := dk_167 0 4 (dk_at dksX1_isFirst_1 4 rfl rfl)
theorem dX1_isFirst_29 : decode cX1_isFirst 29 = .ok (.iconst 0, 1) := dk_3 (dk_at dksX1_isFirst_1 7 rfl rfl)
theorem dX1_isFirst_30 : decode cX1_isFirst 30 = .ok (.istore_n 2, 1) := dk_61 (dk_at dksX1_isFirst_1 8 rfl rfl)
theorem dX1_isFirst_31 : decode cX1_isFirst 31 = .ok (.iinc 3 1, 3) := dk_132 3 1 (dk_at dksX1_isFirst_1 9 rfl rfl)
theorem dX1_isFirst_34 : decode cX1_isFirst 34 = .ok (.goto (-30), 3) := dk_167 255 226 (dk_at dksX1_isFirst_1 12 rfl rfl)
theorem dX1_isFirst_37 : decode cX1_isFirst 37 = .ok (.iload_n 2, 1) := dk_28 (dk_at dksX1_isFirst_1 15 rfl rfl)
theorem dX1_isFirst_38 : decode cX1_isFirst 38 = .ok (.ireturn, 1) := dk_172 (dk_at dksX1_isFirst_1 16 rfl rfl)
abbrev cX1_isSuperfluous : ByteArray := prog_4_method_18_code
def yX1_isSuperfluous : MethodName := ⟨RX1, "isSuperfluous", "(I)Z"⟩
def dkwX1_isSuperfluous_4 : List UInt8 := [44, 180, 0, 71, 100, 161, 0, 7, 4, 167, 0, 4, 3, 172]
abbrev dktX1_isSuperfluous_4 : List UInt8 := dkwX1_isSuperfluous_4 ++ []
def dkwX1_isSuperfluous_3 : List UInt8 := [44, 182, 0, 191, 44, 180, 0, 74, 96, 163, 0, 27, 45, 21, 4, 21, 5, 182, 0, 194, 44, 182, 0, 191]
abbrev dktX1_isSuperfluous_3 : List UInt8 := dkwX1_isSuperfluous_3 ++ dktX1_isSuperfluous_4
def dkwX1_isSuperfluous_2 : List UInt8 := [182, 0, 61, 54, 5, 45, 21, 4, 21, 5, 182, 0, 184, 153, 0, 47, 45, 21, 4, 21, 5, 182, 0, 188]
abbrev dktX1_isSuperfluous_2 : List UInt8 := dkwX1_isSuperfluous_2 ++ dktX1_isSuperfluous_3
def dkwX1_isSuperfluous_1 : List UInt8 := [78, 42, 180, 0, 12, 44, 180, 0, 57, 182, 0, 61, 54, 4, 42, 180, 0, 12, 44, 180, 0, 65]
abbrev dktX1_isSuperfluous_1 : List UInt8 := dkwX1_isSuperfluous_1 ++ dktX1_isSuperfluous_2
def dkwX1_isSuperfluous_0 : List UInt8 := [42, 180, 0, 18, 27, 182, 0, 41, 192, 0, 55, 77, 187, 0, 28, 89, 42, 27, 17, 252, 25, 183, 0, 175]
abbrev dktX1_isSuperfluous_0 : List UInt8 := dkwX1_isSuperfluous_0 ++ dktX1_isSuperfluous_1
theorem dksX1_isSuperfluous_0 : cX1_isSuperfluous.data.toList.drop 0 = dktX1_isSuperfluous_0 := by decide +kernel
theorem dksX1_isSuperfluous_1 : cX1_isSuperfluous.data.toList.drop 24 = dktX1_isSuperfluous_1 := dk_seg dksX1_isSuperfluous_0 24 rfl rfl
theorem dksX1_isSuperfluous_2 : cX1_isSuperfluous.data.toList.drop 46 = dktX1_isSuperfluous_2 := dk_seg dksX1_isSuperfluous_1 22 rfl rfl
theorem dksX1_isSuperfluous_3 : cX1_isSuperfluous.data.toList.drop 70 = dktX1_isSuperfluous_3 := dk_seg dksX1_isSuperfluous_2 24 rfl rfl
theorem dksX1_isSuperfluous_4 : cX1_isSuperfluous.data.toList.drop 94 = dktX1_isSuperfluous_4 := dk_seg dksX1_isSuperfluous_3 24 rfl rfl
theorem dX1_isSuperfluous_0 : decode cX1_isSuperfluous 0 = .ok (.aload_n 0, 1) := dk_42 (dk_at dksX1_isSuperfluous_0 0 rfl rfl)
theorem dX1_isSuperfluous_1 : decode cX1_isSuperfluous 1 = .ok (.getfield 18, 3) := dk_180 0 18 (dk_at dksX1_isSuperfluous_0 1 rfl rfl)
theorem dX1_isSuperfluous_4 : decode cX1_isSuperfluous 4 = .ok (.iload_n 1, 1) := dk_27 (dk_at dksX1_isSuperfluous_0 4 rfl rfl)
theorem dX1_isSuperfluous_5 : decode cX1_isSuperfluous 5 = .ok (.invokevirtual 41, 3) := dk_182 0 41 (dk_at dksX1_isSuperfluous_0 5 rfl rfl)
theorem dX1_isSuperfluous_8 : decode cX1_isSuperfluous 8 = .ok (.checkcast 55, 3) := dk_192 0 55 (dk_at dksX1_isSuperfluous_0 8 rfl rfl)
theorem dX1_isSuperfluous_11 : decode cX1_isSuperfluous 11 = .ok (.astore_n 2, 1) := dk_77 (dk_at dksX1_isSuperfluous_0 11 rfl rfl)
theorem dX1_isSuperfluous_12 : decode cX1_isSuperfluous 12 = .ok (.new 28, 3) := dk_187 0 28 (dk_at dksX1_isSuperfluous_0 12 rfl rfl)
theorem dX1_isSuperfluous_15 : decode cX1_isSuperfluous 15 = .ok (.dup, 1) := dk_89 (dk_at dksX1_isSuperfluous_0 15 rfl rfl)
theorem dX1_isSuperfluous_16 : decode cX1_isSuperfluous 16 = .ok (.aload_n 0, 1) := dk_42 (dk_at dksX1_isSuperfluous_0 16 rfl rfl)
theorem dX1_isSuperfluous_17 : decode cX1_isSuperfluous 17 = .ok (.iload_n 1, 1) := dk_27 (dk_at dksX1_isSuperfluous_0 17 rfl rfl)
theorem dX1_isSuperfluous_18 : decode cX1_isSuperfluous 18 = .ok (.sipush (-999), 3) := dk_17 252 25 (dk_at dksX1_isSuperfluous_0 18 rfl rfl)
theorem dX1_isSuperfluous_21 : decode cX1_isSuperfluous 21 = .ok (.invokespecial 175, 3) := dk_183 0 175 (dk_at dksX1_isSuperfluous_0 21 rfl rfl)
theorem dX1_isSuperfluous_24 : decode cX1_isSuperfluous 24 = .ok (.astore_n 3, 1) := dk_78 (dk_at dksX1_isSuperfluous_1 0 rfl rfl)
theorem dX1_isSuperfluous_25 : decode cX1_isSuperfluous 25 = .ok (.aload_n 0, 1) := dk_42 (dk_at dksX1_isSuperfluous_1 1 rfl rfl)
theorem dX1_isSuperfluous_26 : decode cX1_isSuperfluous 26 = .ok (.getfield 12, 3) := dk_180 0 12 (dk_at dksX1_isSuperfluous_1 2 rfl rfl)
theorem dX1_isSuperfluous_29 : decode cX1_isSuperfluous 29 = .ok (.aload_n 2, 1) := dk_44 (dk_at dksX1_isSuperfluous_1 5 rfl rfl)
theorem dX1_isSuperfluous_30 : decode cX1_isSuperfluous 30 = .ok (.getfield 57, 3) := dk_180 0 57 (dk_at dksX1_isSuperfluous_1 6 rfl rfl)
theorem dX1_isSuperfluous_33 : decode cX1_isSuperfluous 33 = .ok (.invokevirtual 61, 3) := dk_182 0 61 (dk_at dksX1_isSuperfluous_1 9 rfl rfl)
theorem dX1_isSuperfluous_36 : decode cX1_isSuperfluous 36 = .ok (.istore 4, 2) := dk_54 4 (dk_at dksX1_isSuperfluous_1 12 rfl rfl)
theorem dX1_isSuperfluous_38 : decode cX1_isSuperfluous 38 = .ok (.aload_n 0, 1) := dk_42 (dk_at dksX1_isSuperfluous_1 14 rfl rfl)
theorem dX1_isSuperfluous_39 : decode cX1_isSuperfluous 39 = .ok (.getfield 12, 3) := dk_180 0 12 (dk_at dksX1_isSuperfluous_1 15 rfl rfl)
theorem dX1_isSuperfluous_42 : decode cX1_isSuperfluous 42 = .ok (.aload_n 2, 1) := dk_44 (dk_at dksX1_isSuperfluous_1 18 rfl rfl)
theorem dX1_isSuperfluous_43 : decode cX1_isSuperfluous 43 = .ok (.getfield 65, 3) := dk_180 0 65 (dk_at dksX1_isSuperfluous_1 19 rfl rfl)
theorem dX1_isSuperfluous_46 : decode cX1_isSuperfluous 46 = .ok (.invokevirtual 61, 3) := dk_182 0 61 (dk_at dksX1_isSuperfluous_2 0 rfl rfl)
theorem dX1_isSuperfluous_49 : decode cX1_isSuperfluous 49 = .ok (.istore 5, 2) := dk_54 5 (dk_at dksX1_isSuperfluous_2 3 rfl rfl)
theorem dX1_isSuperfluous_51 : decode cX1_isSuperfluous 51 = .ok (.aload_n 3, 1) := dk_45 (dk_at dksX1_isSuperfluous_2 5 rfl rfl)
theorem dX1_isSuperfluous_52 : decode cX1_isSuperfluous 52 = .ok (.iload 4, 2) := dk_21 4 (dk_at dksX1_isSuperfluous_2 6 rfl rfl)
theorem dX1_isSuperfluous_54 : decode cX1_isSuperfluous 54 = .ok (.iload 5, 2) := dk_21 5 (dk_at dksX1_isSuperfluous_2 8 rfl rfl)
theorem dX1_isSuperfluous_56 : decode cX1_isSuperfluous 56 = .ok (.invokevirtual 184, 3) := dk_182 0 184 (dk_at dksX1_isSuperfluous_2 10 rfl rfl)
theorem dX1_isSuperfluous_59 : decode cX1_isSuperfluous 59 = .ok (.ifCond .eq 47, 3) := dk_153 0 47 (dk_at dksX1_isSuperfluous_2 13 rfl rfl)
theorem dX1_isSuperfluous_62 : decode cX1_isSuperfluous 62 = .ok (.aload_n 3, 1) := dk_45 (dk_at dksX1_isSuperfluous_2 16 rfl rfl)
theorem dX1_isSuperfluous_63 : decode cX1_isSuperfluous 63 = .ok (.iload 4, 2) := dk_21 4 (dk_at dksX1_isSuperfluous_2 17 rfl rfl)
theorem dX1_isSuperfluous_65 : decode cX1_isSuperfluous 65 = .ok (.iload 5, 2) := dk_21 5 (dk_at dksX1_isSuperfluous_2 19 rfl rfl)
theorem dX1_isSuperfluous_67 : decode cX1_isSuperfluous 67 = .ok (.invokevirtual 188, 3) := dk_182 0 188 (dk_at dksX1_isSuperfluous_2 21 rfl rfl)
theorem dX1_isSuperfluous_70 : decode cX1_isSuperfluous 70 = .ok (.aload_n 2, 1) := dk_44 (dk_at dksX1_isSuperfluous_3 0 rfl rfl)
theorem dX1_isSuperfluous_71 : decode cX1_isSuperfluous 71 = .ok (.invokevirtual 191, 3) := dk_182 0 191 (dk_at dksX1_isSuperfluous_3 1 rfl rfl)
theorem dX1_isSuperfluous_74 : decode cX1_isSuperfluous 74 = .ok (.aload_n 2, 1) := dk_44 (dk_at dksX1_isSuperfluous_3 4 rfl rfl)
theorem dX1_isSuperfluous_75 : decode cX1_isSuperfluous 75 = .ok (.getfield 74, 3) := dk_180 0 74 (dk_at dksX1_isSuperfluous_3 5 rfl rfl)
theorem dX1_isSuperfluous_78 : decode cX1_isSuperfluous 78 = .ok (.iadd, 1) := dk_96 (dk_at dksX1_isSuperfluous_3 8 rfl rfl)
theorem dX1_isSuperfluous_79 : decode cX1_isSuperfluous 79 = .ok (.if_icmp .gt 27, 3) := dk_163 0 27 (dk_at dksX1_isSuperfluous_3 9 rfl rfl)
theorem dX1_isSuperfluous_82 : decode cX1_isSuperfluous 82 = .ok (.aload_n 3, 1) := dk_45 (dk_at dksX1_isSuperfluous_3 12 rfl rfl)
theorem dX1_isSuperfluous_83 : decode cX1_isSuperfluous 83 = .ok (.iload 4, 2) := dk_21 4 (dk_at dksX1_isSuperfluous_3 13 rfl rfl)
theorem dX1_isSuperfluous_85 : decode cX1_isSuperfluous 85 = .ok (.iload 5, 2) := dk_21 5 (dk_at dksX1_isSuperfluous_3 15 rfl rfl)
theorem dX1_isSuperfluous_87 : decode cX1_isSuperfluous 87 = .ok (.invokevirtual 194, 3) := dk_182 0 194 (dk_at dksX1_isSuperfluous_3 17 rfl rfl)
theorem dX1_isSuperfluous_90 : decode cX1_isSuperfluous 90 = .ok (.aload_n 2, 1) := dk_44 (dk_at dksX1_isSuperfluous_3 20 rfl rfl)
theorem dX1_isSuperfluous_91 : decode cX1_isSuperfluous 91 = .ok (.invokevirtual 191, 3) := dk_182 0 191 (dk_at dksX1_isSuperfluous_3 21 rfl rfl)
theorem dX1_isSuperfluous_94 : decode cX1_isSuperfluous 94 = .ok (.aload_n 2, 1) := dk_44 (dk_at dksX1_isSuperfluous_4 0 rfl rfl)
theorem dX1_isSuperfluous_95 : decode cX1_isSuperfluous 95 = .ok (.getfield 71, 3) := dk_180 0 71 (dk_at dksX1_isSuperfluous_4 1 rfl rfl)
theorem dX1_isSuperfluous_98 : decode cX1_isSuperfluous 98 = .ok (.isub, 1) := dk_100 (dk_at dksX1_isSuperfluous_4 4 rfl rfl)
theorem dX1_isSuperfluous_99 : decode cX1_isSuperfluous 99 = .ok (.if_icmp .lt 7, 3) := dk_161 0 7 (dk_at dksX1_isSuperfluous_4 5 rfl rfl)
theorem dX1_isSuperfluous_102 : decode cX1_isSuperfluous 102 = .ok (.iconst 1, 1) := dk_4 (dk_at dksX1_isSuperfluous_4 8 rfl rfl)
theorem dX1_isSuperfluous_103 : decode cX1_isSuperfluous 103 = .ok (.goto 4, 3) := dk_167 0 4 (dk_at dksX1_isSuperfluous_4 9 rfl rfl)
theorem dX1_isSuperfluous_106 : decode cX1_isSuperfluous 106 = .ok (.iconst 0, 1) := dk_3 (dk_at dksX1_isSuperfluous_4 12 rfl rfl)
theorem dX1_isSuperfluous_107 : decode cX1_isSuperfluous 107 = .ok (.ireturn, 1) := dk_172 (dk_at dksX1_isSuperfluous_4 13 rfl rfl)
abbrev cX1_crossingsOf_2 : ByteArray := prog_4_method_14_code
def yX1_crossingsOf_2 : MethodName := ⟨RX1, "crossingsOf", "(LDimensionLines$Dimension;)I"⟩
def dkwX1_crossingsOf_2_2 : List UInt8 := [167, 255, 215, 28, 172]
abbrev dktX1_crossingsOf_2_2 : List UInt8 := dkwX1_crossingsOf_2_2 ++ []
def dkwX1_crossingsOf_2_1 : List UInt8 := [182, 0, 41, 192, 0, 39, 43, 182, 0, 167, 153, 0, 7, 4, 167, 0, 4, 3, 96, 61, 132, 3, 1]
abbrev dktX1_crossingsOf_2_1 : List UInt8 := dkwX1_crossingsOf_2_1 ++ dktX1_crossingsOf_2_2
def dkwX1_crossingsOf_2_0 : List UInt8 := [3, 61, 3, 62, 29, 42, 180, 0, 12, 182, 0, 35, 162, 0, 36, 28, 42, 42, 180, 0, 12, 29]
abbrev dktX1_crossingsOf_2_0 : List UInt8 := dkwX1_crossingsOf_2_0 ++ dktX1_crossingsOf_2_1
theorem dksX1_crossingsOf_2_0 : cX1_crossingsOf_2.data.toList.drop 0 = dktX1_crossingsOf_2_0 := by decide +kernel
theorem dksX1_crossingsOf_2_1 : cX1_crossingsOf_2.data.toList.drop 22 = dktX1_crossingsOf_2_1 := dk_seg dksX1_crossingsOf_2_0 22 rfl rfl
theorem dksX1_crossingsOf_2_2 : cX1_crossingsOf_2.data.toList.drop 45 = dktX1_crossingsOf_2_2 := dk_seg dksX1_crossingsOf_2_1 23 rfl rfl
theorem dX1_crossingsOf_2_0 : decode cX1_crossingsOf_2 0 = .ok (.iconst 0, 1) := dk_3 (dk_at dksX1_crossingsOf_2_0 0 rfl rfl)
theorem dX1_crossingsOf_2_1 : decode cX1_crossingsOf_2 1 = .ok (.istore_n 2, 1) := dk_61 (dk_at dksX1_crossingsOf_2_0 1 rfl rfl)
theorem dX1_crossingsOf_2_2 : decode cX1_crossingsOf_2 2 = .ok (.iconst 0, 1) := dk_3 (dk_at dksX1_crossingsOf_2_0 2 rfl rfl)
theorem dX1_crossingsOf_2_3 : decode cX1_crossingsOf_2 3 = .ok (.istore_n 3, 1) := dk_62 (dk_at dksX1_crossingsOf_2_0 3 rfl rfl)
theorem dX1_crossingsOf_2_4 : decode cX1_crossingsOf_2 4 = .ok (.iload_n 3, 1) := dk_29 (dk_at dksX1_crossingsOf_2_0 4 rfl rfl)
theorem dX1_crossingsOf_2_5 : decode cX1_crossingsOf_2 5 = .ok (.aload_n 0, 1) := dk_42 (dk_at dksX1_crossingsOf_2_0 5 rfl rfl)
theorem dX1_crossingsOf_2_6 : decode cX1_crossingsOf_2 6 = .ok (.getfield 12, 3) := dk_180 0 12 (dk_at dksX1_crossingsOf_2_0 6 rfl rfl)
theorem dX1_crossingsOf_2_9 : decode cX1_crossingsOf_2 9 = .ok (.invokevirtual 35, 3) := dk_182 0 35 (dk_at dksX1_crossingsOf_2_0 9 rfl rfl)
theorem dX1_crossingsOf_2_12 : decode cX1_crossingsOf_2 12 = .ok (.if_icmp .ge 36, 3) := dk_162 0 36 (dk_at dksX1_crossingsOf_2_0 12 rfl rfl)
theorem dX1_crossingsOf_2_15 : decode cX1_crossingsOf_2 15 = .ok (.iload_n 2, 1) := dk_28 (dk_at dksX1_crossingsOf_2_0 15 rfl rfl)
theorem dX1_crossingsOf_2_16 : decode cX1_crossingsOf_2 16 = .ok (.aload_n 0, 1) := dk_42 (dk_at dksX1_crossingsOf_2_0 16 rfl rfl)
theorem dX1_crossingsOf_2_17 : decode cX1_crossingsOf_2 17 = .ok (.aload_n 0, 1) := dk_42 (dk_at dksX1_crossingsOf_2_0 17 rfl rfl)
theorem dX1_crossingsOf_2_18 : decode cX1_crossingsOf_2 18 = .ok (.getfield 12, 3) := dk_180 0 12 (dk_at dksX1_crossingsOf_2_0 18 rfl rfl)
theorem dX1_crossingsOf_2_21 : decode cX1_crossingsOf_2 21 = .ok (.iload_n 3, 1) := dk_29 (dk_at dksX1_crossingsOf_2_0 21 rfl rfl)
theorem dX1_crossingsOf_2_22 : decode cX1_crossingsOf_2 22 = .ok (.invokevirtual 41, 3) := dk_182 0 41 (dk_at dksX1_crossingsOf_2_1 0 rfl rfl)
theorem dX1_crossingsOf_2_25 : decode cX1_crossingsOf_2 25 = .ok (.checkcast 39, 3) := dk_192 0 39 (dk_at dksX1_crossingsOf_2_1 3 rfl rfl)
theorem dX1_crossingsOf_2_28 : decode cX1_crossingsOf_2 28 = .ok (.aload_n 1, 1) := dk_43 (dk_at dksX1_crossingsOf_2_1 6 rfl rfl)
theorem dX1_crossingsOf_2_29 : decode cX1_crossingsOf_2 29 = .ok (.invokevirtual 167, 3) := dk_182 0 167 (dk_at dksX1_crossingsOf_2_1 7 rfl rfl)
theorem dX1_crossingsOf_2_32 : decode cX1_crossingsOf_2 32 = .ok (.ifCond .eq 7, 3) := dk_153 0 7 (dk_at dksX1_crossingsOf_2_1 10 rfl rfl)
theorem dX1_crossingsOf_2_35 : decode cX1_crossingsOf_2 35 = .ok (.iconst 1, 1) := dk_4 (dk_at dksX1_crossingsOf_2_1 13 rfl rfl)
theorem dX1_crossingsOf_2_36 : decode cX1_crossingsOf_2 36 = .ok (.goto 4, 3) := dk_167 0 4 (dk_at dksX1_crossingsOf_2_1 14 rfl rfl)
theorem dX1_crossingsOf_2_39 : decode cX1_crossingsOf_2 39 = .ok (.iconst 0, 1) := dk_3 (dk_at dksX1_crossingsOf_2_1 17 rfl rfl)
theorem dX1_crossingsOf_2_40 : decode cX1_crossingsOf_2 40 = .ok (.iadd, 1) := dk_96 (dk_at dksX1_crossingsOf_2_1 18 rfl rfl)
theorem dX1_crossingsOf_2_41 : decode cX1_crossingsOf_2 41 = .ok (.istore_n 2, 1) := dk_61 (dk_at dksX1_crossingsOf_2_1 19 rfl rfl)
theorem dX1_crossingsOf_2_42 : decode cX1_crossingsOf_2 42 = .ok (.iinc 3 1, 3) := dk_132 3 1 (dk_at dksX1_crossingsOf_2_1 20 rfl rfl)
theorem dX1_crossingsOf_2_45 : decode cX1_crossingsOf_2 45 = .ok (.goto (-41), 3) := dk_167 255 215 (dk_at dksX1_crossingsOf_2_2 0 rfl rfl)
theorem dX1_crossingsOf_2_48 : decode cX1_crossingsOf_2 48 = .ok (.iload_n 2, 1) := dk_28 (dk_at dksX1_crossingsOf_2_2 3 rfl rfl)
theorem dX1_crossingsOf_2_49 : decode cX1_crossingsOf_2 49 = .ok (.ireturn, 1) := dk_172 (dk_at dksX1_crossingsOf_2_2 4 rfl rfl)
abbrev cX1_lanes : ByteArray := prog_4_method_10_code
def yX1_lanes : MethodName := ⟨RX1, "lanes", "()I"⟩
def dkwX1_lanes_1 : List UInt8 := [192, 0, 90, 180, 0, 132, 4, 96, 184, 0, 135, 60, 132, 2, 1, 167, 255, 221, 27, 172]
abbrev dktX1_lanes_1 : List UInt8 := dkwX1_lanes_1 ++ []
def dkwX1_lanes_0 : List UInt8 := [3, 60, 3, 61, 28, 42, 182, 0, 152, 182, 0, 35, 162, 0, 30, 27, 42, 182, 0, 152, 28, 182, 0, 41]
abbrev dktX1_lanes_0 : List UInt8 := dkwX1_lanes_0 ++ dktX1_lanes_1
theorem dksX1_lanes_0 : cX1_lanes.data.toList.drop 0 = dktX1_lanes_0 := by decide +kernel
theorem dksX1_lanes_1 : cX1_lanes.data.toList.drop 24 = dktX1_lanes_1 := dk_seg dksX1_lanes_0 24 rfl rfl
theorem dX1_lanes_0 : decode cX1_lanes 0 = .ok (.iconst 0, 1) := dk_3 (dk_at dksX1_lanes_0 0 rfl rfl)
theorem dX1_lanes_1 : decode cX1_lanes 1 = .ok (.istore_n 1, 1) := dk_60 (dk_at dksX1_lanes_0 1 rfl rfl)
theorem dX1_lanes_2 : decode cX1_lanes 2 = .ok (.iconst 0, 1) := dk_3 (dk_at dksX1_lanes_0 2 rfl rfl)
theorem dX1_lanes_3 : decode cX1_lanes 3 = .ok (.istore_n 2, 1) := dk_61 (dk_at dksX1_lanes_0 3 rfl rfl)
theorem dX1_lanes_4 : decode cX1_lanes 4 = .ok (.iload_n 2, 1) := dk_28 (dk_at dksX1_lanes_0 4 rfl rfl)
theorem dX1_lanes_5 : decode cX1_lanes 5 = .ok (.aload_n 0, 1) := dk_42 (dk_at dksX1_lanes_0 5 rfl rfl)
theorem dX1_lanes_6 : decode cX1_lanes 6 = .ok (.invokevirtual 152, 3) := dk_182 0 152 (dk_at dksX1_lanes_0 6 rfl rfl)
theorem dX1_lanes_9 : decode cX1_lanes 9 = .ok (.invokevirtual 35, 3) := dk_182 0 35 (dk_at dksX1_lanes_0 9 rfl rfl)
theorem dX1_lanes_12 : decode cX1_lanes 12 = .ok (.if_icmp .ge 30, 3) := dk_162 0 30 (dk_at dksX1_lanes_0 12 rfl rfl)
theorem dX1_lanes_15 : decode cX1_lanes 15 = .ok (.iload_n 1, 1) := dk_27 (dk_at dksX1_lanes_0 15 rfl rfl)
theorem dX1_lanes_16 : decode cX1_lanes 16 = .ok (.aload_n 0, 1) := dk_42 (dk_at dksX1_lanes_0 16 rfl rfl)
theorem dX1_lanes_17 : decode cX1_lanes 17 = .ok (.invokevirtual 152, 3) := dk_182 0 152 (dk_at dksX1_lanes_0 17 rfl rfl)
theorem dX1_lanes_20 : decode cX1_lanes 20 = .ok (.iload_n 2, 1) := dk_28 (dk_at dksX1_lanes_0 20 rfl rfl)
theorem dX1_lanes_21 : decode cX1_lanes 21 = .ok (.invokevirtual 41, 3) := dk_182 0 41 (dk_at dksX1_lanes_0 21 rfl rfl)
theorem dX1_lanes_24 : decode cX1_lanes 24 = .ok (.checkcast 90, 3) := dk_192 0 90 (dk_at dksX1_lanes_1 0 rfl rfl)
theorem dX1_lanes_27 : decode cX1_lanes 27 = .ok (.getfield 132, 3) := dk_180 0 132 (dk_at dksX1_lanes_1 3 rfl rfl)
theorem dX1_lanes_30 : decode cX1_lanes 30 = .ok (.iconst 1, 1) := dk_4 (dk_at dksX1_lanes_1 6 rfl rfl)
theorem dX1_lanes_31 : decode cX1_lanes 31 = .ok (.iadd, 1) := dk_96 (dk_at dksX1_lanes_1 7 rfl rfl)
theorem dX1_lanes_32 : decode cX1_lanes 32 = .ok (.invokestatic 135, 3) := dk_184 0 135 (dk_at dksX1_lanes_1 8 rfl rfl)
theorem dX1_lanes_35 : decode cX1_lanes 35 = .ok (.istore_n 1, 1) := dk_60 (dk_at dksX1_lanes_1 11 rfl rfl)
theorem dX1_lanes_36 : decode cX1_lanes 36 = .ok (.iinc 2 1, 3) := dk_132 2 1 (dk_at dksX1_lanes_1 12 rfl rfl)
theorem dX1_lanes_39 : decode cX1_lanes 39 = .ok (.goto (-35), 3) := dk_167 255 221 (dk_at dksX1_lanes_1 15 rfl rfl)
theorem dX1_lanes_42 : decode cX1_lanes 42 = .ok (.iload_n 1, 1) := dk_27 (dk_at dksX1_lanes_1 18 rfl rfl)
theorem dX1_lanes_43 : decode cX1_lanes 43 = .ok (.ireturn, 1) := dk_172 (dk_at dksX1_lanes_1 19 rfl rfl)
abbrev cX1_gain : ByteArray := prog_4_method_17_code
def yX1_gain : MethodName := ⟨RX1, "gain", "(III)I"⟩
def dkwX1_gain_2 : List UInt8 := [100, 172]
abbrev dktX1_gain_2 : List UInt8 := dkwX1_gain_2 ++ []
def dkwX1_gain_1 : List UInt8 := [183, 0, 175, 83, 42, 182, 0, 178, 28, 29, 182, 0, 181, 42, 180, 0, 30, 27, 50, 28, 29, 182, 0, 181]
abbrev dktX1_gain_1 : List UInt8 := dkwX1_gain_1 ++ dktX1_gain_2
def dkwX1_gain_0 : List UInt8 := [42, 180, 0, 30, 27, 50, 199, 0, 21, 42, 180, 0, 30, 27, 187, 0, 28, 89, 42, 17, 252, 25, 27]
abbrev dktX1_gain_0 : List UInt8 := dkwX1_gain_0 ++ dktX1_gain_1
theorem dksX1_gain_0 : cX1_gain.data.toList.drop 0 = dktX1_gain_0 := by decide +kernel
theorem dksX1_gain_1 : cX1_gain.data.toList.drop 23 = dktX1_gain_1 := dk_seg dksX1_gain_0 23 rfl rfl
theorem dksX1_gain_2 : cX1_gain.data.toList.drop 47 = dktX1_gain_2 := dk_seg dksX1_gain_1 24 rfl rfl
theorem dX1_gain_0 : decode cX1_gain 0 = .ok (.aload_n 0, 1) := dk_42 (dk_at dksX1_gain_0 0 rfl rfl)
theorem dX1_gain_1 : decode cX1_gain 1 = .ok (.getfield 30, 3) := dk_180 0 30 (dk_at dksX1_gain_0 1 rfl rfl)
theorem dX1_gain_4 : decode cX1_gain 4 = .ok (.iload_n 1, 1) := dk_27 (dk_at dksX1_gain_0 4 rfl rfl)
theorem dX1_gain_5 : decode cX1_gain 5 = .ok (.aaload, 1) := dk_50 (dk_at dksX1_gain_0 5 rfl rfl)
theorem dX1_gain_6 : decode cX1_gain 6 = .ok (.ifnonnull 21, 3) := dk_199 0 21 (dk_at dksX1_gain_0 6 rfl rfl)
theorem dX1_gain_9 : decode cX1_gain 9 = .ok (.aload_n 0, 1) := dk_42 (dk_at dksX1_gain_0 9 rfl rfl)
theorem dX1_gain_10 : decode cX1_gain 10 = .ok (.getfield 30, 3) := dk_180 0 30 (dk_at dksX1_gain_0 10 rfl rfl)
theorem dX1_gain_13 : decode cX1_gain 13 = .ok (.iload_n 1, 1) := dk_27 (dk_at dksX1_gain_0 13 rfl rfl)
theorem dX1_gain_14 : decode cX1_gain 14 = .ok (.new 28, 3) := dk_187 0 28 (dk_at dksX1_gain_0 14 rfl rfl)
theorem dX1_gain_17 : decode cX1_gain 17 = .ok (.dup, 1) := dk_89 (dk_at dksX1_gain_0 17 rfl rfl)
theorem dX1_gain_18 : decode cX1_gain 18 = .ok (.aload_n 0, 1) := dk_42 (dk_at dksX1_gain_0 18 rfl rfl)
theorem dX1_gain_19 : decode cX1_gain 19 = .ok (.sipush (-999), 3) := dk_17 252 25 (dk_at dksX1_gain_0 19 rfl rfl)
theorem dX1_gain_22 : decode cX1_gain 22 = .ok (.iload_n 1, 1) := dk_27 (dk_at dksX1_gain_0 22 rfl rfl)
theorem dX1_gain_23 : decode cX1_gain 23 = .ok (.invokespecial 175, 3) := dk_183 0 175 (dk_at dksX1_gain_1 0 rfl rfl)
theorem dX1_gain_26 : decode cX1_gain 26 = .ok (.aastore, 1) := dk_83 (dk_at dksX1_gain_1 3 rfl rfl)
theorem dX1_gain_27 : decode cX1_gain 27 = .ok (.aload_n 0, 1) := dk_42 (dk_at dksX1_gain_1 4 rfl rfl)
theorem dX1_gain_28 : decode cX1_gain 28 = .ok (.invokevirtual 178, 3) := dk_182 0 178 (dk_at dksX1_gain_1 5 rfl rfl)
theorem dX1_gain_31 : decode cX1_gain 31 = .ok (.iload_n 2, 1) := dk_28 (dk_at dksX1_gain_1 8 rfl rfl)
theorem dX1_gain_32 : decode cX1_gain 32 = .ok (.iload_n 3, 1) := dk_29 (dk_at dksX1_gain_1 9 rfl rfl)
theorem dX1_gain_33 : decode cX1_gain 33 = .ok (.invokevirtual 181, 3) := dk_182 0 181 (dk_at dksX1_gain_1 10 rfl rfl)
theorem dX1_gain_36 : decode cX1_gain 36 = .ok (.aload_n 0, 1) := dk_42 (dk_at dksX1_gain_1 13 rfl rfl)
theorem dX1_gain_37 : decode cX1_gain 37 = .ok (.getfield 30, 3) := dk_180 0 30 (dk_at dksX1_gain_1 14 rfl rfl)
theorem dX1_gain_40 : decode cX1_gain 40 = .ok (.iload_n 1, 1) := dk_27 (dk_at dksX1_gain_1 17 rfl rfl)
theorem dX1_gain_41 : decode cX1_gain 41 = .ok (.aaload, 1) := dk_50 (dk_at dksX1_gain_1 18 rfl rfl)
theorem dX1_gain_42 : decode cX1_gain 42 = .ok (.iload_n 2, 1) := dk_28 (dk_at dksX1_gain_1 19 rfl rfl)
theorem dX1_gain_43 : decode cX1_gain 43 = .ok (.iload_n 3, 1) := dk_29 (dk_at dksX1_gain_1 20 rfl rfl)
theorem dX1_gain_44 : decode cX1_gain 44 = .ok (.invokevirtual 181, 3) := dk_182 0 181 (dk_at dksX1_gain_1 21 rfl rfl)
theorem dX1_gain_47 : decode cX1_gain 47 = .ok (.isub, 1) := dk_100 (dk_at dksX1_gain_2 0 rfl rfl)
theorem dX1_gain_48 : decode cX1_gain 48 = .ok (.ireturn, 1) := dk_172 (dk_at dksX1_gain_2 1 rfl rfl)
abbrev cX1_chain : ByteArray := prog_4_method_23_code
def yX1_chain : MethodName := ⟨RX1, "chain", "(I)LDimensionLines$Unit;"⟩
def dkwX1_chain_2 : List UInt8 := [182, 0, 41, 192, 0, 55, 182, 0, 97, 132, 3, 1, 167, 255, 209, 44, 176]
abbrev dktX1_chain_2 : List UInt8 := dkwX1_chain_2 ++ []
def dkwX1_chain_1 : List UInt8 := [180, 0, 18, 29, 182, 0, 41, 192, 0, 55, 180, 0, 77, 27, 160, 0, 18, 44, 42, 180, 0, 18, 29]
abbrev dktX1_chain_1 : List UInt8 := dkwX1_chain_1 ++ dktX1_chain_2
def dkwX1_chain_0 : List UInt8 := [187, 0, 90, 89, 183, 0, 96, 77, 3, 62, 29, 42, 180, 0, 18, 182, 0, 35, 162, 0, 42, 42]
abbrev dktX1_chain_0 : List UInt8 := dkwX1_chain_0 ++ dktX1_chain_1
theorem dksX1_chain_0 : cX1_chain.data.toList.drop 0 = dktX1_chain_0 := by decide +kernel
theorem dksX1_chain_1 : cX1_chain.data.toList.drop 22 = dktX1_chain_1 := dk_seg dksX1_chain_0 22 rfl rfl
theorem dksX1_chain_2 : cX1_chain.data.toList.drop 45 = dktX1_chain_2 := dk_seg dksX1_chain_1 23 rfl rfl
theorem dX1_chain_0 : decode cX1_chain 0 = .ok (.new 90, 3) := dk_187 0 90 (dk_at dksX1_chain_0 0 rfl rfl)
theorem dX1_chain_3 : decode cX1_chain 3 = .ok (.dup, 1) := dk_89 (dk_at dksX1_chain_0 3 rfl rfl)
theorem dX1_chain_4 : decode cX1_chain 4 = .ok (.invokespecial 96, 3) := dk_183 0 96 (dk_at dksX1_chain_0 4 rfl rfl)
theorem dX1_chain_7 : decode cX1_chain 7 = .ok (.astore_n 2, 1) := dk_77 (dk_at dksX1_chain_0 7 rfl rfl)
theorem dX1_chain_8 : decode cX1_chain 8 = .ok (.iconst 0, 1) := dk_3 (dk_at dksX1_chain_0 8 rfl rfl)
theorem dX1_chain_9 : decode cX1_chain 9 = .ok (.istore_n 3, 1) := dk_62 (dk_at dksX1_chain_0 9 rfl rfl)
theorem dX1_chain_10 : decode cX1_chain 10 = .ok (.iload_n 3, 1) := dk_29 (dk_at dksX1_chain_0 10 rfl rfl)
theorem dX1_chain_11 : decode cX1_chain 11 = .ok (.aload_n 0, 1) := dk_42 (dk_at dksX1_chain_0 11 rfl rfl)
theorem dX1_chain_12 : decode cX1_chain 12 = .ok (.getfield 18, 3) := dk_180 0 18 (dk_at dksX1_chain_0 12 rfl rfl)
theorem dX1_chain_15 : decode cX1_chain 15 = .ok (.invokevirtual 35, 3) := dk_182 0 35 (dk_at dksX1_chain_0 15 rfl rfl)
theorem dX1_chain_18 : decode cX1_chain 18 = .ok (.if_icmp .ge 42, 3) := dk_162 0 42 (dk_at dksX1_chain_0 18 rfl rfl)
theorem dX1_chain_21 : decode cX1_chain 21 = .ok (.aload_n 0, 1) := dk_42 (dk_at dksX1_chain_0 21 rfl rfl)
theorem dX1_chain_22 : decode cX1_chain 22 = .ok (.getfield 18, 3) := dk_180 0 18 (dk_at dksX1_chain_1 0 rfl rfl)
theorem dX1_chain_25 : decode cX1_chain 25 = .ok (.iload_n 3, 1) := dk_29 (dk_at dksX1_chain_1 3 rfl rfl)
theorem dX1_chain_26 : decode cX1_chain 26 = .ok (.invokevirtual 41, 3) := dk_182 0 41 (dk_at dksX1_chain_1 4 rfl rfl)
theorem dX1_chain_29 : decode cX1_chain 29 = .ok (.checkcast 55, 3) := dk_192 0 55 (dk_at dksX1_chain_1 7 rfl rfl)
theorem dX1_chain_32 : decode cX1_chain 32 = .ok (.getfield 77, 3) := dk_180 0 77 (dk_at dksX1_chain_1 10 rfl rfl)
theorem dX1_chain_35 : decode cX1_chain 35 = .ok (.iload_n 1, 1) := dk_27 (dk_at dksX1_chain_1 13 rfl rfl)
theorem dX1_chain_36 : decode cX1_chain 36 = .ok (.if_icmp .ne 18, 3) := dk_160 0 18 (dk_at dksX1_chain_1 14 rfl rfl)
theorem dX1_chain_39 : decode cX1_chain 39 = .ok (.aload_n 2, 1) := dk_44 (dk_at dksX1_chain_1 17 rfl rfl)
theorem dX1_chain_40 : decode cX1_chain 40 = .ok (.aload_n 0, 1) := dk_42 (dk_at dksX1_chain_1 18 rfl rfl)
theorem dX1_chain_41 : decode cX1_chain 41 = .ok (.getfield 18, 3) := dk_180 0 18 (dk_at dksX1_chain_1 19 rfl rfl)
theorem dX1_chain_44 : decode cX1_chain 44 = .ok (.iload_n 3, 1) := dk_29 (dk_at dksX1_chain_1 22 rfl rfl)
theorem dX1_chain_45 : decode cX1_chain 45 = .ok (.invokevirtual 41, 3) := dk_182 0 41 (dk_at dksX1_chain_2 0 rfl rfl)
theorem dX1_chain_48 : decode cX1_chain 48 = .ok (.checkcast 55, 3) := dk_192 0 55 (dk_at dksX1_chain_2 3 rfl rfl)
theorem dX1_chain_51 : decode cX1_chain 51 = .ok (.invokevirtual 97, 3) := dk_182 0 97 (dk_at dksX1_chain_2 6 rfl rfl)
theorem dX1_chain_54 : decode cX1_chain 54 = .ok (.iinc 3 1, 3) := dk_132 3 1 (dk_at dksX1_chain_2 9 rfl rfl)
theorem dX1_chain_57 : decode cX1_chain 57 = .ok (.goto (-47), 3) := dk_167 255 209 (dk_at dksX1_chain_2 12 rfl rfl)
theorem dX1_chain_60 : decode cX1_chain 60 = .ok (.aload_n 2, 1) := dk_44 (dk_at dksX1_chain_2 15 rfl rfl)
theorem dX1_chain_61 : decode cX1_chain 61 = .ok (.areturn, 1) := dk_176 (dk_at dksX1_chain_2 16 rfl rfl)
abbrev cX1_over : ByteArray := prog_4_method_24_code
def yX1_over : MethodName := ⟨RX1, "over", "(ILDimensionLines$Unit;)I"⟩
def dkwX1_over_3 : List UInt8 := [167, 255, 188, 17, 252, 25, 172]
abbrev dktX1_over_3 : List UInt8 := dkwX1_over_3 ++ []
def dkwX1_over_2 : List UInt8 := [160, 0, 20, 25, 4, 180, 0, 65, 180, 0, 45, 44, 180, 0, 209, 160, 0, 5, 29, 172, 132, 3, 1]
abbrev dktX1_over_2 : List UInt8 := dkwX1_over_2 ++ dktX1_over_3
def dkwX1_over_1 : List UInt8 := [58, 4, 25, 4, 180, 0, 77, 27, 159, 0, 35, 25, 4, 180, 0, 57, 180, 0, 45, 44, 180, 0, 206]
abbrev dktX1_over_1 : List UInt8 := dkwX1_over_1 ++ dktX1_over_2
def dkwX1_over_0 : List UInt8 := [3, 62, 29, 42, 180, 0, 18, 182, 0, 35, 162, 0, 63, 42, 180, 0, 18, 29, 182, 0, 41, 192, 0, 55]
abbrev dktX1_over_0 : List UInt8 := dkwX1_over_0 ++ dktX1_over_1
theorem dksX1_over_0 : cX1_over.data.toList.drop 0 = dktX1_over_0 := by decide +kernel
theorem dksX1_over_1 : cX1_over.data.toList.drop 24 = dktX1_over_1 := dk_seg dksX1_over_0 24 rfl rfl
theorem dksX1_over_2 : cX1_over.data.toList.drop 47 = dktX1_over_2 := dk_seg dksX1_over_1 23 rfl rfl
theorem dksX1_over_3 : cX1_over.data.toList.drop 70 = dktX1_over_3 := dk_seg dksX1_over_2 23 rfl rfl
theorem dX1_over_0 : decode cX1_over 0 = .ok (.iconst 0, 1) := dk_3 (dk_at dksX1_over_0 0 rfl rfl)
theorem dX1_over_1 : decode cX1_over 1 = .ok (.istore_n 3, 1) := dk_62 (dk_at dksX1_over_0 1 rfl rfl)
theorem dX1_over_2 : decode cX1_over 2 = .ok (.iload_n 3, 1) := dk_29 (dk_at dksX1_over_0 2 rfl rfl)
theorem dX1_over_3 : decode cX1_over 3 = .ok (.aload_n 0, 1) := dk_42 (dk_at dksX1_over_0 3 rfl rfl)
theorem dX1_over_4 : decode cX1_over 4 = .ok (.getfield 18, 3) := dk_180 0 18 (dk_at dksX1_over_0 4 rfl rfl)
theorem dX1_over_7 : decode cX1_over 7 = .ok (.invokevirtual 35, 3) := dk_182 0 35 (dk_at dksX1_over_0 7 rfl rfl)
theorem dX1_over_10 : decode cX1_over 10 = .ok (.if_icmp .ge 63, 3) := dk_162 0 63 (dk_at dksX1_over_0 10 rfl rfl)
theorem dX1_over_13 : decode cX1_over 13 = .ok (.aload_n 0, 1) := dk_42 (dk_at dksX1_over_0 13 rfl rfl)
theorem dX1_over_14 : decode cX1_over 14 = .ok (.getfield 18, 3) := dk_180 0 18 (dk_at dksX1_over_0 14 rfl rfl)
theorem dX1_over_17 : decode cX1_over 17 = .ok (.iload_n 3, 1) := dk_29 (dk_at dksX1_over_0 17 rfl rfl)
theorem dX1_over_18 : decode cX1_over 18 = .ok (.invokevirtual 41, 3) := dk_182 0 41 (dk_at dksX1_over_0 18 rfl rfl)
theorem dX1_over_21 : decode cX1_over 21 = .ok (.checkcast 55, 3) := dk_192 0 55 (dk_at dksX1_over_0 21 rfl rfl)
theorem dX1_over_24 : decode cX1_over 24 = .ok (.astore 4, 2) := dk_58 4 (dk_at dksX1_over_1 0 rfl rfl)
theorem dX1_over_26 : decode cX1_over 26 = .ok (.aload 4, 2) := dk_25 4 (dk_at dksX1_over_1 2 rfl rfl)
theorem dX1_over_28 : decode cX1_over 28 = .ok (.getfield 77, 3) := dk_180 0 77 (dk_at dksX1_over_1 4 rfl rfl)
theorem dX1_over_31 : decode cX1_over 31 = .ok (.iload_n 1, 1) := dk_27 (dk_at dksX1_over_1 7 rfl rfl)
theorem dX1_over_32 : decode cX1_over 32 = .ok (.if_icmp .eq 35, 3) := dk_159 0 35 (dk_at dksX1_over_1 8 rfl rfl)
theorem dX1_over_35 : decode cX1_over 35 = .ok (.aload 4, 2) := dk_25 4 (dk_at dksX1_over_1 11 rfl rfl)
theorem dX1_over_37 : decode cX1_over 37 = .ok (.getfield 57, 3) := dk_180 0 57 (dk_at dksX1_over_1 13 rfl rfl)
theorem dX1_over_40 : decode cX1_over 40 = .ok (.getfield 45, 3) := dk_180 0 45 (dk_at dksX1_over_1 16 rfl rfl)
theorem dX1_over_43 : decode cX1_over 43 = .ok (.aload_n 2, 1) := dk_44 (dk_at dksX1_over_1 19 rfl rfl)
theorem dX1_over_44 : decode cX1_over 44 = .ok (.getfield 206, 3) := dk_180 0 206 (dk_at dksX1_over_1 20 rfl rfl)
theorem dX1_over_47 : decode cX1_over 47 = .ok (.if_icmp .ne 20, 3) := dk_160 0 20 (dk_at dksX1_over_2 0 rfl rfl)
theorem dX1_over_50 : decode cX1_over 50 = .ok (.aload 4, 2) := dk_25 4 (dk_at dksX1_over_2 3 rfl rfl)
theorem dX1_over_52 : decode cX1_over 52 = .ok (.getfield 65, 3) := dk_180 0 65 (dk_at dksX1_over_2 5 rfl rfl)
theorem dX1_over_55 : decode cX1_over 55 = .ok (.getfield 45, 3) := dk_180 0 45 (dk_at dksX1_over_2 8 rfl rfl)
theorem dX1_over_58 : decode cX1_over 58 = .ok (.aload_n 2, 1) := dk_44 (dk_at dksX1_over_2 11 rfl rfl)
theorem dX1_over_59 : decode cX1_over 59 = .ok (.getfield 209, 3) := dk_180 0 209 (dk_at dksX1_over_2 12 rfl rfl)
theorem dX1_over_62 : decode cX1_over 62 = .ok (.if_icmp .ne 5, 3) := dk_160 0 5 (dk_at dksX1_over_2 15 rfl rfl)
theorem dX1_over_65 : decode cX1_over 65 = .ok (.iload_n 3, 1) := dk_29 (dk_at dksX1_over_2 18 rfl rfl)
theorem dX1_over_66 : decode cX1_over 66 = .ok (.ireturn, 1) := dk_172 (dk_at dksX1_over_2 19 rfl rfl)
theorem dX1_over_67 : decode cX1_over 67 = .ok (.iinc 3 1, 3) := dk_132 3 1 (dk_at dksX1_over_2 20 rfl rfl)
theorem dX1_over_70 : decode cX1_over 70 = .ok (.goto (-68), 3) := dk_167 255 188 (dk_at dksX1_over_3 0 rfl rfl)
theorem dX1_over_73 : decode cX1_over 73 = .ok (.sipush (-999), 3) := dk_17 252 25 (dk_at dksX1_over_3 3 rfl rfl)
theorem dX1_over_76 : decode cX1_over 76 = .ok (.ireturn, 1) := dk_172 (dk_at dksX1_over_3 6 rfl rfl)
abbrev cX1_crossings : ByteArray := prog_4_method_13_code
def yX1_crossings : MethodName := ⟨RX1, "crossings", "()I"⟩
def dkwX1_crossings_1 : List UInt8 := [182, 0, 41, 192, 0, 55, 182, 0, 163, 96, 60, 132, 2, 1, 167, 255, 224, 27, 172]
abbrev dktX1_crossings_1 : List UInt8 := dkwX1_crossings_1 ++ []
def dkwX1_crossings_0 : List UInt8 := [3, 60, 3, 61, 28, 42, 180, 0, 18, 182, 0, 35, 162, 0, 27, 27, 42, 42, 180, 0, 18, 28]
abbrev dktX1_crossings_0 : List UInt8 := dkwX1_crossings_0 ++ dktX1_crossings_1
theorem dksX1_crossings_0 : cX1_crossings.data.toList.drop 0 = dktX1_crossings_0 := by decide +kernel
theorem dksX1_crossings_1 : cX1_crossings.data.toList.drop 22 = dktX1_crossings_1 := dk_seg dksX1_crossings_0 22 rfl rfl
theorem dX1_crossings_0 : decode cX1_crossings 0 = .ok (.iconst 0, 1) := dk_3 (dk_at dksX1_crossings_0 0 rfl rfl)
theorem dX1_crossings_1 : decode cX1_crossings 1 = .ok (.istore_n 1, 1) := dk_60 (dk_at dksX1_crossings_0 1 rfl rfl)
theorem dX1_crossings_2 : decode cX1_crossings 2 = .ok (.iconst 0, 1) := dk_3 (dk_at dksX1_crossings_0 2 rfl rfl)
theorem dX1_crossings_3 : decode cX1_crossings 3 = .ok (.istore_n 2, 1) := dk_61 (dk_at dksX1_crossings_0 3 rfl rfl)
theorem dX1_crossings_4 : decode cX1_crossings 4 = .ok (.iload_n 2, 1) := dk_28 (dk_at dksX1_crossings_0 4 rfl rfl)
theorem dX1_crossings_5 : decode cX1_crossings 5 = .ok (.aload_n 0, 1) := dk_42 (dk_at dksX1_crossings_0 5 rfl rfl)
theorem dX1_crossings_6 : decode cX1_crossings 6 = .ok (.getfield 18, 3) := dk_180 0 18 (dk_at dksX1_crossings_0 6 rfl rfl)
theorem dX1_crossings_9 : decode cX1_crossings 9 = .ok (.invokevirtual 35, 3) := dk_182 0 35 (dk_at dksX1_crossings_0 9 rfl rfl)
theorem dX1_crossings_12 : decode cX1_crossings 12 = .ok (.if_icmp .ge 27, 3) := dk_162 0 27 (dk_at dksX1_crossings_0 12 rfl rfl)
theorem dX1_crossings_15 : decode cX1_crossings 15 = .ok (.iload_n 1, 1) := dk_27 (dk_at dksX1_crossings_0 15 rfl rfl)
theorem dX1_crossings_16 : decode cX1_crossings 16 = .ok (.aload_n 0, 1) := dk_42 (dk_at dksX1_crossings_0 16 rfl rfl)
theorem dX1_crossings_17 : decode cX1_crossings 17 = .ok (.aload_n 0, 1) := dk_42 (dk_at dksX1_crossings_0 17 rfl rfl)
theorem dX1_crossings_18 : decode cX1_crossings 18 = .ok (.getfield 18, 3) := dk_180 0 18 (dk_at dksX1_crossings_0 18 rfl rfl)
theorem dX1_crossings_21 : decode cX1_crossings 21 = .ok (.iload_n 2, 1) := dk_28 (dk_at dksX1_crossings_0 21 rfl rfl)
theorem dX1_crossings_22 : decode cX1_crossings 22 = .ok (.invokevirtual 41, 3) := dk_182 0 41 (dk_at dksX1_crossings_1 0 rfl rfl)
theorem dX1_crossings_25 : decode cX1_crossings 25 = .ok (.checkcast 55, 3) := dk_192 0 55 (dk_at dksX1_crossings_1 3 rfl rfl)
theorem dX1_crossings_28 : decode cX1_crossings 28 = .ok (.invokevirtual 163, 3) := dk_182 0 163 (dk_at dksX1_crossings_1 6 rfl rfl)
theorem dX1_crossings_31 : decode cX1_crossings 31 = .ok (.iadd, 1) := dk_96 (dk_at dksX1_crossings_1 9 rfl rfl)
theorem dX1_crossings_32 : decode cX1_crossings 32 = .ok (.istore_n 1, 1) := dk_60 (dk_at dksX1_crossings_1 10 rfl rfl)
theorem dX1_crossings_33 : decode cX1_crossings 33 = .ok (.iinc 2 1, 3) := dk_132 2 1 (dk_at dksX1_crossings_1 11 rfl rfl)
theorem dX1_crossings_36 : decode cX1_crossings 36 = .ok (.goto (-32), 3) := dk_167 255 224 (dk_at dksX1_crossings_1 14 rfl rfl)
theorem dX1_crossings_39 : decode cX1_crossings 39 = .ok (.iload_n 1, 1) := dk_27 (dk_at dksX1_crossings_1 17 rfl rfl)
theorem dX1_crossings_40 : decode cX1_crossings 40 = .ok (.ireturn, 1) := dk_172 (dk_at dksX1_crossings_1 18 rfl rfl)
abbrev cX1_groups : ByteArray := prog_4_method_22_code
def yX1_groups : MethodName := ⟨RX1, "groups", "()I"⟩
def dkwX1_groups_1 : List UInt8 := [4, 167, 0, 4, 3, 96, 60, 132, 2, 1, 167, 255, 226, 27, 172]
abbrev dktX1_groups_1 : List UInt8 := dkwX1_groups_1 ++ []
def dkwX1_groups_0 : List UInt8 := [3, 60, 3, 61, 28, 42, 180, 0, 12, 182, 0, 35, 162, 0, 25, 27, 42, 28, 182, 0, 203, 153, 0, 7]
abbrev dktX1_groups_0 : List UInt8 := dkwX1_groups_0 ++ dktX1_groups_1
theorem dksX1_groups_0 : cX1_groups.data.toList.drop 0 = dktX1_groups_0 := by decide +kernel
theorem dksX1_groups_1 : cX1_groups.data.toList.drop 24 = dktX1_groups_1 := dk_seg dksX1_groups_0 24 rfl rfl
theorem dX1_groups_0 : decode cX1_groups 0 = .ok (.iconst 0, 1) := dk_3 (dk_at dksX1_groups_0 0 rfl rfl)
theorem dX1_groups_1 : decode cX1_groups 1 = .ok (.istore_n 1, 1) := dk_60 (dk_at dksX1_groups_0 1 rfl rfl)
theorem dX1_groups_2 : decode cX1_groups 2 = .ok (.iconst 0, 1) := dk_3 (dk_at dksX1_groups_0 2 rfl rfl)
theorem dX1_groups_3 : decode cX1_groups 3 = .ok (.istore_n 2, 1) := dk_61 (dk_at dksX1_groups_0 3 rfl rfl)
theorem dX1_groups_4 : decode cX1_groups 4 = .ok (.iload_n 2, 1) := dk_28 (dk_at dksX1_groups_0 4 rfl rfl)
theorem dX1_groups_5 : decode cX1_groups 5 = .ok (.aload_n 0, 1) := dk_42 (dk_at dksX1_groups_0 5 rfl rfl)
theorem dX1_groups_6 : decode cX1_groups 6 = .ok (.getfield 12, 3) := dk_180 0 12 (dk_at dksX1_groups_0 6 rfl rfl)
theorem dX1_groups_9 : decode cX1_groups 9 = .ok (.invokevirtual 35, 3) := dk_182 0 35 (dk_at dksX1_groups_0 9 rfl rfl)
theorem dX1_groups_12 : decode cX1_groups 12 = .ok (.if_icmp .ge 25, 3) := dk_162 0 25 (dk_at dksX1_groups_0 12 rfl rfl)
theorem dX1_groups_15 : decode cX1_groups 15 = .ok (.iload_n 1, 1) := dk_27 (dk_at dksX1_groups_0 15 rfl rfl)
theorem dX1_groups_16 : decode cX1_groups 16 = .ok (.aload_n 0, 1) := dk_42 (dk_at dksX1_groups_0 16 rfl rfl)
theorem dX1_groups_17 : decode cX1_groups 17 = .ok (.iload_n 2, 1) := dk_28 (dk_at dksX1_groups_0 17 rfl rfl)
theorem dX1_groups_18 : decode cX1_groups 18 = .ok (.invokevirtual 203, 3) := dk_182 0 203 (dk_at dksX1_groups_0 18 rfl rfl)
theorem dX1_groups_21 : decode cX1_groups 21 = .ok (.ifCond .eq 7, 3) := dk_153 0 7 (dk_at dksX1_groups_0 21 rfl rfl)
theorem dX1_groups_24 : decode cX1_groups 24 = .ok (.iconst 1, 1) := dk_4 (dk_at dksX1_groups_1 0 rfl rfl)
theorem dX1_groups_25 : decode cX1_groups 25 = .ok (.goto 4, 3) := dk_167 0 4 (dk_at dksX1_groups_1 1 rfl rfl)
theorem dX1_groups_28 : decode cX1_groups 28 = .ok (.iconst 0, 1) := dk_3 (dk_at dksX1_groups_1 4 rfl rfl)
theorem dX1_groups_29 : decode cX1_groups 29 = .ok (.iadd, 1) := dk_96 (dk_at dksX1_groups_1 5 rfl rfl)
theorem dX1_groups_30 : decode cX1_groups 30 = .ok (.istore_n 1, 1) := dk_60 (dk_at dksX1_groups_1 6 rfl rfl)
theorem dX1_groups_31 : decode cX1_groups 31 = .ok (.iinc 2 1, 3) := dk_132 2 1 (dk_at dksX1_groups_1 7 rfl rfl)
theorem dX1_groups_34 : decode cX1_groups 34 = .ok (.goto (-30), 3) := dk_167 255 226 (dk_at dksX1_groups_1 10 rfl rfl)
theorem dX1_groups_37 : decode cX1_groups 37 = .ok (.iload_n 1, 1) := dk_27 (dk_at dksX1_groups_1 13 rfl rfl)
theorem dX1_groups_38 : decode cX1_groups 38 = .ok (.ireturn, 1) := dk_172 (dk_at dksX1_groups_1 14 rfl rfl)
abbrev cX1_superfluous : ByteArray := prog_4_method_19_code
def yX1_superfluous : MethodName := ⟨RX1, "superfluous", "()I"⟩
def dkwX1_superfluous_1 : List UInt8 := [4, 167, 0, 4, 3, 96, 60, 132, 2, 1, 167, 255, 226, 27, 172]
abbrev dktX1_superfluous_1 : List UInt8 := dkwX1_superfluous_1 ++ []
def dkwX1_superfluous_0 : List UInt8 := [3, 60, 3, 61, 28, 42, 180, 0, 18, 182, 0, 35, 162, 0, 25, 27, 42, 28, 182, 0, 196, 153, 0, 7]
abbrev dktX1_superfluous_0 : List UInt8 := dkwX1_superfluous_0 ++ dktX1_superfluous_1
theorem dksX1_superfluous_0 : cX1_superfluous.data.toList.drop 0 = dktX1_superfluous_0 := by decide +kernel
theorem dksX1_superfluous_1 : cX1_superfluous.data.toList.drop 24 = dktX1_superfluous_1 := dk_seg dksX1_superfluous_0 24 rfl rfl
theorem dX1_superfluous_0 : decode cX1_superfluous 0 = .ok (.iconst 0, 1) := dk_3 (dk_at dksX1_superfluous_0 0 rfl rfl)
theorem dX1_superfluous_1 : decode cX1_superfluous 1 = .ok (.istore_n 1, 1) := dk_60 (dk_at dksX1_superfluous_0 1 rfl rfl)
theorem dX1_superfluous_2 : decode cX1_superfluous 2 = .ok (.iconst 0, 1) := dk_3 (dk_at dksX1_superfluous_0 2 rfl rfl)
theorem dX1_superfluous_3 : decode cX1_superfluous 3 = .ok (.istore_n 2, 1) := dk_61 (dk_at dksX1_superfluous_0 3 rfl rfl)
theorem dX1_superfluous_4 : decode cX1_superfluous 4 = .ok (.iload_n 2, 1) := dk_28 (dk_at dksX1_superfluous_0 4 rfl rfl)
theorem dX1_superfluous_5 : decode cX1_superfluous 5 = .ok (.aload_n 0, 1) := dk_42 (dk_at dksX1_superfluous_0 5 rfl rfl)
theorem dX1_superfluous_6 : decode cX1_superfluous 6 = .ok (.getfield 18, 3) := dk_180 0 18 (dk_at dksX1_superfluous_0 6 rfl rfl)
theorem dX1_superfluous_9 : decode cX1_superfluous 9 = .ok (.invokevirtual 35, 3) := dk_182 0 35 (dk_at dksX1_superfluous_0 9 rfl rfl)
theorem dX1_superfluous_12 : decode cX1_superfluous 12 = .ok (.if_icmp .ge 25, 3) := dk_162 0 25 (dk_at dksX1_superfluous_0 12 rfl rfl)
theorem dX1_superfluous_15 : decode cX1_superfluous 15 = .ok (.iload_n 1, 1) := dk_27 (dk_at dksX1_superfluous_0 15 rfl rfl)
theorem dX1_superfluous_16 : decode cX1_superfluous 16 = .ok (.aload_n 0, 1) := dk_42 (dk_at dksX1_superfluous_0 16 rfl rfl)
theorem dX1_superfluous_17 : decode cX1_superfluous 17 = .ok (.iload_n 2, 1) := dk_28 (dk_at dksX1_superfluous_0 17 rfl rfl)
theorem dX1_superfluous_18 : decode cX1_superfluous 18 = .ok (.invokevirtual 196, 3) := dk_182 0 196 (dk_at dksX1_superfluous_0 18 rfl rfl)
theorem dX1_superfluous_21 : decode cX1_superfluous 21 = .ok (.ifCond .eq 7, 3) := dk_153 0 7 (dk_at dksX1_superfluous_0 21 rfl rfl)
theorem dX1_superfluous_24 : decode cX1_superfluous 24 = .ok (.iconst 1, 1) := dk_4 (dk_at dksX1_superfluous_1 0 rfl rfl)
theorem dX1_superfluous_25 : decode cX1_superfluous 25 = .ok (.goto 4, 3) := dk_167 0 4 (dk_at dksX1_superfluous_1 1 rfl rfl)
theorem dX1_superfluous_28 : decode cX1_superfluous 28 = .ok (.iconst 0, 1) := dk_3 (dk_at dksX1_superfluous_1 4 rfl rfl)
theorem dX1_superfluous_29 : decode cX1_superfluous 29 = .ok (.iadd, 1) := dk_96 (dk_at dksX1_superfluous_1 5 rfl rfl)
theorem dX1_superfluous_30 : decode cX1_superfluous 30 = .ok (.istore_n 1, 1) := dk_60 (dk_at dksX1_superfluous_1 6 rfl rfl)
theorem dX1_superfluous_31 : decode cX1_superfluous 31 = .ok (.iinc 2 1, 3) := dk_132 2 1 (dk_at dksX1_superfluous_1 7 rfl rfl)
theorem dX1_superfluous_34 : decode cX1_superfluous 34 = .ok (.goto (-30), 3) := dk_167 255 226 (dk_at dksX1_superfluous_1 10 rfl rfl)
theorem dX1_superfluous_37 : decode cX1_superfluous 37 = .ok (.iload_n 1, 1) := dk_27 (dk_at dksX1_superfluous_1 13 rfl rfl)
theorem dX1_superfluous_38 : decode cX1_superfluous 38 = .ok (.ireturn, 1) := dk_172 (dk_at dksX1_superfluous_1 14 rfl rfl)
theorem q87 : (Jvm.Cond.initialized "DimensionLines$Drawing") ∈ lw_all := lw_g (lw_at lw_m1 2 rfl) rfl
theorem q121 : (Jvm.Cond.instantiable "DimensionLines$Drawing" (7 : Nat)) ∈ lw_all := lw_g (lw_at lw_m1 36 rfl) rfl
theorem q123 : (Jvm.Cond.instanceMethod ({ cls := "DimensionLines$Drawing", name := "<init>", desc := "()V" } : Jvm.MethodName)) ∈ lw_all := lw_g (lw_at lw_m1 38 rfl) rfl
theorem q124 : (Jvm.Cond.code ({ cls := "DimensionLines$Drawing", name := "<init>", desc := "()V" } : Jvm.MethodName) prog_4_method_1_code (1 : Nat) (Option.none : Option Jvm.ClassFile.FieldType)) ∈ lw_all := lw_g (lw_at lw_m1 39 rfl) rfl
theorem q125 : (Jvm.Cond.methodLink "DimensionLines$Drawing" (3 : Nat) ({ cls := "java/lang/Object", name := "<init>", desc := "()V" } : Jvm.MethodName)) ∈ lw_all := lw_g (lw_at lw_m1 40 rfl) rfl
theorem q126 : (Jvm.Cond.classLink "DimensionLines$Drawing" (9 : Nat) "java/util/ArrayList") ∈ lw_all := lw_g (lw_at lw_m1 41 rfl) rfl
theorem q128 : (Jvm.Cond.methodLink "DimensionLines$Drawing" (11 : Nat) ({ cls := "java/util/ArrayList", name := "<init>", desc := "()V" } : Jvm.MethodName)) ∈ lw_all := lw_g (lw_at lw_m1 43 rfl) rfl
theorem q152 : (Jvm.Cond.classLink "DimensionLines$Drawing" (28 : Nat) "DimensionLines$Bounds") ∈ lw_all := lw_g (lw_at lw_m1 67 rfl) rfl
theorem q155 : (Jvm.Cond.fieldLink "DimensionLines$Drawing" (12 : Nat) "DimensionLines$Drawing" "points" "Ljava/util/ArrayList;") ∈ lw_all := lw_g (lw_at lw_m1 70 rfl) rfl
theorem q158 : (Jvm.Cond.fieldLink "DimensionLines$Drawing" (18 : Nat) "DimensionLines$Drawing" "dimensions" "Ljava/util/ArrayList;") ∈ lw_all := lw_g (lw_at lw_m1 73 rfl) rfl
theorem q162 : (Jvm.Cond.fieldLink "DimensionLines$Drawing" (21 : Nat) "DimensionLines$Drawing" "letter" "I") ∈ lw_all := lw_g (lw_at lw_m1 77 rfl) rfl
theorem q164 : (Jvm.Cond.fieldLink "DimensionLines$Drawing" (25 : Nat) "DimensionLines$Drawing" "arrow" "I") ∈ lw_all := lw_g (lw_at lw_m1 79 rfl) rfl
theorem q166 : (Jvm.Cond.fieldLink "DimensionLines$Drawing" (100 : Nat) "DimensionLines$Drawing" "units" "Ljava/util/ArrayList;") ∈ lw_all := lw_g (lw_at lw_m1 81 rfl) rfl
theorem q167 : (Jvm.Cond.fieldLink "DimensionLines$Drawing" (171 : Nat) "DimensionLines$Drawing" "bounds" "LDimensionLines$Bounds;") ∈ lw_all := lw_g (lw_at lw_m1 82 rfl) rfl
theorem q168 : (Jvm.Cond.fieldLink "DimensionLines$Drawing" (30 : Nat) "DimensionLines$Drawing" "exact" "[LDimensionLines$Bounds;") ∈ lw_all := lw_g (lw_at lw_m1 83 rfl) rfl
theorem q169 : (Jvm.Cond.laysFinal "DimensionLines$Drawing" "DimensionLines$Drawing" "points" "Ljava/util/ArrayList;") ∈ lw_all := lw_g (lw_at lw_m1 84 rfl) rfl
theorem q170 : (Jvm.Cond.soleField "DimensionLines$Drawing" "points") ∈ lw_all := lw_g (lw_at lw_m1 85 rfl) rfl
theorem q171 : (Jvm.Cond.laysFinal "DimensionLines$Drawing" "DimensionLines$Drawing" "dimensions" "Ljava/util/ArrayList;") ∈ lw_all := lw_g (lw_at lw_m1 86 rfl) rfl
theorem q172 : (Jvm.Cond.soleField "DimensionLines$Drawing" "dimensions") ∈ lw_all := lw_g (lw_at lw_m1 87 rfl) rfl
theorem q173 : (Jvm.Cond.lays "DimensionLines$Drawing" "DimensionLines$Drawing" "letter" "I") ∈ lw_all := lw_g (lw_at lw_m1 88 rfl) rfl
theorem q174 : (Jvm.Cond.soleField "DimensionLines$Drawing" "letter") ∈ lw_all := lw_g (lw_at lw_m1 89 rfl) rfl
theorem q175 : (Jvm.Cond.lays "DimensionLines$Drawing" "DimensionLines$Drawing" "arrow" "I") ∈ lw_all := lw_g (lw_at lw_m1 90 rfl) rfl
theorem q176 : (Jvm.Cond.soleField "DimensionLines$Drawing" "arrow") ∈ lw_all := lw_g (lw_at lw_m1 91 rfl) rfl
theorem q177 : (Jvm.Cond.lays "DimensionLines$Drawing" "DimensionLines$Drawing" "units" "Ljava/util/ArrayList;") ∈ lw_all := lw_g (lw_at lw_m1 92 rfl) rfl
theorem q178 : (Jvm.Cond.soleField "DimensionLines$Drawing" "units") ∈ lw_all := lw_g (lw_at lw_m1 93 rfl) rfl
theorem q179 : (Jvm.Cond.lays "DimensionLines$Drawing" "DimensionLines$Drawing" "bounds" "LDimensionLines$Bounds;") ∈ lw_all := lw_g (lw_at lw_m1 94 rfl) rfl
theorem q180 : (Jvm.Cond.soleField "DimensionLines$Drawing" "bounds") ∈ lw_all := lw_g (lw_at lw_m1 95 rfl) rfl
theorem q181 : (Jvm.Cond.laysFinal "DimensionLines$Drawing" "DimensionLines$Drawing" "exact" "[LDimensionLines$Bounds;") ∈ lw_all := lw_g (lw_at lw_m1 96 rfl) rfl
theorem q182 : (Jvm.Cond.soleField "DimensionLines$Drawing" "exact") ∈ lw_all := lw_g (lw_at lw_m1 97 rfl) rfl
theorem q183 : (Jvm.Cond.superclass "DimensionLines$Drawing" "java/lang/Object") ∈ lw_all := lw_g (lw_at lw_m1 98 rfl) rfl
theorem q515 : (Jvm.Cond.fieldLinkNest "DimensionLines$Drawing" (45 : Nat) "DimensionLines$Point" "position" "I" "DimensionLines") ∈ lw_tbl := lw_at lw_m2 190 rfl
theorem q546 : (Jvm.Cond.selects "DimensionLines$Drawing" ({ cls := "java/lang/Object", name := "getClass", desc := "()Ljava/lang/Class;" } : Jvm.MethodName) ({ cls := "java/lang/Object", name := "getClass", desc := "()Ljava/lang/Class;" } : Jvm.MethodName)) ∈ lw_all := lw_g (lw_at lw_m2 221 rfl) rfl
theorem q589 : (Jvm.Cond.fieldLinkNest "DimensionLines$Drawing" (57 : Nat) "DimensionLines$Dimension" "first" "LDimensionLines$Point;" "DimensionLines") ∈ lw_tbl := lw_at lw_m3 24 rfl
theorem q594 : (Jvm.Cond.fieldLinkNest "DimensionLines$Drawing" (65 : Nat) "DimensionLines$Dimension" "second" "LDimensionLines$Point;" "DimensionLines") ∈ lw_tbl := lw_at lw_m3 29 rfl
theorem q597 : (Jvm.Cond.fieldLinkNest "DimensionLines$Drawing" (71 : Nat) "DimensionLines$Dimension" "minus" "I" "DimensionLines") ∈ lw_tbl := lw_at lw_m3 32 rfl
theorem q601 : (Jvm.Cond.fieldLinkNest "DimensionLines$Drawing" (74 : Nat) "DimensionLines$Dimension" "plus" "I" "DimensionLines") ∈ lw_tbl := lw_at lw_m3 36 rfl
theorem q604 : (Jvm.Cond.fieldLinkNest "DimensionLines$Drawing" (77 : Nat) "DimensionLines$Dimension" "chain" "I" "DimensionLines") ∈ lw_tbl := lw_at lw_m3 39 rfl
theorem q608 : (Jvm.Cond.fieldLinkNest "DimensionLines$Drawing" (80 : Nat) "DimensionLines$Dimension" "least" "I" "DimensionLines") ∈ lw_tbl := lw_at lw_m3 43 rfl
theorem q617 : (Jvm.Cond.fieldLinkNest "DimensionLines$Drawing" (154 : Nat) "DimensionLines$Dimension" "lane" "I" "DimensionLines") ∈ lw_tbl := lw_at lw_m3 52 rfl
theorem q655 : (Jvm.Cond.instanceMethod ({ cls := "DimensionLines$Drawing", name := "pointAt", desc := "(I)I" } : Jvm.MethodName)) ∈ lw_all := lw_g (lw_at lw_m3 90 rfl) rfl
theorem q656 : (Jvm.Cond.selects "DimensionLines$Drawing" ({ cls := "DimensionLines$Drawing", name := "pointAt", desc := "(I)I" } : Jvm.MethodName) ({ cls := "DimensionLines$Drawing", name := "pointAt", desc := "(I)I" } : Jvm.MethodName)) ∈ lw_all := lw_g (lw_at lw_m3 91 rfl) rfl
theorem q657 : (Jvm.Cond.code ({ cls := "DimensionLines$Drawing", name := "pointAt", desc := "(I)I" } : Jvm.MethodName) prog_4_method_3_code (3 : Nat) (Option.some Jvm.ClassFile.FieldType.int)) ∈ lw_all := lw_g (lw_at lw_m3 92 rfl) rfl
theorem q658 : (Jvm.Cond.methodLink "DimensionLines$Drawing" (35 : Nat) ({ cls := "java/util/ArrayList", name := "size", desc := "()I" } : Jvm.MethodName)) ∈ lw_all := lw_g (lw_at lw_m3 93 rfl) rfl
theorem q659 : (Jvm.Cond.methodLink "DimensionLines$Drawing" (41 : Nat) ({ cls := "java/util/ArrayList", name := "get", desc := "(I)Ljava/lang/Object;" } : Jvm.MethodName)) ∈ lw_all := lw_g (lw_at lw_m3 94 rfl) rfl
theorem q660 : (Jvm.Cond.classLink "DimensionLines$Drawing" (39 : Nat) "DimensionLines$Point") ∈ lw_all := lw_g (lw_at lw_m3 95 rfl) rfl
theorem q666 : (Jvm.Cond.instanceMethod ({ cls := "DimensionLines$Drawing", name := "copy", desc := "()LDimensionLines$Drawing;" } : Jvm.MethodName)) ∈ lw_all := lw_g (lw_at lw_m3 101 rfl) rfl
theorem q667 : (Jvm.Cond.selects "DimensionLines$Drawing" ({ cls := "DimensionLines$Drawing", name := "copy", desc := "()LDimensionLines$Drawing;" } : Jvm.MethodName) ({ cls := "DimensionLines$Drawing", name := "copy", desc := "()LDimensionLines$Drawing;" } : Jvm.MethodName)) ∈ lw_all := lw_g (lw_at lw_m3 102 rfl) rfl
theorem q668 : (Jvm.Cond.code ({ cls := "DimensionLines$Drawing", name := "copy", desc := "()LDimensionLines$Drawing;" } : Jvm.MethodName) prog_4_method_2_code (5 : Nat) (Option.some (Jvm.ClassFile.FieldType.object "DimensionLines$Drawing"))) ∈ lw_all := lw_g (lw_at lw_m3 103 rfl) rfl
theorem q669 : (Jvm.Cond.classLink "DimensionLines$Drawing" (13 : Nat) "DimensionLines$Drawing") ∈ lw_all := lw_g (lw_at lw_m3 104 rfl) rfl
theorem q670 : (Jvm.Cond.methodLink "DimensionLines$Drawing" (34 : Nat) ({ cls := "DimensionLines$Drawing", name := "<init>", desc := "()V" } : Jvm.MethodName)) ∈ lw_all := lw_g (lw_at lw_m3 105 rfl) rfl
theorem q671 : (Jvm.Cond.methodLink "DimensionLines$Drawing" (48 : Nat) ({ cls := "DimensionLines$Point", name := "<init>", desc := "(I)V" } : Jvm.MethodName)) ∈ lw_all := lw_g (lw_at lw_m3 106 rfl) rfl
theorem q672 : (Jvm.Cond.methodLink "DimensionLines$Drawing" (51 : Nat) ({ cls := "java/util/ArrayList", name := "add", desc := "(Ljava/lang/Object;)Z" } : Jvm.MethodName)) ∈ lw_all := lw_g (lw_at lw_m3 107 rfl) rfl
theorem q673 : (Jvm.Cond.classLink "DimensionLines$Drawing" (55 : Nat) "DimensionLines$Dimension") ∈ lw_all := lw_g (lw_at lw_m3 108 rfl) rfl
theorem q674 : (Jvm.Cond.methodLink "DimensionLines$Drawing" (61 : Nat) ({ cls := "java/util/ArrayList", name := "indexOf", desc := "(Ljava/lang/Object;)I" } : Jvm.MethodName)) ∈ lw_all := lw_g (lw_at lw_m3 109 rfl) rfl
theorem q689 : (Jvm.Cond.selects "DimensionLines$Drawing" ({ cls := "java/lang/Object", name := "equals", desc := "(Ljava/lang/Object;)Z" } : Jvm.MethodName) ({ cls := "java/lang/Object", name := "equals", desc := "(Ljava/lang/Object;)Z" } : Jvm.MethodName)) ∈ lw_all := lw_g (lw_at lw_m3 124 rfl) rfl
theorem q697 : (Jvm.Cond.methodLink "DimensionLines$Drawing" (68 : Nat) ({ cls := "DimensionLines$Dimension", name := "<init>", desc := "(LDimensionLines$Point;LDimensionLines$Point;)V" } : Jvm.MethodName)) ∈ lw_all := lw_g (lw_at lw_m3 132 rfl) rfl
theorem q701 : (Jvm.Cond.instanceMethod ({ cls := "DimensionLines$Drawing", name := "insert", desc := "(LDimensionLines$Point;)I" } : Jvm.MethodName)) ∈ lw_all := lw_g (lw_at lw_m3 136 rfl) rfl
theorem q702 : (Jvm.Cond.selects "DimensionLines$Drawing" ({ cls := "DimensionLines$Drawing", name := "insert", desc := "(LDimensionLines$Point;)I" } : Jvm.MethodName) ({ cls := "DimensionLines$Drawing", name := "insert", desc := "(LDimensionLines$Point;)I" } : Jvm.MethodName)) ∈ lw_all := lw_g (lw_at lw_m3 137 rfl) rfl
theorem q703 : (Jvm.Cond.code ({ cls := "DimensionLines$Drawing", name := "insert", desc := "(LDimensionLines$Point;)I" } : Jvm.MethodName) prog_4_method_4_code (3 : Nat) (Option.some Jvm.ClassFile.FieldType.int)) ∈ lw_all := lw_g (lw_at lw_m3 138 rfl) rfl
theorem q704 : (Jvm.Cond.methodLink "DimensionLines$Drawing" (83 : Nat) ({ cls := "java/util/ArrayList", name := "add", desc := "(ILjava/lang/Object;)V" } : Jvm.MethodName)) ∈ lw_all := lw_g (lw_at lw_m3 139 rfl) rfl
theorem q740 : (Jvm.Cond.instanceMethod ({ cls := "DimensionLines$Drawing", name := "uses", desc := "(LDimensionLines$Point;)I" } : Jvm.MethodName)) ∈ lw_all := lw_g (lw_at lw_m3 175 rfl) rfl
theorem q741 : (Jvm.Cond.selects "DimensionLines$Drawing" ({ cls := "DimensionLines$Drawing", name := "uses", desc := "(LDimensionLines$Point;)I" } : Jvm.MethodName) ({ cls := "DimensionLines$Drawing", name := "uses", desc := "(LDimensionLines$Point;)I" } : Jvm.MethodName)) ∈ lw_all := lw_g (lw_at lw_m3 176 rfl) rfl
theorem q742 : (Jvm.Cond.code ({ cls := "DimensionLines$Drawing", name := "uses", desc := "(LDimensionLines$Point;)I" } : Jvm.MethodName) prog_4_method_5_code (4 : Nat) (Option.some Jvm.ClassFile.FieldType.int)) ∈ lw_all := lw_g (lw_at lw_m3 177 rfl) rfl
theorem q743 : (Jvm.Cond.methodLink "DimensionLines$Drawing" (86 : Nat) ({ cls := "DimensionLines$Dimension", name := "has", desc := "(LDimensionLines$Point;)Z" } : Jvm.MethodName)) ∈ lw_all := lw_g (lw_at lw_m3 178 rfl) rfl
theorem q792 : (Jvm.Cond.instanceMethod ({ cls := "DimensionLines$Drawing", name := "top", desc := "(LDimensionLines$Point;)I" } : Jvm.MethodName)) ∈ lw_all := lw_g (lw_at lw_m3 227 rfl) rfl
theorem q793 : (Jvm.Cond.selects "DimensionLines$Drawing" ({ cls := "DimensionLines$Drawing", name := "top", desc := "(LDimensionLines$Point;)I" } : Jvm.MethodName) ({ cls := "DimensionLines$Drawing", name := "top", desc := "(LDimensionLines$Point;)I" } : Jvm.MethodName)) ∈ lw_all := lw_g (lw_at lw_m3 228 rfl) rfl
theorem q794 : (Jvm.Cond.code ({ cls := "DimensionLines$Drawing", name := "top", desc := "(LDimensionLines$Point;)I" } : Jvm.MethodName) prog_4_method_11_code (4 : Nat) (Option.some Jvm.ClassFile.FieldType.int)) ∈ lw_all := lw_g (lw_at lw_m3 229 rfl) rfl
theorem q795 : (Jvm.Cond.methodLink "DimensionLines$Drawing" (152 : Nat) ({ cls := "DimensionLines$Drawing", name := "units", desc := "()Ljava/util/ArrayList;" } : Jvm.MethodName)) ∈ lw_all := lw_g (lw_at lw_m3 230 rfl) rfl
theorem q796 : (Jvm.Cond.instanceMethod ({ cls := "DimensionLines$Drawing", name := "units", desc := "()Ljava/util/ArrayList;" } : Jvm.MethodName)) ∈ lw_all := lw_g (lw_at lw_m3 231 rfl) rfl
theorem q797 : (Jvm.Cond.selects "DimensionLines$Drawing" ({ cls := "DimensionLines$Drawing", name := "units", desc := "()Ljava/util/ArrayList;" } : Jvm.MethodName) ({ cls := "DimensionLines$Drawing", name := "units", desc := "()Ljava/util/ArrayList;" } : Jvm.MethodName)) ∈ lw_all := lw_g (lw_at lw_m3 232 rfl) rfl
theorem q798 : (Jvm.Cond.code ({ cls := "DimensionLines$Drawing", name := "units", desc := "()Ljava/util/ArrayList;" } : Jvm.MethodName) prog_4_method_7_code (3 : Nat) (Option.some (Jvm.ClassFile.FieldType.object "java/util/ArrayList"))) ∈ lw_all := lw_g (lw_at lw_m3 233 rfl) rfl
theorem q799 : (Jvm.Cond.methodLink "DimensionLines$Drawing" (103 : Nat) ({ cls := "DimensionLines$Drawing", name := "gathered", desc := "()Ljava/util/ArrayList;" } : Jvm.MethodName)) ∈ lw_all := lw_g (lw_at lw_m3 234 rfl) rfl
theorem q800 : (Jvm.Cond.privateMethod ({ cls := "DimensionLines$Drawing", name := "gathered", desc := "()Ljava/util/ArrayList;" } : Jvm.MethodName)) ∈ lw_tbl := lw_at lw_m3 235 rfl
theorem q801 : (Jvm.Cond.instanceMethod ({ cls := "DimensionLines$Drawing", name := "gathered", desc := "()Ljava/util/ArrayList;" } : Jvm.MethodName)) ∈ lw_all := lw_g (lw_at lw_m3 236 rfl) rfl
theorem q802 : (Jvm.Cond.code ({ cls := "DimensionLines$Drawing", name := "gathered", desc := "()Ljava/util/ArrayList;" } : Jvm.MethodName) prog_4_method_6_code (6 : Nat) (Option.some (Jvm.ClassFile.FieldType.object "java/util/ArrayList"))) ∈ lw_all := lw_g (lw_at lw_m3 237 rfl) rfl
theorem q803 : (Jvm.Cond.classLink "DimensionLines$Drawing" (90 : Nat) "DimensionLines$Unit") ∈ lw_all := lw_g (lw_at lw_m3 238 rfl) rfl
theorem q805 : (Jvm.Cond.methodLink "DimensionLines$Drawing" (92 : Nat) ({ cls := "DimensionLines$Dimension", name := "fit", desc := "(II)V" } : Jvm.MethodName)) ∈ lw_all := lw_g (lw_at lw_m4 0 rfl) rfl
theorem q814 : (Jvm.Cond.methodLinkNest "DimensionLines$Drawing" (96 : Nat) ({ cls := "DimensionLines$Unit", name := "<init>", desc := "()V" } : Jvm.MethodName) "DimensionLines") ∈ lw_tbl := lw_at lw_m4 9 rfl
theorem q823 : (Jvm.Cond.fieldLinkNest "DimensionLines$Drawing" (125 : Nat) "DimensionLines$Unit" "least" "I" "DimensionLines") ∈ lw_tbl := lw_at lw_m4 18 rfl
theorem q825 : (Jvm.Cond.fieldLinkNest "DimensionLines$Drawing" (206 : Nat) "DimensionLines$Unit" "begin" "I" "DimensionLines") ∈ lw_tbl := lw_at lw_m4 20 rfl
theorem q828 : (Jvm.Cond.fieldLinkNest "DimensionLines$Drawing" (209 : Nat) "DimensionLines$Unit" "end" "I" "DimensionLines") ∈ lw_tbl := lw_at lw_m4 23 rfl
theorem q831 : (Jvm.Cond.fieldLinkNest "DimensionLines$Drawing" (132 : Nat) "DimensionLines$Unit" "lane" "I" "DimensionLines") ∈ lw_tbl := lw_at lw_m4 26 rfl
theorem q843 : (Jvm.Cond.methodLink "DimensionLines$Drawing" (97 : Nat) ({ cls := "DimensionLines$Unit", name := "add", desc := "(LDimensionLines$Dimension;)V" } : Jvm.MethodName)) ∈ lw_all := lw_g (lw_at lw_m4 38 rfl) rfl
theorem q850 : (Jvm.Cond.methodLink "DimensionLines$Drawing" (107 : Nat) ({ cls := "java/util/ArrayList", name := "isEmpty", desc := "()Z" } : Jvm.MethodName)) ∈ lw_all := lw_g (lw_at lw_m4 45 rfl) rfl
theorem q854 : (Jvm.Cond.static ({ cls := "DimensionLines$Drawing", name := "lambda$units$0", desc := "(LDimensionLines$Unit;)I" } : Jvm.MethodName)) ∈ lw_all := lw_g (lw_at lw_m4 49 rfl) rfl
theorem q855 : (Jvm.Cond.code ({ cls := "DimensionLines$Drawing", name := "lambda$units$0", desc := "(LDimensionLines$Unit;)I" } : Jvm.MethodName) prog_4_method_25_code (1 : Nat) (Option.some Jvm.ClassFile.FieldType.int)) ∈ lw_all := lw_g (lw_at lw_m4 50 rfl) rfl
theorem q891 : (Jvm.Cond.methodLink "DimensionLines$Drawing" (215 : Nat) ({ cls := "DimensionLines$Unit", name := "begin", desc := "()I" } : Jvm.MethodName)) ∈ lw_all := lw_g (lw_at lw_m4 86 rfl) rfl
theorem q892 : (Jvm.Cond.methodLinkNest "DimensionLines$Drawing" (115 : Nat) ({ cls := "DimensionLines", name := "least", desc := "(Ljava/util/List;LDimensionLines$Rank;)Ljava/lang/Object;" } : Jvm.MethodName) "DimensionLines") ∈ lw_tbl := lw_at lw_m4 87 rfl
theorem q914 : (Jvm.Cond.methodLink "DimensionLines$Drawing" (118 : Nat) ({ cls := "java/util/ArrayList", name := "remove", desc := "(Ljava/lang/Object;)Z" } : Jvm.MethodName)) ∈ lw_all := lw_g (lw_at lw_m4 109 rfl) rfl
theorem q918 : (Jvm.Cond.methodLink "DimensionLines$Drawing" (121 : Nat) ({ cls := "DimensionLines$Drawing", name := "place", desc := "(LDimensionLines$Unit;)V" } : Jvm.MethodName)) ∈ lw_all := lw_g (lw_at lw_m4 113 rfl) rfl
theorem q919 : (Jvm.Cond.privateMethod ({ cls := "DimensionLines$Drawing", name := "place", desc := "(LDimensionLines$Unit;)V" } : Jvm.MethodName)) ∈ lw_tbl := lw_at lw_m4 114 rfl
theorem q920 : (Jvm.Cond.instanceMethod ({ cls := "DimensionLines$Drawing", name := "place", desc := "(LDimensionLines$Unit;)V" } : Jvm.MethodName)) ∈ lw_all := lw_g (lw_at lw_m4 115 rfl) rfl
theorem q921 : (Jvm.Cond.code ({ cls := "DimensionLines$Drawing", name := "place", desc := "(LDimensionLines$Unit;)V" } : Jvm.MethodName) prog_4_method_8_code (4 : Nat) (Option.none : Option Jvm.ClassFile.FieldType)) ∈ lw_all := lw_g (lw_at lw_m4 116 rfl) rfl
theorem q922 : (Jvm.Cond.classLink "DimensionLines$Drawing" (126 : Nat) "DimensionLines$Stretch") ∈ lw_all := lw_g (lw_at lw_m4 117 rfl) rfl
theorem q928 : (Jvm.Cond.methodLink "DimensionLines$Drawing" (135 : Nat) ({ cls := "java/lang/Math", name := "max", desc := "(II)I" } : Jvm.MethodName)) ∈ lw_all := lw_g (lw_at lw_m4 123 rfl) rfl
theorem q929 : (Jvm.Cond.methodLink "DimensionLines$Drawing" (141 : Nat) ({ cls := "DimensionLines$Drawing", name := "isFree", desc := "(LDimensionLines$Unit;I)Z" } : Jvm.MethodName)) ∈ lw_all := lw_g (lw_at lw_m4 124 rfl) rfl
theorem q930 : (Jvm.Cond.privateMethod ({ cls := "DimensionLines$Drawing", name := "isFree", desc := "(LDimensionLines$Unit;I)Z" } : Jvm.MethodName)) ∈ lw_tbl := lw_at lw_m4 125 rfl
theorem q931 : (Jvm.Cond.instanceMethod ({ cls := "DimensionLines$Drawing", name := "isFree", desc := "(LDimensionLines$Unit;I)Z" } : Jvm.MethodName)) ∈ lw_all := lw_g (lw_at lw_m4 126 rfl) rfl
theorem q932 : (Jvm.Cond.code ({ cls := "DimensionLines$Drawing", name := "isFree", desc := "(LDimensionLines$Unit;I)Z" } : Jvm.MethodName) prog_4_method_9_code (5 : Nat) (Option.some Jvm.ClassFile.FieldType.boolean)) ∈ lw_all := lw_g (lw_at lw_m4 127 rfl) rfl
theorem q933 : (Jvm.Cond.methodLink "DimensionLines$Drawing" (148 : Nat) ({ cls := "DimensionLines$Unit", name := "isInTheWayOf", desc := "(LDimensionLines$Unit;)Z" } : Jvm.MethodName)) ∈ lw_all := lw_g (lw_at lw_m4 128 rfl) rfl
theorem q943 : (Jvm.Cond.methodLink "DimensionLines$Drawing" (145 : Nat) ({ cls := "DimensionLines$Unit", name := "lay", desc := "(I)V" } : Jvm.MethodName)) ∈ lw_all := lw_g (lw_at lw_m4 138 rfl) rfl
theorem q949 : (Jvm.Cond.instanceMethod ({ cls := "DimensionLines$Drawing", name := "crossingsOf", desc := "(LDimensionLines$Point;)I" } : Jvm.MethodName)) ∈ lw_all := lw_g (lw_at lw_m4 144 rfl) rfl
theorem q950 : (Jvm.Cond.selects "DimensionLines$Drawing" ({ cls := "DimensionLines$Drawing", name := "crossingsOf", desc := "(LDimensionLines$Point;)I" } : Jvm.MethodName) ({ cls := "DimensionLines$Drawing", name := "crossingsOf", desc := "(LDimensionLines$Point;)I" } : Jvm.MethodName)) ∈ lw_all := lw_g (lw_at lw_m4 145 rfl) rfl
theorem q951 : (Jvm.Cond.code ({ cls := "DimensionLines$Drawing", name := "crossingsOf", desc := "(LDimensionLines$Point;)I" } : Jvm.MethodName) prog_4_method_15_code (4 : Nat) (Option.some Jvm.ClassFile.FieldType.int)) ∈ lw_all := lw_g (lw_at lw_m4 146 rfl) rfl
theorem q952 : (Jvm.Cond.methodLink "DimensionLines$Drawing" (167 : Nat) ({ cls := "DimensionLines$Drawing", name := "crosses", desc := "(LDimensionLines$Point;LDimensionLines$Dimension;)Z" } : Jvm.MethodName)) ∈ lw_all := lw_g (lw_at lw_m4 147 rfl) rfl
theorem q953 : (Jvm.Cond.instanceMethod ({ cls := "DimensionLines$Drawing", name := "crosses", desc := "(LDimensionLines$Point;LDimensionLines$Dimension;)Z" } : Jvm.MethodName)) ∈ lw_all := lw_g (lw_at lw_m4 148 rfl) rfl
theorem q954 : (Jvm.Cond.selects "DimensionLines$Drawing" ({ cls := "DimensionLines$Drawing", name := "crosses", desc := "(LDimensionLines$Point;LDimensionLines$Dimension;)Z" } : Jvm.MethodName) ({ cls := "DimensionLines$Drawing", name := "crosses", desc := "(LDimensionLines$Point;LDimensionLines$Dimension;)Z" } : Jvm.MethodName)) ∈ lw_all := lw_g (lw_at lw_m4 149 rfl) rfl
theorem q955 : (Jvm.Cond.code ({ cls := "DimensionLines$Drawing", name := "crosses", desc := "(LDimensionLines$Point;LDimensionLines$Dimension;)Z" } : Jvm.MethodName) prog_4_method_12_code (3 : Nat) (Option.some Jvm.ClassFile.FieldType.boolean)) ∈ lw_all := lw_g (lw_at lw_m4 150 rfl) rfl
theorem q956 : (Jvm.Cond.methodLink "DimensionLines$Drawing" (155 : Nat) ({ cls := "DimensionLines$Drawing", name := "top", desc := "(LDimensionLines$Point;)I" } : Jvm.MethodName)) ∈ lw_all := lw_g (lw_at lw_m4 151 rfl) rfl
theorem q957 : (Jvm.Cond.methodLink "DimensionLines$Drawing" (159 : Nat) ({ cls := "DimensionLines$Dimension", name := "isCrossedAt", desc := "(I)Z" } : Jvm.MethodName)) ∈ lw_all := lw_g (lw_at lw_m4 152 rfl) rfl
theorem q962 : (Jvm.Cond.instanceMethod ({ cls := "DimensionLines$Drawing", name := "group", desc := "(I)I" } : Jvm.MethodName)) ∈ lw_all := lw_g (lw_at lw_m4 157 rfl) rfl
theorem q963 : (Jvm.Cond.selects "DimensionLines$Drawing" ({ cls := "DimensionLines$Drawing", name := "group", desc := "(I)I" } : Jvm.MethodName) ({ cls := "DimensionLines$Drawing", name := "group", desc := "(I)I" } : Jvm.MethodName)) ∈ lw_all := lw_g (lw_at lw_m4 158 rfl) rfl
theorem q964 : (Jvm.Cond.code ({ cls := "DimensionLines$Drawing", name := "group", desc := "(I)I" } : Jvm.MethodName) prog_4_method_20_code (4 : Nat) (Option.some Jvm.ClassFile.FieldType.int)) ∈ lw_all := lw_g (lw_at lw_m4 159 rfl) rfl
theorem q965 : (Jvm.Cond.methodLink "DimensionLines$Drawing" (178 : Nat) ({ cls := "DimensionLines$Drawing", name := "bounds", desc := "()LDimensionLines$Bounds;" } : Jvm.MethodName)) ∈ lw_all := lw_g (lw_at lw_m4 160 rfl) rfl
theorem q966 : (Jvm.Cond.instanceMethod ({ cls := "DimensionLines$Drawing", name := "bounds", desc := "()LDimensionLines$Bounds;" } : Jvm.MethodName)) ∈ lw_all := lw_g (lw_at lw_m4 161 rfl) rfl
theorem q967 : (Jvm.Cond.selects "DimensionLines$Drawing" ({ cls := "DimensionLines$Drawing", name := "bounds", desc := "()LDimensionLines$Bounds;" } : Jvm.MethodName) ({ cls := "DimensionLines$Drawing", name := "bounds", desc := "()LDimensionLines$Bounds;" } : Jvm.MethodName)) ∈ lw_all := lw_g (lw_at lw_m4 162 rfl) rfl
theorem q968 : (Jvm.Cond.code ({ cls := "DimensionLines$Drawing", name := "bounds", desc := "()LDimensionLines$Bounds;" } : Jvm.MethodName) prog_4_method_16_code (1 : Nat) (Option.some (Jvm.ClassFile.FieldType.object "DimensionLines$Bounds"))) ∈ lw_all := lw_g (lw_at lw_m4 163 rfl) rfl
theorem q970 : (Jvm.Cond.methodLink "DimensionLines$Drawing" (175 : Nat) ({ cls := "DimensionLines$Bounds", name := "<init>", desc := "(LDimensionLines$Drawing;II)V" } : Jvm.MethodName)) ∈ lw_all := lw_g (lw_at lw_m4 165 rfl) rfl
theorem q993 : (Jvm.Cond.methodLink "DimensionLines$Drawing" (184 : Nat) ({ cls := "DimensionLines$Bounds", name := "areBound", desc := "(II)Z" } : Jvm.MethodName)) ∈ lw_all := lw_g (lw_at lw_m4 188 rfl) rfl
theorem q997 : (Jvm.Cond.methodLink "DimensionLines$Drawing" (199 : Nat) ({ cls := "DimensionLines$Drawing", name := "group", desc := "(I)I" } : Jvm.MethodName)) ∈ lw_all := lw_g (lw_at lw_m4 192 rfl) rfl
theorem q998 : (Jvm.Cond.methodLink "DimensionLines$Drawing" (203 : Nat) ({ cls := "DimensionLines$Drawing", name := "isFirst", desc := "(I)Z" } : Jvm.MethodName)) ∈ lw_all := lw_g (lw_at lw_m4 193 rfl) rfl
theorem q999 : (Jvm.Cond.privateMethod ({ cls := "DimensionLines$Drawing", name := "isFirst", desc := "(I)Z" } : Jvm.MethodName)) ∈ lw_tbl := lw_at lw_m4 194 rfl
theorem q1000 : (Jvm.Cond.instanceMethod ({ cls := "DimensionLines$Drawing", name := "isFirst", desc := "(I)Z" } : Jvm.MethodName)) ∈ lw_all := lw_g (lw_at lw_m4 195 rfl) rfl
theorem q1001 : (Jvm.Cond.code ({ cls := "DimensionLines$Drawing", name := "isFirst", desc := "(I)Z" } : Jvm.MethodName) prog_4_method_21_code (4 : Nat) (Option.some Jvm.ClassFile.FieldType.boolean)) ∈ lw_all := lw_g (lw_at lw_m4 196 rfl) rfl
theorem q1009 : (Jvm.Cond.instanceMethod ({ cls := "DimensionLines$Drawing", name := "isSuperfluous", desc := "(I)Z" } : Jvm.MethodName)) ∈ lw_all := lw_g (lw_at lw_m4 204 rfl) rfl
theorem q1010 : (Jvm.Cond.selects "DimensionLines$Drawing" ({ cls := "DimensionLines$Drawing", name := "isSuperfluous", desc := "(I)Z" } : Jvm.MethodName) ({ cls := "DimensionLines$Drawing", name := "isSuperfluous", desc := "(I)Z" } : Jvm.MethodName)) ∈ lw_all := lw_g (lw_at lw_m4 205 rfl) rfl
theorem q1011 : (Jvm.Cond.code ({ cls := "DimensionLines$Drawing", name := "isSuperfluous", desc := "(I)Z" } : Jvm.MethodName) prog_4_method_18_code (6 : Nat) (Option.some Jvm.ClassFile.FieldType.boolean)) ∈ lw_all := lw_g (lw_at lw_m4 206 rfl) rfl
theorem q1012 : (Jvm.Cond.methodLink "DimensionLines$Drawing" (188 : Nat) ({ cls := "DimensionLines$Bounds", name := "greatest", desc := "(II)I" } : Jvm.MethodName)) ∈ lw_all := lw_g (lw_at lw_m4 207 rfl) rfl
theorem q1016 : (Jvm.Cond.methodLink "DimensionLines$Drawing" (191 : Nat) ({ cls := "DimensionLines$Dimension", name := "value", desc := "()I" } : Jvm.MethodName)) ∈ lw_all := lw_g (lw_at lw_m4 211 rfl) rfl
theorem q1017 : (Jvm.Cond.methodLink "DimensionLines$Drawing" (194 : Nat) ({ cls := "DimensionLines$Bounds", name := "least", desc := "(II)I" } : Jvm.MethodName)) ∈ lw_all := lw_g (lw_at lw_m4 212 rfl) rfl
theorem q1022 : (Jvm.Cond.instanceMethod ({ cls := "DimensionLines$Drawing", name := "crossingsOf", desc := "(LDimensionLines$Dimension;)I" } : Jvm.MethodName)) ∈ lw_all := lw_g (lw_at lw_m4 217 rfl) rfl
theorem q1023 : (Jvm.Cond.selects "DimensionLines$Drawing" ({ cls := "DimensionLines$Drawing", name := "crossingsOf", desc := "(LDimensionLines$Dimension;)I" } : Jvm.MethodName) ({ cls := "DimensionLines$Drawing", name := "crossingsOf", desc := "(LDimensionLines$Dimension;)I" } : Jvm.MethodName)) ∈ lw_all := lw_g (lw_at lw_m4 218 rfl) rfl
theorem q1024 : (Jvm.Cond.code ({ cls := "DimensionLines$Drawing", name := "crossingsOf", desc := "(LDimensionLines$Dimension;)I" } : Jvm.MethodName) prog_4_method_14_code (4 : Nat) (Option.some Jvm.ClassFile.FieldType.int)) ∈ lw_all := lw_g (lw_at lw_m4 219 rfl) rfl
theorem q1030 : (Jvm.Cond.instanceMethod ({ cls := "DimensionLines$Drawing", name := "lanes", desc := "()I" } : Jvm.MethodName)) ∈ lw_all := lw_g (lw_at lw_m4 225 rfl) rfl
theorem q1031 : (Jvm.Cond.selects "DimensionLines$Drawing" ({ cls := "DimensionLines$Drawing", name := "lanes", desc := "()I" } : Jvm.MethodName) ({ cls := "DimensionLines$Drawing", name := "lanes", desc := "()I" } : Jvm.MethodName)) ∈ lw_all := lw_g (lw_at lw_m4 226 rfl) rfl
theorem q1032 : (Jvm.Cond.code ({ cls := "DimensionLines$Drawing", name := "lanes", desc := "()I" } : Jvm.MethodName) prog_4_method_10_code (3 : Nat) (Option.some Jvm.ClassFile.FieldType.int)) ∈ lw_all := lw_g (lw_at lw_m4 227 rfl) rfl
theorem q1046 : (Jvm.Cond.instanceMethod ({ cls := "DimensionLines$Drawing", name := "gain", desc := "(III)I" } : Jvm.MethodName)) ∈ lw_all := lw_g (lw_at lw_m5 1 rfl) rfl
theorem q1047 : (Jvm.Cond.selects "DimensionLines$Drawing" ({ cls := "DimensionLines$Drawing", name := "gain", desc := "(III)I" } : Jvm.MethodName) ({ cls := "DimensionLines$Drawing", name := "gain", desc := "(III)I" } : Jvm.MethodName)) ∈ lw_all := lw_g (lw_at lw_m5 2 rfl) rfl
theorem q1048 : (Jvm.Cond.code ({ cls := "DimensionLines$Drawing", name := "gain", desc := "(III)I" } : Jvm.MethodName) prog_4_method_17_code (4 : Nat) (Option.some Jvm.ClassFile.FieldType.int)) ∈ lw_all := lw_g (lw_at lw_m5 3 rfl) rfl
theorem q1049 : (Jvm.Cond.methodLink "DimensionLines$Drawing" (181 : Nat) ({ cls := "DimensionLines$Bounds", name := "range", desc := "(II)I" } : Jvm.MethodName)) ∈ lw_all := lw_g (lw_at lw_m5 4 rfl) rfl
theorem q1068 : (Jvm.Cond.instanceMethod ({ cls := "DimensionLines$Drawing", name := "chain", desc := "(I)LDimensionLines$Unit;" } : Jvm.MethodName)) ∈ lw_all := lw_g (lw_at lw_m5 23 rfl) rfl
theorem q1069 : (Jvm.Cond.selects "DimensionLines$Drawing" ({ cls := "DimensionLines$Drawing", name := "chain", desc := "(I)LDimensionLines$Unit;" } : Jvm.MethodName) ({ cls := "DimensionLines$Drawing", name := "chain", desc := "(I)LDimensionLines$Unit;" } : Jvm.MethodName)) ∈ lw_all := lw_g (lw_at lw_m5 24 rfl) rfl
theorem q1070 : (Jvm.Cond.code ({ cls := "DimensionLines$Drawing", name := "chain", desc := "(I)LDimensionLines$Unit;" } : Jvm.MethodName) prog_4_method_23_code (4 : Nat) (Option.some (Jvm.ClassFile.FieldType.object "DimensionLines$Unit"))) ∈ lw_all := lw_g (lw_at lw_m5 25 rfl) rfl
theorem q1114 : (Jvm.Cond.instanceMethod ({ cls := "DimensionLines$Drawing", name := "over", desc := "(ILDimensionLines$Unit;)I" } : Jvm.MethodName)) ∈ lw_all := lw_g (lw_at lw_m5 69 rfl) rfl
theorem q1115 : (Jvm.Cond.selects "DimensionLines$Drawing" ({ cls := "DimensionLines$Drawing", name := "over", desc := "(ILDimensionLines$Unit;)I" } : Jvm.MethodName) ({ cls := "DimensionLines$Drawing", name := "over", desc := "(ILDimensionLines$Unit;)I" } : Jvm.MethodName)) ∈ lw_all := lw_g (lw_at lw_m5 70 rfl) rfl
theorem q1116 : (Jvm.Cond.code ({ cls := "DimensionLines$Drawing", name := "over", desc := "(ILDimensionLines$Unit;)I" } : Jvm.MethodName) prog_4_method_24_code (5 : Nat) (Option.some Jvm.ClassFile.FieldType.int)) ∈ lw_all := lw_g (lw_at lw_m5 71 rfl) rfl
theorem q1130 : (Jvm.Cond.instanceMethod ({ cls := "DimensionLines$Drawing", name := "crossings", desc := "()I" } : Jvm.MethodName)) ∈ lw_all := lw_g (lw_at lw_m5 85 rfl) rfl
theorem q1131 : (Jvm.Cond.selects "DimensionLines$Drawing" ({ cls := "DimensionLines$Drawing", name := "crossings", desc := "()I" } : Jvm.MethodName) ({ cls := "DimensionLines$Drawing", name := "crossings", desc := "()I" } : Jvm.MethodName)) ∈ lw_all := lw_g (lw_at lw_m5 86 rfl) rfl
theorem q1132 : (Jvm.Cond.code ({ cls := "DimensionLines$Drawing", name := "crossings", desc := "()I" } : Jvm.MethodName) prog_4_method_13_code (3 : Nat) (Option.some Jvm.ClassFile.FieldType.int)) ∈ lw_all := lw_g (lw_at lw_m5 87 rfl) rfl
theorem q1133 : (Jvm.Cond.methodLink "DimensionLines$Drawing" (163 : Nat) ({ cls := "DimensionLines$Drawing", name := "crossingsOf", desc := "(LDimensionLines$Dimension;)I" } : Jvm.MethodName)) ∈ lw_all := lw_g (lw_at lw_m5 88 rfl) rfl
theorem q1135 : (Jvm.Cond.instanceMethod ({ cls := "DimensionLines$Drawing", name := "groups", desc := "()I" } : Jvm.MethodName)) ∈ lw_all := lw_g (lw_at lw_m5 90 rfl) rfl
theorem q1136 : (Jvm.Cond.selects "DimensionLines$Drawing" ({ cls := "DimensionLines$Drawing", name := "groups", desc := "()I" } : Jvm.MethodName) ({ cls := "DimensionLines$Drawing", name := "groups", desc := "()I" } : Jvm.MethodName)) ∈ lw_all := lw_g (lw_at lw_m5 91 rfl) rfl
theorem q1137 : (Jvm.Cond.code ({ cls := "DimensionLines$Drawing", name := "groups", desc := "()I" } : Jvm.MethodName) prog_4_method_22_code (3 : Nat) (Option.some Jvm.ClassFile.FieldType.int)) ∈ lw_all := lw_g (lw_at lw_m5 92 rfl) rfl
theorem q1139 : (Jvm.Cond.instanceMethod ({ cls := "DimensionLines$Drawing", name := "superfluous", desc := "()I" } : Jvm.MethodName)) ∈ lw_all := lw_g (lw_at lw_m5 94 rfl) rfl
theorem q1140 : (Jvm.Cond.selects "DimensionLines$Drawing" ({ cls := "DimensionLines$Drawing", name := "superfluous", desc := "()I" } : Jvm.MethodName) ({ cls := "DimensionLines$Drawing", name := "superfluous", desc := "()I" } : Jvm.MethodName)) ∈ lw_all := lw_g (lw_at lw_m5 95 rfl) rfl
theorem q1141 : (Jvm.Cond.code ({ cls := "DimensionLines$Drawing", name := "superfluous", desc := "()I" } : Jvm.MethodName) prog_4_method_19_code (3 : Nat) (Option.some Jvm.ClassFile.FieldType.int)) ∈ lw_all := lw_g (lw_at lw_m5 96 rfl) rfl
theorem q1142 : (Jvm.Cond.methodLink "DimensionLines$Drawing" (196 : Nat) ({ cls := "DimensionLines$Drawing", name := "isSuperfluous", desc := "(I)Z" } : Jvm.MethodName)) ∈ lw_all := lw_g (lw_at lw_m5 97 rfl) rfl
theorem q1598 : (Jvm.Cond.castable "DimensionLines$Drawing" "java/lang/Object") ∈ lw_tbl := lw_at lw_m7 73 rfl
theorem in_X1 : ∀ w ∈ wsX10, w ∈ lw_all := lw_in wsX10 [169, 171, 173, 175, 177, 179, 181] (by decide +kernel) (by decide +kernel)

/-! DimensionLines$Reader -/
set_option maxRecDepth 100000
def RX3 : String := "DimensionLines$Reader"
def TX3 : u_T := fun k => match k with
  | 0 => ("DimensionLines$Reader", "text", "Ljava/lang/CharSequence;", true)
  | 1 => ("DimensionLines$Reader", "made", "LDimensionLines$Drawing;", true)
  | _ => ("DimensionLines$Reader", "at", "I", false)
def tyX3 : Nat → FieldType := fun k => match k with
  | 0 => .object "java/lang/CharSequence"
  | 1 => .object "DimensionLines$Drawing"
  | _ => .int
abbrev wsX30 : List Cond := u_ws RX3 TX3 3
theorem nmX3 : ∀ a, a < 3 → ∀ b, b < 3 → a ≠ b → (TX3 a).2.1 ≠ (TX3 b).2.1 := by decide +kernel
theorem tyX3_ok : ∀ k, k < 3 → parseFieldDescriptor (TX3 k).2.2.1 = some (tyX3 k) := by decide +kernel
abbrev cX3_init : ByteArray := prog_8_method_1_code
def yX3_init : MethodName := ⟨RX3, "<init>", "(Ljava/lang/CharSequence;)V"⟩
def dkwX3_init_0 : List UInt8 := [42, 183, 0, 3, 42, 187, 0, 9, 89, 183, 0, 11, 181, 0, 12, 42, 43, 181, 0, 18, 177]
abbrev dktX3_init_0 : List UInt8 := dkwX3_init_0 ++ []
theorem dksX3_init_0 : cX3_init.data.toList.drop 0 = dktX3_init_0 := by decide +kernel
theorem dX3_init_0 : decode cX3_init 0 = .ok (.aload_n 0, 1) := dk_42 (dk_at dksX3_init_0 0 rfl rfl)
theorem dX3_init_1 : decode cX3_init 1 = .ok (.invokespecial 3, 3) := dk_183 0 3 (dk_at dksX3_init_0 1 rfl rfl)
theorem dX3_init_4 : decode cX3_init 4 = .ok (.aload_n 0, 1) := dk_42 (dk_at dksX3_init_0 4 rfl rfl)
theorem dX3_init_5 : decode cX3_init 5 = .ok (.new 9, 3) := dk_187 0 9 (dk_at dksX3_init_0 5 rfl rfl)
theorem dX3_init_8 : decode cX3_init 8 = .ok (.dup, 1) := dk_89 (dk_at dksX3_init_0 8 rfl rfl)
theorem dX3_init_9 : decode cX3_init 9 = .ok (.invokespecial 11, 3) := dk_183 0 11 (dk_at dksX3_init_0 9 rfl rfl)
theorem dX3_init_12 : decode cX3_init 12 = .ok (.putfield 12, 3) := dk_181 0 12 (dk_at dksX3_init_0 12 rfl rfl)
theorem dX3_init_15 : decode cX3_init 15 = .ok (.aload_n 0, 1) := dk_42 (dk_at dksX3_init_0 15 rfl rfl)
theorem dX3_init_16 : decode cX3_init 16 = .ok (.aload_n 1, 1) := dk_43 (dk_at dksX3_init_0 16 rfl rfl)
theorem dX3_init_17 : decode cX3_init 17 = .ok (.putfield 18, 3) := dk_181 0 18 (dk_at dksX3_init_0 17 rfl rfl)
theorem dX3_init_20 : decode cX3_init 20 = .ok (.return_, 1) := dk_177 (dk_at dksX3_init_0 20 rfl rfl)
abbrev cX3_read : ByteArray := prog_8_method_7_code
def yX3_read : MethodName := ⟨RX3, "read", "()LDimensionLines$Drawing;"⟩
def dkwX3_read_7 : List UInt8 := [42, 180, 0, 12, 176]
abbrev dktX3_read_7 : List UInt8 := dkwX3_read_7 ++ []
def dkwX3_read_6 : List UInt8 := [42, 180, 0, 22, 182, 0, 52, 42, 89, 180, 0, 22, 4, 96, 181, 0, 22, 42, 182, 0, 85, 167, 255, 188]
abbrev dktX3_read_6 : List UInt8 := dkwX3_read_6 ++ dktX3_read_7
def dkwX3_read_5 : List UInt8 := [160, 0, 22, 42, 180, 0, 12, 180, 0, 82, 182, 0, 64, 16, 16, 162, 0, 7, 4, 167, 0, 4, 3, 4]
abbrev dktX3_read_5 : List UInt8 := dkwX3_read_5 ++ dktX3_read_6
def dkwX3_read_4 : List UInt8 := [180, 0, 22, 42, 180, 0, 18, 185, 0, 26, 1, 0, 162, 0, 58, 42, 42, 182, 0, 36, 16, 59]
abbrev dktX3_read_4 : List UInt8 := dkwX3_read_4 ++ dktX3_read_5
def dkwX3_read_3 : List UInt8 := [187, 0, 73, 89, 27, 183, 0, 75, 182, 0, 78, 87, 42, 16, 44, 182, 0, 56, 154, 255, 188, 42]
abbrev dktX3_read_3 : List UInt8 := dkwX3_read_3 ++ dktX3_read_4
def dkwX3_read_2 : List UInt8 := [182, 0, 52, 42, 6, 27, 4, 96, 17, 1, 44, 182, 0, 69, 60, 42, 180, 0, 12, 180, 0, 60]
abbrev dktX3_read_2 : List UInt8 := dkwX3_read_2 ++ dktX3_read_3
def dkwX3_read_1 : List UInt8 := [180, 0, 60, 182, 0, 64, 16, 12, 162, 0, 7, 4, 167, 0, 4, 3, 4, 42, 180, 0, 22, 4, 100]
abbrev dktX3_read_1 : List UInt8 := dkwX3_read_1 ++ dktX3_read_2
def dkwX3_read_0 : List UInt8 := [42, 42, 16, 112, 182, 0, 56, 4, 42, 180, 0, 22, 182, 0, 52, 2, 60, 42, 42, 180, 0, 12]
abbrev dktX3_read_0 : List UInt8 := dkwX3_read_0 ++ dktX3_read_1
theorem dksX3_read_0 : cX3_read.data.toList.drop 0 = dktX3_read_0 := by decide +kernel
theorem dksX3_read_1 : cX3_read.data.toList.drop 22 = dktX3_read_1 := dk_seg dksX3_read_0 22 rfl rfl
theorem dksX3_read_2 : cX3_read.data.toList.drop 45 = dktX3_read_2 := dk_seg dksX3_read_1 23 rfl rfl
theorem dksX3_read_3 : cX3_read.data.toList.drop 67 = dktX3_read_3 := dk_seg dksX3_read_2 22 rfl rfl
theorem dksX3_read_4 : cX3_read.data.toList.drop 89 = dktX3_read_4 := dk_seg dksX3_read_3 22 rfl rfl
theorem dksX3_read_5 : cX3_read.data.toList.drop 111 = dktX3_read_5 := dk_seg dksX3_read_4 22 rfl rfl
theorem dksX3_read_6 : cX3_read.data.toList.drop 135 = dktX3_read_6 := dk_seg dksX3_read_5 24 rfl rfl
theorem dksX3_read_7 : cX3_read.data.toList.drop 159 = dktX3_read_7 := dk_seg dksX3_read_6 24 rfl rfl
theorem dX3_read_0 : decode cX3_read 0 = .ok (.aload_n 0, 1) := dk_42 (dk_at dksX3_read_0 0 rfl rfl)
theorem dX3_read_1 : decode cX3_read 1 = .ok (.aload_n 0, 1) := dk_42 (dk_at dksX3_read_0 1 rfl rfl)
theorem dX3_read_2 : decode cX3_read 2 = .ok (.bipush 112, 2) := dk_16 112 (dk_at dksX3_read_0 2 rfl rfl)
theorem dX3_read_4 : decode cX3_read 4 = .ok (.invokevirtual 56, 3) := dk_182 0 56 (dk_at dksX3_read_0 4 rfl rfl)
theorem dX3_read_7 : decode cX3_read 7 = .ok (.iconst 1, 1) := dk_4 (dk_at dksX3_read_0 7 rfl rfl)
theorem dX3_read_8 : decode cX3_read 8 = .ok (.aload_n 0, 1) := dk_42 (dk_at dksX3_read_0 8 rfl rfl)
theorem dX3_read_9 : decode cX3_read 9 = .ok (.getfield 22, 3) := dk_180 0 22 (dk_at dksX3_read_0 9 rfl rfl)
theorem dX3_read_12 : decode cX3_read 12 = .ok (.invokevirtual 52, 3) := dk_182 0 52 (dk_at dksX3_read_0 12 rfl rfl)
theorem dX3_read_15 : decode cX3_read 15 = .ok (.iconst (-1), 1) := dk_2 (dk_at dksX3_read_0 15 rfl rfl)
theorem dX3_read_16 : decode cX3_read 16 = .ok (.istore_n 1, 1) := dk_60 (dk_at dksX3_read_0 16 rfl rfl)
theorem dX3_read_17 : decode cX3_read 17 = .ok (.aload_n 0, 1) := dk_42 (dk_at dksX3_read_0 17 rfl rfl)
theorem dX3_read_18 : decode cX3_read 18 = .ok (.aload_n 0, 1) := dk_42 (dk_at dksX3_read_0 18 rfl rfl)
theorem dX3_read_19 : decode cX3_read 19 = .ok (.getfield 12, 3) := dk_180 0 12 (dk_at dksX3_read_0 19 rfl rfl)
theorem dX3_read_22 : decode cX3_read 22 = .ok (.getfield 60, 3) := dk_180 0 60 (dk_at dksX3_read_1 0 rfl rfl)
theorem dX3_read_25 : decode cX3_read 25 = .ok (.invokevirtual 64, 3) := dk_182 0 64 (dk_at dksX3_read_1 3 rfl rfl)
theorem dX3_read_28 : decode cX3_read 28 = .ok (.bipush 12, 2) := dk_16 12 (dk_at dksX3_read_1 6 rfl rfl)
theorem dX3_read_30 : decode cX3_read 30 = .ok (.if_icmp .ge 7, 3) := dk_162 0 7 (dk_at dksX3_read_1 8 rfl rfl)
theorem dX3_read_33 : decode cX3_read 33 = .ok (.iconst 1, 1) := dk_4 (dk_at dksX3_read_1 11 rfl rfl)
theorem dX3_read_34 : decode cX3_read 34 = .ok (.goto 4, 3) := dk_167 0 4 (dk_at dksX3_read_1 12 rfl rfl)
theorem dX3_read_37 : decode cX3_read 37 = .ok (.iconst 0, 1) := dk_3 (dk_at dksX3_read_1 15 rfl rfl)
theorem dX3_read_38 : decode cX3_read 38 = .ok (.iconst 1, 1) := dk_4 (dk_at dksX3_read_1 16 rfl rfl)
theorem dX3_read_39 : decode cX3_read 39 = .ok (.aload_n 0, 1) := dk_42 (dk_at dksX3_read_1 17 rfl rfl)
theorem dX3_read_40 : decode cX3_read 40 = .ok (.getfield 22, 3) := dk_180 0 22 (dk_at dksX3_read_1 18 rfl rfl)
theorem dX3_read_43 : decode cX3_read 43 = .ok (.iconst 1, 1) := dk_4 (dk_at dksX3_read_1 21 rfl rfl)
theorem dX3_read_44 : decode cX3_read 44 = .ok (.isub, 1) := dk_100 (dk_at dksX3_read_1 22 rfl rfl)
theorem dX3_read_45 : decode cX3_read 45 = .ok (.invokevirtual 52, 3) := dk_182 0 52 (dk_at dksX3_read_2 0 rfl rfl)
theorem dX3_read_48 : decode cX3_read 48 = .ok (.aload_n 0, 1) := dk_42 (dk_at dksX3_read_2 3 rfl rfl)
theorem dX3_read_49 : decode cX3_read 49 = .ok (.iconst 3, 1) := dk_6 (dk_at dksX3_read_2 4 rfl rfl)
theorem dX3_read_50 : decode cX3_read 50 = .ok (.iload_n 1, 1) := dk_27 (dk_at dksX3_read_2 5 rfl rfl)
theorem dX3_read_51 : decode cX3_read 51 = .ok (.iconst 1, 1) := dk_4 (dk_at dksX3_read_2 6 rfl rfl)
theorem dX3_read_52 : decode cX3_read 52 = .ok (.iadd, 1) := dk_96 (dk_at dksX3_read_2 7 rfl rfl)
theorem dX3_read_53 : decode cX3_read 53 = .ok (.sipush 300, 3) := dk_17 1 44 (dk_at dksX3_read_2 8 rfl rfl)
theorem dX3_read_56 : decode cX3_read 56 = .ok (.invokevirtual 69, 3) := dk_182 0 69 (dk_at dksX3_read_2 11 rfl rfl)
theorem dX3_read_59 : decode cX3_read 59 = .ok (.istore_n 1, 1) := dk_60 (dk_at dksX3_read_2 14 rfl rfl)
theorem dX3_read_60 : decode cX3_read 60 = .ok (.aload_n 0, 1) := dk_42 (dk_at dksX3_read_2 15 rfl rfl)
theorem dX3_read_61 : decode cX3_read 61 = .ok (.getfield 12, 3) := dk_180 0 12 (dk_at dksX3_read_2 16 rfl rfl)
theorem dX3_read_64 : decode cX3_read 64 = .ok (.getfield 60, 3) := dk_180 0 60 (dk_at dksX3_read_2 19 rfl rfl)
theorem dX3_read_67 : decode cX3_read 67 = .ok (.new 73, 3) := dk_187 0 73 (dk_at dksX3_read_3 0 rfl rfl)
theorem dX3_read_70 : decode cX3_read 70 = .ok (.dup, 1) := dk_89 (dk_at dksX3_read_3 3 rfl rfl)
theorem dX3_read_71 : decode cX3_read 71 = .ok (.iload_n 1, 1) := dk_27 (dk_at dksX3_read_3 4 rfl rfl)
theorem dX3_read_72 : decode cX3_read 72 = .ok (.invokespecial 75, 3) := dk_183 0 75 (dk_at dksX3_read_3 5 rfl rfl)
theorem dX3_read_75 : decode cX3_read 75 = .ok (.invokevirtual 78, 3) := dk_182 0 78 (dk_at dksX3_read_3 8 rfl rfl)
theorem dX3_read_78 : decode cX3_read 78 = .ok (.pop, 1) := dk_87 (dk_at dksX3_read_3 11 rfl rfl)
theorem dX3_read_79 : decode cX3_read 79 = .ok (.aload_n 0, 1) := dk_42 (dk_at dksX3_read_3 12 rfl rfl)
theorem dX3_read_80 : decode cX3_read 80 = .ok (.bipush 44, 2) := dk_16 44 (dk_at dksX3_read_3 13 rfl rfl)
theorem dX3_read_82 : decode cX3_read 82 = .ok (.invokevirtual 56, 3) := dk_182 0 56 (dk_at dksX3_read_3 15 rfl rfl)
theorem dX3_read_85 : decode cX3_read 85 = .ok (.ifCond .ne (-68), 3) := dk_154 255 188 (dk_at dksX3_read_3 18 rfl rfl)
theorem dX3_read_88 : decode cX3_read 88 = .ok (.aload_n 0, 1) := dk_42 (dk_at dksX3_read_3 21 rfl rfl)
theorem dX3_read_89 : decode cX3_read 89 = .ok (.getfield 22, 3) := dk_180 0 22 (dk_at dksX3_read_4 0 rfl rfl)
theorem dX3_read_92 : decode cX3_read 92 = .ok (.aload_n 0, 1) := dk_42 (dk_at dksX3_read_4 3 rfl rfl)
theorem dX3_read_93 : decode cX3_read 93 = .ok (.getfield 18, 3) := dk_180 0 18 (dk_at dksX3_read_4 4 rfl rfl)
theorem dX3_read_96 : decode cX3_read 96 = .ok (.invokeinterface 26 1, 5) := by decide +kernel
theorem dX3_read_101 : decode cX3_read 101 = .ok (.if_icmp .ge 58, 3) := dk_162 0 58 (dk_at dksX3_read_4 12 rfl rfl)
theorem dX3_read_104 : decode cX3_read 104 = .ok (.aload_n 0, 1) := dk_42 (dk_at dksX3_read_4 15 rfl rfl)
theorem dX3_read_105 : decode cX3_read 105 = .ok (.aload_n 0, 1) := dk_42 (dk_at dksX3_read_4 16 rfl rfl)
theorem dX3_read_106 : decode cX3_read 106 = .ok (.invokevirtual 36, 3) := dk_182 0 36 (dk_at dksX3_read_4 17 rfl rfl)
theorem dX3_read_109 : decode cX3_read 109 = .ok (.bipush 59, 2) := dk_16 59 (dk_at dksX3_read_4 20 rfl rfl)
theorem dX3_read_111 : decode cX3_read 111 = .ok (.if_icmp .ne 22, 3) := dk_160 0 22 (dk_at dksX3_read_5 0 rfl rfl)
theorem dX3_read_114 : decode cX3_read 114 = .ok (.aload_n 0, 1) := dk_42 (dk_at dksX3_read_5 3 rfl rfl)
theorem dX3_read_115 : decode cX3_read 115 = .ok (.getfield 12, 3) := dk_180 0 12 (dk_at dksX3_read_5 4 rfl rfl)
theorem dX3_read_118 : decode cX3_read 118 = .ok (.getfield 82, 3) := dk_180 0 82 (dk_at dksX3_read_5 7 rfl rfl)
theorem dX3_read_121 : decode cX3_read 121 = .ok (.invokevirtual 64, 3) := dk_182 0 64 (dk_at dksX3_read_5 10 rfl rfl)
theorem dX3_read_124 : decode cX3_read 124 = .ok (.bipush 16, 2) := dk_16 16 (dk_at dksX3_read_5 13 rfl rfl)
theorem dX3_read_126 : decode cX3_read 126 = .ok (.if_icmp .ge 7, 3) := dk_162 0 7 (dk_at dksX3_read_5 15 rfl rfl)
theorem dX3_read_129 : decode cX3_read 129 = .ok (.iconst 1, 1) := dk_4 (dk_at dksX3_read_5 18 rfl rfl)
theorem dX3_read_130 : decode cX3_read 130 = .ok (.goto 4, 3) := dk_167 0 4 (dk_at dksX3_read_5 19 rfl rfl)
theorem dX3_read_133 : decode cX3_read 133 = .ok (.iconst 0, 1) := dk_3 (dk_at dksX3_read_5 22 rfl rfl)
theorem dX3_read_134 : decode cX3_read 134 = .ok (.iconst 1, 1) := dk_4 (dk_at dksX3_read_5 23 rfl rfl)
theorem dX3_read_135 : decode cX3_read 135 = .ok (.aload_n 0, 1) := dk_42 (dk_at dksX3_read_6 0 rfl rfl)
theorem dX3_read_136 : decode cX3_read 136 = .ok (.getfield 22, 3) := dk_180 0 22 (dk_at dksX3_read_6 1 rfl rfl)
theorem dX3_read_139 : decode cX3_read 139 = .ok (.invokevirtual 52, 3) := dk_182 0 52 (dk_at dksX3_read_6 4 rfl rfl)
theorem dX3_read_142 : decode cX3_read 142 = .ok (.aload_n 0, 1) := dk_42 (dk_at dksX3_read_6 7 rfl rfl)
theorem dX3_read_143 : decode cX3_read 143 = .ok (.dup, 1) := dk_89 (dk_at dksX3_read_6 8 rfl rfl)
theorem dX3_read_144 : decode cX3_read 144 = .ok (.getfield 22, 3) := dk_180 0 22 (dk_at dksX3_read_6 9 rfl rfl)
theorem dX3_read_147 : decode cX3_read 147 = .ok (.iconst 1, 1) := dk_4 (dk_at dksX3_read_6 12 rfl rfl)
theorem dX3_read_148 : decode cX3_read 148 = .ok (.iadd, 1) := dk_96 (dk_at dksX3_read_6 13 rfl rfl)
theorem dX3_read_149 : decode cX3_read 149 = .ok (.putfield 22, 3) := dk_181 0 22 (dk_at dksX3_read_6 14 rfl rfl)
theorem dX3_read_152 : decode cX3_read 152 = .ok (.aload_n 0, 1) := dk_42 (dk_at dksX3_read_6 17 rfl rfl)
theorem dX3_read_153 : decode cX3_read 153 = .ok (.invokevirtual 85, 3) := dk_182 0 85 (dk_at dksX3_read_6 18 rfl rfl)
theorem dX3_read_156 : decode cX3_read 156 = .ok (.goto (-68), 3) := dk_167 255 188 (dk_at dksX3_read_6 21 rfl rfl)
theorem dX3_read_159 : decode cX3_read 159 = .ok (.aload_n 0, 1) := dk_42 (dk_at dksX3_read_7 0 rfl rfl)
theorem dX3_read_160 : decode cX3_read 160 = .ok (.getfield 12, 3) := dk_180 0 12 (dk_at dksX3_read_7 1 rfl rfl)
theorem dX3_read_163 : decode cX3_read 163 = .ok (.areturn, 1) := dk_176 (dk_at dksX3_read_7 4 rfl rfl)
abbrev cX3_takes : ByteArray := prog_8_method_5_code
def yX3_takes : MethodName := ⟨RX3, "takes", "(I)Z"⟩
def dkwX3_takes_1 : List UInt8 := [167, 0, 4, 3, 96, 181, 0, 22, 28, 172]
abbrev dktX3_takes_1 : List UInt8 := dkwX3_takes_1 ++ []
def dkwX3_takes_0 : List UInt8 := [42, 182, 0, 36, 27, 160, 0, 7, 4, 167, 0, 4, 3, 61, 42, 89, 180, 0, 22, 28, 153, 0, 7, 4]
abbrev dktX3_takes_0 : List UInt8 := dkwX3_takes_0 ++ dktX3_takes_1
theorem dksX3_takes_0 : cX3_takes.data.toList.drop 0 = dktX3_takes_0 := by decide +kernel
theorem dksX3_takes_1 : cX3_takes.data.toList.drop 24 = dktX3_takes_1 := dk_seg dksX3_takes_0 24 rfl rfl
theorem dX3_takes_0 : decode cX3_takes 0 = .ok (.aload_n 0, 1) := dk_42 (dk_at dksX3_takes_0 0 rfl rfl)
theorem dX3_takes_1 : decode cX3_takes 1 = .ok (.invokevirtual 36, 3) := dk_182 0 36 (dk_at dksX3_takes_0 1 rfl rfl)
theorem dX3_takes_4 : decode cX3_takes 4 = .ok (.iload_n 1, 1) := dk_27 (dk_at dksX3_takes_0 4 rfl rfl)
theorem dX3_takes_5 : decode cX3_takes 5 = .ok (.if_icmp .ne 7, 3) := dk_160 0 7 (dk_at dksX3_takes_0 5 rfl rfl)
theorem dX3_takes_8 : decode cX3_takes 8 = .ok (.iconst 1, 1) := dk_4 (dk_at dksX3_takes_0 8 rfl rfl)
theorem dX3_takes_9 : decode cX3_takes 9 = .ok (.goto 4, 3) := dk_167 0 4 (dk_at dksX3_takes_0 9 rfl rfl)
theorem dX3_takes_12 : decode cX3_takes 12 = .ok (.iconst 0, 1) := dk_3 (dk_at dksX3_takes_0 12 rfl rfl)
theorem dX3_takes_13 : decode cX3_takes 13 = .ok (.istore_n 2, 1) := dk_61 (dk_at dksX3_takes_0 13 rfl rfl)
theorem dX3_takes_14 : decode cX3_takes 14 = .ok (.aload_n 0, 1) := dk_42 (dk_at dksX3_takes_0 14 rfl rfl)
theorem dX3_takes_15 : decode cX3_takes 15 = .ok (.dup, 1) := dk_89 (dk_at dksX3_takes_0 15 rfl rfl)
theorem dX3_takes_16 : decode cX3_takes 16 = .ok (.getfield 22, 3) := dk_180 0 22 (dk_at dksX3_takes_0 16 rfl rfl)
theorem dX3_takes_19 : decode cX3_takes 19 = .ok (.iload_n 2, 1) := dk_28 (dk_at dksX3_takes_0 19 rfl rfl)
theorem dX3_takes_20 : decode cX3_takes 20 = .ok (.ifCond .eq 7, 3) := dk_153 0 7 (dk_at dksX3_takes_0 20 rfl rfl)
theorem dX3_takes_23 : decode cX3_takes 23 = .ok (.iconst 1, 1) := dk_4 (dk_at dksX3_takes_0 23 rfl rfl)
theorem dX3_takes_24 : decode cX3_takes 24 = .ok (.goto 4, 3) := dk_167 0 4 (dk_at dksX3_takes_1 0 rfl rfl)
theorem dX3_takes_27 : decode cX3_takes 27 = .ok (.iconst 0, 1) := dk_3 (dk_at dksX3_takes_1 3 rfl rfl)
theorem dX3_takes_28 : decode cX3_takes 28 = .ok (.iadd, 1) := dk_96 (dk_at dksX3_takes_1 4 rfl rfl)
theorem dX3_takes_29 : decode cX3_takes 29 = .ok (.putfield 22, 3) := dk_181 0 22 (dk_at dksX3_takes_1 5 rfl rfl)
theorem dX3_takes_32 : decode cX3_takes 32 = .ok (.iload_n 2, 1) := dk_28 (dk_at dksX3_takes_1 8 rfl rfl)
theorem dX3_takes_33 : decode cX3_takes 33 = .ok (.ireturn, 1) := dk_172 (dk_at dksX3_takes_1 9 rfl rfl)
abbrev cX3_here : ByteArray := prog_8_method_2_code
def yX3_here : MethodName := ⟨RX3, "here", "()I"⟩
def dkwX3_here_1 : List UInt8 := [185, 0, 32, 2, 0, 167, 0, 6, 17, 252, 25, 172]
abbrev dktX3_here_1 : List UInt8 := dkwX3_here_1 ++ []
def dkwX3_here_0 : List UInt8 := [42, 180, 0, 22, 42, 180, 0, 18, 185, 0, 26, 1, 0, 162, 0, 19, 42, 180, 0, 18, 42, 180, 0, 22]
abbrev dktX3_here_0 : List UInt8 := dkwX3_here_0 ++ dktX3_here_1
theorem dksX3_here_0 : cX3_here.data.toList.drop 0 = dktX3_here_0 := by decide +kernel
theorem dksX3_here_1 : cX3_here.data.toList.drop 24 = dktX3_here_1 := dk_seg dksX3_here_0 24 rfl rfl
theorem dX3_here_0 : decode cX3_here 0 = .ok (.aload_n 0, 1) := dk_42 (dk_at dksX3_here_0 0 rfl rfl)
theorem dX3_here_1 : decode cX3_here 1 = .ok (.getfield 22, 3) := dk_180 0 22 (dk_at dksX3_here_0 1 rfl rfl)
theorem dX3_here_4 : decode cX3_here 4 = .ok (.aload_n 0, 1) := dk_42 (dk_at dksX3_here_0 4 rfl rfl)
theorem dX3_here_5 : decode cX3_here 5 = .ok (.getfield 18, 3) := dk_180 0 18 (dk_at dksX3_here_0 5 rfl rfl)
theorem dX3_here_8 : decode cX3_here 8 = .ok (.invokeinterface 26 1, 5) := by decide +kernel
theorem dX3_here_13 : decode cX3_here 13 = .ok (.if_icmp .ge 19, 3) := dk_162 0 19 (dk_at dksX3_here_0 13 rfl rfl)
theorem dX3_here_16 : decode cX3_here 16 = .ok (.aload_n 0, 1) := dk_42 (dk_at dksX3_here_0 16 rfl rfl)
theorem dX3_here_17 : decode cX3_here 17 = .ok (.getfield 18, 3) := dk_180 0 18 (dk_at dksX3_here_0 17 rfl rfl)
theorem dX3_here_20 : decode cX3_here 20 = .ok (.aload_n 0, 1) := dk_42 (dk_at dksX3_here_0 20 rfl rfl)
theorem dX3_here_21 : decode cX3_here 21 = .ok (.getfield 22, 3) := dk_180 0 22 (dk_at dksX3_here_0 21 rfl rfl)
theorem dX3_here_24 : decode cX3_here 24 = .ok (.invokeinterface 32 2, 5) := by decide +kernel
theorem dX3_here_29 : decode cX3_here 29 = .ok (.goto 6, 3) := dk_167 0 6 (dk_at dksX3_here_1 5 rfl rfl)
theorem dX3_here_32 : decode cX3_here 32 = .ok (.sipush (-999), 3) := dk_17 252 25 (dk_at dksX3_here_1 8 rfl rfl)
theorem dX3_here_35 : decode cX3_here 35 = .ok (.ireturn, 1) := dk_172 (dk_at dksX3_here_1 11 rfl rfl)
abbrev cX3_require : ByteArray := prog_8_method_4_code
def yX3_require : MethodName := ⟨RX3, "require", "(ZII)V"⟩
def dkwX3_require_0 : List UInt8 := [27, 154, 0, 13, 187, 0, 43, 89, 28, 29, 183, 0, 45, 191, 177]
abbrev dktX3_require_0 : List UInt8 := dkwX3_require_0 ++ []
theorem dksX3_require_0 : cX3_require.data.toList.drop 0 = dktX3_require_0 := by decide +kernel
theorem dX3_require_0 : decode cX3_require 0 = .ok (.iload_n 1, 1) := dk_27 (dk_at dksX3_require_0 0 rfl rfl)
theorem dX3_require_1 : decode cX3_require 1 = .ok (.ifCond .ne 13, 3) := dk_154 0 13 (dk_at dksX3_require_0 1 rfl rfl)
theorem dX3_require_4 : decode cX3_require 4 = .ok (.new 43, 3) := dk_187 0 43 (dk_at dksX3_require_0 4 rfl rfl)
theorem dX3_require_7 : decode cX3_require 7 = .ok (.dup, 1) := dk_89 (dk_at dksX3_require_0 7 rfl rfl)
theorem dX3_require_8 : decode cX3_require 8 = .ok (.iload_n 2, 1) := dk_28 (dk_at dksX3_require_0 8 rfl rfl)
theorem dX3_require_9 : decode cX3_require 9 = .ok (.iload_n 3, 1) := dk_29 (dk_at dksX3_require_0 9 rfl rfl)
theorem dX3_require_10 : decode cX3_require 10 = .ok (.invokespecial 45, 3) := dk_183 0 45 (dk_at dksX3_require_0 10 rfl rfl)
theorem dX3_require_13 : decode cX3_require 13 = .ok (.athrow, 1) := dk_191 (dk_at dksX3_require_0 13 rfl rfl)
theorem dX3_require_14 : decode cX3_require 14 = .ok (.return_, 1) := dk_177 (dk_at dksX3_require_0 14 rfl rfl)
abbrev cX3_number : ByteArray := prog_8_method_6_code
def yX3_number : MethodName := ⟨RX3, "number", "(III)I"⟩
def dkwX3_number_4 : List UInt8 := [182, 0, 52, 21, 5, 172]
abbrev dktX3_number_4 : List UInt8 := dkwX3_number_4 ++ []
def dkwX3_number_3 : List UInt8 := [180, 0, 22, 4, 96, 181, 0, 22, 167, 255, 199, 42, 21, 5, 28, 29, 184, 0, 39, 5, 21, 4]
abbrev dktX3_number_3 : List UInt8 := dkwX3_number_3 ++ dktX3_number_4
def dkwX3_number_2 : List UInt8 := [42, 180, 0, 22, 182, 0, 52, 16, 10, 21, 5, 104, 42, 182, 0, 36, 96, 16, 48, 100, 54, 5, 42, 89]
abbrev dktX3_number_2 : List UInt8 := dkwX3_number_2 ++ dktX3_number_3
def dkwX3_number_1 : List UInt8 := [182, 0, 48, 153, 0, 56, 42, 42, 180, 0, 22, 21, 4, 100, 27, 162, 0, 7, 4, 167, 0, 4, 3, 4]
abbrev dktX3_number_1 : List UInt8 := dkwX3_number_1 ++ dktX3_number_2
def dkwX3_number_0 : List UInt8 := [42, 180, 0, 22, 54, 4, 3, 54, 5, 42, 42, 182, 0, 48, 4, 42, 180, 0, 22, 182, 0, 52, 42]
abbrev dktX3_number_0 : List UInt8 := dkwX3_number_0 ++ dktX3_number_1
theorem dksX3_number_0 : cX3_number.data.toList.drop 0 = dktX3_number_0 := by decide +kernel
theorem dksX3_number_1 : cX3_number.data.toList.drop 23 = dktX3_number_1 := dk_seg dksX3_number_0 23 rfl rfl
theorem dksX3_number_2 : cX3_number.data.toList.drop 47 = dktX3_number_2 := dk_seg dksX3_number_1 24 rfl rfl
theorem dksX3_number_3 : cX3_number.data.toList.drop 71 = dktX3_number_3 := dk_seg dksX3_number_2 24 rfl rfl
theorem dksX3_number_4 : cX3_number.data.toList.drop 93 = dktX3_number_4 := dk_seg dksX3_number_3 22 rfl rfl
theorem dX3_number_0 : decode cX3_number 0 = .ok (.aload_n 0, 1) := dk_42 (dk_at dksX3_number_0 0 rfl rfl)
theorem dX3_number_1 : decode cX3_number 1 = .ok (.getfield 22, 3) := dk_180 0 22 (dk_at dksX3_number_0 1 rfl rfl)
theorem dX3_number_4 : decode cX3_number 4 = .ok (.istore 4, 2) := dk_54 4 (dk_at dksX3_number_0 4 rfl rfl)
theorem dX3_number_6 : decode cX3_number 6 = .ok (.iconst 0, 1) := dk_3 (dk_at dksX3_number_0 6 rfl rfl)
theorem dX3_number_7 : decode cX3_number 7 = .ok (.istore 5, 2) := dk_54 5 (dk_at dksX3_number_0 7 rfl rfl)
theorem dX3_number_9 : decode cX3_number 9 = .ok (.aload_n 0, 1) := dk_42 (dk_at dksX3_number_0 9 rfl rfl)
theorem dX3_number_10 : decode cX3_number 10 = .ok (.aload_n 0, 1) := dk_42 (dk_at dksX3_number_0 10 rfl rfl)
theorem dX3_number_11 : decode cX3_number 11 = .ok (.invokevirtual 48, 3) := dk_182 0 48 (dk_at dksX3_number_0 11 rfl rfl)
theorem dX3_number_14 : decode cX3_number 14 = .ok (.iconst 1, 1) := dk_4 (dk_at dksX3_number_0 14 rfl rfl)
theorem dX3_number_15 : decode cX3_number 15 = .ok (.aload_n 0, 1) := dk_42 (dk_at dksX3_number_0 15 rfl rfl)
theorem dX3_number_16 : decode cX3_number 16 = .ok (.getfield 22, 3) := dk_180 0 22 (dk_at dksX3_number_0 16 rfl rfl)
theorem dX3_number_19 : decode cX3_number 19 = .ok (.invokevirtual 52, 3) := dk_182 0 52 (dk_at dksX3_number_0 19 rfl rfl)
theorem dX3_number_22 : decode cX3_number 22 = .ok (.aload_n 0, 1) := dk_42 (dk_at dksX3_number_0 22 rfl rfl)
theorem dX3_number_23 : decode cX3_number 23 = .ok (.invokevirtual 48, 3) := dk_182 0 48 (dk_at dksX3_number_1 0 rfl rfl)
theorem dX3_number_26 : decode cX3_number 26 = .ok (.ifCond .eq 56, 3) := dk_153 0 56 (dk_at dksX3_number_1 3 rfl rfl)
theorem dX3_number_29 : decode cX3_number 29 = .ok (.aload_n 0, 1) := dk_42 (dk_at dksX3_number_1 6 rfl rfl)
theorem dX3_number_30 : decode cX3_number 30 = .ok (.aload_n 0, 1) := dk_42 (dk_at dksX3_number_1 7 rfl rfl)
theorem dX3_number_31 : decode cX3_number 31 = .ok (.getfield 22, 3) := dk_180 0 22 (dk_at dksX3_number_1 8 rfl rfl)
theorem dX3_number_34 : decode cX3_number 34 = .ok (.iload 4, 2) := dk_21 4 (dk_at dksX3_number_1 11 rfl rfl)
theorem dX3_number_36 : decode cX3_number 36 = .ok (.isub, 1) := dk_100 (dk_at dksX3_number_1 13 rfl rfl)
theorem dX3_number_37 : decode cX3_number 37 = .ok (.iload_n 1, 1) := dk_27 (dk_at dksX3_number_1 14 rfl rfl)
theorem dX3_number_38 : decode cX3_number 38 = .ok (.if_icmp .ge 7, 3) := dk_162 0 7 (dk_at dksX3_number_1 15 rfl rfl)
theorem dX3_number_41 : decode cX3_number 41 = .ok (.iconst 1, 1) := dk_4 (dk_at dksX3_number_1 18 rfl rfl)
theorem dX3_number_42 : decode cX3_number 42 = .ok (.goto 4, 3) := dk_167 0 4 (dk_at dksX3_number_1 19 rfl rfl)
theorem dX3_number_45 : decode cX3_number 45 = .ok (.iconst 0, 1) := dk_3 (dk_at dksX3_number_1 22 rfl rfl)
theorem dX3_number_46 : decode cX3_number 46 = .ok (.iconst 1, 1) := dk_4 (dk_at dksX3_number_1 23 rfl rfl)
theorem dX3_number_47 : decode cX3_number 47 = .ok (.aload_n 0, 1) := dk_42 (dk_at dksX3_number_2 0 rfl rfl)
theorem dX3_number_48 : decode cX3_number 48 = .ok (.getfield 22, 3) := dk_180 0 22 (dk_at dksX3_number_2 1 rfl rfl)
theorem dX3_number_51 : decode cX3_number 51 = .ok (.invokevirtual 52, 3) := dk_182 0 52 (dk_at dksX3_number_2 4 rfl rfl)
theorem dX3_number_54 : decode cX3_number 54 = .ok (.bipush 10, 2) := dk_16 10 (dk_at dksX3_number_2 7 rfl rfl)
theorem dX3_number_56 : decode cX3_number 56 = .ok (.iload 5, 2) := dk_21 5 (dk_at dksX3_number_2 9 rfl rfl)
theorem dX3_number_58 : decode cX3_number 58 = .ok (.imul, 1) := dk_104 (dk_at dksX3_number_2 11 rfl rfl)
theorem dX3_number_59 : decode cX3_number 59 = .ok (.aload_n 0, 1) := dk_42 (dk_at dksX3_number_2 12 rfl rfl)
theorem dX3_number_60 : decode cX3_number 60 = .ok (.invokevirtual 36, 3) := dk_182 0 36 (dk_at dksX3_number_2 13 rfl rfl)
theorem dX3_number_63 : decode cX3_number 63 = .ok (.iadd, 1) := dk_96 (dk_at dksX3_number_2 16 rfl rfl)
theorem dX3_number_64 : decode cX3_number 64 = .ok (.bipush 48, 2) := dk_16 48 (dk_at dksX3_number_2 17 rfl rfl)
theorem dX3_number_66 : decode cX3_number 66 = .ok (.isub, 1) := dk_100 (dk_at dksX3_number_2 19 rfl rfl)
theorem dX3_number_67 : decode cX3_number 67 = .ok (.istore 5, 2) := dk_54 5 (dk_at dksX3_number_2 20 rfl rfl)
theorem dX3_number_69 : decode cX3_number 69 = .ok (.aload_n 0, 1) := dk_42 (dk_at dksX3_number_2 22 rfl rfl)
theorem dX3_number_70 : decode cX3_number 70 = .ok (.dup, 1) := dk_89 (dk_at dksX3_number_2 23 rfl rfl)
theorem dX3_number_71 : decode cX3_number 71 = .ok (.getfield 22, 3) := dk_180 0 22 (dk_at dksX3_number_3 0 rfl rfl)
theorem dX3_number_74 : decode cX3_number 74 = .ok (.iconst 1, 1) := dk_4 (dk_at dksX3_number_3 3 rfl rfl)
theorem dX3_number_75 : decode cX3_number 75 = .ok (.iadd, 1) := dk_96 (dk_at dksX3_number_3 4 rfl rfl)
theorem dX3_number_76 : decode cX3_number 76 = .ok (.putfield 22, 3) := dk_181 0 22 (dk_at dksX3_number_3 5 rfl rfl)
theorem dX3_number_79 : decode cX3_number 79 = .ok (.goto (-57), 3) := dk_167 255 199 (dk_at dksX3_number_3 8 rfl rfl)
theorem dX3_number_82 : decode cX3_number 82 = .ok (.aload_n 0, 1) := dk_42 (dk_at dksX3_number_3 11 rfl rfl)
theorem dX3_number_83 : decode cX3_number 83 = .ok (.iload 5, 2) := dk_21 5 (dk_at dksX3_number_3 12 rfl rfl)
theorem dX3_number_85 : decode cX3_number 85 = .ok (.iload_n 2, 1) := dk_28 (dk_at dksX3_number_3 14 rfl rfl)
theorem dX3_number_86 : decode cX3_number 86 = .ok (.iload_n 3, 1) := dk_29 (dk_at dksX3_number_3 15 rfl rfl)
theorem dX3_number_87 : decode cX3_number 87 = .ok (.invokestatic 39, 3) := dk_184 0 39 (dk_at dksX3_number_3 16 rfl rfl)
theorem dX3_number_90 : decode cX3_number 90 = .ok (.iconst 2, 1) := dk_5 (dk_at dksX3_number_3 19 rfl rfl)
theorem dX3_number_91 : decode cX3_number 91 = .ok (.iload 4, 2) := dk_21 4 (dk_at dksX3_number_3 20 rfl rfl)
theorem dX3_number_93 : decode cX3_number 93 = .ok (.invokevirtual 52, 3) := dk_182 0 52 (dk_at dksX3_number_4 0 rfl rfl)
theorem dX3_number_96 : decode cX3_number 96 = .ok (.iload 5, 2) := dk_21 5 (dk_at dksX3_number_4 3 rfl rfl)
theorem dX3_number_98 : decode cX3_number 98 = .ok (.ireturn, 1) := dk_172 (dk_at dksX3_number_4 5 rfl rfl)
abbrev cX3_isDigit : ByteArray := prog_8_method_3_code
def yX3_isDigit : MethodName := ⟨RX3, "isDigit", "()Z"⟩
def dkwX3_isDigit_0 : List UInt8 := [42, 182, 0, 36, 16, 48, 16, 57, 184, 0, 39, 172]
abbrev dktX3_isDigit_0 : List UInt8 := dkwX3_isDigit_0 ++ []
theorem dksX3_isDigit_0 : cX3_isDigit.data.toList.drop 0 = dktX3_isDigit_0 := by decide +kernel
theorem dX3_isDigit_0 : decode cX3_isDigit 0 = .ok (.aload_n 0, 1) := dk_42 (dk_at dksX3_isDigit_0 0 rfl rfl)
theorem dX3_isDigit_1 : decode cX3_isDigit 1 = .ok (.invokevirtual 36, 3) := dk_182 0 36 (dk_at dksX3_isDigit_0 1 rfl rfl)
theorem dX3_isDigit_4 : decode cX3_isDigit 4 = .ok (.bipush 48, 2) := dk_16 48 (dk_at dksX3_isDigit_0 4 rfl rfl)
theorem dX3_isDigit_6 : decode cX3_isDigit 6 = .ok (.bipush 57, 2) := dk_16 57 (dk_at dksX3_isDigit_0 6 rfl rfl)
theorem dX3_isDigit_8 : decode cX3_isDigit 8 = .ok (.invokestatic 39, 3) := dk_184 0 39 (dk_at dksX3_isDigit_0 8 rfl rfl)
theorem dX3_isDigit_11 : decode cX3_isDigit 11 = .ok (.ireturn, 1) := dk_172 (dk_at dksX3_isDigit_0 11 rfl rfl)
abbrev cX3_dimension : ByteArray := prog_8_method_8_code
def yX3_dimension : MethodName := ⟨RX3, "dimension", "()V"⟩
def dkwX3_dimension_7 : List UInt8 := [181, 0, 109, 42, 180, 0, 12, 180, 0, 82, 25, 4, 182, 0, 78, 87, 177]
abbrev dktX3_dimension_7 : List UInt8 := dkwX3_dimension_7 ++ []
def dkwX3_dimension_6 : List UInt8 := [25, 4, 42, 16, 99, 182, 0, 56, 153, 0, 13, 42, 4, 3, 8, 182, 0, 69, 167, 0, 4, 3]
abbrev dktX3_dimension_6 : List UInt8 := dkwX3_dimension_6 ++ dktX3_dimension_7
def dkwX3_dimension_5 : List UInt8 := [16, 45, 182, 0, 56, 153, 0, 14, 42, 5, 3, 16, 20, 182, 0, 69, 167, 0, 4, 3, 181, 0, 106]
abbrev dktX3_dimension_5 : List UInt8 := dkwX3_dimension_5 ++ dktX3_dimension_6
def dkwX3_dimension_4 : List UInt8 := [182, 0, 56, 153, 0, 14, 42, 5, 3, 16, 20, 182, 0, 69, 167, 0, 4, 3, 181, 0, 103, 25, 4, 42]
abbrev dktX3_dimension_4 : List UInt8 := dkwX3_dimension_4 ++ dktX3_dimension_5
def dkwX3_dimension_3 : List UInt8 := [180, 0, 12, 180, 0, 60, 29, 182, 0, 96, 192, 0, 73, 183, 0, 100, 58, 4, 25, 4, 42, 16, 43]
abbrev dktX3_dimension_3 : List UInt8 := dkwX3_dimension_3 ++ dktX3_dimension_4
def dkwX3_dimension_2 : List UInt8 := [27, 182, 0, 69, 62, 187, 0, 94, 89, 42, 180, 0, 12, 180, 0, 60, 28, 182, 0, 96, 192, 0, 73, 42]
abbrev dktX3_dimension_2 : List UInt8 := dkwX3_dimension_2 ++ dktX3_dimension_3
def dkwX3_dimension_1 : List UInt8 := [182, 0, 69, 61, 42, 42, 16, 45, 182, 0, 56, 4, 42, 180, 0, 22, 182, 0, 52, 42, 4, 28, 4, 96]
abbrev dktX3_dimension_1 : List UInt8 := dkwX3_dimension_1 ++ dktX3_dimension_2
def dkwX3_dimension_0 : List UInt8 := [16, 9, 42, 180, 0, 12, 180, 0, 60, 182, 0, 64, 4, 100, 184, 0, 88, 60, 42, 4, 3, 27]
abbrev dktX3_dimension_0 : List UInt8 := dkwX3_dimension_0 ++ dktX3_dimension_1
theorem dksX3_dimension_0 : cX3_dimension.data.toList.drop 0 = dktX3_dimension_0 := by decide +kernel
theorem dksX3_dimension_1 : cX3_dimension.data.toList.drop 22 = dktX3_dimension_1 := dk_seg dksX3_dimension_0 22 rfl rfl
theorem dksX3_dimension_2 : cX3_dimension.data.toList.drop 46 = dktX3_dimension_2 := dk_seg dksX3_dimension_1 24 rfl rfl
theorem dksX3_dimension_3 : cX3_dimension.data.toList.drop 70 = dktX3_dimension_3 := dk_seg dksX3_dimension_2 24 rfl rfl
theorem dksX3_dimension_4 : cX3_dimension.data.toList.drop 93 = dktX3_dimension_4 := dk_seg dksX3_dimension_3 23 rfl rfl
theorem dksX3_dimension_5 : cX3_dimension.data.toList.drop 117 = dktX3_dimension_5 := dk_seg dksX3_dimension_4 24 rfl rfl
theorem dksX3_dimension_6 : cX3_dimension.data.toList.drop 140 = dktX3_dimension_6 := dk_seg dksX3_dimension_5 23 rfl rfl
theorem dksX3_dimension_7 : cX3_dimension.data.toList.drop 162 = dktX3_dimension_7 := dk_seg dksX3_dimension_6 22 rfl rfl
theorem dX3_dimension_0 : decode cX3_dimension 0 = .ok (.bipush 9, 2) := dk_16 9 (dk_at dksX3_dimension_0 0 rfl rfl)
theorem dX3_dimension_2 : decode cX3_dimension 2 = .ok (.aload_n 0, 1) := dk_42 (dk_at dksX3_dimension_0 2 rfl rfl)
theorem dX3_dimension_3 : decode cX3_dimension 3 = .ok (.getfield 12, 3) := dk_180 0 12 (dk_at dksX3_dimension_0 3 rfl rfl)
theorem dX3_dimension_6 : decode cX3_dimension 6 = .ok (.getfield 60, 3) := dk_180 0 60 (dk_at dksX3_dimension_0 6 rfl rfl)
theorem dX3_dimension_9 : decode cX3_dimension 9 = .ok (.invokevirtual 64, 3) := dk_182 0 64 (dk_at dksX3_dimension_0 9 rfl rfl)
theorem dX3_dimension_12 : decode cX3_dimension 12 = .ok (.iconst 1, 1) := dk_4 (dk_at dksX3_dimension_0 12 rfl rfl)
theorem dX3_dimension_13 : decode cX3_dimension 13 = .ok (.isub, 1) := dk_100 (dk_at dksX3_dimension_0 13 rfl rfl)
theorem dX3_dimension_14 : decode cX3_dimension 14 = .ok (.invokestatic 88, 3) := dk_184 0 88 (dk_at dksX3_dimension_0 14 rfl rfl)
theorem dX3_dimension_17 : decode cX3_dimension 17 = .ok (.istore_n 1, 1) := dk_60 (dk_at dksX3_dimension_0 17 rfl rfl)
theorem dX3_dimension_18 : decode cX3_dimension 18 = .ok (.aload_n 0, 1) := dk_42 (dk_at dksX3_dimension_0 18 rfl rfl)
theorem dX3_dimension_19 : decode cX3_dimension 19 = .ok (.iconst 1, 1) := dk_4 (dk_at dksX3_dimension_0 19 rfl rfl)
theorem dX3_dimension_20 : decode cX3_dimension 20 = .ok (.iconst 0, 1) := dk_3 (dk_at dksX3_dimension_0 20 rfl rfl)
theorem dX3_dimension_21 : decode cX3_dimension 21 = .ok (.iload_n 1, 1) := dk_27 (dk_at dksX3_dimension_0 21 rfl rfl)
theorem dX3_dimension_22 : decode cX3_dimension 22 = .ok (.invokevirtual 69, 3) := dk_182 0 69 (dk_at dksX3_dimension_1 0 rfl rfl)
theorem dX3_dimension_25 : decode cX3_dimension 25 = .ok (.istore_n 2, 1) := dk_61 (dk_at dksX3_dimension_1 3 rfl rfl)
theorem dX3_dimension_26 : decode cX3_dimension 26 = .ok (.aload_n 0, 1) := dk_42 (dk_at dksX3_dimension_1 4 rfl rfl)
theorem dX3_dimension_27 : decode cX3_dimension 27 = .ok (.aload_n 0, 1) := dk_42 (dk_at dksX3_dimension_1 5 rfl rfl)
theorem dX3_dimension_28 : decode cX3_dimension 28 = .ok (.bipush 45, 2) := dk_16 45 (dk_at dksX3_dimension_1 6 rfl rfl)
theorem dX3_dimension_30 : decode cX3_dimension 30 = .ok (.invokevirtual 56, 3) := dk_182 0 56 (dk_at dksX3_dimension_1 8 rfl rfl)
theorem dX3_dimension_33 : decode cX3_dimension 33 = .ok (.iconst 1, 1) := dk_4 (dk_at dksX3_dimension_1 11 rfl rfl)
theorem dX3_dimension_34 : decode cX3_dimension 34 = .ok (.aload_n 0, 1) := dk_42 (dk_at dksX3_dimension_1 12 rfl rfl)
theorem dX3_dimension_35 : decode cX3_dimension 35 = .ok (.getfield 22, 3) := dk_180 0 22 (dk_at dksX3_dimension_1 13 rfl rfl)
theorem dX3_dimension_38 : decode cX3_dimension 38 = .ok (.invokevirtual 52, 3) := dk_182 0 52 (dk_at dksX3_dimension_1 16 rfl rfl)
theorem dX3_dimension_41 : decode cX3_dimension 41 = .ok (.aload_n 0, 1) := dk_42 (dk_at dksX3_dimension_1 19 rfl rfl)
theorem dX3_dimension_42 : decode cX3_dimension 42 = .ok (.iconst 1, 1) := dk_4 (dk_at dksX3_dimension_1 20 rfl rfl)
theorem dX3_dimension_43 : decode cX3_dimension 43 = .ok (.iload_n 2, 1) := dk_28 (dk_at dksX3_dimension_1 21 rfl rfl)
theorem dX3_dimension_44 : decode cX3_dimension 44 = .ok (.iconst 1, 1) := dk_4 (dk_at dksX3_dimension_1 22 rfl rfl)
theorem dX3_dimension_45 : decode cX3_dimension 45 = .ok (.iadd, 1) := dk_96 (dk_at dksX3_dimension_1 23 rfl rfl)
theorem dX3_dimension_46 : decode cX3_dimension 46 = .ok (.iload_n 1, 1) := dk_27 (dk_at dksX3_dimension_2 0 rfl rfl)
theorem dX3_dimension_47 : decode cX3_dimension 47 = .ok (.invokevirtual 69, 3) := dk_182 0 69 (dk_at dksX3_dimension_2 1 rfl rfl)
theorem dX3_dimension_50 : decode cX3_dimension 50 = .ok (.istore_n 3, 1) := dk_62 (dk_at dksX3_dimension_2 4 rfl rfl)
theorem dX3_dimension_51 : decode cX3_dimension 51 = .ok (.new 94, 3) := dk_187 0 94 (dk_at dksX3_dimension_2 5 rfl rfl)
theorem dX3_dimension_54 : decode cX3_dimension 54 = .ok (.dup, 1) := dk_89 (dk_at dksX3_dimension_2 8 rfl rfl)
theorem dX3_dimension_55 : decode cX3_dimension 55 = .ok (.aload_n 0, 1) := dk_42 (dk_at dksX3_dimension_2 9 rfl rfl)
theorem dX3_dimension_56 : decode cX3_dimension 56 = .ok (.getfield 12, 3) := dk_180 0 12 (dk_at dksX3_dimension_2 10 rfl rfl)
theorem dX3_dimension_59 : decode cX3_dimension 59 = .ok (.getfield 60, 3) := dk_180 0 60 (dk_at dksX3_dimension_2 13 rfl rfl)
theorem dX3_dimension_62 : decode cX3_dimension 62 = .ok (.iload_n 2, 1) := dk_28 (dk_at dksX3_dimension_2 16 rfl rfl)
theorem dX3_dimension_63 : decode cX3_dimension 63 = .ok (.invokevirtual 96, 3) := dk_182 0 96 (dk_at dksX3_dimension_2 17 rfl rfl)
theorem dX3_dimension_66 : decode cX3_dimension 66 = .ok (.checkcast 73, 3) := dk_192 0 73 (dk_at dksX3_dimension_2 20 rfl rfl)
theorem dX3_dimension_69 : decode cX3_dimension 69 = .ok (.aload_n 0, 1) := dk_42 (dk_at dksX3_dimension_2 23 rfl rfl)
theorem dX3_dimension_70 : decode cX3_dimension 70 = .ok (.getfield 12, 3) := dk_180 0 12 (dk_at dksX3_dimension_3 0 rfl rfl)
theorem dX3_dimension_73 : decode cX3_dimension 73 = .ok (.getfield 60, 3) := dk_180 0 60 (dk_at dksX3_dimension_3 3 rfl rfl)
theorem dX3_dimension_76 : decode cX3_dimension 76 = .ok (.iload_n 3, 1) := dk_29 (dk_at dksX3_dimension_3 6 rfl rfl)
theorem dX3_dimension_77 : decode cX3_dimension 77 = .ok (.invokevirtual 96, 3) := dk_182 0 96 (dk_at dksX3_dimension_3 7 rfl rfl)
theorem dX3_dimension_80 : decode cX3_dimension 80 = .ok (.checkcast 73, 3) := dk_192 0 73 (dk_at dksX3_dimension_3 10 rfl rfl)
theorem dX3_dimension_83 : decode cX3_dimension 83 = .ok (.invokespecial 100, 3) := dk_183 0 100 (dk_at dksX3_dimension_3 13 rfl rfl)
theorem dX3_dimension_86 : decode cX3_dimension 86 = .ok (.astore 4, 2) := dk_58 4 (dk_at dksX3_dimension_3 16 rfl rfl)
theorem dX3_dimension_88 : decode cX3_dimension 88 = .ok (.aload 4, 2) := dk_25 4 (dk_at dksX3_dimension_3 18 rfl rfl)
theorem dX3_dimension_90 : decode cX3_dimension 90 = .ok (.aload_n 0, 1) := dk_42 (dk_at dksX3_dimension_3 20 rfl rfl)
theorem dX3_dimension_91 : decode cX3_dimension 91 = .ok (.bipush 43, 2) := dk_16 43 (dk_at dksX3_dimension_3 21 rfl rfl)
theorem dX3_dimension_93 : decode cX3_dimension 93 = .ok (.invokevirtual 56, 3) := dk_182 0 56 (dk_at dksX3_dimension_4 0 rfl rfl)
theorem dX3_dimension_96 : decode cX3_dimension 96 = .ok (.ifCond .eq 14, 3) := dk_153 0 14 (dk_at dksX3_dimension_4 3 rfl rfl)
theorem dX3_dimension_99 : decode cX3_dimension 99 = .ok (.aload_n 0, 1) := dk_42 (dk_at dksX3_dimension_4 6 rfl rfl)
theorem dX3_dimension_100 : decode cX3_dimension 100 = .ok (.iconst 2, 1) := dk_5 (dk_at dksX3_dimension_4 7 rfl rfl)
theorem dX3_dimension_101 : decode cX3_dimension 101 = .ok (.iconst 0, 1) := dk_3 (dk_at dksX3_dimension_4 8 rfl rfl)
theorem dX3_dimension_102 : decode cX3_dimension 102 = .ok (.bipush 20, 2) := dk_16 20 (dk_at dksX3_dimension_4 9 rfl rfl)
theorem dX3_dimension_104 : decode cX3_dimension 104 = .ok (.invokevirtual 69, 3) := dk_182 0 69 (dk_at dksX3_dimension_4 11 rfl rfl)
theorem dX3_dimension_107 : decode cX3_dimension 107 = .ok (.goto 4, 3) := dk_167 0 4 (dk_at dksX3_dimension_4 14 rfl rfl)
theorem dX3_dimension_110 : decode cX3_dimension 110 = .ok (.iconst 0, 1) := dk_3 (dk_at dksX3_dimension_4 17 rfl rfl)
theorem dX3_dimension_111 : decode cX3_dimension 111 = .ok (.putfield 103, 3) := dk_181 0 103 (dk_at dksX3_dimension_4 18 rfl rfl)
theorem dX3_dimension_114 : decode cX3_dimension 114 = .ok (.aload 4, 2) := dk_25 4 (dk_at dksX3_dimension_4 21 rfl rfl)
theorem dX3_dimension_116 : decode cX3_dimension 116 = .ok (.aload_n 0, 1) := dk_42 (dk_at dksX3_dimension_4 23 rfl rfl)
theorem dX3_dimension_117 : decode cX3_dimension 117 = .ok (.bipush 45, 2) := dk_16 45 (dk_at dksX3_dimension_5 0 rfl rfl)
theorem dX3_dimension_119 : decode cX3_dimension 119 = .ok (.invokevirtual 56, 3) := dk_182 0 56 (dk_at dksX3_dimension_5 2 rfl rfl)
theorem dX3_dimension_122 : decode cX3_dimension 122 = .ok (.ifCond .eq 14, 3) := dk_153 0 14 (dk_at dksX3_dimension_5 5 rfl rfl)
theorem dX3_dimension_125 : decode cX3_dimension 125 = .ok (.aload_n 0, 1) := dk_42 (dk_at dksX3_dimension_5 8 rfl rfl)
theorem dX3_dimension_126 : decode cX3_dimension 126 = .ok (.iconst 2, 1) := dk_5 (dk_at dksX3_dimension_5 9 rfl rfl)
theorem dX3_dimension_127 : decode cX3_dimension 127 = .ok (.iconst 0, 1) := dk_3 (dk_at dksX3_dimension_5 10 rfl rfl)
theorem dX3_dimension_128 : decode cX3_dimension 128 = .ok (.bipush 20, 2) := dk_16 20 (dk_at dksX3_dimension_5 11 rfl rfl)
theorem dX3_dimension_130 : decode cX3_dimension 130 = .ok (.invokevirtual 69, 3) := dk_182 0 69 (dk_at dksX3_dimension_5 13 rfl rfl)
theorem dX3_dimension_133 : decode cX3_dimension 133 = .ok (.goto 4, 3) := dk_167 0 4 (dk_at dksX3_dimension_5 16 rfl rfl)
theorem dX3_dimension_136 : decode cX3_dimension 136 = .ok (.iconst 0, 1) := dk_3 (dk_at dksX3_dimension_5 19 rfl rfl)
theorem dX3_dimension_137 : decode cX3_dimension 137 = .ok (.putfield 106, 3) := dk_181 0 106 (dk_at dksX3_dimension_5 20 rfl rfl)
theorem dX3_dimension_140 : decode cX3_dimension 140 = .ok (.aload 4, 2) := dk_25 4 (dk_at dksX3_dimension_6 0 rfl rfl)
theorem dX3_dimension_142 : decode cX3_dimension 142 = .ok (.aload_n 0, 1) := dk_42 (dk_at dksX3_dimension_6 2 rfl rfl)
theorem dX3_dimension_143 : decode cX3_dimension 143 = .ok (.bipush 99, 2) := dk_16 99 (dk_at dksX3_dimension_6 3 rfl rfl)
theorem dX3_dimension_145 : decode cX3_dimension 145 = .ok (.invokevirtual 56, 3) := dk_182 0 56 (dk_at dksX3_dimension_6 5 rfl rfl)
theorem dX3_dimension_148 : decode cX3_dimension 148 = .ok (.ifCond .eq 13, 3) := dk_153 0 13 (dk_at dksX3_dimension_6 8 rfl rfl)
theorem dX3_dimension_151 : decode cX3_dimension 151 = .ok (.aload_n 0, 1) := dk_42 (dk_at dksX3_dimension_6 11 rfl rfl)
theorem dX3_dimension_152 : decode cX3_dimension 152 = .ok (.iconst 1, 1) := dk_4 (dk_at dksX3_dimension_6 12 rfl rfl)
theorem dX3_dimension_153 : decode cX3_dimension 153 = .ok (.iconst 0, 1) := dk_3 (dk_at dksX3_dimension_6 13 rfl rfl)
theorem dX3_dimension_154 : decode cX3_dimension 154 = .ok (.iconst 5, 1) := dk_8 (dk_at dksX3_dimension_6 14 rfl rfl)
theorem dX3_dimension_155 : decode cX3_dimension 155 = .ok (.invokevirtual 69, 3) := dk_182 0 69 (dk_at dksX3_dimension_6 15 rfl rfl)
theorem dX3_dimension_158 : decode cX3_dimension 158 = .ok (.goto 4, 3) := dk_167 0 4 (dk_at dksX3_dimension_6 18 rfl rfl)
theorem dX3_dimension_161 : decode cX3_dimension 161 = .ok (.iconst 0, 1) := dk_3 (dk_at dksX3_dimension_6 21 rfl rfl)
theorem dX3_dimension_162 : decode cX3_dimension 162 = .ok (.putfield 109, 3) := dk_181 0 109 (dk_at dksX3_dimension_7 0 rfl rfl)
theorem dX3_dimension_165 : decode cX3_dimension 165 = .ok (.aload_n 0, 1) := dk_42 (dk_at dksX3_dimension_7 3 rfl rfl)
theorem dX3_dimension_166 : decode cX3_dimension 166 = .ok (.getfield 12, 3) := dk_180 0 12 (dk_at dksX3_dimension_7 4 rfl rfl)
theorem dX3_dimension_169 : decode cX3_dimension 169 = .ok (.getfield 82, 3) := dk_180 0 82 (dk_at dksX3_dimension_7 7 rfl rfl)
theorem dX3_dimension_172 : decode cX3_dimension 172 = .ok (.aload 4, 2) := dk_25 4 (dk_at dksX3_dimension_7 10 rfl rfl)
theorem dX3_dimension_174 : decode cX3_dimension 174 = .ok (.invokevirtual 78, 3) := dk_182 0 78 (dk_at dksX3_dimension_7 12 rfl rfl)
theorem dX3_dimension_177 : decode cX3_dimension 177 = .ok (.pop, 1) := dk_87 (dk_at dksX3_dimension_7 15 rfl rfl)
theorem dX3_dimension_178 : decode cX3_dimension 178 = .ok (.return_, 1) := dk_177 (dk_at dksX3_dimension_7 16 rfl rfl)
theorem q92 : (Jvm.Cond.initialized "DimensionLines$Reader") ∈ lw_all := lw_g (lw_at lw_m1 7 rfl) rfl
theorem q157 : (Jvm.Cond.fieldLinkNest "DimensionLines$Reader" (60 : Nat) "DimensionLines$Drawing" "points" "Ljava/util/ArrayList;" "DimensionLines") ∈ lw_tbl := lw_at lw_m1 72 rfl
theorem q161 : (Jvm.Cond.fieldLinkNest "DimensionLines$Reader" (82 : Nat) "DimensionLines$Drawing" "dimensions" "Ljava/util/ArrayList;" "DimensionLines") ∈ lw_tbl := lw_at lw_m1 76 rfl
theorem q222 : (Jvm.Cond.instantiable "DimensionLines$Reader" (3 : Nat)) ∈ lw_all := lw_g (lw_at lw_m1 137 rfl) rfl
theorem q360 : (Jvm.Cond.instanceMethod ({ cls := "DimensionLines$Reader", name := "<init>", desc := "(Ljava/lang/CharSequence;)V" } : Jvm.MethodName)) ∈ lw_all := lw_g (lw_at lw_m2 35 rfl) rfl
theorem q361 : (Jvm.Cond.code ({ cls := "DimensionLines$Reader", name := "<init>", desc := "(Ljava/lang/CharSequence;)V" } : Jvm.MethodName) prog_8_method_1_code (2 : Nat) (Option.none : Option Jvm.ClassFile.FieldType)) ∈ lw_all := lw_g (lw_at lw_m2 36 rfl) rfl
theorem q362 : (Jvm.Cond.methodLink "DimensionLines$Reader" (3 : Nat) ({ cls := "java/lang/Object", name := "<init>", desc := "()V" } : Jvm.MethodName)) ∈ lw_all := lw_g (lw_at lw_m2 37 rfl) rfl
theorem q363 : (Jvm.Cond.classLink "DimensionLines$Reader" (9 : Nat) "DimensionLines$Drawing") ∈ lw_all := lw_g (lw_at lw_m2 38 rfl) rfl
theorem q364 : (Jvm.Cond.methodLinkNest "DimensionLines$Reader" (11 : Nat) ({ cls := "DimensionLines$Drawing", name := "<init>", desc := "()V" } : Jvm.MethodName) "DimensionLines") ∈ lw_tbl := lw_at lw_m2 39 rfl
theorem q365 : (Jvm.Cond.fieldLink "DimensionLines$Reader" (18 : Nat) "DimensionLines$Reader" "text" "Ljava/lang/CharSequence;") ∈ lw_all := lw_g (lw_at lw_m2 40 rfl) rfl
theorem q366 : (Jvm.Cond.fieldLink "DimensionLines$Reader" (12 : Nat) "DimensionLines$Reader" "made" "LDimensionLines$Drawing;") ∈ lw_all := lw_g (lw_at lw_m2 41 rfl) rfl
theorem q367 : (Jvm.Cond.fieldLink "DimensionLines$Reader" (22 : Nat) "DimensionLines$Reader" "at" "I") ∈ lw_all := lw_g (lw_at lw_m2 42 rfl) rfl
theorem q368 : (Jvm.Cond.laysFinal "DimensionLines$Reader" "DimensionLines$Reader" "text" "Ljava/lang/CharSequence;") ∈ lw_all := lw_g (lw_at lw_m2 43 rfl) rfl
theorem q369 : (Jvm.Cond.soleField "DimensionLines$Reader" "text") ∈ lw_all := lw_g (lw_at lw_m2 44 rfl) rfl
theorem q370 : (Jvm.Cond.laysFinal "DimensionLines$Reader" "DimensionLines$Reader" "made" "LDimensionLines$Drawing;") ∈ lw_all := lw_g (lw_at lw_m2 45 rfl) rfl
theorem q371 : (Jvm.Cond.soleField "DimensionLines$Reader" "made") ∈ lw_all := lw_g (lw_at lw_m2 46 rfl) rfl
theorem q372 : (Jvm.Cond.lays "DimensionLines$Reader" "DimensionLines$Reader" "at" "I") ∈ lw_all := lw_g (lw_at lw_m2 47 rfl) rfl
theorem q373 : (Jvm.Cond.soleField "DimensionLines$Reader" "at") ∈ lw_all := lw_g (lw_at lw_m2 48 rfl) rfl
theorem q374 : (Jvm.Cond.superclass "DimensionLines$Reader" "java/lang/Object") ∈ lw_all := lw_g (lw_at lw_m2 49 rfl) rfl
theorem q376 : (Jvm.Cond.instanceMethod ({ cls := "DimensionLines$Reader", name := "read", desc := "()LDimensionLines$Drawing;" } : Jvm.MethodName)) ∈ lw_all := lw_g (lw_at lw_m2 51 rfl) rfl
theorem q377 : (Jvm.Cond.selects "DimensionLines$Reader" ({ cls := "DimensionLines$Reader", name := "read", desc := "()LDimensionLines$Drawing;" } : Jvm.MethodName) ({ cls := "DimensionLines$Reader", name := "read", desc := "()LDimensionLines$Drawing;" } : Jvm.MethodName)) ∈ lw_all := lw_g (lw_at lw_m2 52 rfl) rfl
theorem q378 : (Jvm.Cond.code ({ cls := "DimensionLines$Reader", name := "read", desc := "()LDimensionLines$Drawing;" } : Jvm.MethodName) prog_8_method_7_code (2 : Nat) (Option.some (Jvm.ClassFile.FieldType.object "DimensionLines$Drawing"))) ∈ lw_all := lw_g (lw_at lw_m2 53 rfl) rfl
theorem q379 : (Jvm.Cond.methodLink "DimensionLines$Reader" (56 : Nat) ({ cls := "DimensionLines$Reader", name := "takes", desc := "(I)Z" } : Jvm.MethodName)) ∈ lw_all := lw_g (lw_at lw_m2 54 rfl) rfl
theorem q380 : (Jvm.Cond.privateMethod ({ cls := "DimensionLines$Reader", name := "takes", desc := "(I)Z" } : Jvm.MethodName)) ∈ lw_tbl := lw_at lw_m2 55 rfl
theorem q381 : (Jvm.Cond.instanceMethod ({ cls := "DimensionLines$Reader", name := "takes", desc := "(I)Z" } : Jvm.MethodName)) ∈ lw_all := lw_g (lw_at lw_m2 56 rfl) rfl
theorem q382 : (Jvm.Cond.code ({ cls := "DimensionLines$Reader", name := "takes", desc := "(I)Z" } : Jvm.MethodName) prog_8_method_5_code (3 : Nat) (Option.some Jvm.ClassFile.FieldType.boolean)) ∈ lw_all := lw_g (lw_at lw_m2 57 rfl) rfl
theorem q383 : (Jvm.Cond.methodLink "DimensionLines$Reader" (36 : Nat) ({ cls := "DimensionLines$Reader", name := "here", desc := "()I" } : Jvm.MethodName)) ∈ lw_all := lw_g (lw_at lw_m2 58 rfl) rfl
theorem q384 : (Jvm.Cond.privateMethod ({ cls := "DimensionLines$Reader", name := "here", desc := "()I" } : Jvm.MethodName)) ∈ lw_tbl := lw_at lw_m2 59 rfl
theorem q385 : (Jvm.Cond.instanceMethod ({ cls := "DimensionLines$Reader", name := "here", desc := "()I" } : Jvm.MethodName)) ∈ lw_all := lw_g (lw_at lw_m2 60 rfl) rfl
theorem q386 : (Jvm.Cond.code ({ cls := "DimensionLines$Reader", name := "here", desc := "()I" } : Jvm.MethodName) prog_8_method_2_code (1 : Nat) (Option.some Jvm.ClassFile.FieldType.int)) ∈ lw_all := lw_g (lw_at lw_m2 61 rfl) rfl
theorem q387 : (Jvm.Cond.interfaceEntry "DimensionLines$Reader" (26 : Nat)) ∈ lw_tbl := lw_at lw_m2 62 rfl
theorem q388 : (Jvm.Cond.methodLink "DimensionLines$Reader" (26 : Nat) ({ cls := "java/lang/CharSequence", name := "length", desc := "()I" } : Jvm.MethodName)) ∈ lw_all := lw_g (lw_at lw_m2 63 rfl) rfl
theorem q400 : (Jvm.Cond.interfaceEntry "DimensionLines$Reader" (32 : Nat)) ∈ lw_tbl := lw_at lw_m2 75 rfl
theorem q401 : (Jvm.Cond.methodLink "DimensionLines$Reader" (32 : Nat) ({ cls := "java/lang/CharSequence", name := "charAt", desc := "(I)C" } : Jvm.MethodName)) ∈ lw_all := lw_g (lw_at lw_m2 76 rfl) rfl
theorem q422 : (Jvm.Cond.methodLink "DimensionLines$Reader" (52 : Nat) ({ cls := "DimensionLines$Reader", name := "require", desc := "(ZII)V" } : Jvm.MethodName)) ∈ lw_all := lw_g (lw_at lw_m2 97 rfl) rfl
theorem q423 : (Jvm.Cond.privateMethod ({ cls := "DimensionLines$Reader", name := "require", desc := "(ZII)V" } : Jvm.MethodName)) ∈ lw_tbl := lw_at lw_m2 98 rfl
theorem q424 : (Jvm.Cond.instanceMethod ({ cls := "DimensionLines$Reader", name := "require", desc := "(ZII)V" } : Jvm.MethodName)) ∈ lw_all := lw_g (lw_at lw_m2 99 rfl) rfl
theorem q425 : (Jvm.Cond.code ({ cls := "DimensionLines$Reader", name := "require", desc := "(ZII)V" } : Jvm.MethodName) prog_8_method_4_code (4 : Nat) (Option.none : Option Jvm.ClassFile.FieldType)) ∈ lw_all := lw_g (lw_at lw_m2 100 rfl) rfl
theorem q426 : (Jvm.Cond.classLink "DimensionLines$Reader" (43 : Nat) "DimensionLines$Fault") ∈ lw_all := lw_g (lw_at lw_m2 101 rfl) rfl
theorem q463 : (Jvm.Cond.methodLink "DimensionLines$Reader" (45 : Nat) ({ cls := "DimensionLines$Fault", name := "<init>", desc := "(II)V" } : Jvm.MethodName)) ∈ lw_all := lw_g (lw_at lw_m2 138 rfl) rfl
theorem q493 : (Jvm.Cond.methodLink "DimensionLines$Reader" (64 : Nat) ({ cls := "java/util/ArrayList", name := "size", desc := "()I" } : Jvm.MethodName)) ∈ lw_all := lw_g (lw_at lw_m2 168 rfl) rfl
theorem q497 : (Jvm.Cond.methodLink "DimensionLines$Reader" (69 : Nat) ({ cls := "DimensionLines$Reader", name := "number", desc := "(III)I" } : Jvm.MethodName)) ∈ lw_all := lw_g (lw_at lw_m2 172 rfl) rfl
theorem q498 : (Jvm.Cond.privateMethod ({ cls := "DimensionLines$Reader", name := "number", desc := "(III)I" } : Jvm.MethodName)) ∈ lw_tbl := lw_at lw_m2 173 rfl
theorem q499 : (Jvm.Cond.instanceMethod ({ cls := "DimensionLines$Reader", name := "number", desc := "(III)I" } : Jvm.MethodName)) ∈ lw_all := lw_g (lw_at lw_m2 174 rfl) rfl
theorem q500 : (Jvm.Cond.code ({ cls := "DimensionLines$Reader", name := "number", desc := "(III)I" } : Jvm.MethodName) prog_8_method_6_code (6 : Nat) (Option.some Jvm.ClassFile.FieldType.int)) ∈ lw_all := lw_g (lw_at lw_m2 175 rfl) rfl
theorem q501 : (Jvm.Cond.methodLink "DimensionLines$Reader" (48 : Nat) ({ cls := "DimensionLines$Reader", name := "isDigit", desc := "()Z" } : Jvm.MethodName)) ∈ lw_all := lw_g (lw_at lw_m2 176 rfl) rfl
theorem q502 : (Jvm.Cond.privateMethod ({ cls := "DimensionLines$Reader", name := "isDigit", desc := "()Z" } : Jvm.MethodName)) ∈ lw_tbl := lw_at lw_m2 177 rfl
theorem q503 : (Jvm.Cond.instanceMethod ({ cls := "DimensionLines$Reader", name := "isDigit", desc := "()Z" } : Jvm.MethodName)) ∈ lw_all := lw_g (lw_at lw_m2 178 rfl) rfl
theorem q504 : (Jvm.Cond.code ({ cls := "DimensionLines$Reader", name := "isDigit", desc := "()Z" } : Jvm.MethodName) prog_8_method_3_code (1 : Nat) (Option.some Jvm.ClassFile.FieldType.boolean)) ∈ lw_all := lw_g (lw_at lw_m2 179 rfl) rfl
theorem q505 : (Jvm.Cond.methodLinkNest "DimensionLines$Reader" (39 : Nat) ({ cls := "DimensionLines", name := "in", desc := "(III)Z" } : Jvm.MethodName) "DimensionLines") ∈ lw_tbl := lw_at lw_m2 180 rfl
theorem q506 : (Jvm.Cond.classLink "DimensionLines$Reader" (73 : Nat) "DimensionLines$Point") ∈ lw_all := lw_g (lw_at lw_m2 181 rfl) rfl
theorem q508 : (Jvm.Cond.methodLink "DimensionLines$Reader" (75 : Nat) ({ cls := "DimensionLines$Point", name := "<init>", desc := "(I)V" } : Jvm.MethodName)) ∈ lw_all := lw_g (lw_at lw_m2 183 rfl) rfl
theorem q520 : (Jvm.Cond.methodLink "DimensionLines$Reader" (78 : Nat) ({ cls := "java/util/ArrayList", name := "add", desc := "(Ljava/lang/Object;)Z" } : Jvm.MethodName)) ∈ lw_all := lw_g (lw_at lw_m2 195 rfl) rfl
theorem q549 : (Jvm.Cond.selects "DimensionLines$Reader" ({ cls := "java/lang/Object", name := "getClass", desc := "()Ljava/lang/Class;" } : Jvm.MethodName) ({ cls := "java/lang/Object", name := "getClass", desc := "()Ljava/lang/Class;" } : Jvm.MethodName)) ∈ lw_all := lw_g (lw_at lw_m2 224 rfl) rfl
theorem q563 : (Jvm.Cond.methodLink "DimensionLines$Reader" (85 : Nat) ({ cls := "DimensionLines$Reader", name := "dimension", desc := "()V" } : Jvm.MethodName)) ∈ lw_all := lw_g (lw_at lw_m2 238 rfl) rfl
theorem q564 : (Jvm.Cond.privateMethod ({ cls := "DimensionLines$Reader", name := "dimension", desc := "()V" } : Jvm.MethodName)) ∈ lw_tbl := lw_at lw_m2 239 rfl
theorem q565 : (Jvm.Cond.instanceMethod ({ cls := "DimensionLines$Reader", name := "dimension", desc := "()V" } : Jvm.MethodName)) ∈ lw_all := lw_g (lw_at lw_m3 0 rfl) rfl
theorem q566 : (Jvm.Cond.code ({ cls := "DimensionLines$Reader", name := "dimension", desc := "()V" } : Jvm.MethodName) prog_8_method_8_code (5 : Nat) (Option.none : Option Jvm.ClassFile.FieldType)) ∈ lw_all := lw_g (lw_at lw_m3 1 rfl) rfl
theorem q567 : (Jvm.Cond.methodLink "DimensionLines$Reader" (88 : Nat) ({ cls := "java/lang/Math", name := "min", desc := "(II)I" } : Jvm.MethodName)) ∈ lw_all := lw_g (lw_at lw_m3 2 rfl) rfl
theorem q568 : (Jvm.Cond.classLink "DimensionLines$Reader" (94 : Nat) "DimensionLines$Dimension") ∈ lw_all := lw_g (lw_at lw_m3 3 rfl) rfl
theorem q570 : (Jvm.Cond.methodLink "DimensionLines$Reader" (96 : Nat) ({ cls := "java/util/ArrayList", name := "get", desc := "(I)Ljava/lang/Object;" } : Jvm.MethodName)) ∈ lw_all := lw_g (lw_at lw_m3 5 rfl) rfl
theorem q582 : (Jvm.Cond.methodLink "DimensionLines$Reader" (100 : Nat) ({ cls := "DimensionLines$Dimension", name := "<init>", desc := "(LDimensionLines$Point;LDimensionLines$Point;)V" } : Jvm.MethodName)) ∈ lw_all := lw_g (lw_at lw_m3 17 rfl) rfl
theorem q598 : (Jvm.Cond.fieldLinkNest "DimensionLines$Reader" (106 : Nat) "DimensionLines$Dimension" "minus" "I" "DimensionLines") ∈ lw_tbl := lw_at lw_m3 33 rfl
theorem q602 : (Jvm.Cond.fieldLinkNest "DimensionLines$Reader" (103 : Nat) "DimensionLines$Dimension" "plus" "I" "DimensionLines") ∈ lw_tbl := lw_at lw_m3 37 rfl
theorem q605 : (Jvm.Cond.fieldLinkNest "DimensionLines$Reader" (109 : Nat) "DimensionLines$Dimension" "chain" "I" "DimensionLines") ∈ lw_tbl := lw_at lw_m3 40 rfl
theorem q692 : (Jvm.Cond.selects "DimensionLines$Reader" ({ cls := "java/lang/Object", name := "equals", desc := "(Ljava/lang/Object;)Z" } : Jvm.MethodName) ({ cls := "java/lang/Object", name := "equals", desc := "(Ljava/lang/Object;)Z" } : Jvm.MethodName)) ∈ lw_all := lw_g (lw_at lw_m3 127 rfl) rfl
theorem q1603 : (Jvm.Cond.castable "DimensionLines$Reader" "java/lang/Object") ∈ lw_tbl := lw_at lw_m7 78 rfl
theorem in_X3 : ∀ w ∈ wsX30, w ∈ lw_all := lw_in wsX30 [368, 370, 372] (by decide +kernel) (by decide +kernel)

/-! DimensionLines$Fault -/
set_option maxRecDepth 100000
def RX4 : String := "DimensionLines$Fault"
def TX4 : u_T := fun k => match k with
  | 0 => ("java/lang/Throwable", "cause", "Ljava/lang/Throwable;", false)
  | 1 => ("java/lang/Throwable", "stackTrace", "[Ljava/lang/StackTraceElement;", false)
  | 2 => ("java/lang/Throwable", "suppressedExceptions", "Ljava/util/List;", false)
  | 3 => ("java/lang/Throwable", "detailMessage", "Ljava/lang/String;", false)
  | 4 => ("java/lang/Throwable", "backtrace", "Ljava/lang/Object;", false)
  | 5 => ("java/lang/Throwable", "depth", "I", false)
  | 6 => ("DimensionLines$Fault", "kind", "I", true)
  | _ => ("DimensionLines$Fault", "position", "I", true)
def tyX4 : Nat → FieldType := fun k => match k with
  | 0 => .object "java/lang/Throwable"
  | 1 => .array (.object "java/lang/StackTraceElement")
  | 2 => .object "java/util/List"
  | 3 => .object "java/lang/String"
  | 4 => .object "java/lang/Object"
  | 5 => .int
  | 6 => .int
  | _ => .int
abbrev wsX40 : List Cond := u_ws RX4 TX4 8
theorem nmX4 : ∀ a, a < 8 → ∀ b, b < 8 → a ≠ b → (TX4 a).2.1 ≠ (TX4 b).2.1 := by decide +kernel
theorem tyX4_ok : ∀ k, k < 8 → parseFieldDescriptor (TX4 k).2.2.1 = some (tyX4 k) := by decide +kernel
abbrev cX4_init : ByteArray := prog_5_method_1_code
def yX4_init : MethodName := ⟨RX4, "<init>", "(II)V"⟩
def dkwX4_init_0 : List UInt8 := [42, 1, 1, 3, 3, 183, 0, 1, 42, 27, 181, 0, 7, 42, 28, 181, 0, 13, 177]
abbrev dktX4_init_0 : List UInt8 := dkwX4_init_0 ++ []
theorem dksX4_init_0 : cX4_init.data.toList.drop 0 = dktX4_init_0 := by decide +kernel
theorem dX4_init_0 : decode cX4_init 0 = .ok (.aload_n 0, 1) := dk_42 (dk_at dksX4_init_0 0 rfl rfl)
theorem dX4_init_1 : decode cX4_init 1 = .ok (.aconst_null, 1) := dk_1 (dk_at dksX4_init_0 1 rfl rfl)
theorem dX4_init_2 : decode cX4_init 2 = .ok (.aconst_null, 1) := dk_1 (dk_at dksX4_init_0 2 rfl rfl)
theorem dX4_init_3 : decode cX4_init 3 = .ok (.iconst 0, 1) := dk_3 (dk_at dksX4_init_0 3 rfl rfl)
theorem dX4_init_4 : decode cX4_init 4 = .ok (.iconst 0, 1) := dk_3 (dk_at dksX4_init_0 4 rfl rfl)
theorem dX4_init_5 : decode cX4_init 5 = .ok (.invokespecial 1, 3) := dk_183 0 1 (dk_at dksX4_init_0 5 rfl rfl)
theorem dX4_init_8 : decode cX4_init 8 = .ok (.aload_n 0, 1) := dk_42 (dk_at dksX4_init_0 8 rfl rfl)
theorem dX4_init_9 : decode cX4_init 9 = .ok (.iload_n 1, 1) := dk_27 (dk_at dksX4_init_0 9 rfl rfl)
theorem dX4_init_10 : decode cX4_init 10 = .ok (.putfield 7, 3) := dk_181 0 7 (dk_at dksX4_init_0 10 rfl rfl)
theorem dX4_init_13 : decode cX4_init 13 = .ok (.aload_n 0, 1) := dk_42 (dk_at dksX4_init_0 13 rfl rfl)
theorem dX4_init_14 : decode cX4_init 14 = .ok (.iload_n 2, 1) := dk_28 (dk_at dksX4_init_0 14 rfl rfl)
theorem dX4_init_15 : decode cX4_init 15 = .ok (.putfield 13, 3) := dk_181 0 13 (dk_at dksX4_init_0 15 rfl rfl)
theorem dX4_init_18 : decode cX4_init 18 = .ok (.return_, 1) := dk_177 (dk_at dksX4_init_0 18 rfl rfl)
theorem q105 : (Jvm.Cond.initialized "DimensionLines$Fault") ∈ lw_all := lw_g (lw_at lw_m1 20 rfl) rfl
theorem q427 : (Jvm.Cond.instantiable "DimensionLines$Fault" (8 : Nat)) ∈ lw_all := lw_g (lw_at lw_m2 102 rfl) rfl
theorem q428 : (Jvm.Cond.castable "DimensionLines$Fault" "DimensionLines$Fault") ∈ lw_tbl := lw_at lw_m2 103 rfl
theorem q433 : (Jvm.Cond.selects "DimensionLines$Fault" ({ cls := "java/lang/Throwable", name := "fillInStackTrace", desc := "(I)Ljava/lang/Throwable;" } : Jvm.MethodName) ({ cls := "java/lang/Throwable", name := "fillInStackTrace", desc := "(I)Ljava/lang/Throwable;" } : Jvm.MethodName)) ∈ lw_all := lw_g (lw_at lw_m2 108 rfl) rfl
theorem q434 : (Jvm.Cond.selects "DimensionLines$Fault" ({ cls := "java/lang/Throwable", name := "fillInStackTrace", desc := "()Ljava/lang/Throwable;" } : Jvm.MethodName) ({ cls := "java/lang/Throwable", name := "fillInStackTrace", desc := "()Ljava/lang/Throwable;" } : Jvm.MethodName)) ∈ lw_all := lw_g (lw_at lw_m2 109 rfl) rfl
theorem q435 : (Jvm.Cond.lays "DimensionLines$Fault" "java/lang/Throwable" "cause" "Ljava/lang/Throwable;") ∈ lw_all := lw_g (lw_at lw_m2 110 rfl) rfl
theorem q437 : (Jvm.Cond.lays "DimensionLines$Fault" "java/lang/Throwable" "stackTrace" "[Ljava/lang/StackTraceElement;") ∈ lw_all := lw_g (lw_at lw_m2 112 rfl) rfl
theorem q439 : (Jvm.Cond.lays "DimensionLines$Fault" "java/lang/Throwable" "suppressedExceptions" "Ljava/util/List;") ∈ lw_all := lw_g (lw_at lw_m2 114 rfl) rfl
theorem q441 : (Jvm.Cond.lays "DimensionLines$Fault" "java/lang/Throwable" "detailMessage" "Ljava/lang/String;") ∈ lw_all := lw_g (lw_at lw_m2 116 rfl) rfl
theorem q443 : (Jvm.Cond.lays "DimensionLines$Fault" "java/lang/Throwable" "backtrace" "Ljava/lang/Object;") ∈ lw_all := lw_g (lw_at lw_m2 118 rfl) rfl
theorem q464 : (Jvm.Cond.instanceMethod ({ cls := "DimensionLines$Fault", name := "<init>", desc := "(II)V" } : Jvm.MethodName)) ∈ lw_all := lw_g (lw_at lw_m2 139 rfl) rfl
theorem q465 : (Jvm.Cond.code ({ cls := "DimensionLines$Fault", name := "<init>", desc := "(II)V" } : Jvm.MethodName) prog_5_method_1_code (3 : Nat) (Option.none : Option Jvm.ClassFile.FieldType)) ∈ lw_all := lw_g (lw_at lw_m2 140 rfl) rfl
theorem q466 : (Jvm.Cond.methodLink "DimensionLines$Fault" (1 : Nat) ({ cls := "java/lang/Exception", name := "<init>", desc := "(Ljava/lang/String;Ljava/lang/Throwable;ZZ)V" } : Jvm.MethodName)) ∈ lw_all := lw_g (lw_at lw_m2 141 rfl) rfl
theorem q472 : (Jvm.Cond.fieldLink "DimensionLines$Fault" (7 : Nat) "DimensionLines$Fault" "kind" "I") ∈ lw_all := lw_g (lw_at lw_m2 147 rfl) rfl
theorem q474 : (Jvm.Cond.fieldLink "DimensionLines$Fault" (13 : Nat) "DimensionLines$Fault" "position" "I") ∈ lw_all := lw_g (lw_at lw_m2 149 rfl) rfl
theorem q481 : (Jvm.Cond.laysFinal "DimensionLines$Fault" "DimensionLines$Fault" "kind" "I") ∈ lw_all := lw_g (lw_at lw_m2 156 rfl) rfl
theorem q482 : (Jvm.Cond.soleField "DimensionLines$Fault" "kind") ∈ lw_all := lw_g (lw_at lw_m2 157 rfl) rfl
theorem q483 : (Jvm.Cond.laysFinal "DimensionLines$Fault" "DimensionLines$Fault" "position" "I") ∈ lw_all := lw_g (lw_at lw_m2 158 rfl) rfl
theorem q484 : (Jvm.Cond.soleField "DimensionLines$Fault" "position") ∈ lw_all := lw_g (lw_at lw_m2 159 rfl) rfl
theorem q489 : (Jvm.Cond.lays "DimensionLines$Fault" "java/lang/Throwable" "depth" "I") ∈ lw_all := lw_g (lw_at lw_m2 164 rfl) rfl
theorem q492 : (Jvm.Cond.superclass "DimensionLines$Fault" "java/lang/Exception") ∈ lw_all := lw_g (lw_at lw_m2 167 rfl) rfl
theorem q547 : (Jvm.Cond.selects "DimensionLines$Fault" ({ cls := "java/lang/Object", name := "getClass", desc := "()Ljava/lang/Class;" } : Jvm.MethodName) ({ cls := "java/lang/Object", name := "getClass", desc := "()Ljava/lang/Class;" } : Jvm.MethodName)) ∈ lw_all := lw_g (lw_at lw_m2 222 rfl) rfl
theorem q690 : (Jvm.Cond.selects "DimensionLines$Fault" ({ cls := "java/lang/Object", name := "equals", desc := "(Ljava/lang/Object;)Z" } : Jvm.MethodName) ({ cls := "java/lang/Object", name := "equals", desc := "(Ljava/lang/Object;)Z" } : Jvm.MethodName)) ∈ lw_all := lw_g (lw_at lw_m3 125 rfl) rfl
theorem q1605 : (Jvm.Cond.castable "DimensionLines$Fault" "java/lang/Object") ∈ lw_tbl := lw_at lw_m7 80 rfl
theorem in_X4 : ∀ w ∈ wsX40, w ∈ lw_all := lw_in wsX40 [435, 437, 439, 441, 443, 489, 481, 483] (by decide +kernel) (by decide +kernel)

/-! DimensionLines$Point -/
set_option maxRecDepth 100000
def RX5 : String := "DimensionLines$Point"
def TX5 : u_T := fun k => match k with
  | _ => ("DimensionLines$Point", "position", "I", false)
def tyX5 : Nat → FieldType := fun k => match k with
  | _ => .int
abbrev wsX50 : List Cond := u_ws RX5 TX5 1
theorem nmX5 : ∀ a, a < 1 → ∀ b, b < 1 → a ≠ b → (TX5 a).2.1 ≠ (TX5 b).2.1 := by decide +kernel
theorem tyX5_ok : ∀ k, k < 1 → parseFieldDescriptor (TX5 k).2.2.1 = some (tyX5 k) := by decide +kernel
abbrev cX5_init : ByteArray := prog_6_method_1_code
def yX5_init : MethodName := ⟨RX5, "<init>", "(I)V"⟩
def dkwX5_init_0 : List UInt8 := [42, 183, 0, 1, 42, 27, 181, 0, 7, 177]
abbrev dktX5_init_0 : List UInt8 := dkwX5_init_0 ++ []
theorem dksX5_init_0 : cX5_init.data.toList.drop 0 = dktX5_init_0 := by decide +kernel
theorem dX5_init_0 : decode cX5_init 0 = .ok (.aload_n 0, 1) := dk_42 (dk_at dksX5_init_0 0 rfl rfl)
theorem dX5_init_1 : decode cX5_init 1 = .ok (.invokespecial 1, 3) := dk_183 0 1 (dk_at dksX5_init_0 1 rfl rfl)
theorem dX5_init_4 : decode cX5_init 4 = .ok (.aload_n 0, 1) := dk_42 (dk_at dksX5_init_0 4 rfl rfl)
theorem dX5_init_5 : decode cX5_init 5 = .ok (.iload_n 1, 1) := dk_27 (dk_at dksX5_init_0 5 rfl rfl)
theorem dX5_init_6 : decode cX5_init 6 = .ok (.putfield 7, 3) := dk_181 0 7 (dk_at dksX5_init_0 6 rfl rfl)
theorem dX5_init_9 : decode cX5_init 9 = .ok (.return_, 1) := dk_177 (dk_at dksX5_init_0 9 rfl rfl)
theorem q106 : (Jvm.Cond.initialized "DimensionLines$Point") ∈ lw_all := lw_g (lw_at lw_m1 21 rfl) rfl
theorem q507 : (Jvm.Cond.instantiable "DimensionLines$Point" (1 : Nat)) ∈ lw_all := lw_g (lw_at lw_m2 182 rfl) rfl
theorem q509 : (Jvm.Cond.instanceMethod ({ cls := "DimensionLines$Point", name := "<init>", desc := "(I)V" } : Jvm.MethodName)) ∈ lw_all := lw_g (lw_at lw_m2 184 rfl) rfl
theorem q510 : (Jvm.Cond.code ({ cls := "DimensionLines$Point", name := "<init>", desc := "(I)V" } : Jvm.MethodName) prog_6_method_1_code (2 : Nat) (Option.none : Option Jvm.ClassFile.FieldType)) ∈ lw_all := lw_g (lw_at lw_m2 185 rfl) rfl
theorem q511 : (Jvm.Cond.methodLink "DimensionLines$Point" (1 : Nat) ({ cls := "java/lang/Object", name := "<init>", desc := "()V" } : Jvm.MethodName)) ∈ lw_all := lw_g (lw_at lw_m2 186 rfl) rfl
theorem q512 : (Jvm.Cond.fieldLink "DimensionLines$Point" (7 : Nat) "DimensionLines$Point" "position" "I") ∈ lw_all := lw_g (lw_at lw_m2 187 rfl) rfl
theorem q517 : (Jvm.Cond.lays "DimensionLines$Point" "DimensionLines$Point" "position" "I") ∈ lw_all := lw_g (lw_at lw_m2 192 rfl) rfl
theorem q518 : (Jvm.Cond.soleField "DimensionLines$Point" "position") ∈ lw_all := lw_g (lw_at lw_m2 193 rfl) rfl
theorem q519 : (Jvm.Cond.superclass "DimensionLines$Point" "java/lang/Object") ∈ lw_all := lw_g (lw_at lw_m2 194 rfl) rfl
theorem q548 : (Jvm.Cond.selects "DimensionLines$Point" ({ cls := "java/lang/Object", name := "getClass", desc := "()Ljava/lang/Class;" } : Jvm.MethodName) ({ cls := "java/lang/Object", name := "getClass", desc := "()Ljava/lang/Class;" } : Jvm.MethodName)) ∈ lw_all := lw_g (lw_at lw_m2 223 rfl) rfl
theorem q691 : (Jvm.Cond.selects "DimensionLines$Point" ({ cls := "java/lang/Object", name := "equals", desc := "(Ljava/lang/Object;)Z" } : Jvm.MethodName) ({ cls := "java/lang/Object", name := "equals", desc := "(Ljava/lang/Object;)Z" } : Jvm.MethodName)) ∈ lw_all := lw_g (lw_at lw_m3 126 rfl) rfl
theorem q1606 : (Jvm.Cond.castable "DimensionLines$Point" "java/lang/Object") ∈ lw_tbl := lw_at lw_m7 81 rfl
theorem in_X5 : ∀ w ∈ wsX50, w ∈ lw_all := lw_in wsX50 [517] (by decide +kernel) (by decide +kernel)

/-! DimensionLines$Dimension -/
set_option maxRecDepth 100000
def RX6 : String := "DimensionLines$Dimension"
def TX6 : u_T := fun k => match k with
  | 0 => ("DimensionLines$Dimension", "first", "LDimensionLines$Point;", false)
  | 1 => ("DimensionLines$Dimension", "second", "LDimensionLines$Point;", false)
  | 2 => ("DimensionLines$Dimension", "minus", "I", false)
  | 3 => ("DimensionLines$Dimension", "plus", "I", false)
  | 4 => ("DimensionLines$Dimension", "chain", "I", false)
  | 5 => ("DimensionLines$Dimension", "least", "I", false)
  | 6 => ("DimensionLines$Dimension", "form", "I", false)
  | 7 => ("DimensionLines$Dimension", "begin", "I", false)
  | 8 => ("DimensionLines$Dimension", "end", "I", false)
  | _ => ("DimensionLines$Dimension", "lane", "I", false)
def tyX6 : Nat → FieldType := fun k => match k with
  | 0 => .object "DimensionLines$Point"
  | 1 => .object "DimensionLines$Point"
  | 2 => .int
  | 3 => .int
  | 4 => .int
  | 5 => .int
  | 6 => .int
  | 7 => .int
  | 8 => .int
  | _ => .int
abbrev wsX60 : List Cond := u_ws RX6 TX6 10
theorem nmX6 : ∀ a, a < 10 → ∀ b, b < 10 → a ≠ b → (TX6 a).2.1 ≠ (TX6 b).2.1 := by decide +kernel
theorem tyX6_ok : ∀ k, k < 10 → parseFieldDescriptor (TX6 k).2.2.1 = some (tyX6 k) := by decide +kernel
abbrev cX6_init : ByteArray := prog_3_method_1_code
def yX6_init : MethodName := ⟨RX6, "<init>", "(LDimensionLines$Point;LDimensionLines$Point;)V"⟩
def dkwX6_init_0 : List UInt8 := [42, 183, 0, 1, 42, 43, 181, 0, 7, 42, 44, 181, 0, 13, 177]
abbrev dktX6_init_0 : List UInt8 := dkwX6_init_0 ++ []
theorem dksX6_init_0 : cX6_init.data.toList.drop 0 = dktX6_init_0 := by decide +kernel
theorem dX6_init_0 : decode cX6_init 0 = .ok (.aload_n 0, 1) := dk_42 (dk_at dksX6_init_0 0 rfl rfl)
theorem dX6_init_1 : decode cX6_init 1 = .ok (.invokespecial 1, 3) := dk_183 0 1 (dk_at dksX6_init_0 1 rfl rfl)
theorem dX6_init_4 : decode cX6_init 4 = .ok (.aload_n 0, 1) := dk_42 (dk_at dksX6_init_0 4 rfl rfl)
theorem dX6_init_5 : decode cX6_init 5 = .ok (.aload_n 1, 1) := dk_43 (dk_at dksX6_init_0 5 rfl rfl)
theorem dX6_init_6 : decode cX6_init 6 = .ok (.putfield 7, 3) := dk_181 0 7 (dk_at dksX6_init_0 6 rfl rfl)
theorem dX6_init_9 : decode cX6_init 9 = .ok (.aload_n 0, 1) := dk_42 (dk_at dksX6_init_0 9 rfl rfl)
theorem dX6_init_10 : decode cX6_init 10 = .ok (.aload_n 2, 1) := dk_44 (dk_at dksX6_init_0 10 rfl rfl)
theorem dX6_init_11 : decode cX6_init 11 = .ok (.putfield 13, 3) := dk_181 0 13 (dk_at dksX6_init_0 11 rfl rfl)
theorem dX6_init_14 : decode cX6_init 14 = .ok (.return_, 1) := dk_177 (dk_at dksX6_init_0 14 rfl rfl)
abbrev cX6_value : ByteArray := prog_3_method_2_code
def yX6_value : MethodName := ⟨RX6, "value", "()I"⟩
def dkwX6_value_0 : List UInt8 := [42, 180, 0, 13, 180, 0, 16, 42, 180, 0, 7, 180, 0, 16, 100, 172]
abbrev dktX6_value_0 : List UInt8 := dkwX6_value_0 ++ []
theorem dksX6_value_0 : cX6_value.data.toList.drop 0 = dktX6_value_0 := by decide +kernel
theorem dX6_value_0 : decode cX6_value 0 = .ok (.aload_n 0, 1) := dk_42 (dk_at dksX6_value_0 0 rfl rfl)
theorem dX6_value_1 : decode cX6_value 1 = .ok (.getfield 13, 3) := dk_180 0 13 (dk_at dksX6_value_0 1 rfl rfl)
theorem dX6_value_4 : decode cX6_value 4 = .ok (.getfield 16, 3) := dk_180 0 16 (dk_at dksX6_value_0 4 rfl rfl)
theorem dX6_value_7 : decode cX6_value 7 = .ok (.aload_n 0, 1) := dk_42 (dk_at dksX6_value_0 7 rfl rfl)
theorem dX6_value_8 : decode cX6_value 8 = .ok (.getfield 7, 3) := dk_180 0 7 (dk_at dksX6_value_0 8 rfl rfl)
theorem dX6_value_11 : decode cX6_value 11 = .ok (.getfield 16, 3) := dk_180 0 16 (dk_at dksX6_value_0 11 rfl rfl)
theorem dX6_value_14 : decode cX6_value 14 = .ok (.isub, 1) := dk_100 (dk_at dksX6_value_0 14 rfl rfl)
theorem dX6_value_15 : decode cX6_value 15 = .ok (.ireturn, 1) := dk_172 (dk_at dksX6_value_0 15 rfl rfl)
abbrev cX6_has : ByteArray := prog_3_method_3_code
def yX6_has : MethodName := ⟨RX6, "has", "(LDimensionLines$Point;)Z"⟩
def dkwX6_has_0 : List UInt8 := [42, 180, 0, 7, 43, 165, 0, 11, 42, 180, 0, 13, 43, 166, 0, 7, 4, 167, 0, 4, 3, 172]
abbrev dktX6_has_0 : List UInt8 := dkwX6_has_0 ++ []
theorem dksX6_has_0 : cX6_has.data.toList.drop 0 = dktX6_has_0 := by decide +kernel
theorem dX6_has_0 : decode cX6_has 0 = .ok (.aload_n 0, 1) := dk_42 (dk_at dksX6_has_0 0 rfl rfl)
theorem dX6_has_1 : decode cX6_has 1 = .ok (.getfield 7, 3) := dk_180 0 7 (dk_at dksX6_has_0 1 rfl rfl)
theorem dX6_has_4 : decode cX6_has 4 = .ok (.aload_n 1, 1) := dk_43 (dk_at dksX6_has_0 4 rfl rfl)
theorem dX6_has_5 : decode cX6_has 5 = .ok (.if_acmp .eq 11, 3) := dk_165 0 11 (dk_at dksX6_has_0 5 rfl rfl)
theorem dX6_has_8 : decode cX6_has 8 = .ok (.aload_n 0, 1) := dk_42 (dk_at dksX6_has_0 8 rfl rfl)
theorem dX6_has_9 : decode cX6_has 9 = .ok (.getfield 13, 3) := dk_180 0 13 (dk_at dksX6_has_0 9 rfl rfl)
theorem dX6_has_12 : decode cX6_has 12 = .ok (.aload_n 1, 1) := dk_43 (dk_at dksX6_has_0 12 rfl rfl)
theorem dX6_has_13 : decode cX6_has 13 = .ok (.if_acmp .ne 7, 3) := dk_166 0 7 (dk_at dksX6_has_0 13 rfl rfl)
theorem dX6_has_16 : decode cX6_has 16 = .ok (.iconst 1, 1) := dk_4 (dk_at dksX6_has_0 16 rfl rfl)
theorem dX6_has_17 : decode cX6_has 17 = .ok (.goto 4, 3) := dk_167 0 4 (dk_at dksX6_has_0 17 rfl rfl)
theorem dX6_has_20 : decode cX6_has 20 = .ok (.iconst 0, 1) := dk_3 (dk_at dksX6_has_0 20 rfl rfl)
theorem dX6_has_21 : decode cX6_has 21 = .ok (.ireturn, 1) := dk_172 (dk_at dksX6_has_0 21 rfl rfl)
abbrev cX6_fit : ByteArray := prog_3_method_8_code
def yX6_fit : MethodName := ⟨RX6, "fit", "(II)V"⟩
def dkwX6_fit_4 : List UInt8 := [29, 167, 0, 4, 3, 96, 181, 0, 25, 177]
abbrev dktX6_fit_4 : List UInt8 := dkwX6_fit_4 ++ []
def dkwX6_fit_3 : List UInt8 := [180, 0, 16, 42, 180, 0, 36, 154, 0, 7, 3, 167, 0, 4, 28, 96, 42, 180, 0, 36, 5, 160, 0, 7]
abbrev dktX6_fit_3 : List UInt8 := dkwX6_fit_3 ++ dktX6_fit_4
def dkwX6_fit_2 : List UInt8 := [180, 0, 16, 42, 180, 0, 36, 154, 0, 7, 3, 167, 0, 4, 28, 100, 181, 0, 22, 42, 42, 180, 0, 13]
abbrev dktX6_fit_2 : List UInt8 := dkwX6_fit_2 ++ dktX6_fit_3
def dkwX6_fit_1 : List UInt8 := [167, 0, 16, 42, 182, 0, 28, 29, 161, 0, 7, 4, 167, 0, 4, 5, 181, 0, 36, 42, 42, 180, 0, 7]
abbrev dktX6_fit_1 : List UInt8 := dkwX6_fit_1 ++ dktX6_fit_2
def dkwX6_fit_0 : List UInt8 := [27, 42, 182, 0, 28, 184, 0, 32, 104, 62, 42, 42, 182, 0, 28, 29, 5, 28, 104, 96, 161, 0, 7, 3]
abbrev dktX6_fit_0 : List UInt8 := dkwX6_fit_0 ++ dktX6_fit_1
theorem dksX6_fit_0 : cX6_fit.data.toList.drop 0 = dktX6_fit_0 := by decide +kernel
theorem dksX6_fit_1 : cX6_fit.data.toList.drop 24 = dktX6_fit_1 := dk_seg dksX6_fit_0 24 rfl rfl
theorem dksX6_fit_2 : cX6_fit.data.toList.drop 48 = dktX6_fit_2 := dk_seg dksX6_fit_1 24 rfl rfl
theorem dksX6_fit_3 : cX6_fit.data.toList.drop 72 = dktX6_fit_3 := dk_seg dksX6_fit_2 24 rfl rfl
theorem dksX6_fit_4 : cX6_fit.data.toList.drop 96 = dktX6_fit_4 := dk_seg dksX6_fit_3 24 rfl rfl
theorem dX6_fit_0 : decode cX6_fit 0 = .ok (.iload_n 1, 1) := dk_27 (dk_at dksX6_fit_0 0 rfl rfl)
theorem dX6_fit_1 : decode cX6_fit 1 = .ok (.aload_n 0, 1) := dk_42 (dk_at dksX6_fit_0 1 rfl rfl)
theorem dX6_fit_2 : decode cX6_fit 2 = .ok (.invokevirtual 28, 3) := dk_182 0 28 (dk_at dksX6_fit_0 2 rfl rfl)
theorem dX6_fit_5 : decode cX6_fit 5 = .ok (.invokestatic 32, 3) := dk_184 0 32 (dk_at dksX6_fit_0 5 rfl rfl)
theorem dX6_fit_8 : decode cX6_fit 8 = .ok (.imul, 1) := dk_104 (dk_at dksX6_fit_0 8 rfl rfl)
theorem dX6_fit_9 : decode cX6_fit 9 = .ok (.istore_n 3, 1) := dk_62 (dk_at dksX6_fit_0 9 rfl rfl)
theorem dX6_fit_10 : decode cX6_fit 10 = .ok (.aload_n 0, 1) := dk_42 (dk_at dksX6_fit_0 10 rfl rfl)
theorem dX6_fit_11 : decode cX6_fit 11 = .ok (.aload_n 0, 1) := dk_42 (dk_at dksX6_fit_0 11 rfl rfl)
theorem dX6_fit_12 : decode cX6_fit 12 = .ok (.invokevirtual 28, 3) := dk_182 0 28 (dk_at dksX6_fit_0 12 rfl rfl)
theorem dX6_fit_15 : decode cX6_fit 15 = .ok (.iload_n 3, 1) := dk_29 (dk_at dksX6_fit_0 15 rfl rfl)
theorem dX6_fit_16 : decode cX6_fit 16 = .ok (.iconst 2, 1) := dk_5 (dk_at dksX6_fit_0 16 rfl rfl)
theorem dX6_fit_17 : decode cX6_fit 17 = .ok (.iload_n 2, 1) := dk_28 (dk_at dksX6_fit_0 17 rfl rfl)
theorem dX6_fit_18 : decode cX6_fit 18 = .ok (.imul, 1) := dk_104 (dk_at dksX6_fit_0 18 rfl rfl)
theorem dX6_fit_19 : decode cX6_fit 19 = .ok (.iadd, 1) := dk_96 (dk_at dksX6_fit_0 19 rfl rfl)
theorem dX6_fit_20 : decode cX6_fit 20 = .ok (.if_icmp .lt 7, 3) := dk_161 0 7 (dk_at dksX6_fit_0 20 rfl rfl)
theorem dX6_fit_23 : decode cX6_fit 23 = .ok (.iconst 0, 1) := dk_3 (dk_at dksX6_fit_0 23 rfl rfl)
theorem dX6_fit_24 : decode cX6_fit 24 = .ok (.goto 16, 3) := dk_167 0 16 (dk_at dksX6_fit_1 0 rfl rfl)
theorem dX6_fit_27 : decode cX6_fit 27 = .ok (.aload_n 0, 1) := dk_42 (dk_at dksX6_fit_1 3 rfl rfl)
theorem dX6_fit_28 : decode cX6_fit 28 = .ok (.invokevirtual 28, 3) := dk_182 0 28 (dk_at dksX6_fit_1 4 rfl rfl)
theorem dX6_fit_31 : decode cX6_fit 31 = .ok (.iload_n 3, 1) := dk_29 (dk_at dksX6_fit_1 7 rfl rfl)
theorem dX6_fit_32 : decode cX6_fit 32 = .ok (.if_icmp .lt 7, 3) := dk_161 0 7 (dk_at dksX6_fit_1 8 rfl rfl)
theorem dX6_fit_35 : decode cX6_fit 35 = .ok (.iconst 1, 1) := dk_4 (dk_at dksX6_fit_1 11 rfl rfl)
theorem dX6_fit_36 : decode cX6_fit 36 = .ok (.goto 4, 3) := dk_167 0 4 (dk_at dksX6_fit_1 12 rfl rfl)
theorem dX6_fit_39 : decode cX6_fit 39 = .ok (.iconst 2, 1) := dk_5 (dk_at dksX6_fit_1 15 rfl rfl)
theorem dX6_fit_40 : decode cX6_fit 40 = .ok (.putfield 36, 3) := dk_181 0 36 (dk_at dksX6_fit_1 16 rfl rfl)
theorem dX6_fit_43 : decode cX6_fit 43 = .ok (.aload_n 0, 1) := dk_42 (dk_at dksX6_fit_1 19 rfl rfl)
theorem dX6_fit_44 : decode cX6_fit 44 = .ok (.aload_n 0, 1) := dk_42 (dk_at dksX6_fit_1 20 rfl rfl)
theorem dX6_fit_45 : decode cX6_fit 45 = .ok (.getfield 7, 3) := dk_180 0 7 (dk_at dksX6_fit_1 21 rfl rfl)
theorem dX6_fit_48 : decode cX6_fit 48 = .ok (.getfield 16, 3) := dk_180 0 16 (dk_at dksX6_fit_2 0 rfl rfl)
theorem dX6_fit_51 : decode cX6_fit 51 = .ok (.aload_n 0, 1) := dk_42 (dk_at dksX6_fit_2 3 rfl rfl)
theorem dX6_fit_52 : decode cX6_fit 52 = .ok (.getfield 36, 3) := dk_180 0 36 (dk_at dksX6_fit_2 4 rfl rfl)
theorem dX6_fit_55 : decode cX6_fit 55 = .ok (.ifCond .ne 7, 3) := dk_154 0 7 (dk_at dksX6_fit_2 7 rfl rfl)
theorem dX6_fit_58 : decode cX6_fit 58 = .ok (.iconst 0, 1) := dk_3 (dk_at dksX6_fit_2 10 rfl rfl)
theorem dX6_fit_59 : decode cX6_fit 59 = .ok (.goto 4, 3) := dk_167 0 4 (dk_at dksX6_fit_2 11 rfl rfl)
theorem dX6_fit_62 : decode cX6_fit 62 = .ok (.iload_n 2, 1) := dk_28 (dk_at dksX6_fit_2 14 rfl rfl)
theorem dX6_fit_63 : decode cX6_fit 63 = .ok (.isub, 1) := dk_100 (dk_at dksX6_fit_2 15 rfl rfl)
theorem dX6_fit_64 : decode cX6_fit 64 = .ok (.putfield 22, 3) := dk_181 0 22 (dk_at dksX6_fit_2 16 rfl rfl)
theorem dX6_fit_67 : decode cX6_fit 67 = .ok (.aload_n 0, 1) := dk_42 (dk_at dksX6_fit_2 19 rfl rfl)
theorem dX6_fit_68 : decode cX6_fit 68 = .ok (.aload_n 0, 1) := dk_42 (dk_at dksX6_fit_2 20 rfl rfl)
theorem dX6_fit_69 : decode cX6_fit 69 = .ok (.getfield 13, 3) := dk_180 0 13 (dk_at dksX6_fit_2 21 rfl rfl)
theorem dX6_fit_72 : decode cX6_fit 72 = .ok (.getfield 16, 3) := dk_180 0 16 (dk_at dksX6_fit_3 0 rfl rfl)
theorem dX6_fit_75 : decode cX6_fit 75 = .ok (.aload_n 0, 1) := dk_42 (dk_at dksX6_fit_3 3 rfl rfl)
theorem dX6_fit_76 : decode cX6_fit 76 = .ok (.getfield 36, 3) := dk_180 0 36 (dk_at dksX6_fit_3 4 rfl rfl)
theorem dX6_fit_79 : decode cX6_fit 79 = .ok (.ifCond .ne 7, 3) := dk_154 0 7 (dk_at dksX6_fit_3 7 rfl rfl)
theorem dX6_fit_82 : decode cX6_fit 82 = .ok (.iconst 0, 1) := dk_3 (dk_at dksX6_fit_3 10 rfl rfl)
theorem dX6_fit_83 : decode cX6_fit 83 = .ok (.goto 4, 3) := dk_167 0 4 (dk_at dksX6_fit_3 11 rfl rfl)
theorem dX6_fit_86 : decode cX6_fit 86 = .ok (.iload_n 2, 1) := dk_28 (dk_at dksX6_fit_3 14 rfl rfl)
theorem dX6_fit_87 : decode cX6_fit 87 = .ok (.iadd, 1) := dk_96 (dk_at dksX6_fit_3 15 rfl rfl)
theorem dX6_fit_88 : decode cX6_fit 88 = .ok (.aload_n 0, 1) := dk_42 (dk_at dksX6_fit_3 16 rfl rfl)
theorem dX6_fit_89 : decode cX6_fit 89 = .ok (.getfield 36, 3) := dk_180 0 36 (dk_at dksX6_fit_3 17 rfl rfl)
theorem dX6_fit_92 : decode cX6_fit 92 = .ok (.iconst 2, 1) := dk_5 (dk_at dksX6_fit_3 20 rfl rfl)
theorem dX6_fit_93 : decode cX6_fit 93 = .ok (.if_icmp .ne 7, 3) := dk_160 0 7 (dk_at dksX6_fit_3 21 rfl rfl)
theorem dX6_fit_96 : decode cX6_fit 96 = .ok (.iload_n 3, 1) := dk_29 (dk_at dksX6_fit_4 0 rfl rfl)
theorem dX6_fit_97 : decode cX6_fit 97 = .ok (.goto 4, 3) := dk_167 0 4 (dk_at dksX6_fit_4 1 rfl rfl)
theorem dX6_fit_100 : decode cX6_fit 100 = .ok (.iconst 0, 1) := dk_3 (dk_at dksX6_fit_4 4 rfl rfl)
theorem dX6_fit_101 : decode cX6_fit 101 = .ok (.iadd, 1) := dk_96 (dk_at dksX6_fit_4 5 rfl rfl)
theorem dX6_fit_102 : decode cX6_fit 102 = .ok (.putfield 25, 3) := dk_181 0 25 (dk_at dksX6_fit_4 6 rfl rfl)
theorem dX6_fit_105 : decode cX6_fit 105 = .ok (.return_, 1) := dk_177 (dk_at dksX6_fit_4 9 rfl rfl)
abbrev cX6_digits : ByteArray := prog_3_method_7_code
def yX6_digits : MethodName := ⟨RX6, "digits", "(I)I"⟩
def dkwX6_digits_0 : List UInt8 := [26, 16, 99, 164, 0, 7, 6, 167, 0, 14, 26, 16, 9, 164, 0, 7, 5, 167, 0, 4, 4, 172]
abbrev dktX6_digits_0 : List UInt8 := dkwX6_digits_0 ++ []
theorem dksX6_digits_0 : cX6_digits.data.toList.drop 0 = dktX6_digits_0 := by decide +kernel
theorem dX6_digits_0 : decode cX6_digits 0 = .ok (.iload_n 0, 1) := dk_26 (dk_at dksX6_digits_0 0 rfl rfl)
theorem dX6_digits_1 : decode cX6_digits 1 = .ok (.bipush 99, 2) := dk_16 99 (dk_at dksX6_digits_0 1 rfl rfl)
theorem dX6_digits_3 : decode cX6_digits 3 = .ok (.if_icmp .le 7, 3) := dk_164 0 7 (dk_at dksX6_digits_0 3 rfl rfl)
theorem dX6_digits_6 : decode cX6_digits 6 = .ok (.iconst 3, 1) := dk_6 (dk_at dksX6_digits_0 6 rfl rfl)
theorem dX6_digits_7 : decode cX6_digits 7 = .ok (.goto 14, 3) := dk_167 0 14 (dk_at dksX6_digits_0 7 rfl rfl)
theorem dX6_digits_10 : decode cX6_digits 10 = .ok (.iload_n 0, 1) := dk_26 (dk_at dksX6_digits_0 10 rfl rfl)
theorem dX6_digits_11 : decode cX6_digits 11 = .ok (.bipush 9, 2) := dk_16 9 (dk_at dksX6_digits_0 11 rfl rfl)
theorem dX6_digits_13 : decode cX6_digits 13 = .ok (.if_icmp .le 7, 3) := dk_164 0 7 (dk_at dksX6_digits_0 13 rfl rfl)
theorem dX6_digits_16 : decode cX6_digits 16 = .ok (.iconst 2, 1) := dk_5 (dk_at dksX6_digits_0 16 rfl rfl)
theorem dX6_digits_17 : decode cX6_digits 17 = .ok (.goto 4, 3) := dk_167 0 4 (dk_at dksX6_digits_0 17 rfl rfl)
theorem dX6_digits_20 : decode cX6_digits 20 = .ok (.iconst 1, 1) := dk_4 (dk_at dksX6_digits_0 20 rfl rfl)
theorem dX6_digits_21 : decode cX6_digits 21 = .ok (.ireturn, 1) := dk_172 (dk_at dksX6_digits_0 21 rfl rfl)
abbrev cX6_end : ByteArray := prog_3_method_6_code
def yX6_end : MethodName := ⟨RX6, "end", "()I"⟩
theorem dX6_end_0 : decode cX6_end 0 = .ok (.aload_n 0, 1) := by decide +kernel
theorem dX6_end_1 : decode cX6_end 1 = .ok (.getfield 25, 3) := by decide +kernel
theorem dX6_end_4 : decode cX6_end 4 = .ok (.ireturn, 1) := by decide +kernel
abbrev cX6_begin : ByteArray := prog_3_method_5_code
def yX6_begin : MethodName := ⟨RX6, "begin", "()I"⟩
theorem dX6_begin_0 : decode cX6_begin 0 = .ok (.aload_n 0, 1) := by decide +kernel
theorem dX6_begin_1 : decode cX6_begin 1 = .ok (.getfield 22, 3) := by decide +kernel
theorem dX6_begin_4 : decode cX6_begin 4 = .ok (.ireturn, 1) := by decide +kernel
abbrev cX6_isCrossedAt : ByteArray := prog_3_method_4_code
def yX6_isCrossedAt : MethodName := ⟨RX6, "isCrossedAt", "(I)Z"⟩
def dkwX6_isCrossedAt_1 : List UInt8 := [167, 0, 4, 3, 172]
abbrev dktX6_isCrossedAt_1 : List UInt8 := dkwX6_isCrossedAt_1 ++ []
def dkwX6_isCrossedAt_0 : List UInt8 := [27, 42, 180, 0, 7, 180, 0, 16, 164, 0, 18, 27, 42, 180, 0, 13, 180, 0, 16, 162, 0, 7, 4]
abbrev dktX6_isCrossedAt_0 : List UInt8 := dkwX6_isCrossedAt_0 ++ dktX6_isCrossedAt_1
theorem dksX6_isCrossedAt_0 : cX6_isCrossedAt.data.toList.drop 0 = dktX6_isCrossedAt_0 := by decide +kernel
theorem dksX6_isCrossedAt_1 : cX6_isCrossedAt.data.toList.drop 23 = dktX6_isCrossedAt_1 := dk_seg dksX6_isCrossedAt_0 23 rfl rfl
theorem dX6_isCrossedAt_0 : decode cX6_isCrossedAt 0 = .ok (.iload_n 1, 1) := dk_27 (dk_at dksX6_isCrossedAt_0 0 rfl rfl)
theorem dX6_isCrossedAt_1 : decode cX6_isCrossedAt 1 = .ok (.aload_n 0, 1) := dk_42 (dk_at dksX6_isCrossedAt_0 1 rfl rfl)
theorem dX6_isCrossedAt_2 : decode cX6_isCrossedAt 2 = .ok (.getfield 7, 3) := dk_180 0 7 (dk_at dksX6_isCrossedAt_0 2 rfl rfl)
theorem dX6_isCrossedAt_5 : decode cX6_isCrossedAt 5 = .ok (.getfield 16, 3) := dk_180 0 16 (dk_at dksX6_isCrossedAt_0 5 rfl rfl)
theorem dX6_isCrossedAt_8 : decode cX6_isCrossedAt 8 = .ok (.if_icmp .le 18, 3) := dk_164 0 18 (dk_at dksX6_isCrossedAt_0 8 rfl rfl)
theorem dX6_isCrossedAt_11 : decode cX6_isCrossedAt 11 = .ok (.iload_n 1, 1) := dk_27 (dk_at dksX6_isCrossedAt_0 11 rfl rfl)
theorem dX6_isCrossedAt_12 : decode cX6_isCrossedAt 12 = .ok (.aload_n 0, 1) := dk_42 (dk_at dksX6_isCrossedAt_0 12 rfl rfl)
theorem dX6_isCrossedAt_13 : decode cX6_isCrossedAt 13 = .ok (.getfield 13, 3) := dk_180 0 13 (dk_at dksX6_isCrossedAt_0 13 rfl rfl)
theorem dX6_isCrossedAt_16 : decode cX6_isCrossedAt 16 = .ok (.getfield 16, 3) := dk_180 0 16 (dk_at dksX6_isCrossedAt_0 16 rfl rfl)
theorem dX6_isCrossedAt_19 : decode cX6_isCrossedAt 19 = .ok (.if_icmp .ge 7, 3) := dk_162 0 7 (dk_at dksX6_isCrossedAt_0 19 rfl rfl)
theorem dX6_isCrossedAt_22 : decode cX6_isCrossedAt 22 = .ok (.iconst 1, 1) := dk_4 (dk_at dksX6_isCrossedAt_0 22 rfl rfl)
theorem dX6_isCrossedAt_23 : decode cX6_isCrossedAt 23 = .ok (.goto 4, 3) := dk_167 0 4 (dk_at dksX6_isCrossedAt_1 0 rfl rfl)
theorem dX6_isCrossedAt_26 : decode cX6_isCrossedAt 26 = .ok (.iconst 0, 1) := dk_3 (dk_at dksX6_isCrossedAt_1 3 rfl rfl)
theorem dX6_isCrossedAt_27 : decode cX6_isCrossedAt 27 = .ok (.ireturn, 1) := dk_172 (dk_at dksX6_isCrossedAt_1 4 rfl rfl)
theorem q107 : (Jvm.Cond.initialized "DimensionLines$Dimension") ∈ lw_all := lw_g (lw_at lw_m1 22 rfl) rfl
theorem q513 : (Jvm.Cond.fieldLinkNest "DimensionLines$Dimension" (16 : Nat) "DimensionLines$Point" "position" "I" "DimensionLines") ∈ lw_tbl := lw_at lw_m2 188 rfl
theorem q545 : (Jvm.Cond.selects "DimensionLines$Dimension" ({ cls := "java/lang/Object", name := "getClass", desc := "()Ljava/lang/Class;" } : Jvm.MethodName) ({ cls := "java/lang/Object", name := "getClass", desc := "()Ljava/lang/Class;" } : Jvm.MethodName)) ∈ lw_all := lw_g (lw_at lw_m2 220 rfl) rfl
theorem q569 : (Jvm.Cond.instantiable "DimensionLines$Dimension" (10 : Nat)) ∈ lw_all := lw_g (lw_at lw_m3 4 rfl) rfl
theorem q583 : (Jvm.Cond.instanceMethod ({ cls := "DimensionLines$Dimension", name := "<init>", desc := "(LDimensionLines$Point;LDimensionLines$Point;)V" } : Jvm.MethodName)) ∈ lw_all := lw_g (lw_at lw_m3 18 rfl) rfl
theorem q584 : (Jvm.Cond.code ({ cls := "DimensionLines$Dimension", name := "<init>", desc := "(LDimensionLines$Point;LDimensionLines$Point;)V" } : Jvm.MethodName) prog_3_method_1_code (3 : Nat) (Option.none : Option Jvm.ClassFile.FieldType)) ∈ lw_all := lw_g (lw_at lw_m3 19 rfl) rfl
theorem q585 : (Jvm.Cond.methodLink "DimensionLines$Dimension" (1 : Nat) ({ cls := "java/lang/Object", name := "<init>", desc := "()V" } : Jvm.MethodName)) ∈ lw_all := lw_g (lw_at lw_m3 20 rfl) rfl
theorem q586 : (Jvm.Cond.fieldLink "DimensionLines$Dimension" (7 : Nat) "DimensionLines$Dimension" "first" "LDimensionLines$Point;") ∈ lw_all := lw_g (lw_at lw_m3 21 rfl) rfl
theorem q591 : (Jvm.Cond.fieldLink "DimensionLines$Dimension" (13 : Nat) "DimensionLines$Dimension" "second" "LDimensionLines$Point;") ∈ lw_all := lw_g (lw_at lw_m3 26 rfl) rfl
theorem q610 : (Jvm.Cond.fieldLink "DimensionLines$Dimension" (36 : Nat) "DimensionLines$Dimension" "form" "I") ∈ lw_all := lw_g (lw_at lw_m3 45 rfl) rfl
theorem q612 : (Jvm.Cond.fieldLink "DimensionLines$Dimension" (22 : Nat) "DimensionLines$Dimension" "begin" "I") ∈ lw_all := lw_g (lw_at lw_m3 47 rfl) rfl
theorem q614 : (Jvm.Cond.fieldLink "DimensionLines$Dimension" (25 : Nat) "DimensionLines$Dimension" "end" "I") ∈ lw_all := lw_g (lw_at lw_m3 49 rfl) rfl
theorem q619 : (Jvm.Cond.lays "DimensionLines$Dimension" "DimensionLines$Dimension" "first" "LDimensionLines$Point;") ∈ lw_all := lw_g (lw_at lw_m3 54 rfl) rfl
theorem q620 : (Jvm.Cond.soleField "DimensionLines$Dimension" "first") ∈ lw_all := lw_g (lw_at lw_m3 55 rfl) rfl
theorem q621 : (Jvm.Cond.lays "DimensionLines$Dimension" "DimensionLines$Dimension" "second" "LDimensionLines$Point;") ∈ lw_all := lw_g (lw_at lw_m3 56 rfl) rfl
theorem q622 : (Jvm.Cond.soleField "DimensionLines$Dimension" "second") ∈ lw_all := lw_g (lw_at lw_m3 57 rfl) rfl
theorem q623 : (Jvm.Cond.lays "DimensionLines$Dimension" "DimensionLines$Dimension" "minus" "I") ∈ lw_all := lw_g (lw_at lw_m3 58 rfl) rfl
theorem q624 : (Jvm.Cond.soleField "DimensionLines$Dimension" "minus") ∈ lw_all := lw_g (lw_at lw_m3 59 rfl) rfl
theorem q625 : (Jvm.Cond.lays "DimensionLines$Dimension" "DimensionLines$Dimension" "plus" "I") ∈ lw_all := lw_g (lw_at lw_m3 60 rfl) rfl
theorem q626 : (Jvm.Cond.soleField "DimensionLines$Dimension" "plus") ∈ lw_all := lw_g (lw_at lw_m3 61 rfl) rfl
theorem q627 : (Jvm.Cond.lays "DimensionLines$Dimension" "DimensionLines$Dimension" "chain" "I") ∈ lw_all := lw_g (lw_at lw_m3 62 rfl) rfl
theorem q628 : (Jvm.Cond.soleField "DimensionLines$Dimension" "chain") ∈ lw_all := lw_g (lw_at lw_m3 63 rfl) rfl
theorem q629 : (Jvm.Cond.lays "DimensionLines$Dimension" "DimensionLines$Dimension" "least" "I") ∈ lw_all := lw_g (lw_at lw_m3 64 rfl) rfl
theorem q630 : (Jvm.Cond.soleField "DimensionLines$Dimension" "least") ∈ lw_all := lw_g (lw_at lw_m3 65 rfl) rfl
theorem q631 : (Jvm.Cond.lays "DimensionLines$Dimension" "DimensionLines$Dimension" "form" "I") ∈ lw_all := lw_g (lw_at lw_m3 66 rfl) rfl
theorem q632 : (Jvm.Cond.soleField "DimensionLines$Dimension" "form") ∈ lw_all := lw_g (lw_at lw_m3 67 rfl) rfl
theorem q633 : (Jvm.Cond.lays "DimensionLines$Dimension" "DimensionLines$Dimension" "begin" "I") ∈ lw_all := lw_g (lw_at lw_m3 68 rfl) rfl
theorem q634 : (Jvm.Cond.soleField "DimensionLines$Dimension" "begin") ∈ lw_all := lw_g (lw_at lw_m3 69 rfl) rfl
theorem q635 : (Jvm.Cond.lays "DimensionLines$Dimension" "DimensionLines$Dimension" "end" "I") ∈ lw_all := lw_g (lw_at lw_m3 70 rfl) rfl
theorem q636 : (Jvm.Cond.soleField "DimensionLines$Dimension" "end") ∈ lw_all := lw_g (lw_at lw_m3 71 rfl) rfl
theorem q637 : (Jvm.Cond.lays "DimensionLines$Dimension" "DimensionLines$Dimension" "lane" "I") ∈ lw_all := lw_g (lw_at lw_m3 72 rfl) rfl
theorem q638 : (Jvm.Cond.soleField "DimensionLines$Dimension" "lane") ∈ lw_all := lw_g (lw_at lw_m3 73 rfl) rfl
theorem q639 : (Jvm.Cond.superclass "DimensionLines$Dimension" "java/lang/Object") ∈ lw_all := lw_g (lw_at lw_m3 74 rfl) rfl
theorem q688 : (Jvm.Cond.selects "DimensionLines$Dimension" ({ cls := "java/lang/Object", name := "equals", desc := "(Ljava/lang/Object;)Z" } : Jvm.MethodName) ({ cls := "java/lang/Object", name := "equals", desc := "(Ljava/lang/Object;)Z" } : Jvm.MethodName)) ∈ lw_all := lw_g (lw_at lw_m3 123 rfl) rfl
theorem q732 : (Jvm.Cond.instanceMethod ({ cls := "DimensionLines$Dimension", name := "value", desc := "()I" } : Jvm.MethodName)) ∈ lw_all := lw_g (lw_at lw_m3 167 rfl) rfl
theorem q733 : (Jvm.Cond.selects "DimensionLines$Dimension" ({ cls := "DimensionLines$Dimension", name := "value", desc := "()I" } : Jvm.MethodName) ({ cls := "DimensionLines$Dimension", name := "value", desc := "()I" } : Jvm.MethodName)) ∈ lw_all := lw_g (lw_at lw_m3 168 rfl) rfl
theorem q734 : (Jvm.Cond.code ({ cls := "DimensionLines$Dimension", name := "value", desc := "()I" } : Jvm.MethodName) prog_3_method_2_code (1 : Nat) (Option.some Jvm.ClassFile.FieldType.int)) ∈ lw_all := lw_g (lw_at lw_m3 169 rfl) rfl
theorem q744 : (Jvm.Cond.instanceMethod ({ cls := "DimensionLines$Dimension", name := "has", desc := "(LDimensionLines$Point;)Z" } : Jvm.MethodName)) ∈ lw_all := lw_g (lw_at lw_m3 179 rfl) rfl
theorem q745 : (Jvm.Cond.selects "DimensionLines$Dimension" ({ cls := "DimensionLines$Dimension", name := "has", desc := "(LDimensionLines$Point;)Z" } : Jvm.MethodName) ({ cls := "DimensionLines$Dimension", name := "has", desc := "(LDimensionLines$Point;)Z" } : Jvm.MethodName)) ∈ lw_all := lw_g (lw_at lw_m3 180 rfl) rfl
theorem q746 : (Jvm.Cond.code ({ cls := "DimensionLines$Dimension", name := "has", desc := "(LDimensionLines$Point;)Z" } : Jvm.MethodName) prog_3_method_3_code (2 : Nat) (Option.some Jvm.ClassFile.FieldType.boolean)) ∈ lw_all := lw_g (lw_at lw_m3 181 rfl) rfl
theorem q806 : (Jvm.Cond.instanceMethod ({ cls := "DimensionLines$Dimension", name := "fit", desc := "(II)V" } : Jvm.MethodName)) ∈ lw_all := lw_g (lw_at lw_m4 1 rfl) rfl
theorem q807 : (Jvm.Cond.selects "DimensionLines$Dimension" ({ cls := "DimensionLines$Dimension", name := "fit", desc := "(II)V" } : Jvm.MethodName) ({ cls := "DimensionLines$Dimension", name := "fit", desc := "(II)V" } : Jvm.MethodName)) ∈ lw_all := lw_g (lw_at lw_m4 2 rfl) rfl
theorem q808 : (Jvm.Cond.code ({ cls := "DimensionLines$Dimension", name := "fit", desc := "(II)V" } : Jvm.MethodName) prog_3_method_8_code (4 : Nat) (Option.none : Option Jvm.ClassFile.FieldType)) ∈ lw_all := lw_g (lw_at lw_m4 3 rfl) rfl
theorem q809 : (Jvm.Cond.methodLink "DimensionLines$Dimension" (28 : Nat) ({ cls := "DimensionLines$Dimension", name := "value", desc := "()I" } : Jvm.MethodName)) ∈ lw_all := lw_g (lw_at lw_m4 4 rfl) rfl
theorem q810 : (Jvm.Cond.methodLink "DimensionLines$Dimension" (32 : Nat) ({ cls := "DimensionLines$Dimension", name := "digits", desc := "(I)I" } : Jvm.MethodName)) ∈ lw_all := lw_g (lw_at lw_m4 5 rfl) rfl
theorem q811 : (Jvm.Cond.static ({ cls := "DimensionLines$Dimension", name := "digits", desc := "(I)I" } : Jvm.MethodName)) ∈ lw_all := lw_g (lw_at lw_m4 6 rfl) rfl
theorem q812 : (Jvm.Cond.code ({ cls := "DimensionLines$Dimension", name := "digits", desc := "(I)I" } : Jvm.MethodName) prog_3_method_7_code (1 : Nat) (Option.some Jvm.ClassFile.FieldType.int)) ∈ lw_all := lw_g (lw_at lw_m4 7 rfl) rfl
theorem q865 : (Jvm.Cond.castable "DimensionLines$Dimension" "DimensionLines$Stretch") ∈ lw_tbl := lw_at lw_m4 60 rfl
theorem q866 : (Jvm.Cond.selects "DimensionLines$Dimension" ({ cls := "DimensionLines$Stretch", name := "end", desc := "()I" } : Jvm.MethodName) ({ cls := "DimensionLines$Dimension", name := "end", desc := "()I" } : Jvm.MethodName)) ∈ lw_all := lw_g (lw_at lw_m4 61 rfl) rfl
theorem q867 : (Jvm.Cond.unhidden "DimensionLines$Dimension" "end" "()I") ∈ lw_tbl := lw_at lw_m4 62 rfl
theorem q868 : (Jvm.Cond.instanceMethod ({ cls := "DimensionLines$Dimension", name := "end", desc := "()I" } : Jvm.MethodName)) ∈ lw_all := lw_g (lw_at lw_m4 63 rfl) rfl
theorem q869 : (Jvm.Cond.publicMethod ({ cls := "DimensionLines$Dimension", name := "end", desc := "()I" } : Jvm.MethodName)) ∈ lw_tbl := lw_at lw_m4 64 rfl
theorem q870 : (Jvm.Cond.code ({ cls := "DimensionLines$Dimension", name := "end", desc := "()I" } : Jvm.MethodName) prog_3_method_6_code (1 : Nat) (Option.some Jvm.ClassFile.FieldType.int)) ∈ lw_all := lw_g (lw_at lw_m4 65 rfl) rfl
theorem q881 : (Jvm.Cond.selects "DimensionLines$Dimension" ({ cls := "DimensionLines$Stretch", name := "begin", desc := "()I" } : Jvm.MethodName) ({ cls := "DimensionLines$Dimension", name := "begin", desc := "()I" } : Jvm.MethodName)) ∈ lw_all := lw_g (lw_at lw_m4 76 rfl) rfl
theorem q882 : (Jvm.Cond.unhidden "DimensionLines$Dimension" "begin" "()I") ∈ lw_tbl := lw_at lw_m4 77 rfl
theorem q883 : (Jvm.Cond.instanceMethod ({ cls := "DimensionLines$Dimension", name := "begin", desc := "()I" } : Jvm.MethodName)) ∈ lw_all := lw_g (lw_at lw_m4 78 rfl) rfl
theorem q884 : (Jvm.Cond.publicMethod ({ cls := "DimensionLines$Dimension", name := "begin", desc := "()I" } : Jvm.MethodName)) ∈ lw_tbl := lw_at lw_m4 79 rfl
theorem q885 : (Jvm.Cond.code ({ cls := "DimensionLines$Dimension", name := "begin", desc := "()I" } : Jvm.MethodName) prog_3_method_5_code (1 : Nat) (Option.some Jvm.ClassFile.FieldType.int)) ∈ lw_all := lw_g (lw_at lw_m4 80 rfl) rfl
theorem q958 : (Jvm.Cond.instanceMethod ({ cls := "DimensionLines$Dimension", name := "isCrossedAt", desc := "(I)Z" } : Jvm.MethodName)) ∈ lw_all := lw_g (lw_at lw_m4 153 rfl) rfl
theorem q959 : (Jvm.Cond.selects "DimensionLines$Dimension" ({ cls := "DimensionLines$Dimension", name := "isCrossedAt", desc := "(I)Z" } : Jvm.MethodName) ({ cls := "DimensionLines$Dimension", name := "isCrossedAt", desc := "(I)Z" } : Jvm.MethodName)) ∈ lw_all := lw_g (lw_at lw_m4 154 rfl) rfl
theorem q960 : (Jvm.Cond.code ({ cls := "DimensionLines$Dimension", name := "isCrossedAt", desc := "(I)Z" } : Jvm.MethodName) prog_3_method_4_code (2 : Nat) (Option.some Jvm.ClassFile.FieldType.boolean)) ∈ lw_all := lw_g (lw_at lw_m4 155 rfl) rfl
theorem q1607 : (Jvm.Cond.castable "DimensionLines$Dimension" "java/lang/Object") ∈ lw_tbl := lw_at lw_m7 82 rfl
theorem in_X6 : ∀ w ∈ wsX60, w ∈ lw_all := lw_in wsX60 [619, 621, 623, 625, 627, 629, 631, 633, 635, 637] (by decide +kernel) (by decide +kernel)

/-! DimensionLines$Unit -/
set_option maxRecDepth 100000
def RX7 : String := "DimensionLines$Unit"
def TX7 : u_T := fun k => match k with
  | 0 => ("DimensionLines$Unit", "dimensions", "Ljava/util/ArrayList;", true)
  | 1 => ("DimensionLines$Unit", "least", "I", false)
  | 2 => ("DimensionLines$Unit", "begin", "I", false)
  | 3 => ("DimensionLines$Unit", "end", "I", false)
  | _ => ("DimensionLines$Unit", "lane", "I", false)
def tyX7 : Nat → FieldType := fun k => match k with
  | 0 => .object "java/util/ArrayList"
  | 1 => .int
  | 2 => .int
  | 3 => .int
  | _ => .int
abbrev wsX70 : List Cond := u_ws RX7 TX7 5
theorem nmX7 : ∀ a, a < 5 → ∀ b, b < 5 → a ≠ b → (TX7 a).2.1 ≠ (TX7 b).2.1 := by decide +kernel
theorem tyX7_ok : ∀ k, k < 5 → parseFieldDescriptor (TX7 k).2.2.1 = some (tyX7 k) := by decide +kernel
abbrev cX7_init : ByteArray := prog_10_method_1_code
def yX7_init : MethodName := ⟨RX7, "<init>", "()V"⟩
def dkwX7_init_1 : List UInt8 := [17, 252, 25, 181, 0, 22, 177]
abbrev dktX7_init_1 : List UInt8 := dkwX7_init_1 ++ []
def dkwX7_init_0 : List UInt8 := [42, 183, 0, 3, 42, 187, 0, 9, 89, 183, 0, 11, 181, 0, 12, 42, 17, 1, 44, 181, 0, 18, 42]
abbrev dktX7_init_0 : List UInt8 := dkwX7_init_0 ++ dktX7_init_1
theorem dksX7_init_0 : cX7_init.data.toList.drop 0 = dktX7_init_0 := by decide +kernel
theorem dksX7_init_1 : cX7_init.data.toList.drop 23 = dktX7_init_1 := dk_seg dksX7_init_0 23 rfl rfl
theorem dX7_init_0 : decode cX7_init 0 = .ok (.aload_n 0, 1) := dk_42 (dk_at dksX7_init_0 0 rfl rfl)
theorem dX7_init_1 : decode cX7_init 1 = .ok (.invokespecial 3, 3) := dk_183 0 3 (dk_at dksX7_init_0 1 rfl rfl)
theorem dX7_init_4 : decode cX7_init 4 = .ok (.aload_n 0, 1) := dk_42 (dk_at dksX7_init_0 4 rfl rfl)
theorem dX7_init_5 : decode cX7_init 5 = .ok (.new 9, 3) := dk_187 0 9 (dk_at dksX7_init_0 5 rfl rfl)
theorem dX7_init_8 : decode cX7_init 8 = .ok (.dup, 1) := dk_89 (dk_at dksX7_init_0 8 rfl rfl)
theorem dX7_init_9 : decode cX7_init 9 = .ok (.invokespecial 11, 3) := dk_183 0 11 (dk_at dksX7_init_0 9 rfl rfl)
theorem dX7_init_12 : decode cX7_init 12 = .ok (.putfield 12, 3) := dk_181 0 12 (dk_at dksX7_init_0 12 rfl rfl)
theorem dX7_init_15 : decode cX7_init 15 = .ok (.aload_n 0, 1) := dk_42 (dk_at dksX7_init_0 15 rfl rfl)
theorem dX7_init_16 : decode cX7_init 16 = .ok (.sipush 300, 3) := dk_17 1 44 (dk_at dksX7_init_0 16 rfl rfl)
theorem dX7_init_19 : decode cX7_init 19 = .ok (.putfield 18, 3) := dk_181 0 18 (dk_at dksX7_init_0 19 rfl rfl)
theorem dX7_init_22 : decode cX7_init 22 = .ok (.aload_n 0, 1) := dk_42 (dk_at dksX7_init_0 22 rfl rfl)
theorem dX7_init_23 : decode cX7_init 23 = .ok (.sipush (-999), 3) := dk_17 252 25 (dk_at dksX7_init_1 0 rfl rfl)
theorem dX7_init_26 : decode cX7_init 26 = .ok (.putfield 22, 3) := dk_181 0 22 (dk_at dksX7_init_1 3 rfl rfl)
theorem dX7_init_29 : decode cX7_init 29 = .ok (.return_, 1) := dk_177 (dk_at dksX7_init_1 6 rfl rfl)
abbrev cX7_add : ByteArray := prog_10_method_2_code
def yX7_add : MethodName := ⟨RX7, "add", "(LDimensionLines$Dimension;)V"⟩
def dkwX7_add_2 : List UInt8 := [180, 0, 56, 180, 0, 45, 184, 0, 35, 181, 0, 53, 177]
abbrev dktX7_add_2 : List UInt8 := dkwX7_add_2 ++ []
def dkwX7_add_1 : List UInt8 := [42, 42, 180, 0, 18, 43, 180, 0, 41, 180, 0, 45, 184, 0, 50, 181, 0, 18, 42, 42, 180, 0, 53, 43]
abbrev dktX7_add_1 : List UInt8 := dkwX7_add_1 ++ dktX7_add_2
def dkwX7_add_0 : List UInt8 := [42, 180, 0, 12, 43, 182, 0, 25, 87, 42, 42, 180, 0, 29, 43, 180, 0, 32, 184, 0, 35, 181, 0, 29]
abbrev dktX7_add_0 : List UInt8 := dkwX7_add_0 ++ dktX7_add_1
theorem dksX7_add_0 : cX7_add.data.toList.drop 0 = dktX7_add_0 := by decide +kernel
theorem dksX7_add_1 : cX7_add.data.toList.drop 24 = dktX7_add_1 := dk_seg dksX7_add_0 24 rfl rfl
theorem dksX7_add_2 : cX7_add.data.toList.drop 48 = dktX7_add_2 := dk_seg dksX7_add_1 24 rfl rfl
theorem dX7_add_0 : decode cX7_add 0 = .ok (.aload_n 0, 1) := dk_42 (dk_at dksX7_add_0 0 rfl rfl)
theorem dX7_add_1 : decode cX7_add 1 = .ok (.getfield 12, 3) := dk_180 0 12 (dk_at dksX7_add_0 1 rfl rfl)
theorem dX7_add_4 : decode cX7_add 4 = .ok (.aload_n 1, 1) := dk_43 (dk_at dksX7_add_0 4 rfl rfl)
theorem dX7_add_5 : decode cX7_add 5 = .ok (.invokevirtual 25, 3) := dk_182 0 25 (dk_at dksX7_add_0 5 rfl rfl)
theorem dX7_add_8 : decode cX7_add 8 = .ok (.pop, 1) := dk_87 (dk_at dksX7_add_0 8 rfl rfl)
theorem dX7_add_9 : decode cX7_add 9 = .ok (.aload_n 0, 1) := dk_42 (dk_at dksX7_add_0 9 rfl rfl)
theorem dX7_add_10 : decode cX7_add 10 = .ok (.aload_n 0, 1) := dk_42 (dk_at dksX7_add_0 10 rfl rfl)
theorem dX7_add_11 : decode cX7_add 11 = .ok (.getfield 29, 3) := dk_180 0 29 (dk_at dksX7_add_0 11 rfl rfl)
theorem dX7_add_14 : decode cX7_add 14 = .ok (.aload_n 1, 1) := dk_43 (dk_at dksX7_add_0 14 rfl rfl)
theorem dX7_add_15 : decode cX7_add 15 = .ok (.getfield 32, 3) := dk_180 0 32 (dk_at dksX7_add_0 15 rfl rfl)
theorem dX7_add_18 : decode cX7_add 18 = .ok (.invokestatic 35, 3) := dk_184 0 35 (dk_at dksX7_add_0 18 rfl rfl)
theorem dX7_add_21 : decode cX7_add 21 = .ok (.putfield 29, 3) := dk_181 0 29 (dk_at dksX7_add_0 21 rfl rfl)
theorem dX7_add_24 : decode cX7_add 24 = .ok (.aload_n 0, 1) := dk_42 (dk_at dksX7_add_1 0 rfl rfl)
theorem dX7_add_25 : decode cX7_add 25 = .ok (.aload_n 0, 1) := dk_42 (dk_at dksX7_add_1 1 rfl rfl)
theorem dX7_add_26 : decode cX7_add 26 = .ok (.getfield 18, 3) := dk_180 0 18 (dk_at dksX7_add_1 2 rfl rfl)
theorem dX7_add_29 : decode cX7_add 29 = .ok (.aload_n 1, 1) := dk_43 (dk_at dksX7_add_1 5 rfl rfl)
theorem dX7_add_30 : decode cX7_add 30 = .ok (.getfield 41, 3) := dk_180 0 41 (dk_at dksX7_add_1 6 rfl rfl)
theorem dX7_add_33 : decode cX7_add 33 = .ok (.getfield 45, 3) := dk_180 0 45 (dk_at dksX7_add_1 9 rfl rfl)
theorem dX7_add_36 : decode cX7_add 36 = .ok (.invokestatic 50, 3) := dk_184 0 50 (dk_at dksX7_add_1 12 rfl rfl)
theorem dX7_add_39 : decode cX7_add 39 = .ok (.putfield 18, 3) := dk_181 0 18 (dk_at dksX7_add_1 15 rfl rfl)
theorem dX7_add_42 : decode cX7_add 42 = .ok (.aload_n 0, 1) := dk_42 (dk_at dksX7_add_1 18 rfl rfl)
theorem dX7_add_43 : decode cX7_add 43 = .ok (.aload_n 0, 1) := dk_42 (dk_at dksX7_add_1 19 rfl rfl)
theorem dX7_add_44 : decode cX7_add 44 = .ok (.getfield 53, 3) := dk_180 0 53 (dk_at dksX7_add_1 20 rfl rfl)
theorem dX7_add_47 : decode cX7_add 47 = .ok (.aload_n 1, 1) := dk_43 (dk_at dksX7_add_1 23 rfl rfl)
theorem dX7_add_48 : decode cX7_add 48 = .ok (.getfield 56, 3) := dk_180 0 56 (dk_at dksX7_add_2 0 rfl rfl)
theorem dX7_add_51 : decode cX7_add 51 = .ok (.getfield 45, 3) := dk_180 0 45 (dk_at dksX7_add_2 3 rfl rfl)
theorem dX7_add_54 : decode cX7_add 54 = .ok (.invokestatic 35, 3) := dk_184 0 35 (dk_at dksX7_add_2 6 rfl rfl)
theorem dX7_add_57 : decode cX7_add 57 = .ok (.putfield 53, 3) := dk_181 0 53 (dk_at dksX7_add_2 9 rfl rfl)
theorem dX7_add_60 : decode cX7_add 60 = .ok (.return_, 1) := dk_177 (dk_at dksX7_add_2 12 rfl rfl)
abbrev cX7_end : ByteArray := prog_10_method_4_code
def yX7_end : MethodName := ⟨RX7, "end", "()I"⟩
theorem dX7_end_0 : decode cX7_end 0 = .ok (.aload_n 0, 1) := by decide +kernel
theorem dX7_end_1 : decode cX7_end 1 = .ok (.getfield 53, 3) := by decide +kernel
theorem dX7_end_4 : decode cX7_end 4 = .ok (.ireturn, 1) := by decide +kernel
abbrev cX7_begin : ByteArray := prog_10_method_3_code
def yX7_begin : MethodName := ⟨RX7, "begin", "()I"⟩
theorem dX7_begin_0 : decode cX7_begin 0 = .ok (.aload_n 0, 1) := by decide +kernel
theorem dX7_begin_1 : decode cX7_begin 1 = .ok (.getfield 18, 3) := by decide +kernel
theorem dX7_begin_4 : decode cX7_begin 4 = .ok (.ireturn, 1) := by decide +kernel
abbrev cX7_isInTheWayOf : ByteArray := prog_10_method_5_code
def yX7_isInTheWayOf : MethodName := ⟨RX7, "isInTheWayOf", "(LDimensionLines$Unit;)Z"⟩
def dkwX7_isInTheWayOf_3 : List UInt8 := [172]
abbrev dktX7_isInTheWayOf_3 : List UInt8 := dkwX7_isInTheWayOf_3 ++ []
def dkwX7_isInTheWayOf_2 : List UInt8 := [192, 0, 67, 184, 0, 69, 153, 0, 5, 4, 172, 132, 3, 1, 167, 255, 212, 132, 2, 1, 167, 255, 193, 3]
abbrev dktX7_isInTheWayOf_2 : List UInt8 := dkwX7_isInTheWayOf_2 ++ dktX7_isInTheWayOf_3
def dkwX7_isInTheWayOf_1 : List UInt8 := [162, 0, 39, 42, 180, 0, 12, 28, 182, 0, 63, 192, 0, 67, 43, 180, 0, 12, 29, 182, 0, 63]
abbrev dktX7_isInTheWayOf_1 : List UInt8 := dkwX7_isInTheWayOf_1 ++ dktX7_isInTheWayOf_2
def dkwX7_isInTheWayOf_0 : List UInt8 := [3, 61, 28, 42, 180, 0, 12, 182, 0, 59, 162, 0, 58, 3, 62, 29, 43, 180, 0, 12, 182, 0, 59]
abbrev dktX7_isInTheWayOf_0 : List UInt8 := dkwX7_isInTheWayOf_0 ++ dktX7_isInTheWayOf_1
theorem dksX7_isInTheWayOf_0 : cX7_isInTheWayOf.data.toList.drop 0 = dktX7_isInTheWayOf_0 := by decide +kernel
theorem dksX7_isInTheWayOf_1 : cX7_isInTheWayOf.data.toList.drop 23 = dktX7_isInTheWayOf_1 := dk_seg dksX7_isInTheWayOf_0 23 rfl rfl
theorem dksX7_isInTheWayOf_2 : cX7_isInTheWayOf.data.toList.drop 45 = dktX7_isInTheWayOf_2 := dk_seg dksX7_isInTheWayOf_1 22 rfl rfl
theorem dksX7_isInTheWayOf_3 : cX7_isInTheWayOf.data.toList.drop 69 = dktX7_isInTheWayOf_3 := dk_seg dksX7_isInTheWayOf_2 24 rfl rfl
theorem dX7_isInTheWayOf_0 : decode cX7_isInTheWayOf 0 = .ok (.iconst 0, 1) := dk_3 (dk_at dksX7_isInTheWayOf_0 0 rfl rfl)
theorem dX7_isInTheWayOf_1 : decode cX7_isInTheWayOf 1 = .ok (.istore_n 2, 1) := dk_61 (dk_at dksX7_isInTheWayOf_0 1 rfl rfl)
theorem dX7_isInTheWayOf_2 : decode cX7_isInTheWayOf 2 = .ok (.iload_n 2, 1) := dk_28 (dk_at dksX7_isInTheWayOf_0 2 rfl rfl)
theorem dX7_isInTheWayOf_3 : decode cX7_isInTheWayOf 3 = .ok (.aload_n 0, 1) := dk_42 (dk_at dksX7_isInTheWayOf_0 3 rfl rfl)
theorem dX7_isInTheWayOf_4 : decode cX7_isInTheWayOf 4 = .ok (.getfield 12, 3) := dk_180 0 12 (dk_at dksX7_isInTheWayOf_0 4 rfl rfl)
theorem dX7_isInTheWayOf_7 : decode cX7_isInTheWayOf 7 = .ok (.invokevirtual 59, 3) := dk_182 0 59 (dk_at dksX7_isInTheWayOf_0 7 rfl rfl)
theorem dX7_isInTheWayOf_10 : decode cX7_isInTheWayOf 10 = .ok (.if_icmp .ge 58, 3) := dk_162 0 58 (dk_at dksX7_isInTheWayOf_0 10 rfl rfl)
theorem dX7_isInTheWayOf_13 : decode cX7_isInTheWayOf 13 = .ok (.iconst 0, 1) := dk_3 (dk_at dksX7_isInTheWayOf_0 13 rfl rfl)
theorem dX7_isInTheWayOf_14 : decode cX7_isInTheWayOf 14 = .ok (.istore_n 3, 1) := dk_62 (dk_at dksX7_isInTheWayOf_0 14 rfl rfl)
theorem dX7_isInTheWayOf_15 : decode cX7_isInTheWayOf 15 = .ok (.iload_n 3, 1) := dk_29 (dk_at dksX7_isInTheWayOf_0 15 rfl rfl)
theorem dX7_isInTheWayOf_16 : decode cX7_isInTheWayOf 16 = .ok (.aload_n 1, 1) := dk_43 (dk_at dksX7_isInTheWayOf_0 16 rfl rfl)
theorem dX7_isInTheWayOf_17 : decode cX7_isInTheWayOf 17 = .ok (.getfield 12, 3) := dk_180 0 12 (dk_at dksX7_isInTheWayOf_0 17 rfl rfl)
theorem dX7_isInTheWayOf_20 : decode cX7_isInTheWayOf 20 = .ok (.invokevirtual 59, 3) := dk_182 0 59 (dk_at dksX7_isInTheWayOf_0 20 rfl rfl)
theorem dX7_isInTheWayOf_23 : decode cX7_isInTheWayOf 23 = .ok (.if_icmp .ge 39, 3) := dk_162 0 39 (dk_at dksX7_isInTheWayOf_1 0 rfl rfl)
theorem dX7_isInTheWayOf_26 : decode cX7_isInTheWayOf 26 = .ok (.aload_n 0, 1) := dk_42 (dk_at dksX7_isInTheWayOf_1 3 rfl rfl)
theorem dX7_isInTheWayOf_27 : decode cX7_isInTheWayOf 27 = .ok (.getfield 12, 3) := dk_180 0 12 (dk_at dksX7_isInTheWayOf_1 4 rfl rfl)
theorem dX7_isInTheWayOf_30 : decode cX7_isInTheWayOf 30 = .ok (.iload_n 2, 1) := dk_28 (dk_at dksX7_isInTheWayOf_1 7 rfl rfl)
theorem dX7_isInTheWayOf_31 : decode cX7_isInTheWayOf 31 = .ok (.invokevirtual 63, 3) := dk_182 0 63 (dk_at dksX7_isInTheWayOf_1 8 rfl rfl)
theorem dX7_isInTheWayOf_34 : decode cX7_isInTheWayOf 34 = .ok (.checkcast 67, 3) := dk_192 0 67 (dk_at dksX7_isInTheWayOf_1 11 rfl rfl)
theorem dX7_isInTheWayOf_37 : decode cX7_isInTheWayOf 37 = .ok (.aload_n 1, 1) := dk_43 (dk_at dksX7_isInTheWayOf_1 14 rfl rfl)
theorem dX7_isInTheWayOf_38 : decode cX7_isInTheWayOf 38 = .ok (.getfield 12, 3) := dk_180 0 12 (dk_at dksX7_isInTheWayOf_1 15 rfl rfl)
theorem dX7_isInTheWayOf_41 : decode cX7_isInTheWayOf 41 = .ok (.iload_n 3, 1) := dk_29 (dk_at dksX7_isInTheWayOf_1 18 rfl rfl)
theorem dX7_isInTheWayOf_42 : decode cX7_isInTheWayOf 42 = .ok (.invokevirtual 63, 3) := dk_182 0 63 (dk_at dksX7_isInTheWayOf_1 19 rfl rfl)
theorem dX7_isInTheWayOf_45 : decode cX7_isInTheWayOf 45 = .ok (.checkcast 67, 3) := dk_192 0 67 (dk_at dksX7_isInTheWayOf_2 0 rfl rfl)
theorem dX7_isInTheWayOf_48 : decode cX7_isInTheWayOf 48 = .ok (.invokestatic 69, 3) := dk_184 0 69 (dk_at dksX7_isInTheWayOf_2 3 rfl rfl)
theorem dX7_isInTheWayOf_51 : decode cX7_isInTheWayOf 51 = .ok (.ifCond .eq 5, 3) := dk_153 0 5 (dk_at dksX7_isInTheWayOf_2 6 rfl rfl)
theorem dX7_isInTheWayOf_54 : decode cX7_isInTheWayOf 54 = .ok (.iconst 1, 1) := dk_4 (dk_at dksX7_isInTheWayOf_2 9 rfl rfl)
theorem dX7_isInTheWayOf_55 : decode cX7_isInTheWayOf 55 = .ok (.ireturn, 1) := dk_172 (dk_at dksX7_isInTheWayOf_2 10 rfl rfl)
theorem dX7_isInTheWayOf_56 : decode cX7_isInTheWayOf 56 = .ok (.iinc 3 1, 3) := dk_132 3 1 (dk_at dksX7_isInTheWayOf_2 11 rfl rfl)
theorem dX7_isInTheWayOf_59 : decode cX7_isInTheWayOf 59 = .ok (.goto (-44), 3) := dk_167 255 212 (dk_at dksX7_isInTheWayOf_2 14 rfl rfl)
theorem dX7_isInTheWayOf_62 : decode cX7_isInTheWayOf 62 = .ok (.iinc 2 1, 3) := dk_132 2 1 (dk_at dksX7_isInTheWayOf_2 17 rfl rfl)
theorem dX7_isInTheWayOf_65 : decode cX7_isInTheWayOf 65 = .ok (.goto (-63), 3) := dk_167 255 193 (dk_at dksX7_isInTheWayOf_2 20 rfl rfl)
theorem dX7_isInTheWayOf_68 : decode cX7_isInTheWayOf 68 = .ok (.iconst 0, 1) := dk_3 (dk_at dksX7_isInTheWayOf_2 23 rfl rfl)
theorem dX7_isInTheWayOf_69 : decode cX7_isInTheWayOf 69 = .ok (.ireturn, 1) := dk_172 (dk_at dksX7_isInTheWayOf_3 0 rfl rfl)
abbrev cX7_lay : ByteArray := prog_10_method_6_code
def yX7_lay : MethodName := ⟨RX7, "lay", "(I)V"⟩
def dkwX7_lay_1 : List UInt8 := [182, 0, 63, 192, 0, 33, 27, 181, 0, 73, 132, 2, 1, 167, 255, 227, 177]
abbrev dktX7_lay_1 : List UInt8 := dkwX7_lay_1 ++ []
def dkwX7_lay_0 : List UInt8 := [42, 27, 181, 0, 22, 3, 61, 28, 42, 180, 0, 12, 182, 0, 59, 162, 0, 24, 42, 180, 0, 12, 28]
abbrev dktX7_lay_0 : List UInt8 := dkwX7_lay_0 ++ dktX7_lay_1
theorem dksX7_lay_0 : cX7_lay.data.toList.drop 0 = dktX7_lay_0 := by decide +kernel
theorem dksX7_lay_1 : cX7_lay.data.toList.drop 23 = dktX7_lay_1 := dk_seg dksX7_lay_0 23 rfl rfl
theorem dX7_lay_0 : decode cX7_lay 0 = .ok (.aload_n 0, 1) := dk_42 (dk_at dksX7_lay_0 0 rfl rfl)
theorem dX7_lay_1 : decode cX7_lay 1 = .ok (.iload_n 1, 1) := dk_27 (dk_at dksX7_lay_0 1 rfl rfl)
theorem dX7_lay_2 : decode cX7_lay 2 = .ok (.putfield 22, 3) := dk_181 0 22 (dk_at dksX7_lay_0 2 rfl rfl)
theorem dX7_lay_5 : decode cX7_lay 5 = .ok (.iconst 0, 1) := dk_3 (dk_at dksX7_lay_0 5 rfl rfl)
theorem dX7_lay_6 : decode cX7_lay 6 = .ok (.istore_n 2, 1) := dk_61 (dk_at dksX7_lay_0 6 rfl rfl)
theorem dX7_lay_7 : decode cX7_lay 7 = .ok (.iload_n 2, 1) := dk_28 (dk_at dksX7_lay_0 7 rfl rfl)
theorem dX7_lay_8 : decode cX7_lay 8 = .ok (.aload_n 0, 1) := dk_42 (dk_at dksX7_lay_0 8 rfl rfl)
theorem dX7_lay_9 : decode cX7_lay 9 = .ok (.getfield 12, 3) := dk_180 0 12 (dk_at dksX7_lay_0 9 rfl rfl)
theorem dX7_lay_12 : decode cX7_lay 12 = .ok (.invokevirtual 59, 3) := dk_182 0 59 (dk_at dksX7_lay_0 12 rfl rfl)
theorem dX7_lay_15 : decode cX7_lay 15 = .ok (.if_icmp .ge 24, 3) := dk_162 0 24 (dk_at dksX7_lay_0 15 rfl rfl)
theorem dX7_lay_18 : decode cX7_lay 18 = .ok (.aload_n 0, 1) := dk_42 (dk_at dksX7_lay_0 18 rfl rfl)
theorem dX7_lay_19 : decode cX7_lay 19 = .ok (.getfield 12, 3) := dk_180 0 12 (dk_at dksX7_lay_0 19 rfl rfl)
theorem dX7_lay_22 : decode cX7_lay 22 = .ok (.iload_n 2, 1) := dk_28 (dk_at dksX7_lay_0 22 rfl rfl)
theorem dX7_lay_23 : decode cX7_lay 23 = .ok (.invokevirtual 63, 3) := dk_182 0 63 (dk_at dksX7_lay_1 0 rfl rfl)
theorem dX7_lay_26 : decode cX7_lay 26 = .ok (.checkcast 33, 3) := dk_192 0 33 (dk_at dksX7_lay_1 3 rfl rfl)
theorem dX7_lay_29 : decode cX7_lay 29 = .ok (.iload_n 1, 1) := dk_27 (dk_at dksX7_lay_1 6 rfl rfl)
theorem dX7_lay_30 : decode cX7_lay 30 = .ok (.putfield 73, 3) := dk_181 0 73 (dk_at dksX7_lay_1 7 rfl rfl)
theorem dX7_lay_33 : decode cX7_lay 33 = .ok (.iinc 2 1, 3) := dk_132 2 1 (dk_at dksX7_lay_1 10 rfl rfl)
theorem dX7_lay_36 : decode cX7_lay 36 = .ok (.goto (-29), 3) := dk_167 255 227 (dk_at dksX7_lay_1 13 rfl rfl)
theorem dX7_lay_39 : decode cX7_lay 39 = .ok (.return_, 1) := dk_177 (dk_at dksX7_lay_1 16 rfl rfl)
theorem q109 : (Jvm.Cond.initialized "DimensionLines$Unit") ∈ lw_all := lw_g (lw_at lw_m1 24 rfl) rfl
theorem q514 : (Jvm.Cond.fieldLinkNest "DimensionLines$Unit" (45 : Nat) "DimensionLines$Point" "position" "I" "DimensionLines") ∈ lw_tbl := lw_at lw_m2 189 rfl
theorem q550 : (Jvm.Cond.selects "DimensionLines$Unit" ({ cls := "java/lang/Object", name := "getClass", desc := "()Ljava/lang/Class;" } : Jvm.MethodName) ({ cls := "java/lang/Object", name := "getClass", desc := "()Ljava/lang/Class;" } : Jvm.MethodName)) ∈ lw_all := lw_g (lw_at lw_m2 225 rfl) rfl
theorem q588 : (Jvm.Cond.fieldLinkNest "DimensionLines$Unit" (41 : Nat) "DimensionLines$Dimension" "first" "LDimensionLines$Point;" "DimensionLines") ∈ lw_tbl := lw_at lw_m3 23 rfl
theorem q593 : (Jvm.Cond.fieldLinkNest "DimensionLines$Unit" (56 : Nat) "DimensionLines$Dimension" "second" "LDimensionLines$Point;" "DimensionLines") ∈ lw_tbl := lw_at lw_m3 28 rfl
theorem q607 : (Jvm.Cond.fieldLinkNest "DimensionLines$Unit" (32 : Nat) "DimensionLines$Dimension" "least" "I" "DimensionLines") ∈ lw_tbl := lw_at lw_m3 42 rfl
theorem q616 : (Jvm.Cond.fieldLinkNest "DimensionLines$Unit" (73 : Nat) "DimensionLines$Dimension" "lane" "I" "DimensionLines") ∈ lw_tbl := lw_at lw_m3 51 rfl
theorem q693 : (Jvm.Cond.selects "DimensionLines$Unit" ({ cls := "java/lang/Object", name := "equals", desc := "(Ljava/lang/Object;)Z" } : Jvm.MethodName) ({ cls := "java/lang/Object", name := "equals", desc := "(Ljava/lang/Object;)Z" } : Jvm.MethodName)) ∈ lw_all := lw_g (lw_at lw_m3 128 rfl) rfl
theorem q813 : (Jvm.Cond.instantiable "DimensionLines$Unit" (5 : Nat)) ∈ lw_all := lw_g (lw_at lw_m4 8 rfl) rfl
theorem q815 : (Jvm.Cond.instanceMethod ({ cls := "DimensionLines$Unit", name := "<init>", desc := "()V" } : Jvm.MethodName)) ∈ lw_all := lw_g (lw_at lw_m4 10 rfl) rfl
theorem q816 : (Jvm.Cond.code ({ cls := "DimensionLines$Unit", name := "<init>", desc := "()V" } : Jvm.MethodName) prog_10_method_1_code (1 : Nat) (Option.none : Option Jvm.ClassFile.FieldType)) ∈ lw_all := lw_g (lw_at lw_m4 11 rfl) rfl
theorem q817 : (Jvm.Cond.methodLink "DimensionLines$Unit" (3 : Nat) ({ cls := "java/lang/Object", name := "<init>", desc := "()V" } : Jvm.MethodName)) ∈ lw_all := lw_g (lw_at lw_m4 12 rfl) rfl
theorem q818 : (Jvm.Cond.classLink "DimensionLines$Unit" (9 : Nat) "java/util/ArrayList") ∈ lw_all := lw_g (lw_at lw_m4 13 rfl) rfl
theorem q819 : (Jvm.Cond.methodLink "DimensionLines$Unit" (11 : Nat) ({ cls := "java/util/ArrayList", name := "<init>", desc := "()V" } : Jvm.MethodName)) ∈ lw_all := lw_g (lw_at lw_m4 14 rfl) rfl
theorem q820 : (Jvm.Cond.fieldLink "DimensionLines$Unit" (12 : Nat) "DimensionLines$Unit" "dimensions" "Ljava/util/ArrayList;") ∈ lw_all := lw_g (lw_at lw_m4 15 rfl) rfl
theorem q822 : (Jvm.Cond.fieldLink "DimensionLines$Unit" (29 : Nat) "DimensionLines$Unit" "least" "I") ∈ lw_all := lw_g (lw_at lw_m4 17 rfl) rfl
theorem q824 : (Jvm.Cond.fieldLink "DimensionLines$Unit" (18 : Nat) "DimensionLines$Unit" "begin" "I") ∈ lw_all := lw_g (lw_at lw_m4 19 rfl) rfl
theorem q827 : (Jvm.Cond.fieldLink "DimensionLines$Unit" (53 : Nat) "DimensionLines$Unit" "end" "I") ∈ lw_all := lw_g (lw_at lw_m4 22 rfl) rfl
theorem q830 : (Jvm.Cond.fieldLink "DimensionLines$Unit" (22 : Nat) "DimensionLines$Unit" "lane" "I") ∈ lw_all := lw_g (lw_at lw_m4 25 rfl) rfl
theorem q832 : (Jvm.Cond.laysFinal "DimensionLines$Unit" "DimensionLines$Unit" "dimensions" "Ljava/util/ArrayList;") ∈ lw_all := lw_g (lw_at lw_m4 27 rfl) rfl
theorem q833 : (Jvm.Cond.soleField "DimensionLines$Unit" "dimensions") ∈ lw_all := lw_g (lw_at lw_m4 28 rfl) rfl
theorem q834 : (Jvm.Cond.lays "DimensionLines$Unit" "DimensionLines$Unit" "least" "I") ∈ lw_all := lw_g (lw_at lw_m4 29 rfl) rfl
theorem q835 : (Jvm.Cond.soleField "DimensionLines$Unit" "least") ∈ lw_all := lw_g (lw_at lw_m4 30 rfl) rfl
theorem q836 : (Jvm.Cond.lays "DimensionLines$Unit" "DimensionLines$Unit" "begin" "I") ∈ lw_all := lw_g (lw_at lw_m4 31 rfl) rfl
theorem q837 : (Jvm.Cond.soleField "DimensionLines$Unit" "begin") ∈ lw_all := lw_g (lw_at lw_m4 32 rfl) rfl
theorem q838 : (Jvm.Cond.lays "DimensionLines$Unit" "DimensionLines$Unit" "end" "I") ∈ lw_all := lw_g (lw_at lw_m4 33 rfl) rfl
theorem q839 : (Jvm.Cond.soleField "DimensionLines$Unit" "end") ∈ lw_all := lw_g (lw_at lw_m4 34 rfl) rfl
theorem q840 : (Jvm.Cond.lays "DimensionLines$Unit" "DimensionLines$Unit" "lane" "I") ∈ lw_all := lw_g (lw_at lw_m4 35 rfl) rfl
theorem q841 : (Jvm.Cond.soleField "DimensionLines$Unit" "lane") ∈ lw_all := lw_g (lw_at lw_m4 36 rfl) rfl
theorem q842 : (Jvm.Cond.superclass "DimensionLines$Unit" "java/lang/Object") ∈ lw_all := lw_g (lw_at lw_m4 37 rfl) rfl
theorem q844 : (Jvm.Cond.instanceMethod ({ cls := "DimensionLines$Unit", name := "add", desc := "(LDimensionLines$Dimension;)V" } : Jvm.MethodName)) ∈ lw_all := lw_g (lw_at lw_m4 39 rfl) rfl
theorem q845 : (Jvm.Cond.selects "DimensionLines$Unit" ({ cls := "DimensionLines$Unit", name := "add", desc := "(LDimensionLines$Dimension;)V" } : Jvm.MethodName) ({ cls := "DimensionLines$Unit", name := "add", desc := "(LDimensionLines$Dimension;)V" } : Jvm.MethodName)) ∈ lw_all := lw_g (lw_at lw_m4 40 rfl) rfl
theorem q846 : (Jvm.Cond.code ({ cls := "DimensionLines$Unit", name := "add", desc := "(LDimensionLines$Dimension;)V" } : Jvm.MethodName) prog_10_method_2_code (2 : Nat) (Option.none : Option Jvm.ClassFile.FieldType)) ∈ lw_all := lw_g (lw_at lw_m4 41 rfl) rfl
theorem q847 : (Jvm.Cond.methodLink "DimensionLines$Unit" (25 : Nat) ({ cls := "java/util/ArrayList", name := "add", desc := "(Ljava/lang/Object;)Z" } : Jvm.MethodName)) ∈ lw_all := lw_g (lw_at lw_m4 42 rfl) rfl
theorem q848 : (Jvm.Cond.methodLink "DimensionLines$Unit" (35 : Nat) ({ cls := "java/lang/Math", name := "max", desc := "(II)I" } : Jvm.MethodName)) ∈ lw_all := lw_g (lw_at lw_m4 43 rfl) rfl
theorem q849 : (Jvm.Cond.methodLink "DimensionLines$Unit" (50 : Nat) ({ cls := "java/lang/Math", name := "min", desc := "(II)I" } : Jvm.MethodName)) ∈ lw_all := lw_g (lw_at lw_m4 44 rfl) rfl
theorem q857 : (Jvm.Cond.unhidden "DimensionLines$Unit" "length" "()I") ∈ lw_tbl := lw_at lw_m4 52 rfl
theorem q871 : (Jvm.Cond.castable "DimensionLines$Unit" "DimensionLines$Stretch") ∈ lw_tbl := lw_at lw_m4 66 rfl
theorem q872 : (Jvm.Cond.selects "DimensionLines$Unit" ({ cls := "DimensionLines$Stretch", name := "end", desc := "()I" } : Jvm.MethodName) ({ cls := "DimensionLines$Unit", name := "end", desc := "()I" } : Jvm.MethodName)) ∈ lw_all := lw_g (lw_at lw_m4 67 rfl) rfl
theorem q873 : (Jvm.Cond.unhidden "DimensionLines$Unit" "end" "()I") ∈ lw_tbl := lw_at lw_m4 68 rfl
theorem q874 : (Jvm.Cond.instanceMethod ({ cls := "DimensionLines$Unit", name := "end", desc := "()I" } : Jvm.MethodName)) ∈ lw_all := lw_g (lw_at lw_m4 69 rfl) rfl
theorem q875 : (Jvm.Cond.publicMethod ({ cls := "DimensionLines$Unit", name := "end", desc := "()I" } : Jvm.MethodName)) ∈ lw_tbl := lw_at lw_m4 70 rfl
theorem q876 : (Jvm.Cond.code ({ cls := "DimensionLines$Unit", name := "end", desc := "()I" } : Jvm.MethodName) prog_10_method_4_code (1 : Nat) (Option.some Jvm.ClassFile.FieldType.int)) ∈ lw_all := lw_g (lw_at lw_m4 71 rfl) rfl
theorem q886 : (Jvm.Cond.selects "DimensionLines$Unit" ({ cls := "DimensionLines$Stretch", name := "begin", desc := "()I" } : Jvm.MethodName) ({ cls := "DimensionLines$Unit", name := "begin", desc := "()I" } : Jvm.MethodName)) ∈ lw_all := lw_g (lw_at lw_m4 81 rfl) rfl
theorem q887 : (Jvm.Cond.unhidden "DimensionLines$Unit" "begin" "()I") ∈ lw_tbl := lw_at lw_m4 82 rfl
theorem q888 : (Jvm.Cond.instanceMethod ({ cls := "DimensionLines$Unit", name := "begin", desc := "()I" } : Jvm.MethodName)) ∈ lw_all := lw_g (lw_at lw_m4 83 rfl) rfl
theorem q889 : (Jvm.Cond.publicMethod ({ cls := "DimensionLines$Unit", name := "begin", desc := "()I" } : Jvm.MethodName)) ∈ lw_tbl := lw_at lw_m4 84 rfl
theorem q890 : (Jvm.Cond.code ({ cls := "DimensionLines$Unit", name := "begin", desc := "()I" } : Jvm.MethodName) prog_10_method_3_code (1 : Nat) (Option.some Jvm.ClassFile.FieldType.int)) ∈ lw_all := lw_g (lw_at lw_m4 85 rfl) rfl
theorem q924 : (Jvm.Cond.unhidden "DimensionLines$Unit" "covers" "(LDimensionLines$Stretch;)Z") ∈ lw_tbl := lw_at lw_m4 119 rfl
theorem q934 : (Jvm.Cond.instanceMethod ({ cls := "DimensionLines$Unit", name := "isInTheWayOf", desc := "(LDimensionLines$Unit;)Z" } : Jvm.MethodName)) ∈ lw_all := lw_g (lw_at lw_m4 129 rfl) rfl
theorem q935 : (Jvm.Cond.selects "DimensionLines$Unit" ({ cls := "DimensionLines$Unit", name := "isInTheWayOf", desc := "(LDimensionLines$Unit;)Z" } : Jvm.MethodName) ({ cls := "DimensionLines$Unit", name := "isInTheWayOf", desc := "(LDimensionLines$Unit;)Z" } : Jvm.MethodName)) ∈ lw_all := lw_g (lw_at lw_m4 130 rfl) rfl
theorem q936 : (Jvm.Cond.code ({ cls := "DimensionLines$Unit", name := "isInTheWayOf", desc := "(LDimensionLines$Unit;)Z" } : Jvm.MethodName) prog_10_method_5_code (4 : Nat) (Option.some Jvm.ClassFile.FieldType.boolean)) ∈ lw_all := lw_g (lw_at lw_m4 131 rfl) rfl
theorem q937 : (Jvm.Cond.methodLink "DimensionLines$Unit" (59 : Nat) ({ cls := "java/util/ArrayList", name := "size", desc := "()I" } : Jvm.MethodName)) ∈ lw_all := lw_g (lw_at lw_m4 132 rfl) rfl
theorem q938 : (Jvm.Cond.methodLink "DimensionLines$Unit" (63 : Nat) ({ cls := "java/util/ArrayList", name := "get", desc := "(I)Ljava/lang/Object;" } : Jvm.MethodName)) ∈ lw_all := lw_g (lw_at lw_m4 133 rfl) rfl
theorem q939 : (Jvm.Cond.classLink "DimensionLines$Unit" (67 : Nat) "DimensionLines$Stretch") ∈ lw_all := lw_g (lw_at lw_m4 134 rfl) rfl
theorem q940 : (Jvm.Cond.methodLink "DimensionLines$Unit" (69 : Nat) ({ cls := "DimensionLines$Stretch", name := "meet", desc := "(LDimensionLines$Stretch;LDimensionLines$Stretch;)Z" } : Jvm.MethodName)) ∈ lw_all := lw_g (lw_at lw_m4 135 rfl) rfl
theorem q944 : (Jvm.Cond.instanceMethod ({ cls := "DimensionLines$Unit", name := "lay", desc := "(I)V" } : Jvm.MethodName)) ∈ lw_all := lw_g (lw_at lw_m4 139 rfl) rfl
theorem q945 : (Jvm.Cond.selects "DimensionLines$Unit" ({ cls := "DimensionLines$Unit", name := "lay", desc := "(I)V" } : Jvm.MethodName) ({ cls := "DimensionLines$Unit", name := "lay", desc := "(I)V" } : Jvm.MethodName)) ∈ lw_all := lw_g (lw_at lw_m4 140 rfl) rfl
theorem q946 : (Jvm.Cond.code ({ cls := "DimensionLines$Unit", name := "lay", desc := "(I)V" } : Jvm.MethodName) prog_10_method_6_code (3 : Nat) (Option.none : Option Jvm.ClassFile.FieldType)) ∈ lw_all := lw_g (lw_at lw_m4 141 rfl) rfl
theorem q947 : (Jvm.Cond.classLink "DimensionLines$Unit" (33 : Nat) "DimensionLines$Dimension") ∈ lw_all := lw_g (lw_at lw_m4 142 rfl) rfl
theorem q1595 : (Jvm.Cond.selects "DimensionLines$Unit" ({ cls := "DimensionLines$Unit", name := "begin", desc := "()I" } : Jvm.MethodName) ({ cls := "DimensionLines$Unit", name := "begin", desc := "()I" } : Jvm.MethodName)) ∈ lw_all := lw_g (lw_at lw_m7 70 rfl) rfl
theorem q1599 : (Jvm.Cond.castable "DimensionLines$Unit" "java/lang/Object") ∈ lw_tbl := lw_at lw_m7 74 rfl
theorem in_X7 : ∀ w ∈ wsX70, w ∈ lw_all := lw_in wsX70 [832, 834, 836, 838, 840] (by decide +kernel) (by decide +kernel)

/-! DimensionLines$Stretch -/
set_option maxRecDepth 100000
def RX8 : String := "DimensionLines$Stretch"
abbrev cX8_length : ByteArray := prog_9_method_3_code
def yX8_length : MethodName := ⟨RX8, "length", "()I"⟩
def dkwX8_length_0 : List UInt8 := [42, 185, 0, 1, 1, 0, 42, 185, 0, 7, 1, 0, 100, 172]
abbrev dktX8_length_0 : List UInt8 := dkwX8_length_0 ++ []
theorem dksX8_length_0 : cX8_length.data.toList.drop 0 = dktX8_length_0 := by decide +kernel
theorem dX8_length_0 : decode cX8_length 0 = .ok (.aload_n 0, 1) := dk_42 (dk_at dksX8_length_0 0 rfl rfl)
theorem dX8_length_1 : decode cX8_length 1 = .ok (.invokeinterface 1 1, 5) := by decide +kernel
theorem dX8_length_6 : decode cX8_length 6 = .ok (.aload_n 0, 1) := dk_42 (dk_at dksX8_length_0 6 rfl rfl)
theorem dX8_length_7 : decode cX8_length 7 = .ok (.invokeinterface 7 1, 5) := by decide +kernel
theorem dX8_length_12 : decode cX8_length 12 = .ok (.isub, 1) := dk_100 (dk_at dksX8_length_0 12 rfl rfl)
theorem dX8_length_13 : decode cX8_length 13 = .ok (.ireturn, 1) := dk_172 (dk_at dksX8_length_0 13 rfl rfl)
abbrev cX8_covers : ByteArray := prog_9_method_4_code
def yX8_covers : MethodName := ⟨RX8, "covers", "(LDimensionLines$Stretch;)Z"⟩
def dkwX8_covers_1 : List UInt8 := [185, 0, 1, 1, 0, 161, 0, 7, 4, 167, 0, 4, 3, 172]
abbrev dktX8_covers_1 : List UInt8 := dkwX8_covers_1 ++ []
def dkwX8_covers_0 : List UInt8 := [42, 185, 0, 7, 1, 0, 43, 185, 0, 7, 1, 0, 163, 0, 22, 42, 185, 0, 1, 1, 0, 43]
abbrev dktX8_covers_0 : List UInt8 := dkwX8_covers_0 ++ dktX8_covers_1
theorem dksX8_covers_0 : cX8_covers.data.toList.drop 0 = dktX8_covers_0 := by decide +kernel
theorem dksX8_covers_1 : cX8_covers.data.toList.drop 22 = dktX8_covers_1 := dk_seg dksX8_covers_0 22 rfl rfl
theorem dX8_covers_0 : decode cX8_covers 0 = .ok (.aload_n 0, 1) := dk_42 (dk_at dksX8_covers_0 0 rfl rfl)
theorem dX8_covers_1 : decode cX8_covers 1 = .ok (.invokeinterface 7 1, 5) := by decide +kernel
theorem dX8_covers_6 : decode cX8_covers 6 = .ok (.aload_n 1, 1) := dk_43 (dk_at dksX8_covers_0 6 rfl rfl)
theorem dX8_covers_7 : decode cX8_covers 7 = .ok (.invokeinterface 7 1, 5) := by decide +kernel
theorem dX8_covers_12 : decode cX8_covers 12 = .ok (.if_icmp .gt 22, 3) := dk_163 0 22 (dk_at dksX8_covers_0 12 rfl rfl)
theorem dX8_covers_15 : decode cX8_covers 15 = .ok (.aload_n 0, 1) := dk_42 (dk_at dksX8_covers_0 15 rfl rfl)
theorem dX8_covers_16 : decode cX8_covers 16 = .ok (.invokeinterface 1 1, 5) := by decide +kernel
theorem dX8_covers_21 : decode cX8_covers 21 = .ok (.aload_n 1, 1) := dk_43 (dk_at dksX8_covers_0 21 rfl rfl)
theorem dX8_covers_22 : decode cX8_covers 22 = .ok (.invokeinterface 1 1, 5) := by decide +kernel
theorem dX8_covers_27 : decode cX8_covers 27 = .ok (.if_icmp .lt 7, 3) := dk_161 0 7 (dk_at dksX8_covers_1 5 rfl rfl)
theorem dX8_covers_30 : decode cX8_covers 30 = .ok (.iconst 1, 1) := dk_4 (dk_at dksX8_covers_1 8 rfl rfl)
theorem dX8_covers_31 : decode cX8_covers 31 = .ok (.goto 4, 3) := dk_167 0 4 (dk_at dksX8_covers_1 9 rfl rfl)
theorem dX8_covers_34 : decode cX8_covers 34 = .ok (.iconst 0, 1) := dk_3 (dk_at dksX8_covers_1 12 rfl rfl)
theorem dX8_covers_35 : decode cX8_covers 35 = .ok (.ireturn, 1) := dk_172 (dk_at dksX8_covers_1 13 rfl rfl)
abbrev cX8_meet : ByteArray := prog_9_method_5_code
def yX8_meet : MethodName := ⟨RX8, "meet", "(LDimensionLines$Stretch;LDimensionLines$Stretch;)Z"⟩
def dkwX8_meet_1 : List UInt8 := [185, 0, 1, 1, 0, 163, 0, 7, 4, 167, 0, 4, 3, 172]
abbrev dktX8_meet_1 : List UInt8 := dkwX8_meet_1 ++ []
def dkwX8_meet_0 : List UInt8 := [42, 185, 0, 7, 1, 0, 43, 185, 0, 1, 1, 0, 163, 0, 22, 43, 185, 0, 7, 1, 0, 42]
abbrev dktX8_meet_0 : List UInt8 := dkwX8_meet_0 ++ dktX8_meet_1
theorem dksX8_meet_0 : cX8_meet.data.toList.drop 0 = dktX8_meet_0 := by decide +kernel
theorem dksX8_meet_1 : cX8_meet.data.toList.drop 22 = dktX8_meet_1 := dk_seg dksX8_meet_0 22 rfl rfl
theorem dX8_meet_0 : decode cX8_meet 0 = .ok (.aload_n 0, 1) := dk_42 (dk_at dksX8_meet_0 0 rfl rfl)
theorem dX8_meet_1 : decode cX8_meet 1 = .ok (.invokeinterface 7 1, 5) := by decide +kernel
theorem dX8_meet_6 : decode cX8_meet 6 = .ok (.aload_n 1, 1) := dk_43 (dk_at dksX8_meet_0 6 rfl rfl)
theorem dX8_meet_7 : decode cX8_meet 7 = .ok (.invokeinterface 1 1, 5) := by decide +kernel
theorem dX8_meet_12 : decode cX8_meet 12 = .ok (.if_icmp .gt 22, 3) := dk_163 0 22 (dk_at dksX8_meet_0 12 rfl rfl)
theorem dX8_meet_15 : decode cX8_meet 15 = .ok (.aload_n 1, 1) := dk_43 (dk_at dksX8_meet_0 15 rfl rfl)
theorem dX8_meet_16 : decode cX8_meet 16 = .ok (.invokeinterface 7 1, 5) := by decide +kernel
theorem dX8_meet_21 : decode cX8_meet 21 = .ok (.aload_n 0, 1) := dk_42 (dk_at dksX8_meet_0 21 rfl rfl)
theorem dX8_meet_22 : decode cX8_meet 22 = .ok (.invokeinterface 1 1, 5) := by decide +kernel
theorem dX8_meet_27 : decode cX8_meet 27 = .ok (.if_icmp .gt 7, 3) := dk_163 0 7 (dk_at dksX8_meet_1 5 rfl rfl)
theorem dX8_meet_30 : decode cX8_meet 30 = .ok (.iconst 1, 1) := dk_4 (dk_at dksX8_meet_1 8 rfl rfl)
theorem dX8_meet_31 : decode cX8_meet 31 = .ok (.goto 4, 3) := dk_167 0 4 (dk_at dksX8_meet_1 9 rfl rfl)
theorem dX8_meet_34 : decode cX8_meet 34 = .ok (.iconst 0, 1) := dk_3 (dk_at dksX8_meet_1 12 rfl rfl)
theorem dX8_meet_35 : decode cX8_meet 35 = .ok (.ireturn, 1) := dk_172 (dk_at dksX8_meet_1 13 rfl rfl)
theorem q110 : (Jvm.Cond.initialized "DimensionLines$Stretch") ∈ lw_all := lw_g (lw_at lw_m1 25 rfl) rfl
theorem q856 : (Jvm.Cond.declares ({ cls := "DimensionLines$Stretch", name := "length", desc := "()I" } : Jvm.MethodName)) ∈ lw_tbl := lw_at lw_m4 51 rfl
theorem q858 : (Jvm.Cond.instanceMethod ({ cls := "DimensionLines$Stretch", name := "length", desc := "()I" } : Jvm.MethodName)) ∈ lw_all := lw_g (lw_at lw_m4 53 rfl) rfl
theorem q859 : (Jvm.Cond.publicMethod ({ cls := "DimensionLines$Stretch", name := "length", desc := "()I" } : Jvm.MethodName)) ∈ lw_tbl := lw_at lw_m4 54 rfl
theorem q860 : (Jvm.Cond.code ({ cls := "DimensionLines$Stretch", name := "length", desc := "()I" } : Jvm.MethodName) prog_9_method_3_code (1 : Nat) (Option.some Jvm.ClassFile.FieldType.int)) ∈ lw_all := lw_g (lw_at lw_m4 55 rfl) rfl
theorem q861 : (Jvm.Cond.interfaceEntry "DimensionLines$Stretch" (1 : Nat)) ∈ lw_tbl := lw_at lw_m4 56 rfl
theorem q862 : (Jvm.Cond.methodLink "DimensionLines$Stretch" (1 : Nat) ({ cls := "DimensionLines$Stretch", name := "end", desc := "()I" } : Jvm.MethodName)) ∈ lw_all := lw_g (lw_at lw_m4 57 rfl) rfl
theorem q863 : (Jvm.Cond.interfaceMethod "DimensionLines$Stretch" "DimensionLines$Stretch" "end" "()I") ∈ lw_tbl := lw_at lw_m4 58 rfl
theorem q864 : (Jvm.Cond.declares ({ cls := "DimensionLines$Stretch", name := "end", desc := "()I" } : Jvm.MethodName)) ∈ lw_tbl := lw_at lw_m4 59 rfl
theorem q877 : (Jvm.Cond.interfaceEntry "DimensionLines$Stretch" (7 : Nat)) ∈ lw_tbl := lw_at lw_m4 72 rfl
theorem q878 : (Jvm.Cond.methodLink "DimensionLines$Stretch" (7 : Nat) ({ cls := "DimensionLines$Stretch", name := "begin", desc := "()I" } : Jvm.MethodName)) ∈ lw_all := lw_g (lw_at lw_m4 73 rfl) rfl
theorem q879 : (Jvm.Cond.interfaceMethod "DimensionLines$Stretch" "DimensionLines$Stretch" "begin" "()I") ∈ lw_tbl := lw_at lw_m4 74 rfl
theorem q880 : (Jvm.Cond.declares ({ cls := "DimensionLines$Stretch", name := "begin", desc := "()I" } : Jvm.MethodName)) ∈ lw_tbl := lw_at lw_m4 75 rfl
theorem q923 : (Jvm.Cond.declares ({ cls := "DimensionLines$Stretch", name := "covers", desc := "(LDimensionLines$Stretch;)Z" } : Jvm.MethodName)) ∈ lw_tbl := lw_at lw_m4 118 rfl
theorem q925 : (Jvm.Cond.instanceMethod ({ cls := "DimensionLines$Stretch", name := "covers", desc := "(LDimensionLines$Stretch;)Z" } : Jvm.MethodName)) ∈ lw_all := lw_g (lw_at lw_m4 120 rfl) rfl
theorem q926 : (Jvm.Cond.publicMethod ({ cls := "DimensionLines$Stretch", name := "covers", desc := "(LDimensionLines$Stretch;)Z" } : Jvm.MethodName)) ∈ lw_tbl := lw_at lw_m4 121 rfl
theorem q927 : (Jvm.Cond.code ({ cls := "DimensionLines$Stretch", name := "covers", desc := "(LDimensionLines$Stretch;)Z" } : Jvm.MethodName) prog_9_method_4_code (2 : Nat) (Option.some Jvm.ClassFile.FieldType.boolean)) ∈ lw_all := lw_g (lw_at lw_m4 122 rfl) rfl
theorem q941 : (Jvm.Cond.static ({ cls := "DimensionLines$Stretch", name := "meet", desc := "(LDimensionLines$Stretch;LDimensionLines$Stretch;)Z" } : Jvm.MethodName)) ∈ lw_all := lw_g (lw_at lw_m4 136 rfl) rfl
theorem q942 : (Jvm.Cond.code ({ cls := "DimensionLines$Stretch", name := "meet", desc := "(LDimensionLines$Stretch;LDimensionLines$Stretch;)Z" } : Jvm.MethodName) prog_9_method_5_code (2 : Nat) (Option.some Jvm.ClassFile.FieldType.boolean)) ∈ lw_all := lw_g (lw_at lw_m4 137 rfl) rfl

/-! DimensionLines$Bounds -/
set_option maxRecDepth 100000
def RX9 : String := "DimensionLines$Bounds"
def TX9 : u_T := fun k => match k with
  | 0 => ("DimensionLines$Bounds", "n", "I", true)
  | _ => ("DimensionLines$Bounds", "most", "[I", true)
def tyX9 : Nat → FieldType := fun k => match k with
  | 0 => .int
  | _ => .array .int
abbrev wsX90 : List Cond := u_ws RX9 TX9 2
theorem nmX9 : ∀ a, a < 2 → ∀ b, b < 2 → a ≠ b → (TX9 a).2.1 ≠ (TX9 b).2.1 := by decide +kernel
theorem tyX9_ok : ∀ k, k < 2 → parseFieldDescriptor (TX9 k).2.2.1 = some (tyX9 k) := by decide +kernel
abbrev cX9_init : ByteArray := prog_2_method_1_code
def yX9_init : MethodName := ⟨RX9, "<init>", "(LDimensionLines$Drawing;II)V"⟩
def dkwX9_init_14 : List UInt8 := [167, 255, 140, 177]
abbrev dktX9_init_14 : List UInt8 := dkwX9_init_14 ++ []
def dkwX9_init_13 : List UInt8 := [42, 180, 0, 21, 112, 21, 6, 21, 7, 96, 182, 0, 58, 132, 5, 1, 167, 255, 158, 132, 4, 1]
abbrev dktX9_init_13 : List UInt8 := dkwX9_init_13 ++ dktX9_init_14
def dkwX9_init_12 : List UInt8 := [21, 6, 18, 31, 162, 0, 33, 21, 7, 18, 31, 162, 0, 26, 42, 21, 5, 42, 180, 0, 21, 108, 21, 5]
abbrev dktX9_init_12 : List UInt8 := dkwX9_init_12 ++ dktX9_init_13
def dkwX9_init_11 : List UInt8 := [54, 6, 42, 180, 0, 27, 21, 4, 42, 180, 0, 21, 104, 21, 5, 42, 180, 0, 21, 112, 96, 46, 54, 7]
abbrev dktX9_init_11 : List UInt8 := dkwX9_init_11 ++ dktX9_init_12
def dkwX9_init_10 : List UInt8 := [104, 162, 0, 90, 42, 180, 0, 27, 21, 5, 42, 180, 0, 21, 108, 42, 180, 0, 21, 104, 21, 4, 96, 46]
abbrev dktX9_init_10 : List UInt8 := dkwX9_init_10 ++ dktX9_init_11
def dkwX9_init_9 : List UInt8 := [54, 4, 21, 4, 42, 180, 0, 21, 162, 0, 113, 3, 54, 5, 21, 5, 42, 180, 0, 21, 42, 180, 0, 21]
abbrev dktX9_init_9 : List UInt8 := dkwX9_init_9 ++ dktX9_init_10
def dkwX9_init_8 : List UInt8 := [167, 0, 8, 25, 5, 180, 0, 62, 25, 5, 182, 0, 52, 100, 182, 0, 58, 132, 4, 1, 167, 255, 135, 3]
abbrev dktX9_init_8 : List UInt8 := dkwX9_init_8 ++ dktX9_init_9
def dkwX9_init_7 : List UInt8 := [167, 0, 8, 25, 5, 180, 0, 55, 96, 182, 0, 58, 42, 21, 7, 21, 6, 21, 4, 29, 160, 0, 7, 3]
abbrev dktX9_init_7 : List UInt8 := dkwX9_init_7 ++ dktX9_init_8
def dkwX9_init_6 : List UInt8 := [182, 0, 45, 54, 7, 42, 21, 6, 21, 7, 25, 5, 182, 0, 52, 21, 4, 29, 160, 0, 7, 3]
abbrev dktX9_init_6 : List UInt8 := dkwX9_init_6 ++ dktX9_init_7
def dkwX9_init_5 : List UInt8 := [180, 0, 9, 25, 5, 180, 0, 41, 182, 0, 45, 54, 6, 43, 180, 0, 9, 25, 5, 180, 0, 49]
abbrev dktX9_init_5 : List UInt8 := dkwX9_init_5 ++ dktX9_init_6
def dkwX9_init_4 : List UInt8 := [162, 0, 115, 21, 4, 28, 159, 0, 103, 43, 180, 0, 32, 21, 4, 182, 0, 35, 192, 0, 39, 58, 5, 43]
abbrev dktX9_init_4 : List UInt8 := dkwX9_init_4 ++ dktX9_init_5
def dkwX9_init_3 : List UInt8 := [167, 0, 5, 18, 31, 79, 132, 4, 1, 167, 255, 209, 3, 54, 4, 21, 4, 43, 180, 0, 32, 182, 0, 15]
abbrev dktX9_init_3 : List UInt8 := dkwX9_init_3 ++ dktX9_init_4
def dkwX9_init_2 : List UInt8 := [180, 0, 27, 21, 4, 21, 4, 42, 180, 0, 21, 108, 21, 4, 42, 180, 0, 21, 112, 160, 0, 7, 3]
abbrev dktX9_init_2 : List UInt8 := dkwX9_init_2 ++ dktX9_init_3
def dkwX9_init_1 : List UInt8 := [104, 188, 10, 181, 0, 27, 3, 54, 4, 21, 4, 42, 180, 0, 21, 42, 180, 0, 21, 104, 162, 0, 39, 42]
abbrev dktX9_init_1 : List UInt8 := dkwX9_init_1 ++ dktX9_init_2
def dkwX9_init_0 : List UInt8 := [42, 183, 0, 3, 42, 43, 180, 0, 9, 182, 0, 15, 181, 0, 21, 42, 42, 180, 0, 21, 42, 180, 0, 21]
abbrev dktX9_init_0 : List UInt8 := dkwX9_init_0 ++ dktX9_init_1
theorem dksX9_init_0 : cX9_init.data.toList.drop 0 = dktX9_init_0 := by decide +kernel
theorem dksX9_init_1 : cX9_init.data.toList.drop 24 = dktX9_init_1 := dk_seg dksX9_init_0 24 rfl rfl
theorem dksX9_init_2 : cX9_init.data.toList.drop 48 = dktX9_init_2 := dk_seg dksX9_init_1 24 rfl rfl
theorem dksX9_init_3 : cX9_init.data.toList.drop 71 = dktX9_init_3 := dk_seg dksX9_init_2 23 rfl rfl
theorem dksX9_init_4 : cX9_init.data.toList.drop 95 = dktX9_init_4 := dk_seg dksX9_init_3 24 rfl rfl
theorem dksX9_init_5 : cX9_init.data.toList.drop 119 = dktX9_init_5 := dk_seg dksX9_init_4 24 rfl rfl
theorem dksX9_init_6 : cX9_init.data.toList.drop 141 = dktX9_init_6 := dk_seg dksX9_init_5 22 rfl rfl
theorem dksX9_init_7 : cX9_init.data.toList.drop 163 = dktX9_init_7 := dk_seg dksX9_init_6 22 rfl rfl
theorem dksX9_init_8 : cX9_init.data.toList.drop 187 = dktX9_init_8 := dk_seg dksX9_init_7 24 rfl rfl
theorem dksX9_init_9 : cX9_init.data.toList.drop 211 = dktX9_init_9 := dk_seg dksX9_init_8 24 rfl rfl
theorem dksX9_init_10 : cX9_init.data.toList.drop 235 = dktX9_init_10 := dk_seg dksX9_init_9 24 rfl rfl
theorem dksX9_init_11 : cX9_init.data.toList.drop 259 = dktX9_init_11 := dk_seg dksX9_init_10 24 rfl rfl
theorem dksX9_init_12 : cX9_init.data.toList.drop 283 = dktX9_init_12 := dk_seg dksX9_init_11 24 rfl rfl
theorem dksX9_init_13 : cX9_init.data.toList.drop 307 = dktX9_init_13 := dk_seg dksX9_init_12 24 rfl rfl
theorem dksX9_init_14 : cX9_init.data.toList.drop 329 = dktX9_init_14 := dk_seg dksX9_init_13 22 rfl rfl
theorem dX9_init_0 : decode cX9_init 0 = .ok (.aload_n 0, 1) := dk_42 (dk_at dksX9_init_0 0 rfl rfl)
theorem dX9_init_1 : decode cX9_init 1 = .ok (.invokespecial 3, 3) := dk_183 0 3 (dk_at dksX9_init_0 1 rfl rfl)
theorem dX9_init_4 : decode cX9_init 4 = .ok (.aload_n 0, 1) := dk_42 (dk_at dksX9_init_0 4 rfl rfl)
theorem dX9_init_5 : decode cX9_init 5 = .ok (.aload_n 1, 1) := dk_43 (dk_at dksX9_init_0 5 rfl rfl)
theorem dX9_init_6 : decode cX9_init 6 = .ok (.getfield 9, 3) := dk_180 0 9 (dk_at dksX9_init_0 6 rfl rfl)
theorem dX9_init_9 : decode cX9_init 9 = .ok (.invokevirtual 15, 3) := dk_182 0 15 (dk_at dksX9_init_0 9 rfl rfl)
theorem dX9_init_12 : decode cX9_init 12 = .ok (.putfield 21, 3) := dk_181 0 21 (dk_at dksX9_init_0 12 rfl rfl)
theorem dX9_init_15 : decode cX9_init 15 = .ok (.aload_n 0, 1) := dk_42 (dk_at dksX9_init_0 15 rfl rfl)
theorem dX9_init_16 : decode cX9_init 16 = .ok (.aload_n 0, 1) := dk_42 (dk_at dksX9_init_0 16 rfl rfl)
theorem dX9_init_17 : decode cX9_init 17 = .ok (.getfield 21, 3) := dk_180 0 21 (dk_at dksX9_init_0 17 rfl rfl)
theorem dX9_init_20 : decode cX9_init 20 = .ok (.aload_n 0, 1) := dk_42 (dk_at dksX9_init_0 20 rfl rfl)
theorem dX9_init_21 : decode cX9_init 21 = .ok (.getfield 21, 3) := dk_180 0 21 (dk_at dksX9_init_0 21 rfl rfl)
theorem dX9_init_24 : decode cX9_init 24 = .ok (.imul, 1) := dk_104 (dk_at dksX9_init_1 0 rfl rfl)
theorem dX9_init_25 : decode cX9_init 25 = .ok (.newarray .int, 2) := dk_188_10 (dk_at dksX9_init_1 1 rfl rfl)
theorem dX9_init_27 : decode cX9_init 27 = .ok (.putfield 27, 3) := dk_181 0 27 (dk_at dksX9_init_1 3 rfl rfl)
theorem dX9_init_30 : decode cX9_init 30 = .ok (.iconst 0, 1) := dk_3 (dk_at dksX9_init_1 6 rfl rfl)
theorem dX9_init_31 : decode cX9_init 31 = .ok (.istore 4, 2) := dk_54 4 (dk_at dksX9_init_1 7 rfl rfl)
theorem dX9_init_33 : decode cX9_init 33 = .ok (.iload 4, 2) := dk_21 4 (dk_at dksX9_init_1 9 rfl rfl)
theorem dX9_init_35 : decode cX9_init 35 = .ok (.aload_n 0, 1) := dk_42 (dk_at dksX9_init_1 11 rfl rfl)
theorem dX9_init_36 : decode cX9_init 36 = .ok (.getfield 21, 3) := dk_180 0 21 (dk_at dksX9_init_1 12 rfl rfl)
theorem dX9_init_39 : decode cX9_init 39 = .ok (.aload_n 0, 1) := dk_42 (dk_at dksX9_init_1 15 rfl rfl)
theorem dX9_init_40 : decode cX9_init 40 = .ok (.getfield 21, 3) := dk_180 0 21 (dk_at dksX9_init_1 16 rfl rfl)
theorem dX9_init_43 : decode cX9_init 43 = .ok (.imul, 1) := dk_104 (dk_at dksX9_init_1 19 rfl rfl)
theorem dX9_init_44 : decode cX9_init 44 = .ok (.if_icmp .ge 39, 3) := dk_162 0 39 (dk_at dksX9_init_1 20 rfl rfl)
theorem dX9_init_47 : decode cX9_init 47 = .ok (.aload_n 0, 1) := dk_42 (dk_at dksX9_init_1 23 rfl rfl)
theorem dX9_init_48 : decode cX9_init 48 = .ok (.getfield 27, 3) := dk_180 0 27 (dk_at dksX9_init_2 0 rfl rfl)
theorem dX9_init_51 : decode cX9_init 51 = .ok (.iload 4, 2) := dk_21 4 (dk_at dksX9_init_2 3 rfl rfl)
theorem dX9_init_53 : decode cX9_init 53 = .ok (.iload 4, 2) := dk_21 4 (dk_at dksX9_init_2 5 rfl rfl)
theorem dX9_init_55 : decode cX9_init 55 = .ok (.aload_n 0, 1) := dk_42 (dk_at dksX9_init_2 7 rfl rfl)
theorem dX9_init_56 : decode cX9_init 56 = .ok (.getfield 21, 3) := dk_180 0 21 (dk_at dksX9_init_2 8 rfl rfl)
theorem dX9_init_59 : decode cX9_init 59 = .ok (.idiv, 1) := dk_108 (dk_at dksX9_init_2 11 rfl rfl)
theorem dX9_init_60 : decode cX9_init 60 = .ok (.iload 4, 2) := dk_21 4 (dk_at dksX9_init_2 12 rfl rfl)
theorem dX9_init_62 : decode cX9_init 62 = .ok (.aload_n 0, 1) := dk_42 (dk_at dksX9_init_2 14 rfl rfl)
theorem dX9_init_63 : decode cX9_init 63 = .ok (.getfield 21, 3) := dk_180 0 21 (dk_at dksX9_init_2 15 rfl rfl)
theorem dX9_init_66 : decode cX9_init 66 = .ok (.irem, 1) := dk_112 (dk_at dksX9_init_2 18 rfl rfl)
theorem dX9_init_67 : decode cX9_init 67 = .ok (.if_icmp .ne 7, 3) := dk_160 0 7 (dk_at dksX9_init_2 19 rfl rfl)
theorem dX9_init_70 : decode cX9_init 70 = .ok (.iconst 0, 1) := dk_3 (dk_at dksX9_init_2 22 rfl rfl)
theorem dX9_init_71 : decode cX9_init 71 = .ok (.goto 5, 3) := dk_167 0 5 (dk_at dksX9_init_3 0 rfl rfl)
theorem dX9_init_74 : decode cX9_init 74 = .ok (.ldc 31, 2) := dk_18 31 (dk_at dksX9_init_3 3 rfl rfl)
theorem dX9_init_76 : decode cX9_init 76 = .ok (.iastore, 1) := dk_79 (dk_at dksX9_init_3 5 rfl rfl)
theorem dX9_init_77 : decode cX9_init 77 = .ok (.iinc 4 1, 3) := dk_132 4 1 (dk_at dksX9_init_3 6 rfl rfl)
theorem dX9_init_80 : decode cX9_init 80 = .ok (.goto (-47), 3) := dk_167 255 209 (dk_at dksX9_init_3 9 rfl rfl)
theorem dX9_init_83 : decode cX9_init 83 = .ok (.iconst 0, 1) := dk_3 (dk_at dksX9_init_3 12 rfl rfl)
theorem dX9_init_84 : decode cX9_init 84 = .ok (.istore 4, 2) := dk_54 4 (dk_at dksX9_init_3 13 rfl rfl)
theorem dX9_init_86 : decode cX9_init 86 = .ok (.iload 4, 2) := dk_21 4 (dk_at dksX9_init_3 15 rfl rfl)
theorem dX9_init_88 : decode cX9_init 88 = .ok (.aload_n 1, 1) := dk_43 (dk_at dksX9_init_3 17 rfl rfl)
theorem dX9_init_89 : decode cX9_init 89 = .ok (.getfield 32, 3) := dk_180 0 32 (dk_at dksX9_init_3 18 rfl rfl)
theorem dX9_init_92 : decode cX9_init 92 = .ok (.invokevirtual 15, 3) := dk_182 0 15 (dk_at dksX9_init_3 21 rfl rfl)
theorem dX9_init_95 : decode cX9_init 95 = .ok (.if_icmp .ge 115, 3) := dk_162 0 115 (dk_at dksX9_init_4 0 rfl rfl)
theorem dX9_init_98 : decode cX9_init 98 = .ok (.iload 4, 2) := dk_21 4 (dk_at dksX9_init_4 3 rfl rfl)
theorem dX9_init_100 : decode cX9_init 100 = .ok (.iload_n 2, 1) := dk_28 (dk_at dksX9_init_4 5 rfl rfl)
theorem dX9_init_101 : decode cX9_init 101 = .ok (.if_icmp .eq 103, 3) := dk_159 0 103 (dk_at dksX9_init_4 6 rfl rfl)
theorem dX9_init_104 : decode cX9_init 104 = .ok (.aload_n 1, 1) := dk_43 (dk_at dksX9_init_4 9 rfl rfl)
theorem dX9_init_105 : decode cX9_init 105 = .ok (.getfield 32, 3) := dk_180 0 32 (dk_at dksX9_init_4 10 rfl rfl)
theorem dX9_init_108 : decode cX9_init 108 = .ok (.iload 4, 2) := dk_21 4 (dk_at dksX9_init_4 13 rfl rfl)
theorem dX9_init_110 : decode cX9_init 110 = .ok (.invokevirtual 35, 3) := dk_182 0 35 (dk_at dksX9_init_4 15 rfl rfl)
theorem dX9_init_113 : decode cX9_init 113 = .ok (.checkcast 39, 3) := dk_192 0 39 (dk_at dksX9_init_4 18 rfl rfl)
theorem dX9_init_116 : decode cX9_init 116 = .ok (.astore 5, 2) := dk_58 5 (dk_at dksX9_init_4 21 rfl rfl)
theorem dX9_init_118 : decode cX9_init 118 = .ok (.aload_n 1, 1) := dk_43 (dk_at dksX9_init_4 23 rfl rfl)
theorem dX9_init_119 : decode cX9_init 119 = .ok (.getfield 9, 3) := dk_180 0 9 (dk_at dksX9_init_5 0 rfl rfl)
theorem dX9_init_122 : decode cX9_init 122 = .ok (.aload 5, 2) := dk_25 5 (dk_at dksX9_init_5 3 rfl rfl)
theorem dX9_init_124 : decode cX9_init 124 = .ok (.getfield 41, 3) := dk_180 0 41 (dk_at dksX9_init_5 5 rfl rfl)
theorem dX9_init_127 : decode cX9_init 127 = .ok (.invokevirtual 45, 3) := dk_182 0 45 (dk_at dksX9_init_5 8 rfl rfl)
theorem dX9_init_130 : decode cX9_init 130 = .ok (.istore 6, 2) := dk_54 6 (dk_at dksX9_init_5 11 rfl rfl)
theorem dX9_init_132 : decode cX9_init 132 = .ok (.aload_n 1, 1) := dk_43 (dk_at dksX9_init_5 13 rfl rfl)
theorem dX9_init_133 : decode cX9_init 133 = .ok (.getfield 9, 3) := dk_180 0 9 (dk_at dksX9_init_5 14 rfl rfl)
theorem dX9_init_136 : decode cX9_init 136 = .ok (.aload 5, 2) := dk_25 5 (dk_at dksX9_init_5 17 rfl rfl)
theorem dX9_init_138 : decode cX9_init 138 = .ok (.getfield 49, 3) := dk_180 0 49 (dk_at dksX9_init_5 19 rfl rfl)
theorem dX9_init_141 : decode cX9_init 141 = .ok (.invokevirtual 45, 3) := dk_182 0 45 (dk_at dksX9_init_6 0 rfl rfl)
theorem dX9_init_144 : decode cX9_init 144 = .ok (.istore 7, 2) := dk_54 7 (dk_at dksX9_init_6 3 rfl rfl)
theorem dX9_init_146 : decode cX9_init 146 = .ok (.aload_n 0, 1) := dk_42 (dk_at dksX9_init_6 5 rfl rfl)
theorem dX9_init_147 : decode cX9_init 147 = .ok (.iload 6, 2) := dk_21 6 (dk_at dksX9_init_6 6 rfl rfl)
theorem dX9_init_149 : decode cX9_init 149 = .ok (.iload 7, 2) := dk_21 7 (dk_at dksX9_init_6 8 rfl rfl)
theorem dX9_init_151 : decode cX9_init 151 = .ok (.aload 5, 2) := dk_25 5 (dk_at dksX9_init_6 10 rfl rfl)
theorem dX9_init_153 : decode cX9_init 153 = .ok (.invokevirtual 52, 3) := dk_182 0 52 (dk_at dksX9_init_6 12 rfl rfl)
theorem dX9_init_156 : decode cX9_init 156 = .ok (.iload 4, 2) := dk_21 4 (dk_at dksX9_init_6 15 rfl rfl)
theorem dX9_init_158 : decode cX9_init 158 = .ok (.iload_n 3, 1) := dk_29 (dk_at dksX9_init_6 17 rfl rfl)
theorem dX9_init_159 : decode cX9_init 159 = .ok (.if_icmp .ne 7, 3) := dk_160 0 7 (dk_at dksX9_init_6 18 rfl rfl)
theorem dX9_init_162 : decode cX9_init 162 = .ok (.iconst 0, 1) := dk_3 (dk_at dksX9_init_6 21 rfl rfl)
theorem dX9_init_163 : decode cX9_init 163 = .ok (.goto 8, 3) := dk_167 0 8 (dk_at dksX9_init_7 0 rfl rfl)
theorem dX9_init_166 : decode cX9_init 166 = .ok (.aload 5, 2) := dk_25 5 (dk_at dksX9_init_7 3 rfl rfl)
theorem dX9_init_168 : decode cX9_init 168 = .ok (.getfield 55, 3) := dk_180 0 55 (dk_at dksX9_init_7 5 rfl rfl)
theorem dX9_init_171 : decode cX9_init 171 = .ok (.iadd, 1) := dk_96 (dk_at dksX9_init_7 8 rfl rfl)
theorem dX9_init_172 : decode cX9_init 172 = .ok (.invokevirtual 58, 3) := dk_182 0 58 (dk_at dksX9_init_7 9 rfl rfl)
theorem dX9_init_175 : decode cX9_init 175 = .ok (.aload_n 0, 1) := dk_42 (dk_at dksX9_init_7 12 rfl rfl)
theorem dX9_init_176 : decode cX9_init 176 = .ok (.iload 7, 2) := dk_21 7 (dk_at dksX9_init_7 13 rfl rfl)
theorem dX9_init_178 : decode cX9_init 178 = .ok (.iload 6, 2) := dk_21 6 (dk_at dksX9_init_7 15 rfl rfl)
theorem dX9_init_180 : decode cX9_init 180 = .ok (.iload 4, 2) := dk_21 4 (dk_at dksX9_init_7 17 rfl rfl)
theorem dX9_init_182 : decode cX9_init 182 = .ok (.iload_n 3, 1) := dk_29 (dk_at dksX9_init_7 19 rfl rfl)
theorem dX9_init_183 : decode cX9_init 183 = .ok (.if_icmp .ne 7, 3) := dk_160 0 7 (dk_at dksX9_init_7 20 rfl rfl)
theorem dX9_init_186 : decode cX9_init 186 = .ok (.iconst 0, 1) := dk_3 (dk_at dksX9_init_7 23 rfl rfl)
theorem dX9_init_187 : decode cX9_init 187 = .ok (.goto 8, 3) := dk_167 0 8 (dk_at dksX9_init_8 0 rfl rfl)
theorem dX9_init_190 : decode cX9_init 190 = .ok (.aload 5, 2) := dk_25 5 (dk_at dksX9_init_8 3 rfl rfl)
theorem dX9_init_192 : decode cX9_init 192 = .ok (.getfield 62, 3) := dk_180 0 62 (dk_at dksX9_init_8 5 rfl rfl)
theorem dX9_init_195 : decode cX9_init 195 = .ok (.aload 5, 2) := dk_25 5 (dk_at dksX9_init_8 8 rfl rfl)
theorem dX9_init_197 : decode cX9_init 197 = .ok (.invokevirtual 52, 3) := dk_182 0 52 (dk_at dksX9_init_8 10 rfl rfl)
theorem dX9_init_200 : decode cX9_init 200 = .ok (.isub, 1) := dk_100 (dk_at dksX9_init_8 13 rfl rfl)
theorem dX9_init_201 : decode cX9_init 201 = .ok (.invokevirtual 58, 3) := dk_182 0 58 (dk_at dksX9_init_8 14 rfl rfl)
theorem dX9_init_204 : decode cX9_init 204 = .ok (.iinc 4 1, 3) := dk_132 4 1 (dk_at dksX9_init_8 17 rfl rfl)
theorem dX9_init_207 : decode cX9_init 207 = .ok (.goto (-121), 3) := dk_167 255 135 (dk_at dksX9_init_8 20 rfl rfl)
theorem dX9_init_210 : decode cX9_init 210 = .ok (.iconst 0, 1) := dk_3 (dk_at dksX9_init_8 23 rfl rfl)
theorem dX9_init_211 : decode cX9_init 211 = .ok (.istore 4, 2) := dk_54 4 (dk_at dksX9_init_9 0 rfl rfl)
theorem dX9_init_213 : decode cX9_init 213 = .ok (.iload 4, 2) := dk_21 4 (dk_at dksX9_init_9 2 rfl rfl)
theorem dX9_init_215 : decode cX9_init 215 = .ok (.aload_n 0, 1) := dk_42 (dk_at dksX9_init_9 4 rfl rfl)
theorem dX9_init_216 : decode cX9_init 216 = .ok (.getfield 21, 3) := dk_180 0 21 (dk_at dksX9_init_9 5 rfl rfl)
theorem dX9_init_219 : decode cX9_init 219 = .ok (.if_icmp .ge 113, 3) := dk_162 0 113 (dk_at dksX9_init_9 8 rfl rfl)
theorem dX9_init_222 : decode cX9_init 222 = .ok (.iconst 0, 1) := dk_3 (dk_at dksX9_init_9 11 rfl rfl)
theorem dX9_init_223 : decode cX9_init 223 = .ok (.istore 5, 2) := dk_54 5 (dk_at dksX9_init_9 12 rfl rfl)
theorem dX9_init_225 : decode cX9_init 225 = .ok (.iload 5, 2) := dk_21 5 (dk_at dksX9_init_9 14 rfl rfl)
theorem dX9_init_227 : decode cX9_init 227 = .ok (.aload_n 0, 1) := dk_42 (dk_at dksX9_init_9 16 rfl rfl)
theorem dX9_init_228 : decode cX9_init 228 = .ok (.getfield 21, 3) := dk_180 0 21 (dk_at dksX9_init_9 17 rfl rfl)
theorem dX9_init_231 : decode cX9_init 231 = .ok (.aload_n 0, 1) := dk_42 (dk_at dksX9_init_9 20 rfl rfl)
theorem dX9_init_232 : decode cX9_init 232 = .ok (.getfield 21, 3) := dk_180 0 21 (dk_at dksX9_init_9 21 rfl rfl)
theorem dX9_init_235 : decode cX9_init 235 = .ok (.imul, 1) := dk_104 (dk_at dksX9_init_10 0 rfl rfl)
theorem dX9_init_236 : decode cX9_init 236 = .ok (.if_icmp .ge 90, 3) := dk_162 0 90 (dk_at dksX9_init_10 1 rfl rfl)
theorem dX9_init_239 : decode cX9_init 239 = .ok (.aload_n 0, 1) := dk_42 (dk_at dksX9_init_10 4 rfl rfl)
theorem dX9_init_240 : decode cX9_init 240 = .ok (.getfield 27, 3) := dk_180 0 27 (dk_at dksX9_init_10 5 rfl rfl)
theorem dX9_init_243 : decode cX9_init 243 = .ok (.iload 5, 2) := dk_21 5 (dk_at dksX9_init_10 8 rfl rfl)
theorem dX9_init_245 : decode cX9_init 245 = .ok (.aload_n 0, 1) := dk_42 (dk_at dksX9_init_10 10 rfl rfl)
theorem dX9_init_246 : decode cX9_init 246 = .ok (.getfield 21, 3) := dk_180 0 21 (dk_at dksX9_init_10 11 rfl rfl)
theorem dX9_init_249 : decode cX9_init 249 = .ok (.idiv, 1) := dk_108 (dk_at dksX9_init_10 14 rfl rfl)
theorem dX9_init_250 : decode cX9_init 250 = .ok (.aload_n 0, 1) := dk_42 (dk_at dksX9_init_10 15 rfl rfl)
theorem dX9_init_251 : decode cX9_init 251 = .ok (.getfield 21, 3) := dk_180 0 21 (dk_at dksX9_init_10 16 rfl rfl)
theorem dX9_init_254 : decode cX9_init 254 = .ok (.imul, 1) := dk_104 (dk_at dksX9_init_10 19 rfl rfl)
theorem dX9_init_255 : decode cX9_init 255 = .ok (.iload 4, 2) := dk_21 4 (dk_at dksX9_init_10 20 rfl rfl)
theorem dX9_init_257 : decode cX9_init 257 = .ok (.iadd, 1) := dk_96 (dk_at dksX9_init_10 22 rfl rfl)
theorem dX9_init_258 : decode cX9_init 258 = .ok (.iaload, 1) := dk_46 (dk_at dksX9_init_10 23 rfl rfl)
theorem dX9_init_259 : decode cX9_init 259 = .ok (.istore 6, 2) := dk_54 6 (dk_at dksX9_init_11 0 rfl rfl)
theorem dX9_init_261 : decode cX9_init 261 = .ok (.aload_n 0, 1) := dk_42 (dk_at dksX9_init_11 2 rfl rfl)
theorem dX9_init_262 : decode cX9_init 262 = .ok (.getfield 27, 3) := dk_180 0 27 (dk_at dksX9_init_11 3 rfl rfl)
theorem dX9_init_265 : decode cX9_init 265 = .ok (.iload 4, 2) := dk_21 4 (dk_at dksX9_init_11 6 rfl rfl)
theorem dX9_init_267 : decode cX9_init 267 = .ok (.aload_n 0, 1) := dk_42 (dk_at dksX9_init_11 8 rfl rfl)
theorem dX9_init_268 : decode cX9_init 268 = .ok (.getfield 21, 3) := dk_180 0 21 (dk_at dksX9_init_11 9 rfl rfl)
theorem dX9_init_271 : decode cX9_init 271 = .ok (.imul, 1) := dk_104 (dk_at dksX9_init_11 12 rfl rfl)
theorem dX9_init_272 : decode cX9_init 272 = .ok (.iload 5, 2) := dk_21 5 (dk_at dksX9_init_11 13 rfl rfl)
theorem dX9_init_274 : decode cX9_init 274 = .ok (.aload_n 0, 1) := dk_42 (dk_at dksX9_init_11 15 rfl rfl)
theorem dX9_init_275 : decode cX9_init 275 = .ok (.getfield 21, 3) := dk_180 0 21 (dk_at dksX9_init_11 16 rfl rfl)
theorem dX9_init_278 : decode cX9_init 278 = .ok (.irem, 1) := dk_112 (dk_at dksX9_init_11 19 rfl rfl)
theorem dX9_init_279 : decode cX9_init 279 = .ok (.iadd, 1) := dk_96 (dk_at dksX9_init_11 20 rfl rfl)
theorem dX9_init_280 : decode cX9_init 280 = .ok (.iaload, 1) := dk_46 (dk_at dksX9_init_11 21 rfl rfl)
theorem dX9_init_281 : decode cX9_init 281 = .ok (.istore 7, 2) := dk_54 7 (dk_at dksX9_init_11 22 rfl rfl)
theorem dX9_init_283 : decode cX9_init 283 = .ok (.iload 6, 2) := dk_21 6 (dk_at dksX9_init_12 0 rfl rfl)
theorem dX9_init_285 : decode cX9_init 285 = .ok (.ldc 31, 2) := dk_18 31 (dk_at dksX9_init_12 2 rfl rfl)
theorem dX9_init_287 : decode cX9_init 287 = .ok (.if_icmp .ge 33, 3) := dk_162 0 33 (dk_at dksX9_init_12 4 rfl rfl)
theorem dX9_init_290 : decode cX9_init 290 = .ok (.iload 7, 2) := dk_21 7 (dk_at dksX9_init_12 7 rfl rfl)
theorem dX9_init_292 : decode cX9_init 292 = .ok (.ldc 31, 2) := dk_18 31 (dk_at dksX9_init_12 9 rfl rfl)
theorem dX9_init_294 : decode cX9_init 294 = .ok (.if_icmp .ge 26, 3) := dk_162 0 26 (dk_at dksX9_init_12 11 rfl rfl)
theorem dX9_init_297 : decode cX9_init 297 = .ok (.aload_n 0, 1) := dk_42 (dk_at dksX9_init_12 14 rfl rfl)
theorem dX9_init_298 : decode cX9_init 298 = .ok (.iload 5, 2) := dk_21 5 (dk_at dksX9_init_12 15 rfl rfl)
theorem dX9_init_300 : decode cX9_init 300 = .ok (.aload_n 0, 1) := dk_42 (dk_at dksX9_init_12 17 rfl rfl)
theorem dX9_init_301 : decode cX9_init 301 = .ok (.getfield 21, 3) := dk_180 0 21 (dk_at dksX9_init_12 18 rfl rfl)
theorem dX9_init_304 : decode cX9_init 304 = .ok (.idiv, 1) := dk_108 (dk_at dksX9_init_12 21 rfl rfl)
theorem dX9_init_305 : decode cX9_init 305 = .ok (.iload 5, 2) := dk_21 5 (dk_at dksX9_init_12 22 rfl rfl)
theorem dX9_init_307 : decode cX9_init 307 = .ok (.aload_n 0, 1) := dk_42 (dk_at dksX9_init_13 0 rfl rfl)
theorem dX9_init_308 : decode cX9_init 308 = .ok (.getfield 21, 3) := dk_180 0 21 (dk_at dksX9_init_13 1 rfl rfl)
theorem dX9_init_311 : decode cX9_init 311 = .ok (.irem, 1) := dk_112 (dk_at dksX9_init_13 4 rfl rfl)
theorem dX9_init_312 : decode cX9_init 312 = .ok (.iload 6, 2) := dk_21 6 (dk_at dksX9_init_13 5 rfl rfl)
theorem dX9_init_314 : decode cX9_init 314 = .ok (.iload 7, 2) := dk_21 7 (dk_at dksX9_init_13 7 rfl rfl)
theorem dX9_init_316 : decode cX9_init 316 = .ok (.iadd, 1) := dk_96 (dk_at dksX9_init_13 9 rfl rfl)
theorem dX9_init_317 : decode cX9_init 317 = .ok (.invokevirtual 58, 3) := dk_182 0 58 (dk_at dksX9_init_13 10 rfl rfl)
theorem dX9_init_320 : decode cX9_init 320 = .ok (.iinc 5 1, 3) := dk_132 5 1 (dk_at dksX9_init_13 13 rfl rfl)
theorem dX9_init_323 : decode cX9_init 323 = .ok (.goto (-98), 3) := dk_167 255 158 (dk_at dksX9_init_13 16 rfl rfl)
theorem dX9_init_326 : decode cX9_init 326 = .ok (.iinc 4 1, 3) := dk_132 4 1 (dk_at dksX9_init_13 19 rfl rfl)
theorem dX9_init_329 : decode cX9_init 329 = .ok (.goto (-116), 3) := dk_167 255 140 (dk_at dksX9_init_14 0 rfl rfl)
theorem dX9_init_332 : decode cX9_init 332 = .ok (.return_, 1) := dk_177 (dk_at dksX9_init_14 3 rfl rfl)
abbrev cX9_shorten : ByteArray := prog_2_method_2_code
def yX9_shorten : MethodName := ⟨RX9, "shorten", "(III)V"⟩
def dkwX9_shorten_1 : List UInt8 := [46, 29, 184, 0, 65, 79, 177]
abbrev dktX9_shorten_1 : List UInt8 := dkwX9_shorten_1 ++ []
def dkwX9_shorten_0 : List UInt8 := [42, 180, 0, 27, 27, 42, 180, 0, 21, 104, 28, 96, 42, 180, 0, 27, 27, 42, 180, 0, 21, 104, 28, 96]
abbrev dktX9_shorten_0 : List UInt8 := dkwX9_shorten_0 ++ dktX9_shorten_1
theorem dksX9_shorten_0 : cX9_shorten.data.toList.drop 0 = dktX9_shorten_0 := by decide +kernel
theorem dksX9_shorten_1 : cX9_shorten.data.toList.drop 24 = dktX9_shorten_1 := dk_seg dksX9_shorten_0 24 rfl rfl
theorem dX9_shorten_0 : decode cX9_shorten 0 = .ok (.aload_n 0, 1) := dk_42 (dk_at dksX9_shorten_0 0 rfl rfl)
theorem dX9_shorten_1 : decode cX9_shorten 1 = .ok (.getfield 27, 3) := dk_180 0 27 (dk_at dksX9_shorten_0 1 rfl rfl)
theorem dX9_shorten_4 : decode cX9_shorten 4 = .ok (.iload_n 1, 1) := dk_27 (dk_at dksX9_shorten_0 4 rfl rfl)
theorem dX9_shorten_5 : decode cX9_shorten 5 = .ok (.aload_n 0, 1) := dk_42 (dk_at dksX9_shorten_0 5 rfl rfl)
theorem dX9_shorten_6 : decode cX9_shorten 6 = .ok (.getfield 21, 3) := dk_180 0 21 (dk_at dksX9_shorten_0 6 rfl rfl)
theorem dX9_shorten_9 : decode cX9_shorten 9 = .ok (.imul, 1) := dk_104 (dk_at dksX9_shorten_0 9 rfl rfl)
theorem dX9_shorten_10 : decode cX9_shorten 10 = .ok (.iload_n 2, 1) := dk_28 (dk_at dksX9_shorten_0 10 rfl rfl)
theorem dX9_shorten_11 : decode cX9_shorten 11 = .ok (.iadd, 1) := dk_96 (dk_at dksX9_shorten_0 11 rfl rfl)
theorem dX9_shorten_12 : decode cX9_shorten 12 = .ok (.aload_n 0, 1) := dk_42 (dk_at dksX9_shorten_0 12 rfl rfl)
theorem dX9_shorten_13 : decode cX9_shorten 13 = .ok (.getfield 27, 3) := dk_180 0 27 (dk_at dksX9_shorten_0 13 rfl rfl)
theorem dX9_shorten_16 : decode cX9_shorten 16 = .ok (.iload_n 1, 1) := dk_27 (dk_at dksX9_shorten_0 16 rfl rfl)
theorem dX9_shorten_17 : decode cX9_shorten 17 = .ok (.aload_n 0, 1) := dk_42 (dk_at dksX9_shorten_0 17 rfl rfl)
theorem dX9_shorten_18 : decode cX9_shorten 18 = .ok (.getfield 21, 3) := dk_180 0 21 (dk_at dksX9_shorten_0 18 rfl rfl)
theorem dX9_shorten_21 : decode cX9_shorten 21 = .ok (.imul, 1) := dk_104 (dk_at dksX9_shorten_0 21 rfl rfl)
theorem dX9_shorten_22 : decode cX9_shorten 22 = .ok (.iload_n 2, 1) := dk_28 (dk_at dksX9_shorten_0 22 rfl rfl)
theorem dX9_shorten_23 : decode cX9_shorten 23 = .ok (.iadd, 1) := dk_96 (dk_at dksX9_shorten_0 23 rfl rfl)
theorem dX9_shorten_24 : decode cX9_shorten 24 = .ok (.iaload, 1) := dk_46 (dk_at dksX9_shorten_1 0 rfl rfl)
theorem dX9_shorten_25 : decode cX9_shorten 25 = .ok (.iload_n 3, 1) := dk_29 (dk_at dksX9_shorten_1 1 rfl rfl)
theorem dX9_shorten_26 : decode cX9_shorten 26 = .ok (.invokestatic 65, 3) := dk_184 0 65 (dk_at dksX9_shorten_1 2 rfl rfl)
theorem dX9_shorten_29 : decode cX9_shorten 29 = .ok (.iastore, 1) := dk_79 (dk_at dksX9_shorten_1 5 rfl rfl)
theorem dX9_shorten_30 : decode cX9_shorten 30 = .ok (.return_, 1) := dk_177 (dk_at dksX9_shorten_1 6 rfl rfl)
abbrev cX9_areBound : ByteArray := prog_2_method_3_code
def yX9_areBound : MethodName := ⟨RX9, "areBound", "(II)Z"⟩
def dkwX9_areBound_0 : List UInt8 := [42, 180, 0, 27, 27, 42, 180, 0, 21, 104, 28, 96, 46, 18, 31, 162, 0, 7, 4, 167, 0, 4, 3, 172]
abbrev dktX9_areBound_0 : List UInt8 := dkwX9_areBound_0 ++ []
theorem dksX9_areBound_0 : cX9_areBound.data.toList.drop 0 = dktX9_areBound_0 := by decide +kernel
theorem dX9_areBound_0 : decode cX9_areBound 0 = .ok (.aload_n 0, 1) := dk_42 (dk_at dksX9_areBound_0 0 rfl rfl)
theorem dX9_areBound_1 : decode cX9_areBound 1 = .ok (.getfield 27, 3) := dk_180 0 27 (dk_at dksX9_areBound_0 1 rfl rfl)
theorem dX9_areBound_4 : decode cX9_areBound 4 = .ok (.iload_n 1, 1) := dk_27 (dk_at dksX9_areBound_0 4 rfl rfl)
theorem dX9_areBound_5 : decode cX9_areBound 5 = .ok (.aload_n 0, 1) := dk_42 (dk_at dksX9_areBound_0 5 rfl rfl)
theorem dX9_areBound_6 : decode cX9_areBound 6 = .ok (.getfield 21, 3) := dk_180 0 21 (dk_at dksX9_areBound_0 6 rfl rfl)
theorem dX9_areBound_9 : decode cX9_areBound 9 = .ok (.imul, 1) := dk_104 (dk_at dksX9_areBound_0 9 rfl rfl)
theorem dX9_areBound_10 : decode cX9_areBound 10 = .ok (.iload_n 2, 1) := dk_28 (dk_at dksX9_areBound_0 10 rfl rfl)
theorem dX9_areBound_11 : decode cX9_areBound 11 = .ok (.iadd, 1) := dk_96 (dk_at dksX9_areBound_0 11 rfl rfl)
theorem dX9_areBound_12 : decode cX9_areBound 12 = .ok (.iaload, 1) := dk_46 (dk_at dksX9_areBound_0 12 rfl rfl)
theorem dX9_areBound_13 : decode cX9_areBound 13 = .ok (.ldc 31, 2) := dk_18 31 (dk_at dksX9_areBound_0 13 rfl rfl)
theorem dX9_areBound_15 : decode cX9_areBound 15 = .ok (.if_icmp .ge 7, 3) := dk_162 0 7 (dk_at dksX9_areBound_0 15 rfl rfl)
theorem dX9_areBound_18 : decode cX9_areBound 18 = .ok (.iconst 1, 1) := dk_4 (dk_at dksX9_areBound_0 18 rfl rfl)
theorem dX9_areBound_19 : decode cX9_areBound 19 = .ok (.goto 4, 3) := dk_167 0 4 (dk_at dksX9_areBound_0 19 rfl rfl)
theorem dX9_areBound_22 : decode cX9_areBound 22 = .ok (.iconst 0, 1) := dk_3 (dk_at dksX9_areBound_0 22 rfl rfl)
theorem dX9_areBound_23 : decode cX9_areBound 23 = .ok (.ireturn, 1) := dk_172 (dk_at dksX9_areBound_0 23 rfl rfl)
abbrev cX9_greatest : ByteArray := prog_2_method_4_code
def yX9_greatest : MethodName := ⟨RX9, "greatest", "(II)I"⟩
def dkwX9_greatest_0 : List UInt8 := [42, 180, 0, 27, 27, 42, 180, 0, 21, 104, 28, 96, 46, 172]
abbrev dktX9_greatest_0 : List UInt8 := dkwX9_greatest_0 ++ []
theorem dksX9_greatest_0 : cX9_greatest.data.toList.drop 0 = dktX9_greatest_0 := by decide +kernel
theorem dX9_greatest_0 : decode cX9_greatest 0 = .ok (.aload_n 0, 1) := dk_42 (dk_at dksX9_greatest_0 0 rfl rfl)
theorem dX9_greatest_1 : decode cX9_greatest 1 = .ok (.getfield 27, 3) := dk_180 0 27 (dk_at dksX9_greatest_0 1 rfl rfl)
theorem dX9_greatest_4 : decode cX9_greatest 4 = .ok (.iload_n 1, 1) := dk_27 (dk_at dksX9_greatest_0 4 rfl rfl)
theorem dX9_greatest_5 : decode cX9_greatest 5 = .ok (.aload_n 0, 1) := dk_42 (dk_at dksX9_greatest_0 5 rfl rfl)
theorem dX9_greatest_6 : decode cX9_greatest 6 = .ok (.getfield 21, 3) := dk_180 0 21 (dk_at dksX9_greatest_0 6 rfl rfl)
theorem dX9_greatest_9 : decode cX9_greatest 9 = .ok (.imul, 1) := dk_104 (dk_at dksX9_greatest_0 9 rfl rfl)
theorem dX9_greatest_10 : decode cX9_greatest 10 = .ok (.iload_n 2, 1) := dk_28 (dk_at dksX9_greatest_0 10 rfl rfl)
theorem dX9_greatest_11 : decode cX9_greatest 11 = .ok (.iadd, 1) := dk_96 (dk_at dksX9_greatest_0 11 rfl rfl)
theorem dX9_greatest_12 : decode cX9_greatest 12 = .ok (.iaload, 1) := dk_46 (dk_at dksX9_greatest_0 12 rfl rfl)
theorem dX9_greatest_13 : decode cX9_greatest 13 = .ok (.ireturn, 1) := dk_172 (dk_at dksX9_greatest_0 13 rfl rfl)
abbrev cX9_least : ByteArray := prog_2_method_5_code
def yX9_least : MethodName := ⟨RX9, "least", "(II)I"⟩
def dkwX9_least_0 : List UInt8 := [42, 180, 0, 27, 28, 42, 180, 0, 21, 104, 27, 96, 46, 116, 172]
abbrev dktX9_least_0 : List UInt8 := dkwX9_least_0 ++ []
theorem dksX9_least_0 : cX9_least.data.toList.drop 0 = dktX9_least_0 := by decide +kernel
theorem dX9_least_0 : decode cX9_least 0 = .ok (.aload_n 0, 1) := dk_42 (dk_at dksX9_least_0 0 rfl rfl)
theorem dX9_least_1 : decode cX9_least 1 = .ok (.getfield 27, 3) := dk_180 0 27 (dk_at dksX9_least_0 1 rfl rfl)
theorem dX9_least_4 : decode cX9_least 4 = .ok (.iload_n 2, 1) := dk_28 (dk_at dksX9_least_0 4 rfl rfl)
theorem dX9_least_5 : decode cX9_least 5 = .ok (.aload_n 0, 1) := dk_42 (dk_at dksX9_least_0 5 rfl rfl)
theorem dX9_least_6 : decode cX9_least 6 = .ok (.getfield 21, 3) := dk_180 0 21 (dk_at dksX9_least_0 6 rfl rfl)
theorem dX9_least_9 : decode cX9_least 9 = .ok (.imul, 1) := dk_104 (dk_at dksX9_least_0 9 rfl rfl)
theorem dX9_least_10 : decode cX9_least 10 = .ok (.iload_n 1, 1) := dk_27 (dk_at dksX9_least_0 10 rfl rfl)
theorem dX9_least_11 : decode cX9_least 11 = .ok (.iadd, 1) := dk_96 (dk_at dksX9_least_0 11 rfl rfl)
theorem dX9_least_12 : decode cX9_least 12 = .ok (.iaload, 1) := dk_46 (dk_at dksX9_least_0 12 rfl rfl)
theorem dX9_least_13 : decode cX9_least 13 = .ok (.ineg, 1) := dk_116 (dk_at dksX9_least_0 13 rfl rfl)
theorem dX9_least_14 : decode cX9_least 14 = .ok (.ireturn, 1) := dk_172 (dk_at dksX9_least_0 14 rfl rfl)
abbrev cX9_range : ByteArray := prog_2_method_6_code
def yX9_range : MethodName := ⟨RX9, "range", "(II)I"⟩
def dkwX9_range_0 : List UInt8 := [42, 27, 28, 182, 0, 71, 42, 27, 28, 182, 0, 74, 100, 172]
abbrev dktX9_range_0 : List UInt8 := dkwX9_range_0 ++ []
theorem dksX9_range_0 : cX9_range.data.toList.drop 0 = dktX9_range_0 := by decide +kernel
theorem dX9_range_0 : decode cX9_range 0 = .ok (.aload_n 0, 1) := dk_42 (dk_at dksX9_range_0 0 rfl rfl)
theorem dX9_range_1 : decode cX9_range 1 = .ok (.iload_n 1, 1) := dk_27 (dk_at dksX9_range_0 1 rfl rfl)
theorem dX9_range_2 : decode cX9_range 2 = .ok (.iload_n 2, 1) := dk_28 (dk_at dksX9_range_0 2 rfl rfl)
theorem dX9_range_3 : decode cX9_range 3 = .ok (.invokevirtual 71, 3) := dk_182 0 71 (dk_at dksX9_range_0 3 rfl rfl)
theorem dX9_range_6 : decode cX9_range 6 = .ok (.aload_n 0, 1) := dk_42 (dk_at dksX9_range_0 6 rfl rfl)
theorem dX9_range_7 : decode cX9_range 7 = .ok (.iload_n 1, 1) := dk_27 (dk_at dksX9_range_0 7 rfl rfl)
theorem dX9_range_8 : decode cX9_range 8 = .ok (.iload_n 2, 1) := dk_28 (dk_at dksX9_range_0 8 rfl rfl)
theorem dX9_range_9 : decode cX9_range 9 = .ok (.invokevirtual 74, 3) := dk_182 0 74 (dk_at dksX9_range_0 9 rfl rfl)
theorem dX9_range_12 : decode cX9_range 12 = .ok (.isub, 1) := dk_100 (dk_at dksX9_range_0 12 rfl rfl)
theorem dX9_range_13 : decode cX9_range 13 = .ok (.ireturn, 1) := dk_172 (dk_at dksX9_range_0 13 rfl rfl)
theorem q111 : (Jvm.Cond.initialized "DimensionLines$Bounds") ∈ lw_all := lw_g (lw_at lw_m1 26 rfl) rfl
theorem q154 : (Jvm.Cond.fieldLinkNest "DimensionLines$Bounds" (9 : Nat) "DimensionLines$Drawing" "points" "Ljava/util/ArrayList;" "DimensionLines") ∈ lw_tbl := lw_at lw_m1 69 rfl
theorem q159 : (Jvm.Cond.fieldLinkNest "DimensionLines$Bounds" (32 : Nat) "DimensionLines$Drawing" "dimensions" "Ljava/util/ArrayList;" "DimensionLines") ∈ lw_tbl := lw_at lw_m1 74 rfl
theorem q544 : (Jvm.Cond.selects "DimensionLines$Bounds" ({ cls := "java/lang/Object", name := "getClass", desc := "()Ljava/lang/Class;" } : Jvm.MethodName) ({ cls := "java/lang/Object", name := "getClass", desc := "()Ljava/lang/Class;" } : Jvm.MethodName)) ∈ lw_all := lw_g (lw_at lw_m2 219 rfl) rfl
theorem q587 : (Jvm.Cond.fieldLinkNest "DimensionLines$Bounds" (41 : Nat) "DimensionLines$Dimension" "first" "LDimensionLines$Point;" "DimensionLines") ∈ lw_tbl := lw_at lw_m3 22 rfl
theorem q592 : (Jvm.Cond.fieldLinkNest "DimensionLines$Bounds" (49 : Nat) "DimensionLines$Dimension" "second" "LDimensionLines$Point;" "DimensionLines") ∈ lw_tbl := lw_at lw_m3 27 rfl
theorem q596 : (Jvm.Cond.fieldLinkNest "DimensionLines$Bounds" (62 : Nat) "DimensionLines$Dimension" "minus" "I" "DimensionLines") ∈ lw_tbl := lw_at lw_m3 31 rfl
theorem q600 : (Jvm.Cond.fieldLinkNest "DimensionLines$Bounds" (55 : Nat) "DimensionLines$Dimension" "plus" "I" "DimensionLines") ∈ lw_tbl := lw_at lw_m3 35 rfl
theorem q687 : (Jvm.Cond.selects "DimensionLines$Bounds" ({ cls := "java/lang/Object", name := "equals", desc := "(Ljava/lang/Object;)Z" } : Jvm.MethodName) ({ cls := "java/lang/Object", name := "equals", desc := "(Ljava/lang/Object;)Z" } : Jvm.MethodName)) ∈ lw_all := lw_g (lw_at lw_m3 122 rfl) rfl
theorem q969 : (Jvm.Cond.instantiable "DimensionLines$Bounds" (2 : Nat)) ∈ lw_all := lw_g (lw_at lw_m4 164 rfl) rfl
theorem q971 : (Jvm.Cond.instanceMethod ({ cls := "DimensionLines$Bounds", name := "<init>", desc := "(LDimensionLines$Drawing;II)V" } : Jvm.MethodName)) ∈ lw_all := lw_g (lw_at lw_m4 166 rfl) rfl
theorem q972 : (Jvm.Cond.code ({ cls := "DimensionLines$Bounds", name := "<init>", desc := "(LDimensionLines$Drawing;II)V" } : Jvm.MethodName) prog_2_method_1_code (8 : Nat) (Option.none : Option Jvm.ClassFile.FieldType)) ∈ lw_all := lw_g (lw_at lw_m4 167 rfl) rfl
theorem q973 : (Jvm.Cond.methodLink "DimensionLines$Bounds" (3 : Nat) ({ cls := "java/lang/Object", name := "<init>", desc := "()V" } : Jvm.MethodName)) ∈ lw_all := lw_g (lw_at lw_m4 168 rfl) rfl
theorem q974 : (Jvm.Cond.methodLink "DimensionLines$Bounds" (15 : Nat) ({ cls := "java/util/ArrayList", name := "size", desc := "()I" } : Jvm.MethodName)) ∈ lw_all := lw_g (lw_at lw_m4 169 rfl) rfl
theorem q975 : (Jvm.Cond.constant "DimensionLines$Bounds" (31 : Nat) (1000000 : Int32)) ∈ lw_all := lw_g (lw_at lw_m4 170 rfl) rfl
theorem q976 : (Jvm.Cond.methodLink "DimensionLines$Bounds" (35 : Nat) ({ cls := "java/util/ArrayList", name := "get", desc := "(I)Ljava/lang/Object;" } : Jvm.MethodName)) ∈ lw_all := lw_g (lw_at lw_m4 171 rfl) rfl
theorem q977 : (Jvm.Cond.classLink "DimensionLines$Bounds" (39 : Nat) "DimensionLines$Dimension") ∈ lw_all := lw_g (lw_at lw_m4 172 rfl) rfl
theorem q978 : (Jvm.Cond.methodLink "DimensionLines$Bounds" (45 : Nat) ({ cls := "java/util/ArrayList", name := "indexOf", desc := "(Ljava/lang/Object;)I" } : Jvm.MethodName)) ∈ lw_all := lw_g (lw_at lw_m4 173 rfl) rfl
theorem q979 : (Jvm.Cond.methodLink "DimensionLines$Bounds" (52 : Nat) ({ cls := "DimensionLines$Dimension", name := "value", desc := "()I" } : Jvm.MethodName)) ∈ lw_all := lw_g (lw_at lw_m4 174 rfl) rfl
theorem q980 : (Jvm.Cond.methodLink "DimensionLines$Bounds" (58 : Nat) ({ cls := "DimensionLines$Bounds", name := "shorten", desc := "(III)V" } : Jvm.MethodName)) ∈ lw_all := lw_g (lw_at lw_m4 175 rfl) rfl
theorem q981 : (Jvm.Cond.privateMethod ({ cls := "DimensionLines$Bounds", name := "shorten", desc := "(III)V" } : Jvm.MethodName)) ∈ lw_tbl := lw_at lw_m4 176 rfl
theorem q982 : (Jvm.Cond.instanceMethod ({ cls := "DimensionLines$Bounds", name := "shorten", desc := "(III)V" } : Jvm.MethodName)) ∈ lw_all := lw_g (lw_at lw_m4 177 rfl) rfl
theorem q983 : (Jvm.Cond.code ({ cls := "DimensionLines$Bounds", name := "shorten", desc := "(III)V" } : Jvm.MethodName) prog_2_method_2_code (4 : Nat) (Option.none : Option Jvm.ClassFile.FieldType)) ∈ lw_all := lw_g (lw_at lw_m4 178 rfl) rfl
theorem q984 : (Jvm.Cond.methodLink "DimensionLines$Bounds" (65 : Nat) ({ cls := "java/lang/Math", name := "min", desc := "(II)I" } : Jvm.MethodName)) ∈ lw_all := lw_g (lw_at lw_m4 179 rfl) rfl
theorem q985 : (Jvm.Cond.fieldLink "DimensionLines$Bounds" (21 : Nat) "DimensionLines$Bounds" "n" "I") ∈ lw_all := lw_g (lw_at lw_m4 180 rfl) rfl
theorem q986 : (Jvm.Cond.fieldLink "DimensionLines$Bounds" (27 : Nat) "DimensionLines$Bounds" "most" "[I") ∈ lw_all := lw_g (lw_at lw_m4 181 rfl) rfl
theorem q987 : (Jvm.Cond.laysFinal "DimensionLines$Bounds" "DimensionLines$Bounds" "n" "I") ∈ lw_all := lw_g (lw_at lw_m4 182 rfl) rfl
theorem q988 : (Jvm.Cond.soleField "DimensionLines$Bounds" "n") ∈ lw_all := lw_g (lw_at lw_m4 183 rfl) rfl
theorem q989 : (Jvm.Cond.laysFinal "DimensionLines$Bounds" "DimensionLines$Bounds" "most" "[I") ∈ lw_all := lw_g (lw_at lw_m4 184 rfl) rfl
theorem q990 : (Jvm.Cond.soleField "DimensionLines$Bounds" "most") ∈ lw_all := lw_g (lw_at lw_m4 185 rfl) rfl
theorem q991 : (Jvm.Cond.superclass "DimensionLines$Bounds" "java/lang/Object") ∈ lw_all := lw_g (lw_at lw_m4 186 rfl) rfl
theorem q994 : (Jvm.Cond.instanceMethod ({ cls := "DimensionLines$Bounds", name := "areBound", desc := "(II)Z" } : Jvm.MethodName)) ∈ lw_all := lw_g (lw_at lw_m4 189 rfl) rfl
theorem q995 : (Jvm.Cond.selects "DimensionLines$Bounds" ({ cls := "DimensionLines$Bounds", name := "areBound", desc := "(II)Z" } : Jvm.MethodName) ({ cls := "DimensionLines$Bounds", name := "areBound", desc := "(II)Z" } : Jvm.MethodName)) ∈ lw_all := lw_g (lw_at lw_m4 190 rfl) rfl
theorem q996 : (Jvm.Cond.code ({ cls := "DimensionLines$Bounds", name := "areBound", desc := "(II)Z" } : Jvm.MethodName) prog_2_method_3_code (3 : Nat) (Option.some Jvm.ClassFile.FieldType.boolean)) ∈ lw_all := lw_g (lw_at lw_m4 191 rfl) rfl
theorem q1013 : (Jvm.Cond.instanceMethod ({ cls := "DimensionLines$Bounds", name := "greatest", desc := "(II)I" } : Jvm.MethodName)) ∈ lw_all := lw_g (lw_at lw_m4 208 rfl) rfl
theorem q1014 : (Jvm.Cond.selects "DimensionLines$Bounds" ({ cls := "DimensionLines$Bounds", name := "greatest", desc := "(II)I" } : Jvm.MethodName) ({ cls := "DimensionLines$Bounds", name := "greatest", desc := "(II)I" } : Jvm.MethodName)) ∈ lw_all := lw_g (lw_at lw_m4 209 rfl) rfl
theorem q1015 : (Jvm.Cond.code ({ cls := "DimensionLines$Bounds", name := "greatest", desc := "(II)I" } : Jvm.MethodName) prog_2_method_4_code (3 : Nat) (Option.some Jvm.ClassFile.FieldType.int)) ∈ lw_all := lw_g (lw_at lw_m4 210 rfl) rfl
theorem q1018 : (Jvm.Cond.instanceMethod ({ cls := "DimensionLines$Bounds", name := "least", desc := "(II)I" } : Jvm.MethodName)) ∈ lw_all := lw_g (lw_at lw_m4 213 rfl) rfl
theorem q1019 : (Jvm.Cond.selects "DimensionLines$Bounds" ({ cls := "DimensionLines$Bounds", name := "least", desc := "(II)I" } : Jvm.MethodName) ({ cls := "DimensionLines$Bounds", name := "least", desc := "(II)I" } : Jvm.MethodName)) ∈ lw_all := lw_g (lw_at lw_m4 214 rfl) rfl
theorem q1020 : (Jvm.Cond.code ({ cls := "DimensionLines$Bounds", name := "least", desc := "(II)I" } : Jvm.MethodName) prog_2_method_5_code (3 : Nat) (Option.some Jvm.ClassFile.FieldType.int)) ∈ lw_all := lw_g (lw_at lw_m4 215 rfl) rfl
theorem q1050 : (Jvm.Cond.instanceMethod ({ cls := "DimensionLines$Bounds", name := "range", desc := "(II)I" } : Jvm.MethodName)) ∈ lw_all := lw_g (lw_at lw_m5 5 rfl) rfl
theorem q1051 : (Jvm.Cond.selects "DimensionLines$Bounds" ({ cls := "DimensionLines$Bounds", name := "range", desc := "(II)I" } : Jvm.MethodName) ({ cls := "DimensionLines$Bounds", name := "range", desc := "(II)I" } : Jvm.MethodName)) ∈ lw_all := lw_g (lw_at lw_m5 6 rfl) rfl
theorem q1052 : (Jvm.Cond.code ({ cls := "DimensionLines$Bounds", name := "range", desc := "(II)I" } : Jvm.MethodName) prog_2_method_6_code (3 : Nat) (Option.some Jvm.ClassFile.FieldType.int)) ∈ lw_all := lw_g (lw_at lw_m5 7 rfl) rfl
theorem q1053 : (Jvm.Cond.methodLink "DimensionLines$Bounds" (71 : Nat) ({ cls := "DimensionLines$Bounds", name := "greatest", desc := "(II)I" } : Jvm.MethodName)) ∈ lw_all := lw_g (lw_at lw_m5 8 rfl) rfl
theorem q1054 : (Jvm.Cond.methodLink "DimensionLines$Bounds" (74 : Nat) ({ cls := "DimensionLines$Bounds", name := "least", desc := "(II)I" } : Jvm.MethodName)) ∈ lw_all := lw_g (lw_at lw_m5 9 rfl) rfl
theorem q1597 : (Jvm.Cond.castable "DimensionLines$Bounds" "java/lang/Object") ∈ lw_tbl := lw_at lw_m7 72 rfl
theorem in_X9 : ∀ w ∈ wsX90, w ∈ lw_all := lw_in wsX90 [987, 989] (by decide +kernel) (by decide +kernel)


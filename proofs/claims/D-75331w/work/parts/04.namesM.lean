/-! BlockingShopModel -/
set_option maxRecDepth 100000
def RX8 : String := "BlockingShopModel"
def TX8 : u_T := fun k => match k with
  | 0 => ("BlockingShopModel", "thrown", "I", false)
  | 1 => ("BlockingShopModel", "buffer", "[I", true)
  | 2 => ("BlockingShopModel", "bufferLength", "I", false)
  | 3 => ("BlockingShopModel", "textLength", "I", false)
  | 4 => ("BlockingShopModel", "position", "I", false)
  | 5 => ("BlockingShopModel", "error", "I", false)
  | 6 => ("BlockingShopModel", "errorAt", "I", false)
  | 7 => ("BlockingShopModel", "errorOffset", "I", false)
  | 8 => ("BlockingShopModel", "data", "[I", true)
  | 9 => ("BlockingShopModel", "draft", "[I", true)
  | 10 => ("BlockingShopModel", "kept", "[I", true)
  | 11 => ("BlockingShopModel", "history", "[[I", true)
  | 12 => ("BlockingShopModel", "undoDepth", "I", false)
  | 13 => ("BlockingShopModel", "numberStart", "I", false)
  | 14 => ("BlockingShopModel", "nesting", "I", false)
  | 15 => ("BlockingShopModel", "seen", "I", false)
  | 16 => ("BlockingShopModel", "sources", "[I", true)
  | 17 => ("BlockingShopModel", "lengths", "[I", true)
  | 18 => ("BlockingShopModel", "starts", "[I", true)
  | 19 => ("BlockingShopModel", "isFree", "[Z", true)
  | 20 => ("BlockingShopModel", "stack", "[J", true)
  | 21 => ("BlockingShopModel", "bestSpan", "I", false)
  | 22 => ("BlockingShopModel", "bestCost", "I", false)
  | 23 => ("BlockingShopModel", "path", "[I", true)
  | _ => ("BlockingShopModel", "pathLength", "I", false)
def tyX8 : Nat → FieldType := fun k => match k with
  | 0 => .int
  | 1 => .array .int
  | 2 => .int
  | 3 => .int
  | 4 => .int
  | 5 => .int
  | 6 => .int
  | 7 => .int
  | 8 => .array .int
  | 9 => .array .int
  | 10 => .array .int
  | 11 => .array (.array .int)
  | 12 => .int
  | 13 => .int
  | 14 => .int
  | 15 => .int
  | 16 => .array .int
  | 17 => .array .int
  | 18 => .array .int
  | 19 => .array .boolean
  | 20 => .array .long
  | 21 => .int
  | 22 => .int
  | 23 => .array .int
  | _ => .int
abbrev wsX80 : List Cond := u_ws RX8 TX8 25
set_option maxRecDepth 100000 in
theorem nmX8 : ∀ a, a < 25 → ∀ b, b < 25 → a ≠ b → (TX8 a).2.1 ≠ (TX8 b).2.1 := by decide +kernel
set_option maxRecDepth 100000 in
theorem tyX8_ok : ∀ k, k < 25 → parseFieldDescriptor (TX8 k).2.2.1 = some (tyX8 k) := by decide +kernel
abbrev cX8_init : ByteArray := prog_15_method_1_code
def yX8_init : MethodName := ⟨RX8, "<init>", "()V"⟩
def dkwX8_init_4 : List UInt8 := [188, 11, 181, 0, 44, 42, 16, 36, 188, 10, 181, 0, 48, 177]
abbrev dktX8_init_4 : List UInt8 := dkwX8_init_4 ++ []
def dkwX8_init_3 : List UInt8 := [181, 0, 34, 42, 16, 36, 188, 10, 181, 0, 37, 42, 16, 36, 188, 4, 181, 0, 40, 42, 17, 5, 220]
abbrev dktX8_init_3 : List UInt8 := dkwX8_init_3 ++ dktX8_init_4
def dkwX8_init_2 : List UInt8 := [17, 6, 119, 197, 0, 26, 2, 181, 0, 28, 42, 16, 36, 188, 10, 181, 0, 31, 42, 16, 36, 188, 10]
abbrev dktX8_init_2 : List UInt8 := dkwX8_init_2 ++ dktX8_init_3
def dkwX8_init_1 : List UInt8 := [181, 0, 17, 42, 17, 6, 119, 188, 10, 181, 0, 20, 42, 17, 6, 119, 188, 10, 181, 0, 23, 42, 16, 8]
abbrev dktX8_init_1 : List UInt8 := dkwX8_init_1 ++ dktX8_init_2
def dkwX8_init_0 : List UInt8 := [42, 183, 0, 3, 42, 17, 3, 132, 188, 10, 181, 0, 9, 42, 2, 181, 0, 13, 42, 17, 6, 119, 188, 10]
abbrev dktX8_init_0 : List UInt8 := dkwX8_init_0 ++ dktX8_init_1
theorem dksX8_init_0 : cX8_init.data.toList.drop 0 = dktX8_init_0 := by decide +kernel
theorem dksX8_init_1 : cX8_init.data.toList.drop 24 = dktX8_init_1 := dk_seg dksX8_init_0 24 rfl rfl
theorem dksX8_init_2 : cX8_init.data.toList.drop 48 = dktX8_init_2 := dk_seg dksX8_init_1 24 rfl rfl
theorem dksX8_init_3 : cX8_init.data.toList.drop 71 = dktX8_init_3 := dk_seg dksX8_init_2 23 rfl rfl
theorem dksX8_init_4 : cX8_init.data.toList.drop 94 = dktX8_init_4 := dk_seg dksX8_init_3 23 rfl rfl
theorem dX8_init_0 : decode cX8_init 0 = .ok (.aload_n 0, 1) := dk_42 (dk_at dksX8_init_0 0 rfl rfl)
theorem dX8_init_1 : decode cX8_init 1 = .ok (.invokespecial 3, 3) := dk_183 0 3 (dk_at dksX8_init_0 1 rfl rfl)
theorem dX8_init_4 : decode cX8_init 4 = .ok (.aload_n 0, 1) := dk_42 (dk_at dksX8_init_0 4 rfl rfl)
theorem dX8_init_5 : decode cX8_init 5 = .ok (.sipush 900, 3) := dk_17 3 132 (dk_at dksX8_init_0 5 rfl rfl)
theorem dX8_init_8 : decode cX8_init 8 = .ok (.newarray .int, 2) := dk_188_10 (dk_at dksX8_init_0 8 rfl rfl)
theorem dX8_init_10 : decode cX8_init 10 = .ok (.putfield 9, 3) := dk_181 0 9 (dk_at dksX8_init_0 10 rfl rfl)
theorem dX8_init_13 : decode cX8_init 13 = .ok (.aload_n 0, 1) := dk_42 (dk_at dksX8_init_0 13 rfl rfl)
theorem dX8_init_14 : decode cX8_init 14 = .ok (.iconst (-1), 1) := dk_2 (dk_at dksX8_init_0 14 rfl rfl)
theorem dX8_init_15 : decode cX8_init 15 = .ok (.putfield 13, 3) := dk_181 0 13 (dk_at dksX8_init_0 15 rfl rfl)
theorem dX8_init_18 : decode cX8_init 18 = .ok (.aload_n 0, 1) := dk_42 (dk_at dksX8_init_0 18 rfl rfl)
theorem dX8_init_19 : decode cX8_init 19 = .ok (.sipush 1655, 3) := dk_17 6 119 (dk_at dksX8_init_0 19 rfl rfl)
theorem dX8_init_22 : decode cX8_init 22 = .ok (.newarray .int, 2) := dk_188_10 (dk_at dksX8_init_0 22 rfl rfl)
theorem dX8_init_24 : decode cX8_init 24 = .ok (.putfield 17, 3) := dk_181 0 17 (dk_at dksX8_init_1 0 rfl rfl)
theorem dX8_init_27 : decode cX8_init 27 = .ok (.aload_n 0, 1) := dk_42 (dk_at dksX8_init_1 3 rfl rfl)
theorem dX8_init_28 : decode cX8_init 28 = .ok (.sipush 1655, 3) := dk_17 6 119 (dk_at dksX8_init_1 4 rfl rfl)
theorem dX8_init_31 : decode cX8_init 31 = .ok (.newarray .int, 2) := dk_188_10 (dk_at dksX8_init_1 7 rfl rfl)
theorem dX8_init_33 : decode cX8_init 33 = .ok (.putfield 20, 3) := dk_181 0 20 (dk_at dksX8_init_1 9 rfl rfl)
theorem dX8_init_36 : decode cX8_init 36 = .ok (.aload_n 0, 1) := dk_42 (dk_at dksX8_init_1 12 rfl rfl)
theorem dX8_init_37 : decode cX8_init 37 = .ok (.sipush 1655, 3) := dk_17 6 119 (dk_at dksX8_init_1 13 rfl rfl)
theorem dX8_init_40 : decode cX8_init 40 = .ok (.newarray .int, 2) := dk_188_10 (dk_at dksX8_init_1 16 rfl rfl)
theorem dX8_init_42 : decode cX8_init 42 = .ok (.putfield 23, 3) := dk_181 0 23 (dk_at dksX8_init_1 18 rfl rfl)
theorem dX8_init_45 : decode cX8_init 45 = .ok (.aload_n 0, 1) := dk_42 (dk_at dksX8_init_1 21 rfl rfl)
theorem dX8_init_46 : decode cX8_init 46 = .ok (.bipush 8, 2) := dk_16 8 (dk_at dksX8_init_1 22 rfl rfl)
theorem dX8_init_48 : decode cX8_init 48 = .ok (.sipush 1655, 3) := dk_17 6 119 (dk_at dksX8_init_2 0 rfl rfl)
theorem dX8_init_51 : decode cX8_init 51 = .ok (.multianewarray 26 2, 4) := by decide +kernel
theorem dX8_init_55 : decode cX8_init 55 = .ok (.putfield 28, 3) := dk_181 0 28 (dk_at dksX8_init_2 7 rfl rfl)
theorem dX8_init_58 : decode cX8_init 58 = .ok (.aload_n 0, 1) := dk_42 (dk_at dksX8_init_2 10 rfl rfl)
theorem dX8_init_59 : decode cX8_init 59 = .ok (.bipush 36, 2) := dk_16 36 (dk_at dksX8_init_2 11 rfl rfl)
theorem dX8_init_61 : decode cX8_init 61 = .ok (.newarray .int, 2) := dk_188_10 (dk_at dksX8_init_2 13 rfl rfl)
theorem dX8_init_63 : decode cX8_init 63 = .ok (.putfield 31, 3) := dk_181 0 31 (dk_at dksX8_init_2 15 rfl rfl)
theorem dX8_init_66 : decode cX8_init 66 = .ok (.aload_n 0, 1) := dk_42 (dk_at dksX8_init_2 18 rfl rfl)
theorem dX8_init_67 : decode cX8_init 67 = .ok (.bipush 36, 2) := dk_16 36 (dk_at dksX8_init_2 19 rfl rfl)
theorem dX8_init_69 : decode cX8_init 69 = .ok (.newarray .int, 2) := dk_188_10 (dk_at dksX8_init_2 21 rfl rfl)
theorem dX8_init_71 : decode cX8_init 71 = .ok (.putfield 34, 3) := dk_181 0 34 (dk_at dksX8_init_3 0 rfl rfl)
theorem dX8_init_74 : decode cX8_init 74 = .ok (.aload_n 0, 1) := dk_42 (dk_at dksX8_init_3 3 rfl rfl)
theorem dX8_init_75 : decode cX8_init 75 = .ok (.bipush 36, 2) := dk_16 36 (dk_at dksX8_init_3 4 rfl rfl)
theorem dX8_init_77 : decode cX8_init 77 = .ok (.newarray .int, 2) := dk_188_10 (dk_at dksX8_init_3 6 rfl rfl)
theorem dX8_init_79 : decode cX8_init 79 = .ok (.putfield 37, 3) := dk_181 0 37 (dk_at dksX8_init_3 8 rfl rfl)
theorem dX8_init_82 : decode cX8_init 82 = .ok (.aload_n 0, 1) := dk_42 (dk_at dksX8_init_3 11 rfl rfl)
theorem dX8_init_83 : decode cX8_init 83 = .ok (.bipush 36, 2) := dk_16 36 (dk_at dksX8_init_3 12 rfl rfl)
theorem dX8_init_85 : decode cX8_init 85 = .ok (.newarray .boolean, 2) := dk_188_4 (dk_at dksX8_init_3 14 rfl rfl)
theorem dX8_init_87 : decode cX8_init 87 = .ok (.putfield 40, 3) := dk_181 0 40 (dk_at dksX8_init_3 16 rfl rfl)
theorem dX8_init_90 : decode cX8_init 90 = .ok (.aload_n 0, 1) := dk_42 (dk_at dksX8_init_3 19 rfl rfl)
theorem dX8_init_91 : decode cX8_init 91 = .ok (.sipush 1500, 3) := dk_17 5 220 (dk_at dksX8_init_3 20 rfl rfl)
theorem dX8_init_94 : decode cX8_init 94 = .ok (.newarray .long, 2) := dk_188_11 (dk_at dksX8_init_4 0 rfl rfl)
theorem dX8_init_96 : decode cX8_init 96 = .ok (.putfield 44, 3) := dk_181 0 44 (dk_at dksX8_init_4 2 rfl rfl)
theorem dX8_init_99 : decode cX8_init 99 = .ok (.aload_n 0, 1) := dk_42 (dk_at dksX8_init_4 5 rfl rfl)
theorem dX8_init_100 : decode cX8_init 100 = .ok (.bipush 36, 2) := dk_16 36 (dk_at dksX8_init_4 6 rfl rfl)
theorem dX8_init_102 : decode cX8_init 102 = .ok (.newarray .int, 2) := dk_188_10 (dk_at dksX8_init_4 8 rfl rfl)
theorem dX8_init_104 : decode cX8_init 104 = .ok (.putfield 48, 3) := dk_181 0 48 (dk_at dksX8_init_4 10 rfl rfl)
theorem dX8_init_107 : decode cX8_init 107 = .ok (.return_, 1) := dk_177 (dk_at dksX8_init_4 13 rfl rfl)
abbrev cX8_thrown : ByteArray := prog_15_method_2_code
def yX8_thrown : MethodName := ⟨RX8, "thrown", "()I"⟩
theorem dX8_thrown_0 : decode cX8_thrown 0 = .ok (.aload_n 0, 1) := by decide +kernel
theorem dX8_thrown_1 : decode cX8_thrown 1 = .ok (.getfield 51, 3) := by decide +kernel
theorem dX8_thrown_4 : decode cX8_thrown 4 = .ok (.ireturn, 1) := by decide +kernel
abbrev cX8_append : ByteArray := prog_15_method_11_code
def yX8_append : MethodName := ⟨RX8, "append", "(IIIII)I"⟩
def dkwX8_append_5 : List UInt8 := [167, 255, 162, 42, 180, 0, 54, 172]
abbrev dktX8_append_5 : List UInt8 := dkwX8_append_5 ++ []
def dkwX8_append_4 : List UInt8 := [112, 104, 100, 122, 17, 0, 255, 126, 79, 42, 89, 180, 0, 54, 4, 96, 181, 0, 54, 132, 6, 1]
abbrev dktX8_append_4 : List UInt8 := dkwX8_append_4 ++ dktX8_append_5
def dkwX8_append_3 : List UInt8 := [167, 0, 5, 21, 5, 54, 7, 42, 180, 0, 9, 42, 180, 0, 54, 21, 7, 16, 24, 16, 8, 21, 6, 7]
abbrev dktX8_append_3 : List UInt8 := dkwX8_append_3 ++ dktX8_append_4
def dkwX8_append_2 : List UInt8 := [28, 167, 0, 28, 21, 6, 16, 12, 162, 0, 7, 29, 167, 0, 17, 21, 6, 16, 16, 162, 0, 8, 21, 4]
abbrev dktX8_append_2 : List UInt8 := dkwX8_append_2 ++ dktX8_append_3
def dkwX8_append_1 : List UInt8 := [21, 6, 16, 20, 162, 0, 93, 21, 6, 7, 162, 0, 7, 27, 167, 0, 39, 21, 6, 16, 8, 162, 0, 7]
abbrev dktX8_append_1 : List UInt8 := dkwX8_append_1 ++ dktX8_append_2
def dkwX8_append_0 : List UInt8 := [42, 3, 181, 0, 51, 42, 180, 0, 54, 16, 20, 96, 17, 3, 132, 164, 0, 5, 2, 172, 3, 54, 6]
abbrev dktX8_append_0 : List UInt8 := dkwX8_append_0 ++ dktX8_append_1
theorem dksX8_append_0 : cX8_append.data.toList.drop 0 = dktX8_append_0 := by decide +kernel
theorem dksX8_append_1 : cX8_append.data.toList.drop 23 = dktX8_append_1 := dk_seg dksX8_append_0 23 rfl rfl
theorem dksX8_append_2 : cX8_append.data.toList.drop 47 = dktX8_append_2 := dk_seg dksX8_append_1 24 rfl rfl
theorem dksX8_append_3 : cX8_append.data.toList.drop 71 = dktX8_append_3 := dk_seg dksX8_append_2 24 rfl rfl
theorem dksX8_append_4 : cX8_append.data.toList.drop 95 = dktX8_append_4 := dk_seg dksX8_append_3 24 rfl rfl
theorem dksX8_append_5 : cX8_append.data.toList.drop 117 = dktX8_append_5 := dk_seg dksX8_append_4 22 rfl rfl
theorem dX8_append_0 : decode cX8_append 0 = .ok (.aload_n 0, 1) := dk_42 (dk_at dksX8_append_0 0 rfl rfl)
theorem dX8_append_1 : decode cX8_append 1 = .ok (.iconst 0, 1) := dk_3 (dk_at dksX8_append_0 1 rfl rfl)
theorem dX8_append_2 : decode cX8_append 2 = .ok (.putfield 51, 3) := dk_181 0 51 (dk_at dksX8_append_0 2 rfl rfl)
theorem dX8_append_5 : decode cX8_append 5 = .ok (.aload_n 0, 1) := dk_42 (dk_at dksX8_append_0 5 rfl rfl)
theorem dX8_append_6 : decode cX8_append 6 = .ok (.getfield 54, 3) := dk_180 0 54 (dk_at dksX8_append_0 6 rfl rfl)
theorem dX8_append_9 : decode cX8_append 9 = .ok (.bipush 20, 2) := dk_16 20 (dk_at dksX8_append_0 9 rfl rfl)
theorem dX8_append_11 : decode cX8_append 11 = .ok (.iadd, 1) := dk_96 (dk_at dksX8_append_0 11 rfl rfl)
theorem dX8_append_12 : decode cX8_append 12 = .ok (.sipush 900, 3) := dk_17 3 132 (dk_at dksX8_append_0 12 rfl rfl)
theorem dX8_append_15 : decode cX8_append 15 = .ok (.if_icmp .le 5, 3) := dk_164 0 5 (dk_at dksX8_append_0 15 rfl rfl)
theorem dX8_append_18 : decode cX8_append 18 = .ok (.iconst (-1), 1) := dk_2 (dk_at dksX8_append_0 18 rfl rfl)
theorem dX8_append_19 : decode cX8_append 19 = .ok (.ireturn, 1) := dk_172 (dk_at dksX8_append_0 19 rfl rfl)
theorem dX8_append_20 : decode cX8_append 20 = .ok (.iconst 0, 1) := dk_3 (dk_at dksX8_append_0 20 rfl rfl)
theorem dX8_append_21 : decode cX8_append 21 = .ok (.istore 6, 2) := dk_54 6 (dk_at dksX8_append_0 21 rfl rfl)
theorem dX8_append_23 : decode cX8_append 23 = .ok (.iload 6, 2) := dk_21 6 (dk_at dksX8_append_1 0 rfl rfl)
theorem dX8_append_25 : decode cX8_append 25 = .ok (.bipush 20, 2) := dk_16 20 (dk_at dksX8_append_1 2 rfl rfl)
theorem dX8_append_27 : decode cX8_append 27 = .ok (.if_icmp .ge 93, 3) := dk_162 0 93 (dk_at dksX8_append_1 4 rfl rfl)
theorem dX8_append_30 : decode cX8_append 30 = .ok (.iload 6, 2) := dk_21 6 (dk_at dksX8_append_1 7 rfl rfl)
theorem dX8_append_32 : decode cX8_append 32 = .ok (.iconst 4, 1) := dk_7 (dk_at dksX8_append_1 9 rfl rfl)
theorem dX8_append_33 : decode cX8_append 33 = .ok (.if_icmp .ge 7, 3) := dk_162 0 7 (dk_at dksX8_append_1 10 rfl rfl)
theorem dX8_append_36 : decode cX8_append 36 = .ok (.iload_n 1, 1) := dk_27 (dk_at dksX8_append_1 13 rfl rfl)
theorem dX8_append_37 : decode cX8_append 37 = .ok (.goto 39, 3) := dk_167 0 39 (dk_at dksX8_append_1 14 rfl rfl)
theorem dX8_append_40 : decode cX8_append 40 = .ok (.iload 6, 2) := dk_21 6 (dk_at dksX8_append_1 17 rfl rfl)
theorem dX8_append_42 : decode cX8_append 42 = .ok (.bipush 8, 2) := dk_16 8 (dk_at dksX8_append_1 19 rfl rfl)
theorem dX8_append_44 : decode cX8_append 44 = .ok (.if_icmp .ge 7, 3) := dk_162 0 7 (dk_at dksX8_append_1 21 rfl rfl)
theorem dX8_append_47 : decode cX8_append 47 = .ok (.iload_n 2, 1) := dk_28 (dk_at dksX8_append_2 0 rfl rfl)
theorem dX8_append_48 : decode cX8_append 48 = .ok (.goto 28, 3) := dk_167 0 28 (dk_at dksX8_append_2 1 rfl rfl)
theorem dX8_append_51 : decode cX8_append 51 = .ok (.iload 6, 2) := dk_21 6 (dk_at dksX8_append_2 4 rfl rfl)
theorem dX8_append_53 : decode cX8_append 53 = .ok (.bipush 12, 2) := dk_16 12 (dk_at dksX8_append_2 6 rfl rfl)
theorem dX8_append_55 : decode cX8_append 55 = .ok (.if_icmp .ge 7, 3) := dk_162 0 7 (dk_at dksX8_append_2 8 rfl rfl)
theorem dX8_append_58 : decode cX8_append 58 = .ok (.iload_n 3, 1) := dk_29 (dk_at dksX8_append_2 11 rfl rfl)
theorem dX8_append_59 : decode cX8_append 59 = .ok (.goto 17, 3) := dk_167 0 17 (dk_at dksX8_append_2 12 rfl rfl)
theorem dX8_append_62 : decode cX8_append 62 = .ok (.iload 6, 2) := dk_21 6 (dk_at dksX8_append_2 15 rfl rfl)
theorem dX8_append_64 : decode cX8_append 64 = .ok (.bipush 16, 2) := dk_16 16 (dk_at dksX8_append_2 17 rfl rfl)
theorem dX8_append_66 : decode cX8_append 66 = .ok (.if_icmp .ge 8, 3) := dk_162 0 8 (dk_at dksX8_append_2 19 rfl rfl)
theorem dX8_append_69 : decode cX8_append 69 = .ok (.iload 4, 2) := dk_21 4 (dk_at dksX8_append_2 22 rfl rfl)
theorem dX8_append_71 : decode cX8_append 71 = .ok (.goto 5, 3) := dk_167 0 5 (dk_at dksX8_append_3 0 rfl rfl)
theorem dX8_append_74 : decode cX8_append 74 = .ok (.iload 5, 2) := dk_21 5 (dk_at dksX8_append_3 3 rfl rfl)
theorem dX8_append_76 : decode cX8_append 76 = .ok (.istore 7, 2) := dk_54 7 (dk_at dksX8_append_3 5 rfl rfl)
theorem dX8_append_78 : decode cX8_append 78 = .ok (.aload_n 0, 1) := dk_42 (dk_at dksX8_append_3 7 rfl rfl)
theorem dX8_append_79 : decode cX8_append 79 = .ok (.getfield 9, 3) := dk_180 0 9 (dk_at dksX8_append_3 8 rfl rfl)
theorem dX8_append_82 : decode cX8_append 82 = .ok (.aload_n 0, 1) := dk_42 (dk_at dksX8_append_3 11 rfl rfl)
theorem dX8_append_83 : decode cX8_append 83 = .ok (.getfield 54, 3) := dk_180 0 54 (dk_at dksX8_append_3 12 rfl rfl)
theorem dX8_append_86 : decode cX8_append 86 = .ok (.iload 7, 2) := dk_21 7 (dk_at dksX8_append_3 15 rfl rfl)
theorem dX8_append_88 : decode cX8_append 88 = .ok (.bipush 24, 2) := dk_16 24 (dk_at dksX8_append_3 17 rfl rfl)
theorem dX8_append_90 : decode cX8_append 90 = .ok (.bipush 8, 2) := dk_16 8 (dk_at dksX8_append_3 19 rfl rfl)
theorem dX8_append_92 : decode cX8_append 92 = .ok (.iload 6, 2) := dk_21 6 (dk_at dksX8_append_3 21 rfl rfl)
theorem dX8_append_94 : decode cX8_append 94 = .ok (.iconst 4, 1) := dk_7 (dk_at dksX8_append_3 23 rfl rfl)
theorem dX8_append_95 : decode cX8_append 95 = .ok (.irem, 1) := dk_112 (dk_at dksX8_append_4 0 rfl rfl)
theorem dX8_append_96 : decode cX8_append 96 = .ok (.imul, 1) := dk_104 (dk_at dksX8_append_4 1 rfl rfl)
theorem dX8_append_97 : decode cX8_append 97 = .ok (.isub, 1) := dk_100 (dk_at dksX8_append_4 2 rfl rfl)
theorem dX8_append_98 : decode cX8_append 98 = .ok (.ishr, 1) := dk_122 (dk_at dksX8_append_4 3 rfl rfl)
theorem dX8_append_99 : decode cX8_append 99 = .ok (.sipush 255, 3) := dk_17 0 255 (dk_at dksX8_append_4 4 rfl rfl)
theorem dX8_append_102 : decode cX8_append 102 = .ok (.iand, 1) := dk_126 (dk_at dksX8_append_4 7 rfl rfl)
theorem dX8_append_103 : decode cX8_append 103 = .ok (.iastore, 1) := dk_79 (dk_at dksX8_append_4 8 rfl rfl)
theorem dX8_append_104 : decode cX8_append 104 = .ok (.aload_n 0, 1) := dk_42 (dk_at dksX8_append_4 9 rfl rfl)
theorem dX8_append_105 : decode cX8_append 105 = .ok (.dup, 1) := dk_89 (dk_at dksX8_append_4 10 rfl rfl)
theorem dX8_append_106 : decode cX8_append 106 = .ok (.getfield 54, 3) := dk_180 0 54 (dk_at dksX8_append_4 11 rfl rfl)
theorem dX8_append_109 : decode cX8_append 109 = .ok (.iconst 1, 1) := dk_4 (dk_at dksX8_append_4 14 rfl rfl)
theorem dX8_append_110 : decode cX8_append 110 = .ok (.iadd, 1) := dk_96 (dk_at dksX8_append_4 15 rfl rfl)
theorem dX8_append_111 : decode cX8_append 111 = .ok (.putfield 54, 3) := dk_181 0 54 (dk_at dksX8_append_4 16 rfl rfl)
theorem dX8_append_114 : decode cX8_append 114 = .ok (.iinc 6 1, 3) := dk_132 6 1 (dk_at dksX8_append_4 19 rfl rfl)
theorem dX8_append_117 : decode cX8_append 117 = .ok (.goto (-94), 3) := dk_167 255 162 (dk_at dksX8_append_5 0 rfl rfl)
theorem dX8_append_120 : decode cX8_append 120 = .ok (.aload_n 0, 1) := dk_42 (dk_at dksX8_append_5 3 rfl rfl)
theorem dX8_append_121 : decode cX8_append 121 = .ok (.getfield 54, 3) := dk_180 0 54 (dk_at dksX8_append_5 4 rfl rfl)
theorem dX8_append_124 : decode cX8_append 124 = .ok (.ireturn, 1) := dk_172 (dk_at dksX8_append_5 7 rfl rfl)
abbrev cX8_load : ByteArray := prog_15_method_29_code
def yX8_load : MethodName := ⟨RX8, "load", "(I)I"⟩
def dkwX8_load_9 : List UInt8 := [180, 0, 17, 184, 0, 186, 42, 182, 0, 190, 42, 180, 0, 17, 5, 46, 172]
abbrev dktX8_load_9 : List UInt8 := dkwX8_load_9 ++ []
def dkwX8_load_8 : List UInt8 := [181, 0, 13, 42, 182, 0, 77, 154, 0, 8, 42, 180, 0, 67, 172, 42, 182, 0, 183, 42, 180, 0, 20, 42]
abbrev dktX8_load_8 : List UInt8 := dkwX8_load_8 ++ dktX8_load_9
def dkwX8_load_7 : List UInt8 := [180, 0, 20, 5, 46, 154, 0, 13, 42, 16, 254, 42, 180, 0, 57, 182, 0, 94, 42, 42, 180, 0, 70]
abbrev dktX8_load_7 : List UInt8 := dkwX8_load_7 ++ dktX8_load_8
def dkwX8_load_6 : List UInt8 := [42, 182, 0, 77, 153, 0, 18, 42, 182, 0, 81, 2, 159, 0, 10, 42, 182, 0, 180, 167, 255, 237, 42]
abbrev dktX8_load_6 : List UInt8 := dkwX8_load_6 ++ dktX8_load_7
def dkwX8_load_5 : List UInt8 := [16, 6, 182, 0, 132, 79, 42, 180, 0, 20, 4, 42, 3, 4, 182, 0, 132, 79, 42, 16, 59, 182, 0, 116]
abbrev dktX8_load_5 : List UInt8 := dkwX8_load_5 ++ dktX8_load_6
def dkwX8_load_4 : List UInt8 := [182, 0, 122, 154, 0, 13, 42, 16, 254, 42, 180, 0, 60, 182, 0, 94, 42, 180, 0, 20, 3, 42, 4]
abbrev dktX8_load_4 : List UInt8 := dkwX8_load_4 ++ dktX8_load_5
def dkwX8_load_3 : List UInt8 := [17, 6, 119, 162, 0, 16, 42, 180, 0, 20, 28, 3, 79, 132, 2, 1, 167, 255, 239, 42, 18, 178]
abbrev dktX8_load_3 : List UInt8 := dkwX8_load_3 ++ dktX8_load_4
def dkwX8_load_2 : List UInt8 := [3, 181, 0, 67, 42, 2, 181, 0, 70, 42, 3, 181, 0, 110, 42, 3, 181, 0, 144, 3, 61, 28]
abbrev dktX8_load_2 : List UInt8 := dkwX8_load_2 ++ dktX8_load_3
def dkwX8_load_1 : List UInt8 := [182, 0, 174, 153, 0, 5, 3, 172, 42, 3, 181, 0, 54, 42, 27, 181, 0, 57, 42, 3, 181, 0, 60, 42]
abbrev dktX8_load_1 : List UInt8 := dkwX8_load_1 ++ dktX8_load_2
def dkwX8_load_0 : List UInt8 := [42, 3, 181, 0, 51, 42, 27, 3, 42, 180, 0, 54, 184, 0, 73, 154, 0, 7, 4, 167, 0, 4, 3, 4]
abbrev dktX8_load_0 : List UInt8 := dkwX8_load_0 ++ dktX8_load_1
theorem dksX8_load_0 : cX8_load.data.toList.drop 0 = dktX8_load_0 := by decide +kernel
theorem dksX8_load_1 : cX8_load.data.toList.drop 24 = dktX8_load_1 := dk_seg dksX8_load_0 24 rfl rfl
theorem dksX8_load_2 : cX8_load.data.toList.drop 48 = dktX8_load_2 := dk_seg dksX8_load_1 24 rfl rfl
theorem dksX8_load_3 : cX8_load.data.toList.drop 70 = dktX8_load_3 := dk_seg dksX8_load_2 22 rfl rfl
theorem dksX8_load_4 : cX8_load.data.toList.drop 92 = dktX8_load_4 := dk_seg dksX8_load_3 22 rfl rfl
theorem dksX8_load_5 : cX8_load.data.toList.drop 115 = dktX8_load_5 := dk_seg dksX8_load_4 23 rfl rfl
theorem dksX8_load_6 : cX8_load.data.toList.drop 139 = dktX8_load_6 := dk_seg dksX8_load_5 24 rfl rfl
theorem dksX8_load_7 : cX8_load.data.toList.drop 162 = dktX8_load_7 := dk_seg dksX8_load_6 23 rfl rfl
theorem dksX8_load_8 : cX8_load.data.toList.drop 185 = dktX8_load_8 := dk_seg dksX8_load_7 23 rfl rfl
theorem dksX8_load_9 : cX8_load.data.toList.drop 209 = dktX8_load_9 := dk_seg dksX8_load_8 24 rfl rfl
theorem dX8_load_0 : decode cX8_load 0 = .ok (.aload_n 0, 1) := dk_42 (dk_at dksX8_load_0 0 rfl rfl)
theorem dX8_load_1 : decode cX8_load 1 = .ok (.iconst 0, 1) := dk_3 (dk_at dksX8_load_0 1 rfl rfl)
theorem dX8_load_2 : decode cX8_load 2 = .ok (.putfield 51, 3) := dk_181 0 51 (dk_at dksX8_load_0 2 rfl rfl)
theorem dX8_load_5 : decode cX8_load 5 = .ok (.aload_n 0, 1) := dk_42 (dk_at dksX8_load_0 5 rfl rfl)
theorem dX8_load_6 : decode cX8_load 6 = .ok (.iload_n 1, 1) := dk_27 (dk_at dksX8_load_0 6 rfl rfl)
theorem dX8_load_7 : decode cX8_load 7 = .ok (.iconst 0, 1) := dk_3 (dk_at dksX8_load_0 7 rfl rfl)
theorem dX8_load_8 : decode cX8_load 8 = .ok (.aload_n 0, 1) := dk_42 (dk_at dksX8_load_0 8 rfl rfl)
theorem dX8_load_9 : decode cX8_load 9 = .ok (.getfield 54, 3) := dk_180 0 54 (dk_at dksX8_load_0 9 rfl rfl)
theorem dX8_load_12 : decode cX8_load 12 = .ok (.invokestatic 73, 3) := dk_184 0 73 (dk_at dksX8_load_0 12 rfl rfl)
theorem dX8_load_15 : decode cX8_load 15 = .ok (.ifCond .ne 7, 3) := dk_154 0 7 (dk_at dksX8_load_0 15 rfl rfl)
theorem dX8_load_18 : decode cX8_load 18 = .ok (.iconst 1, 1) := dk_4 (dk_at dksX8_load_0 18 rfl rfl)
theorem dX8_load_19 : decode cX8_load 19 = .ok (.goto 4, 3) := dk_167 0 4 (dk_at dksX8_load_0 19 rfl rfl)
theorem dX8_load_22 : decode cX8_load 22 = .ok (.iconst 0, 1) := dk_3 (dk_at dksX8_load_0 22 rfl rfl)
theorem dX8_load_23 : decode cX8_load 23 = .ok (.iconst 1, 1) := dk_4 (dk_at dksX8_load_0 23 rfl rfl)
theorem dX8_load_24 : decode cX8_load 24 = .ok (.invokevirtual 174, 3) := dk_182 0 174 (dk_at dksX8_load_1 0 rfl rfl)
theorem dX8_load_27 : decode cX8_load 27 = .ok (.ifCond .eq 5, 3) := dk_153 0 5 (dk_at dksX8_load_1 3 rfl rfl)
theorem dX8_load_30 : decode cX8_load 30 = .ok (.iconst 0, 1) := dk_3 (dk_at dksX8_load_1 6 rfl rfl)
theorem dX8_load_31 : decode cX8_load 31 = .ok (.ireturn, 1) := dk_172 (dk_at dksX8_load_1 7 rfl rfl)
theorem dX8_load_32 : decode cX8_load 32 = .ok (.aload_n 0, 1) := dk_42 (dk_at dksX8_load_1 8 rfl rfl)
theorem dX8_load_33 : decode cX8_load 33 = .ok (.iconst 0, 1) := dk_3 (dk_at dksX8_load_1 9 rfl rfl)
theorem dX8_load_34 : decode cX8_load 34 = .ok (.putfield 54, 3) := dk_181 0 54 (dk_at dksX8_load_1 10 rfl rfl)
theorem dX8_load_37 : decode cX8_load 37 = .ok (.aload_n 0, 1) := dk_42 (dk_at dksX8_load_1 13 rfl rfl)
theorem dX8_load_38 : decode cX8_load 38 = .ok (.iload_n 1, 1) := dk_27 (dk_at dksX8_load_1 14 rfl rfl)
theorem dX8_load_39 : decode cX8_load 39 = .ok (.putfield 57, 3) := dk_181 0 57 (dk_at dksX8_load_1 15 rfl rfl)
theorem dX8_load_42 : decode cX8_load 42 = .ok (.aload_n 0, 1) := dk_42 (dk_at dksX8_load_1 18 rfl rfl)
theorem dX8_load_43 : decode cX8_load 43 = .ok (.iconst 0, 1) := dk_3 (dk_at dksX8_load_1 19 rfl rfl)
theorem dX8_load_44 : decode cX8_load 44 = .ok (.putfield 60, 3) := dk_181 0 60 (dk_at dksX8_load_1 20 rfl rfl)
theorem dX8_load_47 : decode cX8_load 47 = .ok (.aload_n 0, 1) := dk_42 (dk_at dksX8_load_1 23 rfl rfl)
theorem dX8_load_48 : decode cX8_load 48 = .ok (.iconst 0, 1) := dk_3 (dk_at dksX8_load_2 0 rfl rfl)
theorem dX8_load_49 : decode cX8_load 49 = .ok (.putfield 67, 3) := dk_181 0 67 (dk_at dksX8_load_2 1 rfl rfl)
theorem dX8_load_52 : decode cX8_load 52 = .ok (.aload_n 0, 1) := dk_42 (dk_at dksX8_load_2 4 rfl rfl)
theorem dX8_load_53 : decode cX8_load 53 = .ok (.iconst (-1), 1) := dk_2 (dk_at dksX8_load_2 5 rfl rfl)
theorem dX8_load_54 : decode cX8_load 54 = .ok (.putfield 70, 3) := dk_181 0 70 (dk_at dksX8_load_2 6 rfl rfl)
theorem dX8_load_57 : decode cX8_load 57 = .ok (.aload_n 0, 1) := dk_42 (dk_at dksX8_load_2 9 rfl rfl)
theorem dX8_load_58 : decode cX8_load 58 = .ok (.iconst 0, 1) := dk_3 (dk_at dksX8_load_2 10 rfl rfl)
theorem dX8_load_59 : decode cX8_load 59 = .ok (.putfield 110, 3) := dk_181 0 110 (dk_at dksX8_load_2 11 rfl rfl)
theorem dX8_load_62 : decode cX8_load 62 = .ok (.aload_n 0, 1) := dk_42 (dk_at dksX8_load_2 14 rfl rfl)
theorem dX8_load_63 : decode cX8_load 63 = .ok (.iconst 0, 1) := dk_3 (dk_at dksX8_load_2 15 rfl rfl)
theorem dX8_load_64 : decode cX8_load 64 = .ok (.putfield 144, 3) := dk_181 0 144 (dk_at dksX8_load_2 16 rfl rfl)
theorem dX8_load_67 : decode cX8_load 67 = .ok (.iconst 0, 1) := dk_3 (dk_at dksX8_load_2 19 rfl rfl)
theorem dX8_load_68 : decode cX8_load 68 = .ok (.istore_n 2, 1) := dk_61 (dk_at dksX8_load_2 20 rfl rfl)
theorem dX8_load_69 : decode cX8_load 69 = .ok (.iload_n 2, 1) := dk_28 (dk_at dksX8_load_2 21 rfl rfl)
theorem dX8_load_70 : decode cX8_load 70 = .ok (.sipush 1655, 3) := dk_17 6 119 (dk_at dksX8_load_3 0 rfl rfl)
theorem dX8_load_73 : decode cX8_load 73 = .ok (.if_icmp .ge 16, 3) := dk_162 0 16 (dk_at dksX8_load_3 3 rfl rfl)
theorem dX8_load_76 : decode cX8_load 76 = .ok (.aload_n 0, 1) := dk_42 (dk_at dksX8_load_3 6 rfl rfl)
theorem dX8_load_77 : decode cX8_load 77 = .ok (.getfield 20, 3) := dk_180 0 20 (dk_at dksX8_load_3 7 rfl rfl)
theorem dX8_load_80 : decode cX8_load 80 = .ok (.iload_n 2, 1) := dk_28 (dk_at dksX8_load_3 10 rfl rfl)
theorem dX8_load_81 : decode cX8_load 81 = .ok (.iconst 0, 1) := dk_3 (dk_at dksX8_load_3 11 rfl rfl)
theorem dX8_load_82 : decode cX8_load 82 = .ok (.iastore, 1) := dk_79 (dk_at dksX8_load_3 12 rfl rfl)
theorem dX8_load_83 : decode cX8_load 83 = .ok (.iinc 2 1, 3) := dk_132 2 1 (dk_at dksX8_load_3 13 rfl rfl)
theorem dX8_load_86 : decode cX8_load 86 = .ok (.goto (-17), 3) := dk_167 255 239 (dk_at dksX8_load_3 16 rfl rfl)
theorem dX8_load_89 : decode cX8_load 89 = .ok (.aload_n 0, 1) := dk_42 (dk_at dksX8_load_3 19 rfl rfl)
theorem dX8_load_90 : decode cX8_load 90 = .ok (.ldc 178, 2) := dk_18 178 (dk_at dksX8_load_3 20 rfl rfl)
theorem dX8_load_92 : decode cX8_load 92 = .ok (.invokevirtual 122, 3) := dk_182 0 122 (dk_at dksX8_load_4 0 rfl rfl)
theorem dX8_load_95 : decode cX8_load 95 = .ok (.ifCond .ne 13, 3) := dk_154 0 13 (dk_at dksX8_load_4 3 rfl rfl)
theorem dX8_load_98 : decode cX8_load 98 = .ok (.aload_n 0, 1) := dk_42 (dk_at dksX8_load_4 6 rfl rfl)
theorem dX8_load_99 : decode cX8_load 99 = .ok (.bipush (-2), 2) := dk_16 254 (dk_at dksX8_load_4 7 rfl rfl)
theorem dX8_load_101 : decode cX8_load 101 = .ok (.aload_n 0, 1) := dk_42 (dk_at dksX8_load_4 9 rfl rfl)
theorem dX8_load_102 : decode cX8_load 102 = .ok (.getfield 60, 3) := dk_180 0 60 (dk_at dksX8_load_4 10 rfl rfl)
theorem dX8_load_105 : decode cX8_load 105 = .ok (.invokevirtual 94, 3) := dk_182 0 94 (dk_at dksX8_load_4 13 rfl rfl)
theorem dX8_load_108 : decode cX8_load 108 = .ok (.aload_n 0, 1) := dk_42 (dk_at dksX8_load_4 16 rfl rfl)
theorem dX8_load_109 : decode cX8_load 109 = .ok (.getfield 20, 3) := dk_180 0 20 (dk_at dksX8_load_4 17 rfl rfl)
theorem dX8_load_112 : decode cX8_load 112 = .ok (.iconst 0, 1) := dk_3 (dk_at dksX8_load_4 20 rfl rfl)
theorem dX8_load_113 : decode cX8_load 113 = .ok (.aload_n 0, 1) := dk_42 (dk_at dksX8_load_4 21 rfl rfl)
theorem dX8_load_114 : decode cX8_load 114 = .ok (.iconst 1, 1) := dk_4 (dk_at dksX8_load_4 22 rfl rfl)
theorem dX8_load_115 : decode cX8_load 115 = .ok (.bipush 6, 2) := dk_16 6 (dk_at dksX8_load_5 0 rfl rfl)
theorem dX8_load_117 : decode cX8_load 117 = .ok (.invokevirtual 132, 3) := dk_182 0 132 (dk_at dksX8_load_5 2 rfl rfl)
theorem dX8_load_120 : decode cX8_load 120 = .ok (.iastore, 1) := dk_79 (dk_at dksX8_load_5 5 rfl rfl)
theorem dX8_load_121 : decode cX8_load 121 = .ok (.aload_n 0, 1) := dk_42 (dk_at dksX8_load_5 6 rfl rfl)
theorem dX8_load_122 : decode cX8_load 122 = .ok (.getfield 20, 3) := dk_180 0 20 (dk_at dksX8_load_5 7 rfl rfl)
theorem dX8_load_125 : decode cX8_load 125 = .ok (.iconst 1, 1) := dk_4 (dk_at dksX8_load_5 10 rfl rfl)
theorem dX8_load_126 : decode cX8_load 126 = .ok (.aload_n 0, 1) := dk_42 (dk_at dksX8_load_5 11 rfl rfl)
theorem dX8_load_127 : decode cX8_load 127 = .ok (.iconst 0, 1) := dk_3 (dk_at dksX8_load_5 12 rfl rfl)
theorem dX8_load_128 : decode cX8_load 128 = .ok (.iconst 1, 1) := dk_4 (dk_at dksX8_load_5 13 rfl rfl)
theorem dX8_load_129 : decode cX8_load 129 = .ok (.invokevirtual 132, 3) := dk_182 0 132 (dk_at dksX8_load_5 14 rfl rfl)
theorem dX8_load_132 : decode cX8_load 132 = .ok (.iastore, 1) := dk_79 (dk_at dksX8_load_5 17 rfl rfl)
theorem dX8_load_133 : decode cX8_load 133 = .ok (.aload_n 0, 1) := dk_42 (dk_at dksX8_load_5 18 rfl rfl)
theorem dX8_load_134 : decode cX8_load 134 = .ok (.bipush 59, 2) := dk_16 59 (dk_at dksX8_load_5 19 rfl rfl)
theorem dX8_load_136 : decode cX8_load 136 = .ok (.invokevirtual 116, 3) := dk_182 0 116 (dk_at dksX8_load_5 21 rfl rfl)
theorem dX8_load_139 : decode cX8_load 139 = .ok (.aload_n 0, 1) := dk_42 (dk_at dksX8_load_6 0 rfl rfl)
theorem dX8_load_140 : decode cX8_load 140 = .ok (.invokevirtual 77, 3) := dk_182 0 77 (dk_at dksX8_load_6 1 rfl rfl)
theorem dX8_load_143 : decode cX8_load 143 = .ok (.ifCond .eq 18, 3) := dk_153 0 18 (dk_at dksX8_load_6 4 rfl rfl)
theorem dX8_load_146 : decode cX8_load 146 = .ok (.aload_n 0, 1) := dk_42 (dk_at dksX8_load_6 7 rfl rfl)
theorem dX8_load_147 : decode cX8_load 147 = .ok (.invokevirtual 81, 3) := dk_182 0 81 (dk_at dksX8_load_6 8 rfl rfl)
theorem dX8_load_150 : decode cX8_load 150 = .ok (.iconst (-1), 1) := dk_2 (dk_at dksX8_load_6 11 rfl rfl)
theorem dX8_load_151 : decode cX8_load 151 = .ok (.if_icmp .eq 10, 3) := dk_159 0 10 (dk_at dksX8_load_6 12 rfl rfl)
theorem dX8_load_154 : decode cX8_load 154 = .ok (.aload_n 0, 1) := dk_42 (dk_at dksX8_load_6 15 rfl rfl)
theorem dX8_load_155 : decode cX8_load 155 = .ok (.invokevirtual 180, 3) := dk_182 0 180 (dk_at dksX8_load_6 16 rfl rfl)
theorem dX8_load_158 : decode cX8_load 158 = .ok (.goto (-19), 3) := dk_167 255 237 (dk_at dksX8_load_6 19 rfl rfl)
theorem dX8_load_161 : decode cX8_load 161 = .ok (.aload_n 0, 1) := dk_42 (dk_at dksX8_load_6 22 rfl rfl)
theorem dX8_load_162 : decode cX8_load 162 = .ok (.getfield 20, 3) := dk_180 0 20 (dk_at dksX8_load_7 0 rfl rfl)
theorem dX8_load_165 : decode cX8_load 165 = .ok (.iconst 2, 1) := dk_5 (dk_at dksX8_load_7 3 rfl rfl)
theorem dX8_load_166 : decode cX8_load 166 = .ok (.iaload, 1) := dk_46 (dk_at dksX8_load_7 4 rfl rfl)
theorem dX8_load_167 : decode cX8_load 167 = .ok (.ifCond .ne 13, 3) := dk_154 0 13 (dk_at dksX8_load_7 5 rfl rfl)
theorem dX8_load_170 : decode cX8_load 170 = .ok (.aload_n 0, 1) := dk_42 (dk_at dksX8_load_7 8 rfl rfl)
theorem dX8_load_171 : decode cX8_load 171 = .ok (.bipush (-2), 2) := dk_16 254 (dk_at dksX8_load_7 9 rfl rfl)
theorem dX8_load_173 : decode cX8_load 173 = .ok (.aload_n 0, 1) := dk_42 (dk_at dksX8_load_7 11 rfl rfl)
theorem dX8_load_174 : decode cX8_load 174 = .ok (.getfield 57, 3) := dk_180 0 57 (dk_at dksX8_load_7 12 rfl rfl)
theorem dX8_load_177 : decode cX8_load 177 = .ok (.invokevirtual 94, 3) := dk_182 0 94 (dk_at dksX8_load_7 15 rfl rfl)
theorem dX8_load_180 : decode cX8_load 180 = .ok (.aload_n 0, 1) := dk_42 (dk_at dksX8_load_7 18 rfl rfl)
theorem dX8_load_181 : decode cX8_load 181 = .ok (.aload_n 0, 1) := dk_42 (dk_at dksX8_load_7 19 rfl rfl)
theorem dX8_load_182 : decode cX8_load 182 = .ok (.getfield 70, 3) := dk_180 0 70 (dk_at dksX8_load_7 20 rfl rfl)
theorem dX8_load_185 : decode cX8_load 185 = .ok (.putfield 13, 3) := dk_181 0 13 (dk_at dksX8_load_8 0 rfl rfl)
theorem dX8_load_188 : decode cX8_load 188 = .ok (.aload_n 0, 1) := dk_42 (dk_at dksX8_load_8 3 rfl rfl)
theorem dX8_load_189 : decode cX8_load 189 = .ok (.invokevirtual 77, 3) := dk_182 0 77 (dk_at dksX8_load_8 4 rfl rfl)
theorem dX8_load_192 : decode cX8_load 192 = .ok (.ifCond .ne 8, 3) := dk_154 0 8 (dk_at dksX8_load_8 7 rfl rfl)
theorem dX8_load_195 : decode cX8_load 195 = .ok (.aload_n 0, 1) := dk_42 (dk_at dksX8_load_8 10 rfl rfl)
theorem dX8_load_196 : decode cX8_load 196 = .ok (.getfield 67, 3) := dk_180 0 67 (dk_at dksX8_load_8 11 rfl rfl)
theorem dX8_load_199 : decode cX8_load 199 = .ok (.ireturn, 1) := dk_172 (dk_at dksX8_load_8 14 rfl rfl)
theorem dX8_load_200 : decode cX8_load 200 = .ok (.aload_n 0, 1) := dk_42 (dk_at dksX8_load_8 15 rfl rfl)
theorem dX8_load_201 : decode cX8_load 201 = .ok (.invokevirtual 183, 3) := dk_182 0 183 (dk_at dksX8_load_8 16 rfl rfl)
theorem dX8_load_204 : decode cX8_load 204 = .ok (.aload_n 0, 1) := dk_42 (dk_at dksX8_load_8 19 rfl rfl)
theorem dX8_load_205 : decode cX8_load 205 = .ok (.getfield 20, 3) := dk_180 0 20 (dk_at dksX8_load_8 20 rfl rfl)
theorem dX8_load_208 : decode cX8_load 208 = .ok (.aload_n 0, 1) := dk_42 (dk_at dksX8_load_8 23 rfl rfl)
theorem dX8_load_209 : decode cX8_load 209 = .ok (.getfield 17, 3) := dk_180 0 17 (dk_at dksX8_load_9 0 rfl rfl)
theorem dX8_load_212 : decode cX8_load 212 = .ok (.invokestatic 186, 3) := dk_184 0 186 (dk_at dksX8_load_9 3 rfl rfl)
theorem dX8_load_215 : decode cX8_load 215 = .ok (.aload_n 0, 1) := dk_42 (dk_at dksX8_load_9 6 rfl rfl)
theorem dX8_load_216 : decode cX8_load 216 = .ok (.invokevirtual 190, 3) := dk_182 0 190 (dk_at dksX8_load_9 7 rfl rfl)
theorem dX8_load_219 : decode cX8_load 219 = .ok (.aload_n 0, 1) := dk_42 (dk_at dksX8_load_9 10 rfl rfl)
theorem dX8_load_220 : decode cX8_load 220 = .ok (.getfield 17, 3) := dk_180 0 17 (dk_at dksX8_load_9 11 rfl rfl)
theorem dX8_load_223 : decode cX8_load 223 = .ok (.iconst 2, 1) := dk_5 (dk_at dksX8_load_9 14 rfl rfl)
theorem dX8_load_224 : decode cX8_load 224 = .ok (.iaload, 1) := dk_46 (dk_at dksX8_load_9 15 rfl rfl)
theorem dX8_load_225 : decode cX8_load 225 = .ok (.ireturn, 1) := dk_172 (dk_at dksX8_load_9 16 rfl rfl)
abbrev cX8_in : ByteArray := prog_15_method_4_code
def yX8_in : MethodName := ⟨RX8, "in", "(III)Z"⟩
def dkwX8_in_0 : List UInt8 := [26, 27, 161, 0, 12, 26, 28, 163, 0, 7, 4, 167, 0, 4, 3, 172]
abbrev dktX8_in_0 : List UInt8 := dkwX8_in_0 ++ []
theorem dksX8_in_0 : cX8_in.data.toList.drop 0 = dktX8_in_0 := by decide +kernel
theorem dX8_in_0 : decode cX8_in 0 = .ok (.iload_n 0, 1) := dk_26 (dk_at dksX8_in_0 0 rfl rfl)
theorem dX8_in_1 : decode cX8_in 1 = .ok (.iload_n 1, 1) := dk_27 (dk_at dksX8_in_0 1 rfl rfl)
theorem dX8_in_2 : decode cX8_in 2 = .ok (.if_icmp .lt 12, 3) := dk_161 0 12 (dk_at dksX8_in_0 2 rfl rfl)
theorem dX8_in_5 : decode cX8_in 5 = .ok (.iload_n 0, 1) := dk_26 (dk_at dksX8_in_0 5 rfl rfl)
theorem dX8_in_6 : decode cX8_in 6 = .ok (.iload_n 2, 1) := dk_28 (dk_at dksX8_in_0 6 rfl rfl)
theorem dX8_in_7 : decode cX8_in 7 = .ok (.if_icmp .gt 7, 3) := dk_163 0 7 (dk_at dksX8_in_0 7 rfl rfl)
theorem dX8_in_10 : decode cX8_in 10 = .ok (.iconst 1, 1) := dk_4 (dk_at dksX8_in_0 10 rfl rfl)
theorem dX8_in_11 : decode cX8_in 11 = .ok (.goto 4, 3) := dk_167 0 4 (dk_at dksX8_in_0 11 rfl rfl)
theorem dX8_in_14 : decode cX8_in 14 = .ok (.iconst 0, 1) := dk_3 (dk_at dksX8_in_0 14 rfl rfl)
theorem dX8_in_15 : decode cX8_in 15 = .ok (.ireturn, 1) := dk_172 (dk_at dksX8_in_0 15 rfl rfl)
abbrev cX8_fails : ByteArray := prog_15_method_3_code
def yX8_fails : MethodName := ⟨RX8, "fails", "(ZI)Z"⟩
def dkwX8_fails_1 : List UInt8 := [167, 0, 4, 3, 172]
abbrev dktX8_fails_1 : List UInt8 := dkwX8_fails_1 ++ []
def dkwX8_fails_0 : List UInt8 := [27, 153, 0, 15, 42, 180, 0, 51, 154, 0, 8, 42, 28, 181, 0, 51, 42, 180, 0, 51, 153, 0, 7, 4]
abbrev dktX8_fails_0 : List UInt8 := dkwX8_fails_0 ++ dktX8_fails_1
theorem dksX8_fails_0 : cX8_fails.data.toList.drop 0 = dktX8_fails_0 := by decide +kernel
theorem dksX8_fails_1 : cX8_fails.data.toList.drop 24 = dktX8_fails_1 := dk_seg dksX8_fails_0 24 rfl rfl
theorem dX8_fails_0 : decode cX8_fails 0 = .ok (.iload_n 1, 1) := dk_27 (dk_at dksX8_fails_0 0 rfl rfl)
theorem dX8_fails_1 : decode cX8_fails 1 = .ok (.ifCond .eq 15, 3) := dk_153 0 15 (dk_at dksX8_fails_0 1 rfl rfl)
theorem dX8_fails_4 : decode cX8_fails 4 = .ok (.aload_n 0, 1) := dk_42 (dk_at dksX8_fails_0 4 rfl rfl)
theorem dX8_fails_5 : decode cX8_fails 5 = .ok (.getfield 51, 3) := dk_180 0 51 (dk_at dksX8_fails_0 5 rfl rfl)
theorem dX8_fails_8 : decode cX8_fails 8 = .ok (.ifCond .ne 8, 3) := dk_154 0 8 (dk_at dksX8_fails_0 8 rfl rfl)
theorem dX8_fails_11 : decode cX8_fails 11 = .ok (.aload_n 0, 1) := dk_42 (dk_at dksX8_fails_0 11 rfl rfl)
theorem dX8_fails_12 : decode cX8_fails 12 = .ok (.iload_n 2, 1) := dk_28 (dk_at dksX8_fails_0 12 rfl rfl)
theorem dX8_fails_13 : decode cX8_fails 13 = .ok (.putfield 51, 3) := dk_181 0 51 (dk_at dksX8_fails_0 13 rfl rfl)
theorem dX8_fails_16 : decode cX8_fails 16 = .ok (.aload_n 0, 1) := dk_42 (dk_at dksX8_fails_0 16 rfl rfl)
theorem dX8_fails_17 : decode cX8_fails 17 = .ok (.getfield 51, 3) := dk_180 0 51 (dk_at dksX8_fails_0 17 rfl rfl)
theorem dX8_fails_20 : decode cX8_fails 20 = .ok (.ifCond .eq 7, 3) := dk_153 0 7 (dk_at dksX8_fails_0 20 rfl rfl)
theorem dX8_fails_23 : decode cX8_fails 23 = .ok (.iconst 1, 1) := dk_4 (dk_at dksX8_fails_0 23 rfl rfl)
theorem dX8_fails_24 : decode cX8_fails 24 = .ok (.goto 4, 3) := dk_167 0 4 (dk_at dksX8_fails_1 0 rfl rfl)
theorem dX8_fails_27 : decode cX8_fails 27 = .ok (.iconst 0, 1) := dk_3 (dk_at dksX8_fails_1 3 rfl rfl)
theorem dX8_fails_28 : decode cX8_fails 28 = .ok (.ireturn, 1) := dk_172 (dk_at dksX8_fails_1 4 rfl rfl)
abbrev cX8_takeWord : ByteArray := prog_15_method_17_code
def yX8_takeWord : MethodName := ⟨RX8, "takeWord", "(Ljava/lang/String;)Z"⟩
def dkwX8_takeWord_3 : List UInt8 := [184, 0, 73, 153, 0, 5, 3, 172, 42, 89, 180, 0, 60, 28, 96, 181, 0, 60, 4, 172]
abbrev dktX8_takeWord_3 : List UInt8 := dkwX8_takeWord_3 ++ []
def dkwX8_takeWord_2 : List UInt8 := [28, 43, 182, 0, 85, 161, 0, 23, 42, 42, 180, 0, 60, 28, 96, 182, 0, 63, 16, 97, 16, 122]
abbrev dktX8_takeWord_2 : List UInt8 := dkwX8_takeWord_2 ++ dktX8_takeWord_3
def dkwX8_takeWord_1 : List UInt8 := [42, 42, 180, 0, 60, 28, 96, 182, 0, 63, 43, 28, 182, 0, 90, 160, 0, 9, 132, 2, 1, 167, 255, 227]
abbrev dktX8_takeWord_1 : List UInt8 := dkwX8_takeWord_1 ++ dktX8_takeWord_2
def dkwX8_takeWord_0 : List UInt8 := [42, 182, 0, 77, 154, 0, 5, 3, 172, 42, 182, 0, 81, 87, 3, 61, 28, 43, 182, 0, 85, 162, 0, 27]
abbrev dktX8_takeWord_0 : List UInt8 := dkwX8_takeWord_0 ++ dktX8_takeWord_1
theorem dksX8_takeWord_0 : cX8_takeWord.data.toList.drop 0 = dktX8_takeWord_0 := by decide +kernel
theorem dksX8_takeWord_1 : cX8_takeWord.data.toList.drop 24 = dktX8_takeWord_1 := dk_seg dksX8_takeWord_0 24 rfl rfl
theorem dksX8_takeWord_2 : cX8_takeWord.data.toList.drop 48 = dktX8_takeWord_2 := dk_seg dksX8_takeWord_1 24 rfl rfl
theorem dksX8_takeWord_3 : cX8_takeWord.data.toList.drop 70 = dktX8_takeWord_3 := dk_seg dksX8_takeWord_2 22 rfl rfl
theorem dX8_takeWord_0 : decode cX8_takeWord 0 = .ok (.aload_n 0, 1) := dk_42 (dk_at dksX8_takeWord_0 0 rfl rfl)
theorem dX8_takeWord_1 : decode cX8_takeWord 1 = .ok (.invokevirtual 77, 3) := dk_182 0 77 (dk_at dksX8_takeWord_0 1 rfl rfl)
theorem dX8_takeWord_4 : decode cX8_takeWord 4 = .ok (.ifCond .ne 5, 3) := dk_154 0 5 (dk_at dksX8_takeWord_0 4 rfl rfl)
theorem dX8_takeWord_7 : decode cX8_takeWord 7 = .ok (.iconst 0, 1) := dk_3 (dk_at dksX8_takeWord_0 7 rfl rfl)
theorem dX8_takeWord_8 : decode cX8_takeWord 8 = .ok (.ireturn, 1) := dk_172 (dk_at dksX8_takeWord_0 8 rfl rfl)
theorem dX8_takeWord_9 : decode cX8_takeWord 9 = .ok (.aload_n 0, 1) := dk_42 (dk_at dksX8_takeWord_0 9 rfl rfl)
theorem dX8_takeWord_10 : decode cX8_takeWord 10 = .ok (.invokevirtual 81, 3) := dk_182 0 81 (dk_at dksX8_takeWord_0 10 rfl rfl)
theorem dX8_takeWord_13 : decode cX8_takeWord 13 = .ok (.pop, 1) := dk_87 (dk_at dksX8_takeWord_0 13 rfl rfl)
theorem dX8_takeWord_14 : decode cX8_takeWord 14 = .ok (.iconst 0, 1) := dk_3 (dk_at dksX8_takeWord_0 14 rfl rfl)
theorem dX8_takeWord_15 : decode cX8_takeWord 15 = .ok (.istore_n 2, 1) := dk_61 (dk_at dksX8_takeWord_0 15 rfl rfl)
theorem dX8_takeWord_16 : decode cX8_takeWord 16 = .ok (.iload_n 2, 1) := dk_28 (dk_at dksX8_takeWord_0 16 rfl rfl)
theorem dX8_takeWord_17 : decode cX8_takeWord 17 = .ok (.aload_n 1, 1) := dk_43 (dk_at dksX8_takeWord_0 17 rfl rfl)
theorem dX8_takeWord_18 : decode cX8_takeWord 18 = .ok (.invokevirtual 85, 3) := dk_182 0 85 (dk_at dksX8_takeWord_0 18 rfl rfl)
theorem dX8_takeWord_21 : decode cX8_takeWord 21 = .ok (.if_icmp .ge 27, 3) := dk_162 0 27 (dk_at dksX8_takeWord_0 21 rfl rfl)
theorem dX8_takeWord_24 : decode cX8_takeWord 24 = .ok (.aload_n 0, 1) := dk_42 (dk_at dksX8_takeWord_1 0 rfl rfl)
theorem dX8_takeWord_25 : decode cX8_takeWord 25 = .ok (.aload_n 0, 1) := dk_42 (dk_at dksX8_takeWord_1 1 rfl rfl)
theorem dX8_takeWord_26 : decode cX8_takeWord 26 = .ok (.getfield 60, 3) := dk_180 0 60 (dk_at dksX8_takeWord_1 2 rfl rfl)
theorem dX8_takeWord_29 : decode cX8_takeWord 29 = .ok (.iload_n 2, 1) := dk_28 (dk_at dksX8_takeWord_1 5 rfl rfl)
theorem dX8_takeWord_30 : decode cX8_takeWord 30 = .ok (.iadd, 1) := dk_96 (dk_at dksX8_takeWord_1 6 rfl rfl)
theorem dX8_takeWord_31 : decode cX8_takeWord 31 = .ok (.invokevirtual 63, 3) := dk_182 0 63 (dk_at dksX8_takeWord_1 7 rfl rfl)
theorem dX8_takeWord_34 : decode cX8_takeWord 34 = .ok (.aload_n 1, 1) := dk_43 (dk_at dksX8_takeWord_1 10 rfl rfl)
theorem dX8_takeWord_35 : decode cX8_takeWord 35 = .ok (.iload_n 2, 1) := dk_28 (dk_at dksX8_takeWord_1 11 rfl rfl)
theorem dX8_takeWord_36 : decode cX8_takeWord 36 = .ok (.invokevirtual 90, 3) := dk_182 0 90 (dk_at dksX8_takeWord_1 12 rfl rfl)
theorem dX8_takeWord_39 : decode cX8_takeWord 39 = .ok (.if_icmp .ne 9, 3) := dk_160 0 9 (dk_at dksX8_takeWord_1 15 rfl rfl)
theorem dX8_takeWord_42 : decode cX8_takeWord 42 = .ok (.iinc 2 1, 3) := dk_132 2 1 (dk_at dksX8_takeWord_1 18 rfl rfl)
theorem dX8_takeWord_45 : decode cX8_takeWord 45 = .ok (.goto (-29), 3) := dk_167 255 227 (dk_at dksX8_takeWord_1 21 rfl rfl)
theorem dX8_takeWord_48 : decode cX8_takeWord 48 = .ok (.iload_n 2, 1) := dk_28 (dk_at dksX8_takeWord_2 0 rfl rfl)
theorem dX8_takeWord_49 : decode cX8_takeWord 49 = .ok (.aload_n 1, 1) := dk_43 (dk_at dksX8_takeWord_2 1 rfl rfl)
theorem dX8_takeWord_50 : decode cX8_takeWord 50 = .ok (.invokevirtual 85, 3) := dk_182 0 85 (dk_at dksX8_takeWord_2 2 rfl rfl)
theorem dX8_takeWord_53 : decode cX8_takeWord 53 = .ok (.if_icmp .lt 23, 3) := dk_161 0 23 (dk_at dksX8_takeWord_2 5 rfl rfl)
theorem dX8_takeWord_56 : decode cX8_takeWord 56 = .ok (.aload_n 0, 1) := dk_42 (dk_at dksX8_takeWord_2 8 rfl rfl)
theorem dX8_takeWord_57 : decode cX8_takeWord 57 = .ok (.aload_n 0, 1) := dk_42 (dk_at dksX8_takeWord_2 9 rfl rfl)
theorem dX8_takeWord_58 : decode cX8_takeWord 58 = .ok (.getfield 60, 3) := dk_180 0 60 (dk_at dksX8_takeWord_2 10 rfl rfl)
theorem dX8_takeWord_61 : decode cX8_takeWord 61 = .ok (.iload_n 2, 1) := dk_28 (dk_at dksX8_takeWord_2 13 rfl rfl)
theorem dX8_takeWord_62 : decode cX8_takeWord 62 = .ok (.iadd, 1) := dk_96 (dk_at dksX8_takeWord_2 14 rfl rfl)
theorem dX8_takeWord_63 : decode cX8_takeWord 63 = .ok (.invokevirtual 63, 3) := dk_182 0 63 (dk_at dksX8_takeWord_2 15 rfl rfl)
theorem dX8_takeWord_66 : decode cX8_takeWord 66 = .ok (.bipush 97, 2) := dk_16 97 (dk_at dksX8_takeWord_2 18 rfl rfl)
theorem dX8_takeWord_68 : decode cX8_takeWord 68 = .ok (.bipush 122, 2) := dk_16 122 (dk_at dksX8_takeWord_2 20 rfl rfl)
theorem dX8_takeWord_70 : decode cX8_takeWord 70 = .ok (.invokestatic 73, 3) := dk_184 0 73 (dk_at dksX8_takeWord_3 0 rfl rfl)
theorem dX8_takeWord_73 : decode cX8_takeWord 73 = .ok (.ifCond .eq 5, 3) := dk_153 0 5 (dk_at dksX8_takeWord_3 3 rfl rfl)
theorem dX8_takeWord_76 : decode cX8_takeWord 76 = .ok (.iconst 0, 1) := dk_3 (dk_at dksX8_takeWord_3 6 rfl rfl)
theorem dX8_takeWord_77 : decode cX8_takeWord 77 = .ok (.ireturn, 1) := dk_172 (dk_at dksX8_takeWord_3 7 rfl rfl)
theorem dX8_takeWord_78 : decode cX8_takeWord 78 = .ok (.aload_n 0, 1) := dk_42 (dk_at dksX8_takeWord_3 8 rfl rfl)
theorem dX8_takeWord_79 : decode cX8_takeWord 79 = .ok (.dup, 1) := dk_89 (dk_at dksX8_takeWord_3 9 rfl rfl)
theorem dX8_takeWord_80 : decode cX8_takeWord 80 = .ok (.getfield 60, 3) := dk_180 0 60 (dk_at dksX8_takeWord_3 10 rfl rfl)
theorem dX8_takeWord_83 : decode cX8_takeWord 83 = .ok (.iload_n 2, 1) := dk_28 (dk_at dksX8_takeWord_3 13 rfl rfl)
theorem dX8_takeWord_84 : decode cX8_takeWord 84 = .ok (.iadd, 1) := dk_96 (dk_at dksX8_takeWord_3 14 rfl rfl)
theorem dX8_takeWord_85 : decode cX8_takeWord 85 = .ok (.putfield 60, 3) := dk_181 0 60 (dk_at dksX8_takeWord_3 15 rfl rfl)
theorem dX8_takeWord_88 : decode cX8_takeWord 88 = .ok (.iconst 1, 1) := dk_4 (dk_at dksX8_takeWord_3 18 rfl rfl)
theorem dX8_takeWord_89 : decode cX8_takeWord 89 = .ok (.ireturn, 1) := dk_172 (dk_at dksX8_takeWord_3 19 rfl rfl)
abbrev cX8_isGood : ByteArray := prog_15_method_14_code
def yX8_isGood : MethodName := ⟨RX8, "isGood", "()Z"⟩
def dkwX8_isGood_0 : List UInt8 := [42, 180, 0, 67, 154, 0, 7, 4, 167, 0, 4, 3, 172]
abbrev dktX8_isGood_0 : List UInt8 := dkwX8_isGood_0 ++ []
theorem dksX8_isGood_0 : cX8_isGood.data.toList.drop 0 = dktX8_isGood_0 := by decide +kernel
theorem dX8_isGood_0 : decode cX8_isGood 0 = .ok (.aload_n 0, 1) := dk_42 (dk_at dksX8_isGood_0 0 rfl rfl)
theorem dX8_isGood_1 : decode cX8_isGood 1 = .ok (.getfield 67, 3) := dk_180 0 67 (dk_at dksX8_isGood_0 1 rfl rfl)
theorem dX8_isGood_4 : decode cX8_isGood 4 = .ok (.ifCond .ne 7, 3) := dk_154 0 7 (dk_at dksX8_isGood_0 4 rfl rfl)
theorem dX8_isGood_7 : decode cX8_isGood 7 = .ok (.iconst 1, 1) := dk_4 (dk_at dksX8_isGood_0 7 rfl rfl)
theorem dX8_isGood_8 : decode cX8_isGood 8 = .ok (.goto 4, 3) := dk_167 0 4 (dk_at dksX8_isGood_0 8 rfl rfl)
theorem dX8_isGood_11 : decode cX8_isGood 11 = .ok (.iconst 0, 1) := dk_3 (dk_at dksX8_isGood_0 11 rfl rfl)
theorem dX8_isGood_12 : decode cX8_isGood 12 = .ok (.ireturn, 1) := dk_172 (dk_at dksX8_isGood_0 12 rfl rfl)
abbrev cX8_next : ByteArray := prog_15_method_13_code
def yX8_next : MethodName := ⟨RX8, "next", "()I"⟩
def dkwX8_next_1 : List UInt8 := [167, 255, 233, 42, 42, 180, 0, 60, 182, 0, 63, 172]
abbrev dktX8_next_1 : List UInt8 := dkwX8_next_1 ++ []
def dkwX8_next_0 : List UInt8 := [42, 42, 180, 0, 60, 182, 0, 63, 16, 32, 160, 0, 16, 42, 89, 180, 0, 60, 4, 96, 181, 0, 60]
abbrev dktX8_next_0 : List UInt8 := dkwX8_next_0 ++ dktX8_next_1
theorem dksX8_next_0 : cX8_next.data.toList.drop 0 = dktX8_next_0 := by decide +kernel
theorem dksX8_next_1 : cX8_next.data.toList.drop 23 = dktX8_next_1 := dk_seg dksX8_next_0 23 rfl rfl
theorem dX8_next_0 : decode cX8_next 0 = .ok (.aload_n 0, 1) := dk_42 (dk_at dksX8_next_0 0 rfl rfl)
theorem dX8_next_1 : decode cX8_next 1 = .ok (.aload_n 0, 1) := dk_42 (dk_at dksX8_next_0 1 rfl rfl)
theorem dX8_next_2 : decode cX8_next 2 = .ok (.getfield 60, 3) := dk_180 0 60 (dk_at dksX8_next_0 2 rfl rfl)
theorem dX8_next_5 : decode cX8_next 5 = .ok (.invokevirtual 63, 3) := dk_182 0 63 (dk_at dksX8_next_0 5 rfl rfl)
theorem dX8_next_8 : decode cX8_next 8 = .ok (.bipush 32, 2) := dk_16 32 (dk_at dksX8_next_0 8 rfl rfl)
theorem dX8_next_10 : decode cX8_next 10 = .ok (.if_icmp .ne 16, 3) := dk_160 0 16 (dk_at dksX8_next_0 10 rfl rfl)
theorem dX8_next_13 : decode cX8_next 13 = .ok (.aload_n 0, 1) := dk_42 (dk_at dksX8_next_0 13 rfl rfl)
theorem dX8_next_14 : decode cX8_next 14 = .ok (.dup, 1) := dk_89 (dk_at dksX8_next_0 14 rfl rfl)
theorem dX8_next_15 : decode cX8_next 15 = .ok (.getfield 60, 3) := dk_180 0 60 (dk_at dksX8_next_0 15 rfl rfl)
theorem dX8_next_18 : decode cX8_next 18 = .ok (.iconst 1, 1) := dk_4 (dk_at dksX8_next_0 18 rfl rfl)
theorem dX8_next_19 : decode cX8_next 19 = .ok (.iadd, 1) := dk_96 (dk_at dksX8_next_0 19 rfl rfl)
theorem dX8_next_20 : decode cX8_next 20 = .ok (.putfield 60, 3) := dk_181 0 60 (dk_at dksX8_next_0 20 rfl rfl)
theorem dX8_next_23 : decode cX8_next 23 = .ok (.goto (-23), 3) := dk_167 255 233 (dk_at dksX8_next_1 0 rfl rfl)
theorem dX8_next_26 : decode cX8_next 26 = .ok (.aload_n 0, 1) := dk_42 (dk_at dksX8_next_1 3 rfl rfl)
theorem dX8_next_27 : decode cX8_next 27 = .ok (.aload_n 0, 1) := dk_42 (dk_at dksX8_next_1 4 rfl rfl)
theorem dX8_next_28 : decode cX8_next 28 = .ok (.getfield 60, 3) := dk_180 0 60 (dk_at dksX8_next_1 5 rfl rfl)
theorem dX8_next_31 : decode cX8_next 31 = .ok (.invokevirtual 63, 3) := dk_182 0 63 (dk_at dksX8_next_1 8 rfl rfl)
theorem dX8_next_34 : decode cX8_next 34 = .ok (.ireturn, 1) := dk_172 (dk_at dksX8_next_1 11 rfl rfl)
abbrev cX8_byteAt : ByteArray := prog_15_method_12_code
def yX8_byteAt : MethodName := ⟨RX8, "byteAt", "(I)I"⟩
def dkwX8_byteAt_0 : List UInt8 := [27, 42, 180, 0, 57, 162, 0, 12, 42, 180, 0, 9, 27, 46, 167, 0, 4, 2, 172]
abbrev dktX8_byteAt_0 : List UInt8 := dkwX8_byteAt_0 ++ []
theorem dksX8_byteAt_0 : cX8_byteAt.data.toList.drop 0 = dktX8_byteAt_0 := by decide +kernel
theorem dX8_byteAt_0 : decode cX8_byteAt 0 = .ok (.iload_n 1, 1) := dk_27 (dk_at dksX8_byteAt_0 0 rfl rfl)
theorem dX8_byteAt_1 : decode cX8_byteAt 1 = .ok (.aload_n 0, 1) := dk_42 (dk_at dksX8_byteAt_0 1 rfl rfl)
theorem dX8_byteAt_2 : decode cX8_byteAt 2 = .ok (.getfield 57, 3) := dk_180 0 57 (dk_at dksX8_byteAt_0 2 rfl rfl)
theorem dX8_byteAt_5 : decode cX8_byteAt 5 = .ok (.if_icmp .ge 12, 3) := dk_162 0 12 (dk_at dksX8_byteAt_0 5 rfl rfl)
theorem dX8_byteAt_8 : decode cX8_byteAt 8 = .ok (.aload_n 0, 1) := dk_42 (dk_at dksX8_byteAt_0 8 rfl rfl)
theorem dX8_byteAt_9 : decode cX8_byteAt 9 = .ok (.getfield 9, 3) := dk_180 0 9 (dk_at dksX8_byteAt_0 9 rfl rfl)
theorem dX8_byteAt_12 : decode cX8_byteAt 12 = .ok (.iload_n 1, 1) := dk_27 (dk_at dksX8_byteAt_0 12 rfl rfl)
theorem dX8_byteAt_13 : decode cX8_byteAt 13 = .ok (.iaload, 1) := dk_46 (dk_at dksX8_byteAt_0 13 rfl rfl)
theorem dX8_byteAt_14 : decode cX8_byteAt 14 = .ok (.goto 4, 3) := dk_167 0 4 (dk_at dksX8_byteAt_0 14 rfl rfl)
theorem dX8_byteAt_17 : decode cX8_byteAt 17 = .ok (.iconst (-1), 1) := dk_2 (dk_at dksX8_byteAt_0 17 rfl rfl)
theorem dX8_byteAt_18 : decode cX8_byteAt 18 = .ok (.ireturn, 1) := dk_172 (dk_at dksX8_byteAt_0 18 rfl rfl)
abbrev cX8_report : ByteArray := prog_15_method_15_code
def yX8_report : MethodName := ⟨RX8, "report", "(II)V"⟩
def dkwX8_report_0 : List UInt8 := [42, 180, 0, 67, 153, 0, 4, 177, 42, 27, 181, 0, 67, 42, 28, 181, 0, 70, 177]
abbrev dktX8_report_0 : List UInt8 := dkwX8_report_0 ++ []
theorem dksX8_report_0 : cX8_report.data.toList.drop 0 = dktX8_report_0 := by decide +kernel
theorem dX8_report_0 : decode cX8_report 0 = .ok (.aload_n 0, 1) := dk_42 (dk_at dksX8_report_0 0 rfl rfl)
theorem dX8_report_1 : decode cX8_report 1 = .ok (.getfield 67, 3) := dk_180 0 67 (dk_at dksX8_report_0 1 rfl rfl)
theorem dX8_report_4 : decode cX8_report 4 = .ok (.ifCond .eq 4, 3) := dk_153 0 4 (dk_at dksX8_report_0 4 rfl rfl)
theorem dX8_report_7 : decode cX8_report 7 = .ok (.return_, 1) := dk_177 (dk_at dksX8_report_0 7 rfl rfl)
theorem dX8_report_8 : decode cX8_report 8 = .ok (.aload_n 0, 1) := dk_42 (dk_at dksX8_report_0 8 rfl rfl)
theorem dX8_report_9 : decode cX8_report 9 = .ok (.iload_n 1, 1) := dk_27 (dk_at dksX8_report_0 9 rfl rfl)
theorem dX8_report_10 : decode cX8_report 10 = .ok (.putfield 67, 3) := dk_181 0 67 (dk_at dksX8_report_0 10 rfl rfl)
theorem dX8_report_13 : decode cX8_report 13 = .ok (.aload_n 0, 1) := dk_42 (dk_at dksX8_report_0 13 rfl rfl)
theorem dX8_report_14 : decode cX8_report 14 = .ok (.iload_n 2, 1) := dk_28 (dk_at dksX8_report_0 14 rfl rfl)
theorem dX8_report_15 : decode cX8_report 15 = .ok (.putfield 70, 3) := dk_181 0 70 (dk_at dksX8_report_0 15 rfl rfl)
theorem dX8_report_18 : decode cX8_report 18 = .ok (.return_, 1) := dk_177 (dk_at dksX8_report_0 18 rfl rfl)
abbrev cX8_number : ByteArray := prog_15_method_19_code
def yX8_number : MethodName := ⟨RX8, "number", "(II)I"⟩
def dkwX8_number_4 : List UInt8 := [184, 0, 73, 154, 0, 13, 42, 16, 253, 42, 180, 0, 102, 182, 0, 94, 29, 172]
abbrev dktX8_number_4 : List UInt8 := dkwX8_number_4 ++ []
def dkwX8_number_3 : List UInt8 := [16, 48, 100, 184, 0, 106, 62, 42, 89, 180, 0, 60, 4, 96, 181, 0, 60, 167, 255, 210, 29, 27, 28]
abbrev dktX8_number_3 : List UInt8 := dkwX8_number_3 ++ dktX8_number_4
def dkwX8_number_2 : List UInt8 := [182, 0, 63, 184, 0, 98, 153, 0, 38, 18, 105, 16, 10, 29, 104, 42, 42, 180, 0, 60, 182, 0, 63, 96]
abbrev dktX8_number_2 : List UInt8 := dkwX8_number_2 ++ dktX8_number_3
def dkwX8_number_1 : List UInt8 := [180, 0, 60, 182, 0, 94, 3, 172, 42, 42, 180, 0, 60, 181, 0, 102, 3, 62, 42, 42, 180, 0, 60]
abbrev dktX8_number_1 : List UInt8 := dkwX8_number_1 ++ dktX8_number_2
def dkwX8_number_0 : List UInt8 := [42, 182, 0, 77, 154, 0, 5, 3, 172, 42, 182, 0, 81, 184, 0, 98, 154, 0, 15, 42, 16, 254, 42]
abbrev dktX8_number_0 : List UInt8 := dkwX8_number_0 ++ dktX8_number_1
theorem dksX8_number_0 : cX8_number.data.toList.drop 0 = dktX8_number_0 := by decide +kernel
theorem dksX8_number_1 : cX8_number.data.toList.drop 23 = dktX8_number_1 := dk_seg dksX8_number_0 23 rfl rfl
theorem dksX8_number_2 : cX8_number.data.toList.drop 46 = dktX8_number_2 := dk_seg dksX8_number_1 23 rfl rfl
theorem dksX8_number_3 : cX8_number.data.toList.drop 70 = dktX8_number_3 := dk_seg dksX8_number_2 24 rfl rfl
theorem dksX8_number_4 : cX8_number.data.toList.drop 93 = dktX8_number_4 := dk_seg dksX8_number_3 23 rfl rfl
theorem dX8_number_0 : decode cX8_number 0 = .ok (.aload_n 0, 1) := dk_42 (dk_at dksX8_number_0 0 rfl rfl)
theorem dX8_number_1 : decode cX8_number 1 = .ok (.invokevirtual 77, 3) := dk_182 0 77 (dk_at dksX8_number_0 1 rfl rfl)
theorem dX8_number_4 : decode cX8_number 4 = .ok (.ifCond .ne 5, 3) := dk_154 0 5 (dk_at dksX8_number_0 4 rfl rfl)
theorem dX8_number_7 : decode cX8_number 7 = .ok (.iconst 0, 1) := dk_3 (dk_at dksX8_number_0 7 rfl rfl)
theorem dX8_number_8 : decode cX8_number 8 = .ok (.ireturn, 1) := dk_172 (dk_at dksX8_number_0 8 rfl rfl)
theorem dX8_number_9 : decode cX8_number 9 = .ok (.aload_n 0, 1) := dk_42 (dk_at dksX8_number_0 9 rfl rfl)
theorem dX8_number_10 : decode cX8_number 10 = .ok (.invokevirtual 81, 3) := dk_182 0 81 (dk_at dksX8_number_0 10 rfl rfl)
theorem dX8_number_13 : decode cX8_number 13 = .ok (.invokestatic 98, 3) := dk_184 0 98 (dk_at dksX8_number_0 13 rfl rfl)
theorem dX8_number_16 : decode cX8_number 16 = .ok (.ifCond .ne 15, 3) := dk_154 0 15 (dk_at dksX8_number_0 16 rfl rfl)
theorem dX8_number_19 : decode cX8_number 19 = .ok (.aload_n 0, 1) := dk_42 (dk_at dksX8_number_0 19 rfl rfl)
theorem dX8_number_20 : decode cX8_number 20 = .ok (.bipush (-2), 2) := dk_16 254 (dk_at dksX8_number_0 20 rfl rfl)
theorem dX8_number_22 : decode cX8_number 22 = .ok (.aload_n 0, 1) := dk_42 (dk_at dksX8_number_0 22 rfl rfl)
theorem dX8_number_23 : decode cX8_number 23 = .ok (.getfield 60, 3) := dk_180 0 60 (dk_at dksX8_number_1 0 rfl rfl)
theorem dX8_number_26 : decode cX8_number 26 = .ok (.invokevirtual 94, 3) := dk_182 0 94 (dk_at dksX8_number_1 3 rfl rfl)
theorem dX8_number_29 : decode cX8_number 29 = .ok (.iconst 0, 1) := dk_3 (dk_at dksX8_number_1 6 rfl rfl)
theorem dX8_number_30 : decode cX8_number 30 = .ok (.ireturn, 1) := dk_172 (dk_at dksX8_number_1 7 rfl rfl)
theorem dX8_number_31 : decode cX8_number 31 = .ok (.aload_n 0, 1) := dk_42 (dk_at dksX8_number_1 8 rfl rfl)
theorem dX8_number_32 : decode cX8_number 32 = .ok (.aload_n 0, 1) := dk_42 (dk_at dksX8_number_1 9 rfl rfl)
theorem dX8_number_33 : decode cX8_number 33 = .ok (.getfield 60, 3) := dk_180 0 60 (dk_at dksX8_number_1 10 rfl rfl)
theorem dX8_number_36 : decode cX8_number 36 = .ok (.putfield 102, 3) := dk_181 0 102 (dk_at dksX8_number_1 13 rfl rfl)
theorem dX8_number_39 : decode cX8_number 39 = .ok (.iconst 0, 1) := dk_3 (dk_at dksX8_number_1 16 rfl rfl)
theorem dX8_number_40 : decode cX8_number 40 = .ok (.istore_n 3, 1) := dk_62 (dk_at dksX8_number_1 17 rfl rfl)
theorem dX8_number_41 : decode cX8_number 41 = .ok (.aload_n 0, 1) := dk_42 (dk_at dksX8_number_1 18 rfl rfl)
theorem dX8_number_42 : decode cX8_number 42 = .ok (.aload_n 0, 1) := dk_42 (dk_at dksX8_number_1 19 rfl rfl)
theorem dX8_number_43 : decode cX8_number 43 = .ok (.getfield 60, 3) := dk_180 0 60 (dk_at dksX8_number_1 20 rfl rfl)
theorem dX8_number_46 : decode cX8_number 46 = .ok (.invokevirtual 63, 3) := dk_182 0 63 (dk_at dksX8_number_2 0 rfl rfl)
theorem dX8_number_49 : decode cX8_number 49 = .ok (.invokestatic 98, 3) := dk_184 0 98 (dk_at dksX8_number_2 3 rfl rfl)
theorem dX8_number_52 : decode cX8_number 52 = .ok (.ifCond .eq 38, 3) := dk_153 0 38 (dk_at dksX8_number_2 6 rfl rfl)
theorem dX8_number_55 : decode cX8_number 55 = .ok (.ldc 105, 2) := dk_18 105 (dk_at dksX8_number_2 9 rfl rfl)
theorem dX8_number_57 : decode cX8_number 57 = .ok (.bipush 10, 2) := dk_16 10 (dk_at dksX8_number_2 11 rfl rfl)
theorem dX8_number_59 : decode cX8_number 59 = .ok (.iload_n 3, 1) := dk_29 (dk_at dksX8_number_2 13 rfl rfl)
theorem dX8_number_60 : decode cX8_number 60 = .ok (.imul, 1) := dk_104 (dk_at dksX8_number_2 14 rfl rfl)
theorem dX8_number_61 : decode cX8_number 61 = .ok (.aload_n 0, 1) := dk_42 (dk_at dksX8_number_2 15 rfl rfl)
theorem dX8_number_62 : decode cX8_number 62 = .ok (.aload_n 0, 1) := dk_42 (dk_at dksX8_number_2 16 rfl rfl)
theorem dX8_number_63 : decode cX8_number 63 = .ok (.getfield 60, 3) := dk_180 0 60 (dk_at dksX8_number_2 17 rfl rfl)
theorem dX8_number_66 : decode cX8_number 66 = .ok (.invokevirtual 63, 3) := dk_182 0 63 (dk_at dksX8_number_2 20 rfl rfl)
theorem dX8_number_69 : decode cX8_number 69 = .ok (.iadd, 1) := dk_96 (dk_at dksX8_number_2 23 rfl rfl)
theorem dX8_number_70 : decode cX8_number 70 = .ok (.bipush 48, 2) := dk_16 48 (dk_at dksX8_number_3 0 rfl rfl)
theorem dX8_number_72 : decode cX8_number 72 = .ok (.isub, 1) := dk_100 (dk_at dksX8_number_3 2 rfl rfl)
theorem dX8_number_73 : decode cX8_number 73 = .ok (.invokestatic 106, 3) := dk_184 0 106 (dk_at dksX8_number_3 3 rfl rfl)
theorem dX8_number_76 : decode cX8_number 76 = .ok (.istore_n 3, 1) := dk_62 (dk_at dksX8_number_3 6 rfl rfl)
theorem dX8_number_77 : decode cX8_number 77 = .ok (.aload_n 0, 1) := dk_42 (dk_at dksX8_number_3 7 rfl rfl)
theorem dX8_number_78 : decode cX8_number 78 = .ok (.dup, 1) := dk_89 (dk_at dksX8_number_3 8 rfl rfl)
theorem dX8_number_79 : decode cX8_number 79 = .ok (.getfield 60, 3) := dk_180 0 60 (dk_at dksX8_number_3 9 rfl rfl)
theorem dX8_number_82 : decode cX8_number 82 = .ok (.iconst 1, 1) := dk_4 (dk_at dksX8_number_3 12 rfl rfl)
theorem dX8_number_83 : decode cX8_number 83 = .ok (.iadd, 1) := dk_96 (dk_at dksX8_number_3 13 rfl rfl)
theorem dX8_number_84 : decode cX8_number 84 = .ok (.putfield 60, 3) := dk_181 0 60 (dk_at dksX8_number_3 14 rfl rfl)
theorem dX8_number_87 : decode cX8_number 87 = .ok (.goto (-46), 3) := dk_167 255 210 (dk_at dksX8_number_3 17 rfl rfl)
theorem dX8_number_90 : decode cX8_number 90 = .ok (.iload_n 3, 1) := dk_29 (dk_at dksX8_number_3 20 rfl rfl)
theorem dX8_number_91 : decode cX8_number 91 = .ok (.iload_n 1, 1) := dk_27 (dk_at dksX8_number_3 21 rfl rfl)
theorem dX8_number_92 : decode cX8_number 92 = .ok (.iload_n 2, 1) := dk_28 (dk_at dksX8_number_3 22 rfl rfl)
theorem dX8_number_93 : decode cX8_number 93 = .ok (.invokestatic 73, 3) := dk_184 0 73 (dk_at dksX8_number_4 0 rfl rfl)
theorem dX8_number_96 : decode cX8_number 96 = .ok (.ifCond .ne 13, 3) := dk_154 0 13 (dk_at dksX8_number_4 3 rfl rfl)
theorem dX8_number_99 : decode cX8_number 99 = .ok (.aload_n 0, 1) := dk_42 (dk_at dksX8_number_4 6 rfl rfl)
theorem dX8_number_100 : decode cX8_number 100 = .ok (.bipush (-3), 2) := dk_16 253 (dk_at dksX8_number_4 7 rfl rfl)
theorem dX8_number_102 : decode cX8_number 102 = .ok (.aload_n 0, 1) := dk_42 (dk_at dksX8_number_4 9 rfl rfl)
theorem dX8_number_103 : decode cX8_number 103 = .ok (.getfield 102, 3) := dk_180 0 102 (dk_at dksX8_number_4 10 rfl rfl)
theorem dX8_number_106 : decode cX8_number 106 = .ok (.invokevirtual 94, 3) := dk_182 0 94 (dk_at dksX8_number_4 13 rfl rfl)
theorem dX8_number_109 : decode cX8_number 109 = .ok (.iload_n 3, 1) := dk_29 (dk_at dksX8_number_4 16 rfl rfl)
theorem dX8_number_110 : decode cX8_number 110 = .ok (.ireturn, 1) := dk_172 (dk_at dksX8_number_4 17 rfl rfl)
abbrev cX8_isDigit : ByteArray := prog_15_method_16_code
def yX8_isDigit : MethodName := ⟨RX8, "isDigit", "(I)Z"⟩
def dkwX8_isDigit_0 : List UInt8 := [26, 16, 48, 16, 57, 184, 0, 73, 172]
abbrev dktX8_isDigit_0 : List UInt8 := dkwX8_isDigit_0 ++ []
theorem dksX8_isDigit_0 : cX8_isDigit.data.toList.drop 0 = dktX8_isDigit_0 := by decide +kernel
theorem dX8_isDigit_0 : decode cX8_isDigit 0 = .ok (.iload_n 0, 1) := dk_26 (dk_at dksX8_isDigit_0 0 rfl rfl)
theorem dX8_isDigit_1 : decode cX8_isDigit 1 = .ok (.bipush 48, 2) := dk_16 48 (dk_at dksX8_isDigit_0 1 rfl rfl)
theorem dX8_isDigit_3 : decode cX8_isDigit 3 = .ok (.bipush 57, 2) := dk_16 57 (dk_at dksX8_isDigit_0 3 rfl rfl)
theorem dX8_isDigit_5 : decode cX8_isDigit 5 = .ok (.invokestatic 73, 3) := dk_184 0 73 (dk_at dksX8_isDigit_0 5 rfl rfl)
theorem dX8_isDigit_8 : decode cX8_isDigit 8 = .ok (.ireturn, 1) := dk_172 (dk_at dksX8_isDigit_0 8 rfl rfl)
abbrev cX8_min : ByteArray := prog_15_method_5_code
def yX8_min : MethodName := ⟨RX8, "min", "(II)I"⟩
def dkwX8_min_0 : List UInt8 := [26, 27, 162, 0, 7, 26, 167, 0, 4, 27, 172]
abbrev dktX8_min_0 : List UInt8 := dkwX8_min_0 ++ []
theorem dksX8_min_0 : cX8_min.data.toList.drop 0 = dktX8_min_0 := by decide +kernel
theorem dX8_min_0 : decode cX8_min 0 = .ok (.iload_n 0, 1) := dk_26 (dk_at dksX8_min_0 0 rfl rfl)
theorem dX8_min_1 : decode cX8_min 1 = .ok (.iload_n 1, 1) := dk_27 (dk_at dksX8_min_0 1 rfl rfl)
theorem dX8_min_2 : decode cX8_min 2 = .ok (.if_icmp .ge 7, 3) := dk_162 0 7 (dk_at dksX8_min_0 2 rfl rfl)
theorem dX8_min_5 : decode cX8_min 5 = .ok (.iload_n 0, 1) := dk_26 (dk_at dksX8_min_0 5 rfl rfl)
theorem dX8_min_6 : decode cX8_min 6 = .ok (.goto 4, 3) := dk_167 0 4 (dk_at dksX8_min_0 6 rfl rfl)
theorem dX8_min_9 : decode cX8_min 9 = .ok (.iload_n 1, 1) := dk_27 (dk_at dksX8_min_0 9 rfl rfl)
theorem dX8_min_10 : decode cX8_min 10 = .ok (.ireturn, 1) := dk_172 (dk_at dksX8_min_0 10 rfl rfl)
abbrev cX8_expect : ByteArray := prog_15_method_18_code
def yX8_expect : MethodName := ⟨RX8, "expect", "(I)V"⟩
def dkwX8_expect_1 : List UInt8 := [181, 0, 60, 167, 0, 13, 42, 16, 254, 42, 180, 0, 60, 182, 0, 94, 177]
abbrev dktX8_expect_1 : List UInt8 := dkwX8_expect_1 ++ []
def dkwX8_expect_0 : List UInt8 := [42, 182, 0, 77, 154, 0, 4, 177, 42, 182, 0, 81, 27, 160, 0, 16, 42, 89, 180, 0, 60, 4, 96]
abbrev dktX8_expect_0 : List UInt8 := dkwX8_expect_0 ++ dktX8_expect_1
theorem dksX8_expect_0 : cX8_expect.data.toList.drop 0 = dktX8_expect_0 := by decide +kernel
theorem dksX8_expect_1 : cX8_expect.data.toList.drop 23 = dktX8_expect_1 := dk_seg dksX8_expect_0 23 rfl rfl
theorem dX8_expect_0 : decode cX8_expect 0 = .ok (.aload_n 0, 1) := dk_42 (dk_at dksX8_expect_0 0 rfl rfl)
theorem dX8_expect_1 : decode cX8_expect 1 = .ok (.invokevirtual 77, 3) := dk_182 0 77 (dk_at dksX8_expect_0 1 rfl rfl)
theorem dX8_expect_4 : decode cX8_expect 4 = .ok (.ifCond .ne 4, 3) := dk_154 0 4 (dk_at dksX8_expect_0 4 rfl rfl)
theorem dX8_expect_7 : decode cX8_expect 7 = .ok (.return_, 1) := dk_177 (dk_at dksX8_expect_0 7 rfl rfl)
theorem dX8_expect_8 : decode cX8_expect 8 = .ok (.aload_n 0, 1) := dk_42 (dk_at dksX8_expect_0 8 rfl rfl)
theorem dX8_expect_9 : decode cX8_expect 9 = .ok (.invokevirtual 81, 3) := dk_182 0 81 (dk_at dksX8_expect_0 9 rfl rfl)
theorem dX8_expect_12 : decode cX8_expect 12 = .ok (.iload_n 1, 1) := dk_27 (dk_at dksX8_expect_0 12 rfl rfl)
theorem dX8_expect_13 : decode cX8_expect 13 = .ok (.if_icmp .ne 16, 3) := dk_160 0 16 (dk_at dksX8_expect_0 13 rfl rfl)
theorem dX8_expect_16 : decode cX8_expect 16 = .ok (.aload_n 0, 1) := dk_42 (dk_at dksX8_expect_0 16 rfl rfl)
theorem dX8_expect_17 : decode cX8_expect 17 = .ok (.dup, 1) := dk_89 (dk_at dksX8_expect_0 17 rfl rfl)
theorem dX8_expect_18 : decode cX8_expect 18 = .ok (.getfield 60, 3) := dk_180 0 60 (dk_at dksX8_expect_0 18 rfl rfl)
theorem dX8_expect_21 : decode cX8_expect 21 = .ok (.iconst 1, 1) := dk_4 (dk_at dksX8_expect_0 21 rfl rfl)
theorem dX8_expect_22 : decode cX8_expect 22 = .ok (.iadd, 1) := dk_96 (dk_at dksX8_expect_0 22 rfl rfl)
theorem dX8_expect_23 : decode cX8_expect 23 = .ok (.putfield 60, 3) := dk_181 0 60 (dk_at dksX8_expect_1 0 rfl rfl)
theorem dX8_expect_26 : decode cX8_expect 26 = .ok (.goto 13, 3) := dk_167 0 13 (dk_at dksX8_expect_1 3 rfl rfl)
theorem dX8_expect_29 : decode cX8_expect 29 = .ok (.aload_n 0, 1) := dk_42 (dk_at dksX8_expect_1 6 rfl rfl)
theorem dX8_expect_30 : decode cX8_expect 30 = .ok (.bipush (-2), 2) := dk_16 254 (dk_at dksX8_expect_1 7 rfl rfl)
theorem dX8_expect_32 : decode cX8_expect 32 = .ok (.aload_n 0, 1) := dk_42 (dk_at dksX8_expect_1 9 rfl rfl)
theorem dX8_expect_33 : decode cX8_expect 33 = .ok (.getfield 60, 3) := dk_180 0 60 (dk_at dksX8_expect_1 10 rfl rfl)
theorem dX8_expect_36 : decode cX8_expect 36 = .ok (.invokevirtual 94, 3) := dk_182 0 94 (dk_at dksX8_expect_1 13 rfl rfl)
theorem dX8_expect_39 : decode cX8_expect 39 = .ok (.return_, 1) := dk_177 (dk_at dksX8_expect_1 16 rfl rfl)
abbrev cX8_statement : ByteArray := prog_15_method_28_code
def yX8_statement : MethodName := ⟨RX8, "statement", "()V"⟩
def dkwX8_statement_3 : List UInt8 := [167, 0, 10, 42, 16, 254, 27, 182, 0, 94, 42, 16, 59, 182, 0, 116, 177]
abbrev dktX8_statement_3 : List UInt8 := dkwX8_statement_3 ++ []
def dkwX8_statement_2 : List UInt8 := [182, 0, 122, 153, 0, 23, 42, 3, 27, 182, 0, 171, 42, 180, 0, 20, 6, 4, 79, 42, 182, 0, 113]
abbrev dktX8_statement_2 : List UInt8 := dkwX8_statement_2 ++ dktX8_statement_3
def dkwX8_statement_1 : List UInt8 := [167, 0, 55, 42, 18, 165, 182, 0, 122, 153, 0, 10, 42, 182, 0, 166, 167, 0, 39, 42, 18, 169]
abbrev dktX8_statement_1 : List UInt8 := dkwX8_statement_1 ++ dktX8_statement_2
def dkwX8_statement_0 : List UInt8 := [42, 182, 0, 81, 87, 42, 180, 0, 60, 60, 42, 18, 161, 182, 0, 122, 153, 0, 11, 42, 27, 182, 0, 162]
abbrev dktX8_statement_0 : List UInt8 := dkwX8_statement_0 ++ dktX8_statement_1
theorem dksX8_statement_0 : cX8_statement.data.toList.drop 0 = dktX8_statement_0 := by decide +kernel
theorem dksX8_statement_1 : cX8_statement.data.toList.drop 24 = dktX8_statement_1 := dk_seg dksX8_statement_0 24 rfl rfl
theorem dksX8_statement_2 : cX8_statement.data.toList.drop 46 = dktX8_statement_2 := dk_seg dksX8_statement_1 22 rfl rfl
theorem dksX8_statement_3 : cX8_statement.data.toList.drop 69 = dktX8_statement_3 := dk_seg dksX8_statement_2 23 rfl rfl
theorem dX8_statement_0 : decode cX8_statement 0 = .ok (.aload_n 0, 1) := dk_42 (dk_at dksX8_statement_0 0 rfl rfl)
theorem dX8_statement_1 : decode cX8_statement 1 = .ok (.invokevirtual 81, 3) := dk_182 0 81 (dk_at dksX8_statement_0 1 rfl rfl)
theorem dX8_statement_4 : decode cX8_statement 4 = .ok (.pop, 1) := dk_87 (dk_at dksX8_statement_0 4 rfl rfl)
theorem dX8_statement_5 : decode cX8_statement 5 = .ok (.aload_n 0, 1) := dk_42 (dk_at dksX8_statement_0 5 rfl rfl)
theorem dX8_statement_6 : decode cX8_statement 6 = .ok (.getfield 60, 3) := dk_180 0 60 (dk_at dksX8_statement_0 6 rfl rfl)
theorem dX8_statement_9 : decode cX8_statement 9 = .ok (.istore_n 1, 1) := dk_60 (dk_at dksX8_statement_0 9 rfl rfl)
theorem dX8_statement_10 : decode cX8_statement 10 = .ok (.aload_n 0, 1) := dk_42 (dk_at dksX8_statement_0 10 rfl rfl)
theorem dX8_statement_11 : decode cX8_statement 11 = .ok (.ldc 161, 2) := dk_18 161 (dk_at dksX8_statement_0 11 rfl rfl)
theorem dX8_statement_13 : decode cX8_statement 13 = .ok (.invokevirtual 122, 3) := dk_182 0 122 (dk_at dksX8_statement_0 13 rfl rfl)
theorem dX8_statement_16 : decode cX8_statement 16 = .ok (.ifCond .eq 11, 3) := dk_153 0 11 (dk_at dksX8_statement_0 16 rfl rfl)
theorem dX8_statement_19 : decode cX8_statement 19 = .ok (.aload_n 0, 1) := dk_42 (dk_at dksX8_statement_0 19 rfl rfl)
theorem dX8_statement_20 : decode cX8_statement 20 = .ok (.iload_n 1, 1) := dk_27 (dk_at dksX8_statement_0 20 rfl rfl)
theorem dX8_statement_21 : decode cX8_statement 21 = .ok (.invokevirtual 162, 3) := dk_182 0 162 (dk_at dksX8_statement_0 21 rfl rfl)
theorem dX8_statement_24 : decode cX8_statement 24 = .ok (.goto 55, 3) := dk_167 0 55 (dk_at dksX8_statement_1 0 rfl rfl)
theorem dX8_statement_27 : decode cX8_statement 27 = .ok (.aload_n 0, 1) := dk_42 (dk_at dksX8_statement_1 3 rfl rfl)
theorem dX8_statement_28 : decode cX8_statement 28 = .ok (.ldc 165, 2) := dk_18 165 (dk_at dksX8_statement_1 4 rfl rfl)
theorem dX8_statement_30 : decode cX8_statement 30 = .ok (.invokevirtual 122, 3) := dk_182 0 122 (dk_at dksX8_statement_1 6 rfl rfl)
theorem dX8_statement_33 : decode cX8_statement 33 = .ok (.ifCond .eq 10, 3) := dk_153 0 10 (dk_at dksX8_statement_1 9 rfl rfl)
theorem dX8_statement_36 : decode cX8_statement 36 = .ok (.aload_n 0, 1) := dk_42 (dk_at dksX8_statement_1 12 rfl rfl)
theorem dX8_statement_37 : decode cX8_statement 37 = .ok (.invokevirtual 166, 3) := dk_182 0 166 (dk_at dksX8_statement_1 13 rfl rfl)
theorem dX8_statement_40 : decode cX8_statement 40 = .ok (.goto 39, 3) := dk_167 0 39 (dk_at dksX8_statement_1 16 rfl rfl)
theorem dX8_statement_43 : decode cX8_statement 43 = .ok (.aload_n 0, 1) := dk_42 (dk_at dksX8_statement_1 19 rfl rfl)
theorem dX8_statement_44 : decode cX8_statement 44 = .ok (.ldc 169, 2) := dk_18 169 (dk_at dksX8_statement_1 20 rfl rfl)
theorem dX8_statement_46 : decode cX8_statement 46 = .ok (.invokevirtual 122, 3) := dk_182 0 122 (dk_at dksX8_statement_2 0 rfl rfl)
theorem dX8_statement_49 : decode cX8_statement 49 = .ok (.ifCond .eq 23, 3) := dk_153 0 23 (dk_at dksX8_statement_2 3 rfl rfl)
theorem dX8_statement_52 : decode cX8_statement 52 = .ok (.aload_n 0, 1) := dk_42 (dk_at dksX8_statement_2 6 rfl rfl)
theorem dX8_statement_53 : decode cX8_statement 53 = .ok (.iconst 0, 1) := dk_3 (dk_at dksX8_statement_2 7 rfl rfl)
theorem dX8_statement_54 : decode cX8_statement 54 = .ok (.iload_n 1, 1) := dk_27 (dk_at dksX8_statement_2 8 rfl rfl)
theorem dX8_statement_55 : decode cX8_statement 55 = .ok (.invokevirtual 171, 3) := dk_182 0 171 (dk_at dksX8_statement_2 9 rfl rfl)
theorem dX8_statement_58 : decode cX8_statement 58 = .ok (.aload_n 0, 1) := dk_42 (dk_at dksX8_statement_2 12 rfl rfl)
theorem dX8_statement_59 : decode cX8_statement 59 = .ok (.getfield 20, 3) := dk_180 0 20 (dk_at dksX8_statement_2 13 rfl rfl)
theorem dX8_statement_62 : decode cX8_statement 62 = .ok (.iconst 3, 1) := dk_6 (dk_at dksX8_statement_2 16 rfl rfl)
theorem dX8_statement_63 : decode cX8_statement 63 = .ok (.iconst 1, 1) := dk_4 (dk_at dksX8_statement_2 17 rfl rfl)
theorem dX8_statement_64 : decode cX8_statement 64 = .ok (.iastore, 1) := dk_79 (dk_at dksX8_statement_2 18 rfl rfl)
theorem dX8_statement_65 : decode cX8_statement 65 = .ok (.aload_n 0, 1) := dk_42 (dk_at dksX8_statement_2 19 rfl rfl)
theorem dX8_statement_66 : decode cX8_statement 66 = .ok (.invokevirtual 113, 3) := dk_182 0 113 (dk_at dksX8_statement_2 20 rfl rfl)
theorem dX8_statement_69 : decode cX8_statement 69 = .ok (.goto 10, 3) := dk_167 0 10 (dk_at dksX8_statement_3 0 rfl rfl)
theorem dX8_statement_72 : decode cX8_statement 72 = .ok (.aload_n 0, 1) := dk_42 (dk_at dksX8_statement_3 3 rfl rfl)
theorem dX8_statement_73 : decode cX8_statement 73 = .ok (.bipush (-2), 2) := dk_16 254 (dk_at dksX8_statement_3 4 rfl rfl)
theorem dX8_statement_75 : decode cX8_statement 75 = .ok (.iload_n 1, 1) := dk_27 (dk_at dksX8_statement_3 6 rfl rfl)
theorem dX8_statement_76 : decode cX8_statement 76 = .ok (.invokevirtual 94, 3) := dk_182 0 94 (dk_at dksX8_statement_3 7 rfl rfl)
theorem dX8_statement_79 : decode cX8_statement 79 = .ok (.aload_n 0, 1) := dk_42 (dk_at dksX8_statement_3 10 rfl rfl)
theorem dX8_statement_80 : decode cX8_statement 80 = .ok (.bipush 59, 2) := dk_16 59 (dk_at dksX8_statement_3 11 rfl rfl)
theorem dX8_statement_82 : decode cX8_statement 82 = .ok (.invokevirtual 116, 3) := dk_182 0 116 (dk_at dksX8_statement_3 13 rfl rfl)
theorem dX8_statement_85 : decode cX8_statement 85 = .ok (.return_, 1) := dk_177 (dk_at dksX8_statement_3 16 rfl rfl)
abbrev cX8_readJob : ByteArray := prog_15_method_25_code
def yX8_readJob : MethodName := ⟨RX8, "readJob", "(I)V"⟩
def dkwX8_readJob_7 : List UInt8 := [182, 0, 152, 42, 182, 0, 77, 54, 7, 167, 255, 196, 177]
abbrev dktX8_readJob_7 : List UInt8 := dkwX8_readJob_7 ++ []
def dkwX8_readJob_6 : List UInt8 := [21, 6, 6, 96, 46, 154, 0, 11, 42, 16, 254, 21, 8, 182, 0, 94, 177, 42, 21, 5, 21, 8]
abbrev dktX8_readJob_6 : List UInt8 := dkwX8_readJob_6 ++ dktX8_readJob_7
def dkwX8_readJob_5 : List UInt8 := [182, 0, 81, 87, 42, 180, 0, 60, 54, 8, 42, 18, 150, 182, 0, 122, 154, 0, 24, 42, 180, 0, 20]
abbrev dktX8_readJob_5 : List UInt8 := dkwX8_readJob_5 ++ dktX8_readJob_6
def dkwX8_readJob_4 : List UInt8 := [96, 21, 4, 79, 42, 180, 0, 20, 5, 92, 46, 4, 96, 79, 4, 54, 7, 21, 7, 153, 0, 61, 42]
abbrev dktX8_readJob_4 : List UInt8 := dkwX8_readJob_4 ++ dktX8_readJob_5
def dkwX8_readJob_3 : List UInt8 := [180, 0, 20, 21, 6, 28, 79, 42, 180, 0, 20, 21, 6, 4, 96, 29, 79, 42, 180, 0, 20, 21, 6, 5]
abbrev dktX8_readJob_3 : List UInt8 := dkwX8_readJob_3 ++ dktX8_readJob_4
def dkwX8_readJob_2 : List UInt8 := [182, 0, 77, 154, 0, 4, 177, 42, 180, 0, 20, 5, 46, 54, 5, 21, 5, 184, 0, 147, 54, 6, 42]
abbrev dktX8_readJob_2 : List UInt8 := dkwX8_readJob_2 ++ dktX8_readJob_3
def dkwX8_readJob_1 : List UInt8 := [182, 0, 132, 61, 42, 3, 17, 39, 15, 182, 0, 132, 62, 42, 3, 16, 99, 182, 0, 132, 54, 4, 42]
abbrev dktX8_readJob_1 : List UInt8 := dkwX8_readJob_1 ++ dktX8_readJob_2
def dkwX8_readJob_0 : List UInt8 := [42, 180, 0, 20, 5, 46, 16, 6, 160, 0, 10, 42, 16, 252, 27, 182, 0, 94, 42, 3, 17, 3, 231]
abbrev dktX8_readJob_0 : List UInt8 := dkwX8_readJob_0 ++ dktX8_readJob_1
theorem dksX8_readJob_0 : cX8_readJob.data.toList.drop 0 = dktX8_readJob_0 := by decide +kernel
theorem dksX8_readJob_1 : cX8_readJob.data.toList.drop 23 = dktX8_readJob_1 := dk_seg dksX8_readJob_0 23 rfl rfl
theorem dksX8_readJob_2 : cX8_readJob.data.toList.drop 46 = dktX8_readJob_2 := dk_seg dksX8_readJob_1 23 rfl rfl
theorem dksX8_readJob_3 : cX8_readJob.data.toList.drop 69 = dktX8_readJob_3 := dk_seg dksX8_readJob_2 23 rfl rfl
theorem dksX8_readJob_4 : cX8_readJob.data.toList.drop 93 = dktX8_readJob_4 := dk_seg dksX8_readJob_3 24 rfl rfl
theorem dksX8_readJob_5 : cX8_readJob.data.toList.drop 116 = dktX8_readJob_5 := dk_seg dksX8_readJob_4 23 rfl rfl
theorem dksX8_readJob_6 : cX8_readJob.data.toList.drop 139 = dktX8_readJob_6 := dk_seg dksX8_readJob_5 23 rfl rfl
theorem dksX8_readJob_7 : cX8_readJob.data.toList.drop 161 = dktX8_readJob_7 := dk_seg dksX8_readJob_6 22 rfl rfl
theorem dX8_readJob_0 : decode cX8_readJob 0 = .ok (.aload_n 0, 1) := dk_42 (dk_at dksX8_readJob_0 0 rfl rfl)
theorem dX8_readJob_1 : decode cX8_readJob 1 = .ok (.getfield 20, 3) := dk_180 0 20 (dk_at dksX8_readJob_0 1 rfl rfl)
theorem dX8_readJob_4 : decode cX8_readJob 4 = .ok (.iconst 2, 1) := dk_5 (dk_at dksX8_readJob_0 4 rfl rfl)
theorem dX8_readJob_5 : decode cX8_readJob 5 = .ok (.iaload, 1) := dk_46 (dk_at dksX8_readJob_0 5 rfl rfl)
theorem dX8_readJob_6 : decode cX8_readJob 6 = .ok (.bipush 6, 2) := dk_16 6 (dk_at dksX8_readJob_0 6 rfl rfl)
theorem dX8_readJob_8 : decode cX8_readJob 8 = .ok (.if_icmp .ne 10, 3) := dk_160 0 10 (dk_at dksX8_readJob_0 8 rfl rfl)
theorem dX8_readJob_11 : decode cX8_readJob 11 = .ok (.aload_n 0, 1) := dk_42 (dk_at dksX8_readJob_0 11 rfl rfl)
theorem dX8_readJob_12 : decode cX8_readJob 12 = .ok (.bipush (-4), 2) := dk_16 252 (dk_at dksX8_readJob_0 12 rfl rfl)
theorem dX8_readJob_14 : decode cX8_readJob 14 = .ok (.iload_n 1, 1) := dk_27 (dk_at dksX8_readJob_0 14 rfl rfl)
theorem dX8_readJob_15 : decode cX8_readJob 15 = .ok (.invokevirtual 94, 3) := dk_182 0 94 (dk_at dksX8_readJob_0 15 rfl rfl)
theorem dX8_readJob_18 : decode cX8_readJob 18 = .ok (.aload_n 0, 1) := dk_42 (dk_at dksX8_readJob_0 18 rfl rfl)
theorem dX8_readJob_19 : decode cX8_readJob 19 = .ok (.iconst 0, 1) := dk_3 (dk_at dksX8_readJob_0 19 rfl rfl)
theorem dX8_readJob_20 : decode cX8_readJob 20 = .ok (.sipush 999, 3) := dk_17 3 231 (dk_at dksX8_readJob_0 20 rfl rfl)
theorem dX8_readJob_23 : decode cX8_readJob 23 = .ok (.invokevirtual 132, 3) := dk_182 0 132 (dk_at dksX8_readJob_1 0 rfl rfl)
theorem dX8_readJob_26 : decode cX8_readJob 26 = .ok (.istore_n 2, 1) := dk_61 (dk_at dksX8_readJob_1 3 rfl rfl)
theorem dX8_readJob_27 : decode cX8_readJob 27 = .ok (.aload_n 0, 1) := dk_42 (dk_at dksX8_readJob_1 4 rfl rfl)
theorem dX8_readJob_28 : decode cX8_readJob 28 = .ok (.iconst 0, 1) := dk_3 (dk_at dksX8_readJob_1 5 rfl rfl)
theorem dX8_readJob_29 : decode cX8_readJob 29 = .ok (.sipush 9999, 3) := dk_17 39 15 (dk_at dksX8_readJob_1 6 rfl rfl)
theorem dX8_readJob_32 : decode cX8_readJob 32 = .ok (.invokevirtual 132, 3) := dk_182 0 132 (dk_at dksX8_readJob_1 9 rfl rfl)
theorem dX8_readJob_35 : decode cX8_readJob 35 = .ok (.istore_n 3, 1) := dk_62 (dk_at dksX8_readJob_1 12 rfl rfl)
theorem dX8_readJob_36 : decode cX8_readJob 36 = .ok (.aload_n 0, 1) := dk_42 (dk_at dksX8_readJob_1 13 rfl rfl)
theorem dX8_readJob_37 : decode cX8_readJob 37 = .ok (.iconst 0, 1) := dk_3 (dk_at dksX8_readJob_1 14 rfl rfl)
theorem dX8_readJob_38 : decode cX8_readJob 38 = .ok (.bipush 99, 2) := dk_16 99 (dk_at dksX8_readJob_1 15 rfl rfl)
theorem dX8_readJob_40 : decode cX8_readJob 40 = .ok (.invokevirtual 132, 3) := dk_182 0 132 (dk_at dksX8_readJob_1 17 rfl rfl)
theorem dX8_readJob_43 : decode cX8_readJob 43 = .ok (.istore 4, 2) := dk_54 4 (dk_at dksX8_readJob_1 20 rfl rfl)
theorem dX8_readJob_45 : decode cX8_readJob 45 = .ok (.aload_n 0, 1) := dk_42 (dk_at dksX8_readJob_1 22 rfl rfl)
theorem dX8_readJob_46 : decode cX8_readJob 46 = .ok (.invokevirtual 77, 3) := dk_182 0 77 (dk_at dksX8_readJob_2 0 rfl rfl)
theorem dX8_readJob_49 : decode cX8_readJob 49 = .ok (.ifCond .ne 4, 3) := dk_154 0 4 (dk_at dksX8_readJob_2 3 rfl rfl)
theorem dX8_readJob_52 : decode cX8_readJob 52 = .ok (.return_, 1) := dk_177 (dk_at dksX8_readJob_2 6 rfl rfl)
theorem dX8_readJob_53 : decode cX8_readJob 53 = .ok (.aload_n 0, 1) := dk_42 (dk_at dksX8_readJob_2 7 rfl rfl)
theorem dX8_readJob_54 : decode cX8_readJob 54 = .ok (.getfield 20, 3) := dk_180 0 20 (dk_at dksX8_readJob_2 8 rfl rfl)
theorem dX8_readJob_57 : decode cX8_readJob 57 = .ok (.iconst 2, 1) := dk_5 (dk_at dksX8_readJob_2 11 rfl rfl)
theorem dX8_readJob_58 : decode cX8_readJob 58 = .ok (.iaload, 1) := dk_46 (dk_at dksX8_readJob_2 12 rfl rfl)
theorem dX8_readJob_59 : decode cX8_readJob 59 = .ok (.istore 5, 2) := dk_54 5 (dk_at dksX8_readJob_2 13 rfl rfl)
theorem dX8_readJob_61 : decode cX8_readJob 61 = .ok (.iload 5, 2) := dk_21 5 (dk_at dksX8_readJob_2 15 rfl rfl)
theorem dX8_readJob_63 : decode cX8_readJob 63 = .ok (.invokestatic 147, 3) := dk_184 0 147 (dk_at dksX8_readJob_2 17 rfl rfl)
theorem dX8_readJob_66 : decode cX8_readJob 66 = .ok (.istore 6, 2) := dk_54 6 (dk_at dksX8_readJob_2 20 rfl rfl)
theorem dX8_readJob_68 : decode cX8_readJob 68 = .ok (.aload_n 0, 1) := dk_42 (dk_at dksX8_readJob_2 22 rfl rfl)
theorem dX8_readJob_69 : decode cX8_readJob 69 = .ok (.getfield 20, 3) := dk_180 0 20 (dk_at dksX8_readJob_3 0 rfl rfl)
theorem dX8_readJob_72 : decode cX8_readJob 72 = .ok (.iload 6, 2) := dk_21 6 (dk_at dksX8_readJob_3 3 rfl rfl)
theorem dX8_readJob_74 : decode cX8_readJob 74 = .ok (.iload_n 2, 1) := dk_28 (dk_at dksX8_readJob_3 5 rfl rfl)
theorem dX8_readJob_75 : decode cX8_readJob 75 = .ok (.iastore, 1) := dk_79 (dk_at dksX8_readJob_3 6 rfl rfl)
theorem dX8_readJob_76 : decode cX8_readJob 76 = .ok (.aload_n 0, 1) := dk_42 (dk_at dksX8_readJob_3 7 rfl rfl)
theorem dX8_readJob_77 : decode cX8_readJob 77 = .ok (.getfield 20, 3) := dk_180 0 20 (dk_at dksX8_readJob_3 8 rfl rfl)
theorem dX8_readJob_80 : decode cX8_readJob 80 = .ok (.iload 6, 2) := dk_21 6 (dk_at dksX8_readJob_3 11 rfl rfl)
theorem dX8_readJob_82 : decode cX8_readJob 82 = .ok (.iconst 1, 1) := dk_4 (dk_at dksX8_readJob_3 13 rfl rfl)
theorem dX8_readJob_83 : decode cX8_readJob 83 = .ok (.iadd, 1) := dk_96 (dk_at dksX8_readJob_3 14 rfl rfl)
theorem dX8_readJob_84 : decode cX8_readJob 84 = .ok (.iload_n 3, 1) := dk_29 (dk_at dksX8_readJob_3 15 rfl rfl)
theorem dX8_readJob_85 : decode cX8_readJob 85 = .ok (.iastore, 1) := dk_79 (dk_at dksX8_readJob_3 16 rfl rfl)
theorem dX8_readJob_86 : decode cX8_readJob 86 = .ok (.aload_n 0, 1) := dk_42 (dk_at dksX8_readJob_3 17 rfl rfl)
theorem dX8_readJob_87 : decode cX8_readJob 87 = .ok (.getfield 20, 3) := dk_180 0 20 (dk_at dksX8_readJob_3 18 rfl rfl)
theorem dX8_readJob_90 : decode cX8_readJob 90 = .ok (.iload 6, 2) := dk_21 6 (dk_at dksX8_readJob_3 21 rfl rfl)
theorem dX8_readJob_92 : decode cX8_readJob 92 = .ok (.iconst 2, 1) := dk_5 (dk_at dksX8_readJob_3 23 rfl rfl)
theorem dX8_readJob_93 : decode cX8_readJob 93 = .ok (.iadd, 1) := dk_96 (dk_at dksX8_readJob_4 0 rfl rfl)
theorem dX8_readJob_94 : decode cX8_readJob 94 = .ok (.iload 4, 2) := dk_21 4 (dk_at dksX8_readJob_4 1 rfl rfl)
theorem dX8_readJob_96 : decode cX8_readJob 96 = .ok (.iastore, 1) := dk_79 (dk_at dksX8_readJob_4 3 rfl rfl)
theorem dX8_readJob_97 : decode cX8_readJob 97 = .ok (.aload_n 0, 1) := dk_42 (dk_at dksX8_readJob_4 4 rfl rfl)
theorem dX8_readJob_98 : decode cX8_readJob 98 = .ok (.getfield 20, 3) := dk_180 0 20 (dk_at dksX8_readJob_4 5 rfl rfl)
theorem dX8_readJob_101 : decode cX8_readJob 101 = .ok (.iconst 2, 1) := dk_5 (dk_at dksX8_readJob_4 8 rfl rfl)
theorem dX8_readJob_102 : decode cX8_readJob 102 = .ok (.dup2, 1) := dk_92 (dk_at dksX8_readJob_4 9 rfl rfl)
theorem dX8_readJob_103 : decode cX8_readJob 103 = .ok (.iaload, 1) := dk_46 (dk_at dksX8_readJob_4 10 rfl rfl)
theorem dX8_readJob_104 : decode cX8_readJob 104 = .ok (.iconst 1, 1) := dk_4 (dk_at dksX8_readJob_4 11 rfl rfl)
theorem dX8_readJob_105 : decode cX8_readJob 105 = .ok (.iadd, 1) := dk_96 (dk_at dksX8_readJob_4 12 rfl rfl)
theorem dX8_readJob_106 : decode cX8_readJob 106 = .ok (.iastore, 1) := dk_79 (dk_at dksX8_readJob_4 13 rfl rfl)
theorem dX8_readJob_107 : decode cX8_readJob 107 = .ok (.iconst 1, 1) := dk_4 (dk_at dksX8_readJob_4 14 rfl rfl)
theorem dX8_readJob_108 : decode cX8_readJob 108 = .ok (.istore 7, 2) := dk_54 7 (dk_at dksX8_readJob_4 15 rfl rfl)
theorem dX8_readJob_110 : decode cX8_readJob 110 = .ok (.iload 7, 2) := dk_21 7 (dk_at dksX8_readJob_4 17 rfl rfl)
theorem dX8_readJob_112 : decode cX8_readJob 112 = .ok (.ifCond .eq 61, 3) := dk_153 0 61 (dk_at dksX8_readJob_4 19 rfl rfl)
theorem dX8_readJob_115 : decode cX8_readJob 115 = .ok (.aload_n 0, 1) := dk_42 (dk_at dksX8_readJob_4 22 rfl rfl)
theorem dX8_readJob_116 : decode cX8_readJob 116 = .ok (.invokevirtual 81, 3) := dk_182 0 81 (dk_at dksX8_readJob_5 0 rfl rfl)
theorem dX8_readJob_119 : decode cX8_readJob 119 = .ok (.pop, 1) := dk_87 (dk_at dksX8_readJob_5 3 rfl rfl)
theorem dX8_readJob_120 : decode cX8_readJob 120 = .ok (.aload_n 0, 1) := dk_42 (dk_at dksX8_readJob_5 4 rfl rfl)
theorem dX8_readJob_121 : decode cX8_readJob 121 = .ok (.getfield 60, 3) := dk_180 0 60 (dk_at dksX8_readJob_5 5 rfl rfl)
theorem dX8_readJob_124 : decode cX8_readJob 124 = .ok (.istore 8, 2) := dk_54 8 (dk_at dksX8_readJob_5 8 rfl rfl)
theorem dX8_readJob_126 : decode cX8_readJob 126 = .ok (.aload_n 0, 1) := dk_42 (dk_at dksX8_readJob_5 10 rfl rfl)
theorem dX8_readJob_127 : decode cX8_readJob 127 = .ok (.ldc 150, 2) := dk_18 150 (dk_at dksX8_readJob_5 11 rfl rfl)
theorem dX8_readJob_129 : decode cX8_readJob 129 = .ok (.invokevirtual 122, 3) := dk_182 0 122 (dk_at dksX8_readJob_5 13 rfl rfl)
theorem dX8_readJob_132 : decode cX8_readJob 132 = .ok (.ifCond .ne 24, 3) := dk_154 0 24 (dk_at dksX8_readJob_5 16 rfl rfl)
theorem dX8_readJob_135 : decode cX8_readJob 135 = .ok (.aload_n 0, 1) := dk_42 (dk_at dksX8_readJob_5 19 rfl rfl)
theorem dX8_readJob_136 : decode cX8_readJob 136 = .ok (.getfield 20, 3) := dk_180 0 20 (dk_at dksX8_readJob_5 20 rfl rfl)
theorem dX8_readJob_139 : decode cX8_readJob 139 = .ok (.iload 6, 2) := dk_21 6 (dk_at dksX8_readJob_6 0 rfl rfl)
theorem dX8_readJob_141 : decode cX8_readJob 141 = .ok (.iconst 3, 1) := dk_6 (dk_at dksX8_readJob_6 2 rfl rfl)
theorem dX8_readJob_142 : decode cX8_readJob 142 = .ok (.iadd, 1) := dk_96 (dk_at dksX8_readJob_6 3 rfl rfl)
theorem dX8_readJob_143 : decode cX8_readJob 143 = .ok (.iaload, 1) := dk_46 (dk_at dksX8_readJob_6 4 rfl rfl)
theorem dX8_readJob_144 : decode cX8_readJob 144 = .ok (.ifCond .ne 11, 3) := dk_154 0 11 (dk_at dksX8_readJob_6 5 rfl rfl)
theorem dX8_readJob_147 : decode cX8_readJob 147 = .ok (.aload_n 0, 1) := dk_42 (dk_at dksX8_readJob_6 8 rfl rfl)
theorem dX8_readJob_148 : decode cX8_readJob 148 = .ok (.bipush (-2), 2) := dk_16 254 (dk_at dksX8_readJob_6 9 rfl rfl)
theorem dX8_readJob_150 : decode cX8_readJob 150 = .ok (.iload 8, 2) := dk_21 8 (dk_at dksX8_readJob_6 11 rfl rfl)
theorem dX8_readJob_152 : decode cX8_readJob 152 = .ok (.invokevirtual 94, 3) := dk_182 0 94 (dk_at dksX8_readJob_6 13 rfl rfl)
theorem dX8_readJob_155 : decode cX8_readJob 155 = .ok (.return_, 1) := dk_177 (dk_at dksX8_readJob_6 16 rfl rfl)
theorem dX8_readJob_156 : decode cX8_readJob 156 = .ok (.aload_n 0, 1) := dk_42 (dk_at dksX8_readJob_6 17 rfl rfl)
theorem dX8_readJob_157 : decode cX8_readJob 157 = .ok (.iload 5, 2) := dk_21 5 (dk_at dksX8_readJob_6 18 rfl rfl)
theorem dX8_readJob_159 : decode cX8_readJob 159 = .ok (.iload 8, 2) := dk_21 8 (dk_at dksX8_readJob_6 20 rfl rfl)
theorem dX8_readJob_161 : decode cX8_readJob 161 = .ok (.invokevirtual 152, 3) := dk_182 0 152 (dk_at dksX8_readJob_7 0 rfl rfl)
theorem dX8_readJob_164 : decode cX8_readJob 164 = .ok (.aload_n 0, 1) := dk_42 (dk_at dksX8_readJob_7 3 rfl rfl)
theorem dX8_readJob_165 : decode cX8_readJob 165 = .ok (.invokevirtual 77, 3) := dk_182 0 77 (dk_at dksX8_readJob_7 4 rfl rfl)
theorem dX8_readJob_168 : decode cX8_readJob 168 = .ok (.istore 7, 2) := dk_54 7 (dk_at dksX8_readJob_7 7 rfl rfl)
theorem dX8_readJob_170 : decode cX8_readJob 170 = .ok (.goto (-60), 3) := dk_167 255 196 (dk_at dksX8_readJob_7 9 rfl rfl)
theorem dX8_readJob_173 : decode cX8_readJob 173 = .ok (.return_, 1) := dk_177 (dk_at dksX8_readJob_7 12 rfl rfl)
abbrev cX8_job : ByteArray := prog_15_method_9_code
def yX8_job : MethodName := ⟨RX8, "job", "(I)I"⟩
def dkwX8_job_0 : List UInt8 := [16, 59, 7, 26, 104, 96, 172]
abbrev dktX8_job_0 : List UInt8 := dkwX8_job_0 ++ []
theorem dksX8_job_0 : cX8_job.data.toList.drop 0 = dktX8_job_0 := by decide +kernel
theorem dX8_job_0 : decode cX8_job 0 = .ok (.bipush 59, 2) := dk_16 59 (dk_at dksX8_job_0 0 rfl rfl)
theorem dX8_job_2 : decode cX8_job 2 = .ok (.iconst 4, 1) := dk_7 (dk_at dksX8_job_0 2 rfl rfl)
theorem dX8_job_3 : decode cX8_job 3 = .ok (.iload_n 0, 1) := dk_26 (dk_at dksX8_job_0 3 rfl rfl)
theorem dX8_job_4 : decode cX8_job 4 = .ok (.imul, 1) := dk_104 (dk_at dksX8_job_0 4 rfl rfl)
theorem dX8_job_5 : decode cX8_job 5 = .ok (.iadd, 1) := dk_96 (dk_at dksX8_job_0 5 rfl rfl)
theorem dX8_job_6 : decode cX8_job 6 = .ok (.ireturn, 1) := dk_172 (dk_at dksX8_job_0 6 rfl rfl)
abbrev cX8_readOperation : ByteArray := prog_15_method_26_code
def yX8_readOperation : MethodName := ⟨RX8, "readOperation", "(II)V"⟩
def dkwX8_readOperation_6 : List UInt8 := [79, 42, 180, 0, 20, 27, 184, 0, 147, 6, 96, 92, 46, 4, 96, 79, 177]
abbrev dktX8_readOperation_6 : List UInt8 := dkwX8_readOperation_6 ++ []
def dkwX8_readOperation_5 : List UInt8 := [96, 184, 0, 155, 21, 4, 79, 42, 180, 0, 20, 16, 6, 27, 104, 29, 96, 184, 0, 155, 4, 96, 21, 5]
abbrev dktX8_readOperation_5 : List UInt8 := dkwX8_readOperation_5 ++ dktX8_readOperation_6
def dkwX8_readOperation_4 : List UInt8 := [16, 99, 182, 0, 132, 54, 5, 42, 182, 0, 77, 154, 0, 4, 177, 42, 180, 0, 20, 16, 6, 27, 104, 29]
abbrev dktX8_readOperation_4 : List UInt8 := dkwX8_readOperation_4 ++ dktX8_readOperation_5
def dkwX8_readOperation_3 : List UInt8 := [46, 21, 4, 160, 0, 13, 42, 16, 253, 42, 180, 0, 102, 182, 0, 94, 132, 5, 1, 167, 255, 210, 42, 4]
abbrev dktX8_readOperation_3 : List UInt8 := dkwX8_readOperation_3 ++ dktX8_readOperation_4
def dkwX8_readOperation_2 : List UInt8 := [162, 0, 46, 42, 182, 0, 77, 153, 0, 39, 42, 180, 0, 20, 16, 6, 27, 104, 21, 5, 96, 184, 0, 155]
abbrev dktX8_readOperation_2 : List UInt8 := dkwX8_readOperation_2 ++ dktX8_readOperation_3
def dkwX8_readOperation_1 : List UInt8 := [182, 0, 94, 42, 3, 42, 180, 0, 20, 3, 46, 4, 100, 182, 0, 132, 54, 4, 3, 54, 5, 21, 5, 29]
abbrev dktX8_readOperation_1 : List UInt8 := dkwX8_readOperation_1 ++ dktX8_readOperation_2
def dkwX8_readOperation_0 : List UInt8 := [42, 180, 0, 20, 27, 184, 0, 147, 6, 96, 46, 62, 29, 16, 6, 160, 0, 10, 42, 16, 252, 28]
abbrev dktX8_readOperation_0 : List UInt8 := dkwX8_readOperation_0 ++ dktX8_readOperation_1
theorem dksX8_readOperation_0 : cX8_readOperation.data.toList.drop 0 = dktX8_readOperation_0 := by decide +kernel
theorem dksX8_readOperation_1 : cX8_readOperation.data.toList.drop 22 = dktX8_readOperation_1 := dk_seg dksX8_readOperation_0 22 rfl rfl
theorem dksX8_readOperation_2 : cX8_readOperation.data.toList.drop 46 = dktX8_readOperation_2 := dk_seg dksX8_readOperation_1 24 rfl rfl
theorem dksX8_readOperation_3 : cX8_readOperation.data.toList.drop 70 = dktX8_readOperation_3 := dk_seg dksX8_readOperation_2 24 rfl rfl
theorem dksX8_readOperation_4 : cX8_readOperation.data.toList.drop 94 = dktX8_readOperation_4 := dk_seg dksX8_readOperation_3 24 rfl rfl
theorem dksX8_readOperation_5 : cX8_readOperation.data.toList.drop 118 = dktX8_readOperation_5 := dk_seg dksX8_readOperation_4 24 rfl rfl
theorem dksX8_readOperation_6 : cX8_readOperation.data.toList.drop 142 = dktX8_readOperation_6 := dk_seg dksX8_readOperation_5 24 rfl rfl
theorem dX8_readOperation_0 : decode cX8_readOperation 0 = .ok (.aload_n 0, 1) := dk_42 (dk_at dksX8_readOperation_0 0 rfl rfl)
theorem dX8_readOperation_1 : decode cX8_readOperation 1 = .ok (.getfield 20, 3) := dk_180 0 20 (dk_at dksX8_readOperation_0 1 rfl rfl)
theorem dX8_readOperation_4 : decode cX8_readOperation 4 = .ok (.iload_n 1, 1) := dk_27 (dk_at dksX8_readOperation_0 4 rfl rfl)
theorem dX8_readOperation_5 : decode cX8_readOperation 5 = .ok (.invokestatic 147, 3) := dk_184 0 147 (dk_at dksX8_readOperation_0 5 rfl rfl)
theorem dX8_readOperation_8 : decode cX8_readOperation 8 = .ok (.iconst 3, 1) := dk_6 (dk_at dksX8_readOperation_0 8 rfl rfl)
theorem dX8_readOperation_9 : decode cX8_readOperation 9 = .ok (.iadd, 1) := dk_96 (dk_at dksX8_readOperation_0 9 rfl rfl)
theorem dX8_readOperation_10 : decode cX8_readOperation 10 = .ok (.iaload, 1) := dk_46 (dk_at dksX8_readOperation_0 10 rfl rfl)
theorem dX8_readOperation_11 : decode cX8_readOperation 11 = .ok (.istore_n 3, 1) := dk_62 (dk_at dksX8_readOperation_0 11 rfl rfl)
theorem dX8_readOperation_12 : decode cX8_readOperation 12 = .ok (.iload_n 3, 1) := dk_29 (dk_at dksX8_readOperation_0 12 rfl rfl)
theorem dX8_readOperation_13 : decode cX8_readOperation 13 = .ok (.bipush 6, 2) := dk_16 6 (dk_at dksX8_readOperation_0 13 rfl rfl)
theorem dX8_readOperation_15 : decode cX8_readOperation 15 = .ok (.if_icmp .ne 10, 3) := dk_160 0 10 (dk_at dksX8_readOperation_0 15 rfl rfl)
theorem dX8_readOperation_18 : decode cX8_readOperation 18 = .ok (.aload_n 0, 1) := dk_42 (dk_at dksX8_readOperation_0 18 rfl rfl)
theorem dX8_readOperation_19 : decode cX8_readOperation 19 = .ok (.bipush (-4), 2) := dk_16 252 (dk_at dksX8_readOperation_0 19 rfl rfl)
theorem dX8_readOperation_21 : decode cX8_readOperation 21 = .ok (.iload_n 2, 1) := dk_28 (dk_at dksX8_readOperation_0 21 rfl rfl)
theorem dX8_readOperation_22 : decode cX8_readOperation 22 = .ok (.invokevirtual 94, 3) := dk_182 0 94 (dk_at dksX8_readOperation_1 0 rfl rfl)
theorem dX8_readOperation_25 : decode cX8_readOperation 25 = .ok (.aload_n 0, 1) := dk_42 (dk_at dksX8_readOperation_1 3 rfl rfl)
theorem dX8_readOperation_26 : decode cX8_readOperation 26 = .ok (.iconst 0, 1) := dk_3 (dk_at dksX8_readOperation_1 4 rfl rfl)
theorem dX8_readOperation_27 : decode cX8_readOperation 27 = .ok (.aload_n 0, 1) := dk_42 (dk_at dksX8_readOperation_1 5 rfl rfl)
theorem dX8_readOperation_28 : decode cX8_readOperation 28 = .ok (.getfield 20, 3) := dk_180 0 20 (dk_at dksX8_readOperation_1 6 rfl rfl)
theorem dX8_readOperation_31 : decode cX8_readOperation 31 = .ok (.iconst 0, 1) := dk_3 (dk_at dksX8_readOperation_1 9 rfl rfl)
theorem dX8_readOperation_32 : decode cX8_readOperation 32 = .ok (.iaload, 1) := dk_46 (dk_at dksX8_readOperation_1 10 rfl rfl)
theorem dX8_readOperation_33 : decode cX8_readOperation 33 = .ok (.iconst 1, 1) := dk_4 (dk_at dksX8_readOperation_1 11 rfl rfl)
theorem dX8_readOperation_34 : decode cX8_readOperation 34 = .ok (.isub, 1) := dk_100 (dk_at dksX8_readOperation_1 12 rfl rfl)
theorem dX8_readOperation_35 : decode cX8_readOperation 35 = .ok (.invokevirtual 132, 3) := dk_182 0 132 (dk_at dksX8_readOperation_1 13 rfl rfl)
theorem dX8_readOperation_38 : decode cX8_readOperation 38 = .ok (.istore 4, 2) := dk_54 4 (dk_at dksX8_readOperation_1 16 rfl rfl)
theorem dX8_readOperation_40 : decode cX8_readOperation 40 = .ok (.iconst 0, 1) := dk_3 (dk_at dksX8_readOperation_1 18 rfl rfl)
theorem dX8_readOperation_41 : decode cX8_readOperation 41 = .ok (.istore 5, 2) := dk_54 5 (dk_at dksX8_readOperation_1 19 rfl rfl)
theorem dX8_readOperation_43 : decode cX8_readOperation 43 = .ok (.iload 5, 2) := dk_21 5 (dk_at dksX8_readOperation_1 21 rfl rfl)
theorem dX8_readOperation_45 : decode cX8_readOperation 45 = .ok (.iload_n 3, 1) := dk_29 (dk_at dksX8_readOperation_1 23 rfl rfl)
theorem dX8_readOperation_46 : decode cX8_readOperation 46 = .ok (.if_icmp .ge 46, 3) := dk_162 0 46 (dk_at dksX8_readOperation_2 0 rfl rfl)
theorem dX8_readOperation_49 : decode cX8_readOperation 49 = .ok (.aload_n 0, 1) := dk_42 (dk_at dksX8_readOperation_2 3 rfl rfl)
theorem dX8_readOperation_50 : decode cX8_readOperation 50 = .ok (.invokevirtual 77, 3) := dk_182 0 77 (dk_at dksX8_readOperation_2 4 rfl rfl)
theorem dX8_readOperation_53 : decode cX8_readOperation 53 = .ok (.ifCond .eq 39, 3) := dk_153 0 39 (dk_at dksX8_readOperation_2 7 rfl rfl)
theorem dX8_readOperation_56 : decode cX8_readOperation 56 = .ok (.aload_n 0, 1) := dk_42 (dk_at dksX8_readOperation_2 10 rfl rfl)
theorem dX8_readOperation_57 : decode cX8_readOperation 57 = .ok (.getfield 20, 3) := dk_180 0 20 (dk_at dksX8_readOperation_2 11 rfl rfl)
theorem dX8_readOperation_60 : decode cX8_readOperation 60 = .ok (.bipush 6, 2) := dk_16 6 (dk_at dksX8_readOperation_2 14 rfl rfl)
theorem dX8_readOperation_62 : decode cX8_readOperation 62 = .ok (.iload_n 1, 1) := dk_27 (dk_at dksX8_readOperation_2 16 rfl rfl)
theorem dX8_readOperation_63 : decode cX8_readOperation 63 = .ok (.imul, 1) := dk_104 (dk_at dksX8_readOperation_2 17 rfl rfl)
theorem dX8_readOperation_64 : decode cX8_readOperation 64 = .ok (.iload 5, 2) := dk_21 5 (dk_at dksX8_readOperation_2 18 rfl rfl)
theorem dX8_readOperation_66 : decode cX8_readOperation 66 = .ok (.iadd, 1) := dk_96 (dk_at dksX8_readOperation_2 20 rfl rfl)
theorem dX8_readOperation_67 : decode cX8_readOperation 67 = .ok (.invokestatic 155, 3) := dk_184 0 155 (dk_at dksX8_readOperation_2 21 rfl rfl)
theorem dX8_readOperation_70 : decode cX8_readOperation 70 = .ok (.iaload, 1) := dk_46 (dk_at dksX8_readOperation_3 0 rfl rfl)
theorem dX8_readOperation_71 : decode cX8_readOperation 71 = .ok (.iload 4, 2) := dk_21 4 (dk_at dksX8_readOperation_3 1 rfl rfl)
theorem dX8_readOperation_73 : decode cX8_readOperation 73 = .ok (.if_icmp .ne 13, 3) := dk_160 0 13 (dk_at dksX8_readOperation_3 3 rfl rfl)
theorem dX8_readOperation_76 : decode cX8_readOperation 76 = .ok (.aload_n 0, 1) := dk_42 (dk_at dksX8_readOperation_3 6 rfl rfl)
theorem dX8_readOperation_77 : decode cX8_readOperation 77 = .ok (.bipush (-3), 2) := dk_16 253 (dk_at dksX8_readOperation_3 7 rfl rfl)
theorem dX8_readOperation_79 : decode cX8_readOperation 79 = .ok (.aload_n 0, 1) := dk_42 (dk_at dksX8_readOperation_3 9 rfl rfl)
theorem dX8_readOperation_80 : decode cX8_readOperation 80 = .ok (.getfield 102, 3) := dk_180 0 102 (dk_at dksX8_readOperation_3 10 rfl rfl)
theorem dX8_readOperation_83 : decode cX8_readOperation 83 = .ok (.invokevirtual 94, 3) := dk_182 0 94 (dk_at dksX8_readOperation_3 13 rfl rfl)
theorem dX8_readOperation_86 : decode cX8_readOperation 86 = .ok (.iinc 5 1, 3) := dk_132 5 1 (dk_at dksX8_readOperation_3 16 rfl rfl)
theorem dX8_readOperation_89 : decode cX8_readOperation 89 = .ok (.goto (-46), 3) := dk_167 255 210 (dk_at dksX8_readOperation_3 19 rfl rfl)
theorem dX8_readOperation_92 : decode cX8_readOperation 92 = .ok (.aload_n 0, 1) := dk_42 (dk_at dksX8_readOperation_3 22 rfl rfl)
theorem dX8_readOperation_93 : decode cX8_readOperation 93 = .ok (.iconst 1, 1) := dk_4 (dk_at dksX8_readOperation_3 23 rfl rfl)
theorem dX8_readOperation_94 : decode cX8_readOperation 94 = .ok (.bipush 99, 2) := dk_16 99 (dk_at dksX8_readOperation_4 0 rfl rfl)
theorem dX8_readOperation_96 : decode cX8_readOperation 96 = .ok (.invokevirtual 132, 3) := dk_182 0 132 (dk_at dksX8_readOperation_4 2 rfl rfl)
theorem dX8_readOperation_99 : decode cX8_readOperation 99 = .ok (.istore 5, 2) := dk_54 5 (dk_at dksX8_readOperation_4 5 rfl rfl)
theorem dX8_readOperation_101 : decode cX8_readOperation 101 = .ok (.aload_n 0, 1) := dk_42 (dk_at dksX8_readOperation_4 7 rfl rfl)
theorem dX8_readOperation_102 : decode cX8_readOperation 102 = .ok (.invokevirtual 77, 3) := dk_182 0 77 (dk_at dksX8_readOperation_4 8 rfl rfl)
theorem dX8_readOperation_105 : decode cX8_readOperation 105 = .ok (.ifCond .ne 4, 3) := dk_154 0 4 (dk_at dksX8_readOperation_4 11 rfl rfl)
theorem dX8_readOperation_108 : decode cX8_readOperation 108 = .ok (.return_, 1) := dk_177 (dk_at dksX8_readOperation_4 14 rfl rfl)
theorem dX8_readOperation_109 : decode cX8_readOperation 109 = .ok (.aload_n 0, 1) := dk_42 (dk_at dksX8_readOperation_4 15 rfl rfl)
theorem dX8_readOperation_110 : decode cX8_readOperation 110 = .ok (.getfield 20, 3) := dk_180 0 20 (dk_at dksX8_readOperation_4 16 rfl rfl)
theorem dX8_readOperation_113 : decode cX8_readOperation 113 = .ok (.bipush 6, 2) := dk_16 6 (dk_at dksX8_readOperation_4 19 rfl rfl)
theorem dX8_readOperation_115 : decode cX8_readOperation 115 = .ok (.iload_n 1, 1) := dk_27 (dk_at dksX8_readOperation_4 21 rfl rfl)
theorem dX8_readOperation_116 : decode cX8_readOperation 116 = .ok (.imul, 1) := dk_104 (dk_at dksX8_readOperation_4 22 rfl rfl)
theorem dX8_readOperation_117 : decode cX8_readOperation 117 = .ok (.iload_n 3, 1) := dk_29 (dk_at dksX8_readOperation_4 23 rfl rfl)
theorem dX8_readOperation_118 : decode cX8_readOperation 118 = .ok (.iadd, 1) := dk_96 (dk_at dksX8_readOperation_5 0 rfl rfl)
theorem dX8_readOperation_119 : decode cX8_readOperation 119 = .ok (.invokestatic 155, 3) := dk_184 0 155 (dk_at dksX8_readOperation_5 1 rfl rfl)
theorem dX8_readOperation_122 : decode cX8_readOperation 122 = .ok (.iload 4, 2) := dk_21 4 (dk_at dksX8_readOperation_5 4 rfl rfl)
theorem dX8_readOperation_124 : decode cX8_readOperation 124 = .ok (.iastore, 1) := dk_79 (dk_at dksX8_readOperation_5 6 rfl rfl)
theorem dX8_readOperation_125 : decode cX8_readOperation 125 = .ok (.aload_n 0, 1) := dk_42 (dk_at dksX8_readOperation_5 7 rfl rfl)
theorem dX8_readOperation_126 : decode cX8_readOperation 126 = .ok (.getfield 20, 3) := dk_180 0 20 (dk_at dksX8_readOperation_5 8 rfl rfl)
theorem dX8_readOperation_129 : decode cX8_readOperation 129 = .ok (.bipush 6, 2) := dk_16 6 (dk_at dksX8_readOperation_5 11 rfl rfl)
theorem dX8_readOperation_131 : decode cX8_readOperation 131 = .ok (.iload_n 1, 1) := dk_27 (dk_at dksX8_readOperation_5 13 rfl rfl)
theorem dX8_readOperation_132 : decode cX8_readOperation 132 = .ok (.imul, 1) := dk_104 (dk_at dksX8_readOperation_5 14 rfl rfl)
theorem dX8_readOperation_133 : decode cX8_readOperation 133 = .ok (.iload_n 3, 1) := dk_29 (dk_at dksX8_readOperation_5 15 rfl rfl)
theorem dX8_readOperation_134 : decode cX8_readOperation 134 = .ok (.iadd, 1) := dk_96 (dk_at dksX8_readOperation_5 16 rfl rfl)
theorem dX8_readOperation_135 : decode cX8_readOperation 135 = .ok (.invokestatic 155, 3) := dk_184 0 155 (dk_at dksX8_readOperation_5 17 rfl rfl)
theorem dX8_readOperation_138 : decode cX8_readOperation 138 = .ok (.iconst 1, 1) := dk_4 (dk_at dksX8_readOperation_5 20 rfl rfl)
theorem dX8_readOperation_139 : decode cX8_readOperation 139 = .ok (.iadd, 1) := dk_96 (dk_at dksX8_readOperation_5 21 rfl rfl)
theorem dX8_readOperation_140 : decode cX8_readOperation 140 = .ok (.iload 5, 2) := dk_21 5 (dk_at dksX8_readOperation_5 22 rfl rfl)
theorem dX8_readOperation_142 : decode cX8_readOperation 142 = .ok (.iastore, 1) := dk_79 (dk_at dksX8_readOperation_6 0 rfl rfl)
theorem dX8_readOperation_143 : decode cX8_readOperation 143 = .ok (.aload_n 0, 1) := dk_42 (dk_at dksX8_readOperation_6 1 rfl rfl)
theorem dX8_readOperation_144 : decode cX8_readOperation 144 = .ok (.getfield 20, 3) := dk_180 0 20 (dk_at dksX8_readOperation_6 2 rfl rfl)
theorem dX8_readOperation_147 : decode cX8_readOperation 147 = .ok (.iload_n 1, 1) := dk_27 (dk_at dksX8_readOperation_6 5 rfl rfl)
theorem dX8_readOperation_148 : decode cX8_readOperation 148 = .ok (.invokestatic 147, 3) := dk_184 0 147 (dk_at dksX8_readOperation_6 6 rfl rfl)
theorem dX8_readOperation_151 : decode cX8_readOperation 151 = .ok (.iconst 3, 1) := dk_6 (dk_at dksX8_readOperation_6 9 rfl rfl)
theorem dX8_readOperation_152 : decode cX8_readOperation 152 = .ok (.iadd, 1) := dk_96 (dk_at dksX8_readOperation_6 10 rfl rfl)
theorem dX8_readOperation_153 : decode cX8_readOperation 153 = .ok (.dup2, 1) := dk_92 (dk_at dksX8_readOperation_6 11 rfl rfl)
theorem dX8_readOperation_154 : decode cX8_readOperation 154 = .ok (.iaload, 1) := dk_46 (dk_at dksX8_readOperation_6 12 rfl rfl)
theorem dX8_readOperation_155 : decode cX8_readOperation 155 = .ok (.iconst 1, 1) := dk_4 (dk_at dksX8_readOperation_6 13 rfl rfl)
theorem dX8_readOperation_156 : decode cX8_readOperation 156 = .ok (.iadd, 1) := dk_96 (dk_at dksX8_readOperation_6 14 rfl rfl)
theorem dX8_readOperation_157 : decode cX8_readOperation 157 = .ok (.iastore, 1) := dk_79 (dk_at dksX8_readOperation_6 15 rfl rfl)
theorem dX8_readOperation_158 : decode cX8_readOperation 158 = .ok (.return_, 1) := dk_177 (dk_at dksX8_readOperation_6 16 rfl rfl)
abbrev cX8_operationAt : ByteArray := prog_15_method_10_code
def yX8_operationAt : MethodName := ⟨RX8, "operationAt", "(I)I"⟩
def dkwX8_operationAt_0 : List UInt8 := [16, 83, 5, 26, 104, 96, 172]
abbrev dktX8_operationAt_0 : List UInt8 := dkwX8_operationAt_0 ++ []
theorem dksX8_operationAt_0 : cX8_operationAt.data.toList.drop 0 = dktX8_operationAt_0 := by decide +kernel
theorem dX8_operationAt_0 : decode cX8_operationAt 0 = .ok (.bipush 83, 2) := dk_16 83 (dk_at dksX8_operationAt_0 0 rfl rfl)
theorem dX8_operationAt_2 : decode cX8_operationAt 2 = .ok (.iconst 2, 1) := dk_5 (dk_at dksX8_operationAt_0 2 rfl rfl)
theorem dX8_operationAt_3 : decode cX8_operationAt 3 = .ok (.iload_n 0, 1) := dk_26 (dk_at dksX8_operationAt_0 3 rfl rfl)
theorem dX8_operationAt_4 : decode cX8_operationAt 4 = .ok (.imul, 1) := dk_104 (dk_at dksX8_operationAt_0 4 rfl rfl)
theorem dX8_operationAt_5 : decode cX8_operationAt 5 = .ok (.iadd, 1) := dk_96 (dk_at dksX8_operationAt_0 5 rfl rfl)
theorem dX8_operationAt_6 : decode cX8_operationAt 6 = .ok (.ireturn, 1) := dk_172 (dk_at dksX8_operationAt_0 6 rfl rfl)
abbrev cX8_readMachine : ByteArray := prog_15_method_27_code
def yX8_readMachine : MethodName := ⟨RX8, "readMachine", "()V"⟩
def dkwX8_readMachine_2 : List UInt8 := [100, 79, 42, 180, 0, 20, 27, 184, 0, 158, 4, 96, 29, 79, 177]
abbrev dktX8_readMachine_2 : List UInt8 := dkwX8_readMachine_2 ++ []
def dkwX8_readMachine_1 : List UInt8 := [16, 99, 182, 0, 132, 62, 42, 182, 0, 77, 154, 0, 4, 177, 42, 180, 0, 20, 27, 184, 0, 158, 4, 28]
abbrev dktX8_readMachine_1 : List UInt8 := dkwX8_readMachine_1 ++ dktX8_readMachine_2
def dkwX8_readMachine_0 : List UInt8 := [42, 3, 42, 180, 0, 20, 3, 46, 4, 100, 182, 0, 132, 60, 42, 3, 4, 182, 0, 132, 61, 42, 3]
abbrev dktX8_readMachine_0 : List UInt8 := dkwX8_readMachine_0 ++ dktX8_readMachine_1
theorem dksX8_readMachine_0 : cX8_readMachine.data.toList.drop 0 = dktX8_readMachine_0 := by decide +kernel
theorem dksX8_readMachine_1 : cX8_readMachine.data.toList.drop 23 = dktX8_readMachine_1 := dk_seg dksX8_readMachine_0 23 rfl rfl
theorem dksX8_readMachine_2 : cX8_readMachine.data.toList.drop 47 = dktX8_readMachine_2 := dk_seg dksX8_readMachine_1 24 rfl rfl
theorem dX8_readMachine_0 : decode cX8_readMachine 0 = .ok (.aload_n 0, 1) := dk_42 (dk_at dksX8_readMachine_0 0 rfl rfl)
theorem dX8_readMachine_1 : decode cX8_readMachine 1 = .ok (.iconst 0, 1) := dk_3 (dk_at dksX8_readMachine_0 1 rfl rfl)
theorem dX8_readMachine_2 : decode cX8_readMachine 2 = .ok (.aload_n 0, 1) := dk_42 (dk_at dksX8_readMachine_0 2 rfl rfl)
theorem dX8_readMachine_3 : decode cX8_readMachine 3 = .ok (.getfield 20, 3) := dk_180 0 20 (dk_at dksX8_readMachine_0 3 rfl rfl)
theorem dX8_readMachine_6 : decode cX8_readMachine 6 = .ok (.iconst 0, 1) := dk_3 (dk_at dksX8_readMachine_0 6 rfl rfl)
theorem dX8_readMachine_7 : decode cX8_readMachine 7 = .ok (.iaload, 1) := dk_46 (dk_at dksX8_readMachine_0 7 rfl rfl)
theorem dX8_readMachine_8 : decode cX8_readMachine 8 = .ok (.iconst 1, 1) := dk_4 (dk_at dksX8_readMachine_0 8 rfl rfl)
theorem dX8_readMachine_9 : decode cX8_readMachine 9 = .ok (.isub, 1) := dk_100 (dk_at dksX8_readMachine_0 9 rfl rfl)
theorem dX8_readMachine_10 : decode cX8_readMachine 10 = .ok (.invokevirtual 132, 3) := dk_182 0 132 (dk_at dksX8_readMachine_0 10 rfl rfl)
theorem dX8_readMachine_13 : decode cX8_readMachine 13 = .ok (.istore_n 1, 1) := dk_60 (dk_at dksX8_readMachine_0 13 rfl rfl)
theorem dX8_readMachine_14 : decode cX8_readMachine 14 = .ok (.aload_n 0, 1) := dk_42 (dk_at dksX8_readMachine_0 14 rfl rfl)
theorem dX8_readMachine_15 : decode cX8_readMachine 15 = .ok (.iconst 0, 1) := dk_3 (dk_at dksX8_readMachine_0 15 rfl rfl)
theorem dX8_readMachine_16 : decode cX8_readMachine 16 = .ok (.iconst 1, 1) := dk_4 (dk_at dksX8_readMachine_0 16 rfl rfl)
theorem dX8_readMachine_17 : decode cX8_readMachine 17 = .ok (.invokevirtual 132, 3) := dk_182 0 132 (dk_at dksX8_readMachine_0 17 rfl rfl)
theorem dX8_readMachine_20 : decode cX8_readMachine 20 = .ok (.istore_n 2, 1) := dk_61 (dk_at dksX8_readMachine_0 20 rfl rfl)
theorem dX8_readMachine_21 : decode cX8_readMachine 21 = .ok (.aload_n 0, 1) := dk_42 (dk_at dksX8_readMachine_0 21 rfl rfl)
theorem dX8_readMachine_22 : decode cX8_readMachine 22 = .ok (.iconst 0, 1) := dk_3 (dk_at dksX8_readMachine_0 22 rfl rfl)
theorem dX8_readMachine_23 : decode cX8_readMachine 23 = .ok (.bipush 99, 2) := dk_16 99 (dk_at dksX8_readMachine_1 0 rfl rfl)
theorem dX8_readMachine_25 : decode cX8_readMachine 25 = .ok (.invokevirtual 132, 3) := dk_182 0 132 (dk_at dksX8_readMachine_1 2 rfl rfl)
theorem dX8_readMachine_28 : decode cX8_readMachine 28 = .ok (.istore_n 3, 1) := dk_62 (dk_at dksX8_readMachine_1 5 rfl rfl)
theorem dX8_readMachine_29 : decode cX8_readMachine 29 = .ok (.aload_n 0, 1) := dk_42 (dk_at dksX8_readMachine_1 6 rfl rfl)
theorem dX8_readMachine_30 : decode cX8_readMachine 30 = .ok (.invokevirtual 77, 3) := dk_182 0 77 (dk_at dksX8_readMachine_1 7 rfl rfl)
theorem dX8_readMachine_33 : decode cX8_readMachine 33 = .ok (.ifCond .ne 4, 3) := dk_154 0 4 (dk_at dksX8_readMachine_1 10 rfl rfl)
theorem dX8_readMachine_36 : decode cX8_readMachine 36 = .ok (.return_, 1) := dk_177 (dk_at dksX8_readMachine_1 13 rfl rfl)
theorem dX8_readMachine_37 : decode cX8_readMachine 37 = .ok (.aload_n 0, 1) := dk_42 (dk_at dksX8_readMachine_1 14 rfl rfl)
theorem dX8_readMachine_38 : decode cX8_readMachine 38 = .ok (.getfield 20, 3) := dk_180 0 20 (dk_at dksX8_readMachine_1 15 rfl rfl)
theorem dX8_readMachine_41 : decode cX8_readMachine 41 = .ok (.iload_n 1, 1) := dk_27 (dk_at dksX8_readMachine_1 18 rfl rfl)
theorem dX8_readMachine_42 : decode cX8_readMachine 42 = .ok (.invokestatic 158, 3) := dk_184 0 158 (dk_at dksX8_readMachine_1 19 rfl rfl)
theorem dX8_readMachine_45 : decode cX8_readMachine 45 = .ok (.iconst 1, 1) := dk_4 (dk_at dksX8_readMachine_1 22 rfl rfl)
theorem dX8_readMachine_46 : decode cX8_readMachine 46 = .ok (.iload_n 2, 1) := dk_28 (dk_at dksX8_readMachine_1 23 rfl rfl)
theorem dX8_readMachine_47 : decode cX8_readMachine 47 = .ok (.isub, 1) := dk_100 (dk_at dksX8_readMachine_2 0 rfl rfl)
theorem dX8_readMachine_48 : decode cX8_readMachine 48 = .ok (.iastore, 1) := dk_79 (dk_at dksX8_readMachine_2 1 rfl rfl)
theorem dX8_readMachine_49 : decode cX8_readMachine 49 = .ok (.aload_n 0, 1) := dk_42 (dk_at dksX8_readMachine_2 2 rfl rfl)
theorem dX8_readMachine_50 : decode cX8_readMachine 50 = .ok (.getfield 20, 3) := dk_180 0 20 (dk_at dksX8_readMachine_2 3 rfl rfl)
theorem dX8_readMachine_53 : decode cX8_readMachine 53 = .ok (.iload_n 1, 1) := dk_27 (dk_at dksX8_readMachine_2 6 rfl rfl)
theorem dX8_readMachine_54 : decode cX8_readMachine 54 = .ok (.invokestatic 158, 3) := dk_184 0 158 (dk_at dksX8_readMachine_2 7 rfl rfl)
theorem dX8_readMachine_57 : decode cX8_readMachine 57 = .ok (.iconst 1, 1) := dk_4 (dk_at dksX8_readMachine_2 10 rfl rfl)
theorem dX8_readMachine_58 : decode cX8_readMachine 58 = .ok (.iadd, 1) := dk_96 (dk_at dksX8_readMachine_2 11 rfl rfl)
theorem dX8_readMachine_59 : decode cX8_readMachine 59 = .ok (.iload_n 3, 1) := dk_29 (dk_at dksX8_readMachine_2 12 rfl rfl)
theorem dX8_readMachine_60 : decode cX8_readMachine 60 = .ok (.iastore, 1) := dk_79 (dk_at dksX8_readMachine_2 13 rfl rfl)
theorem dX8_readMachine_61 : decode cX8_readMachine 61 = .ok (.return_, 1) := dk_177 (dk_at dksX8_readMachine_2 14 rfl rfl)
abbrev cX8_machine : ByteArray := prog_15_method_8_code
def yX8_machine : MethodName := ⟨RX8, "machine", "(I)I"⟩
def dkwX8_machine_0 : List UInt8 := [8, 16, 9, 26, 104, 96, 172]
abbrev dktX8_machine_0 : List UInt8 := dkwX8_machine_0 ++ []
theorem dksX8_machine_0 : cX8_machine.data.toList.drop 0 = dktX8_machine_0 := by decide +kernel
theorem dX8_machine_0 : decode cX8_machine 0 = .ok (.iconst 5, 1) := dk_8 (dk_at dksX8_machine_0 0 rfl rfl)
theorem dX8_machine_1 : decode cX8_machine 1 = .ok (.bipush 9, 2) := dk_16 9 (dk_at dksX8_machine_0 1 rfl rfl)
theorem dX8_machine_3 : decode cX8_machine 3 = .ok (.iload_n 0, 1) := dk_26 (dk_at dksX8_machine_0 3 rfl rfl)
theorem dX8_machine_4 : decode cX8_machine 4 = .ok (.imul, 1) := dk_104 (dk_at dksX8_machine_0 4 rfl rfl)
theorem dX8_machine_5 : decode cX8_machine 5 = .ok (.iadd, 1) := dk_96 (dk_at dksX8_machine_0 5 rfl rfl)
theorem dX8_machine_6 : decode cX8_machine 6 = .ok (.ireturn, 1) := dk_172 (dk_at dksX8_machine_0 6 rfl rfl)
abbrev cX8_once : ByteArray := prog_15_method_24_code
def yX8_once : MethodName := ⟨RX8, "once", "(II)V"⟩
def dkwX8_once_1 : List UInt8 := [4, 27, 120, 128, 181, 0, 144, 177]
abbrev dktX8_once_1 : List UInt8 := dkwX8_once_1 ++ []
def dkwX8_once_0 : List UInt8 := [42, 180, 0, 144, 27, 122, 4, 126, 4, 160, 0, 10, 42, 16, 254, 28, 182, 0, 94, 42, 89, 180, 0, 144]
abbrev dktX8_once_0 : List UInt8 := dkwX8_once_0 ++ dktX8_once_1
theorem dksX8_once_0 : cX8_once.data.toList.drop 0 = dktX8_once_0 := by decide +kernel
theorem dksX8_once_1 : cX8_once.data.toList.drop 24 = dktX8_once_1 := dk_seg dksX8_once_0 24 rfl rfl
theorem dX8_once_0 : decode cX8_once 0 = .ok (.aload_n 0, 1) := dk_42 (dk_at dksX8_once_0 0 rfl rfl)
theorem dX8_once_1 : decode cX8_once 1 = .ok (.getfield 144, 3) := dk_180 0 144 (dk_at dksX8_once_0 1 rfl rfl)
theorem dX8_once_4 : decode cX8_once 4 = .ok (.iload_n 1, 1) := dk_27 (dk_at dksX8_once_0 4 rfl rfl)
theorem dX8_once_5 : decode cX8_once 5 = .ok (.ishr, 1) := dk_122 (dk_at dksX8_once_0 5 rfl rfl)
theorem dX8_once_6 : decode cX8_once 6 = .ok (.iconst 1, 1) := dk_4 (dk_at dksX8_once_0 6 rfl rfl)
theorem dX8_once_7 : decode cX8_once 7 = .ok (.iand, 1) := dk_126 (dk_at dksX8_once_0 7 rfl rfl)
theorem dX8_once_8 : decode cX8_once 8 = .ok (.iconst 1, 1) := dk_4 (dk_at dksX8_once_0 8 rfl rfl)
theorem dX8_once_9 : decode cX8_once 9 = .ok (.if_icmp .ne 10, 3) := dk_160 0 10 (dk_at dksX8_once_0 9 rfl rfl)
theorem dX8_once_12 : decode cX8_once 12 = .ok (.aload_n 0, 1) := dk_42 (dk_at dksX8_once_0 12 rfl rfl)
theorem dX8_once_13 : decode cX8_once 13 = .ok (.bipush (-2), 2) := dk_16 254 (dk_at dksX8_once_0 13 rfl rfl)
theorem dX8_once_15 : decode cX8_once 15 = .ok (.iload_n 2, 1) := dk_28 (dk_at dksX8_once_0 15 rfl rfl)
theorem dX8_once_16 : decode cX8_once 16 = .ok (.invokevirtual 94, 3) := dk_182 0 94 (dk_at dksX8_once_0 16 rfl rfl)
theorem dX8_once_19 : decode cX8_once 19 = .ok (.aload_n 0, 1) := dk_42 (dk_at dksX8_once_0 19 rfl rfl)
theorem dX8_once_20 : decode cX8_once 20 = .ok (.dup, 1) := dk_89 (dk_at dksX8_once_0 20 rfl rfl)
theorem dX8_once_21 : decode cX8_once 21 = .ok (.getfield 144, 3) := dk_180 0 144 (dk_at dksX8_once_0 21 rfl rfl)
theorem dX8_once_24 : decode cX8_once 24 = .ok (.iconst 1, 1) := dk_4 (dk_at dksX8_once_1 0 rfl rfl)
theorem dX8_once_25 : decode cX8_once 25 = .ok (.iload_n 1, 1) := dk_27 (dk_at dksX8_once_1 1 rfl rfl)
theorem dX8_once_26 : decode cX8_once 26 = .ok (.ishl, 1) := dk_120 (dk_at dksX8_once_1 2 rfl rfl)
theorem dX8_once_27 : decode cX8_once 27 = .ok (.ior, 1) := dk_128 (dk_at dksX8_once_1 3 rfl rfl)
theorem dX8_once_28 : decode cX8_once 28 = .ok (.putfield 144, 3) := dk_181 0 144 (dk_at dksX8_once_1 4 rfl rfl)
theorem dX8_once_31 : decode cX8_once 31 = .ok (.return_, 1) := dk_177 (dk_at dksX8_once_1 7 rfl rfl)
abbrev cX8_sum : ByteArray := prog_15_method_23_code
def yX8_sum : MethodName := ⟨RX8, "sum", "()V"⟩
def dkwX8_sum_3 : List UInt8 := [182, 0, 135, 167, 255, 189, 177]
abbrev dktX8_sum_3 : List UInt8 := dkwX8_sum_3 ++ []
def dkwX8_sum_2 : List UInt8 := [180, 0, 60, 4, 96, 181, 0, 60, 42, 182, 0, 141, 42, 27, 153, 0, 7, 5, 167, 0, 4, 6]
abbrev dktX8_sum_2 : List UInt8 := dkwX8_sum_2 ++ dktX8_sum_3
def dkwX8_sum_1 : List UInt8 := [16, 45, 160, 0, 48, 42, 182, 0, 81, 16, 43, 160, 0, 7, 4, 167, 0, 4, 3, 60, 42, 89]
abbrev dktX8_sum_1 : List UInt8 := dkwX8_sum_1 ++ dktX8_sum_2
def dkwX8_sum_0 : List UInt8 := [42, 182, 0, 141, 42, 182, 0, 77, 153, 0, 66, 42, 182, 0, 81, 16, 43, 159, 0, 12, 42, 182, 0, 81]
abbrev dktX8_sum_0 : List UInt8 := dkwX8_sum_0 ++ dktX8_sum_1
theorem dksX8_sum_0 : cX8_sum.data.toList.drop 0 = dktX8_sum_0 := by decide +kernel
theorem dksX8_sum_1 : cX8_sum.data.toList.drop 24 = dktX8_sum_1 := dk_seg dksX8_sum_0 24 rfl rfl
theorem dksX8_sum_2 : cX8_sum.data.toList.drop 46 = dktX8_sum_2 := dk_seg dksX8_sum_1 22 rfl rfl
theorem dksX8_sum_3 : cX8_sum.data.toList.drop 68 = dktX8_sum_3 := dk_seg dksX8_sum_2 22 rfl rfl
theorem dX8_sum_0 : decode cX8_sum 0 = .ok (.aload_n 0, 1) := dk_42 (dk_at dksX8_sum_0 0 rfl rfl)
theorem dX8_sum_1 : decode cX8_sum 1 = .ok (.invokevirtual 141, 3) := dk_182 0 141 (dk_at dksX8_sum_0 1 rfl rfl)
theorem dX8_sum_4 : decode cX8_sum 4 = .ok (.aload_n 0, 1) := dk_42 (dk_at dksX8_sum_0 4 rfl rfl)
theorem dX8_sum_5 : decode cX8_sum 5 = .ok (.invokevirtual 77, 3) := dk_182 0 77 (dk_at dksX8_sum_0 5 rfl rfl)
theorem dX8_sum_8 : decode cX8_sum 8 = .ok (.ifCond .eq 66, 3) := dk_153 0 66 (dk_at dksX8_sum_0 8 rfl rfl)
theorem dX8_sum_11 : decode cX8_sum 11 = .ok (.aload_n 0, 1) := dk_42 (dk_at dksX8_sum_0 11 rfl rfl)
theorem dX8_sum_12 : decode cX8_sum 12 = .ok (.invokevirtual 81, 3) := dk_182 0 81 (dk_at dksX8_sum_0 12 rfl rfl)
theorem dX8_sum_15 : decode cX8_sum 15 = .ok (.bipush 43, 2) := dk_16 43 (dk_at dksX8_sum_0 15 rfl rfl)
theorem dX8_sum_17 : decode cX8_sum 17 = .ok (.if_icmp .eq 12, 3) := dk_159 0 12 (dk_at dksX8_sum_0 17 rfl rfl)
theorem dX8_sum_20 : decode cX8_sum 20 = .ok (.aload_n 0, 1) := dk_42 (dk_at dksX8_sum_0 20 rfl rfl)
theorem dX8_sum_21 : decode cX8_sum 21 = .ok (.invokevirtual 81, 3) := dk_182 0 81 (dk_at dksX8_sum_0 21 rfl rfl)
theorem dX8_sum_24 : decode cX8_sum 24 = .ok (.bipush 45, 2) := dk_16 45 (dk_at dksX8_sum_1 0 rfl rfl)
theorem dX8_sum_26 : decode cX8_sum 26 = .ok (.if_icmp .ne 48, 3) := dk_160 0 48 (dk_at dksX8_sum_1 2 rfl rfl)
theorem dX8_sum_29 : decode cX8_sum 29 = .ok (.aload_n 0, 1) := dk_42 (dk_at dksX8_sum_1 5 rfl rfl)
theorem dX8_sum_30 : decode cX8_sum 30 = .ok (.invokevirtual 81, 3) := dk_182 0 81 (dk_at dksX8_sum_1 6 rfl rfl)
theorem dX8_sum_33 : decode cX8_sum 33 = .ok (.bipush 43, 2) := dk_16 43 (dk_at dksX8_sum_1 9 rfl rfl)
theorem dX8_sum_35 : decode cX8_sum 35 = .ok (.if_icmp .ne 7, 3) := dk_160 0 7 (dk_at dksX8_sum_1 11 rfl rfl)
theorem dX8_sum_38 : decode cX8_sum 38 = .ok (.iconst 1, 1) := dk_4 (dk_at dksX8_sum_1 14 rfl rfl)
theorem dX8_sum_39 : decode cX8_sum 39 = .ok (.goto 4, 3) := dk_167 0 4 (dk_at dksX8_sum_1 15 rfl rfl)
theorem dX8_sum_42 : decode cX8_sum 42 = .ok (.iconst 0, 1) := dk_3 (dk_at dksX8_sum_1 18 rfl rfl)
theorem dX8_sum_43 : decode cX8_sum 43 = .ok (.istore_n 1, 1) := dk_60 (dk_at dksX8_sum_1 19 rfl rfl)
theorem dX8_sum_44 : decode cX8_sum 44 = .ok (.aload_n 0, 1) := dk_42 (dk_at dksX8_sum_1 20 rfl rfl)
theorem dX8_sum_45 : decode cX8_sum 45 = .ok (.dup, 1) := dk_89 (dk_at dksX8_sum_1 21 rfl rfl)
theorem dX8_sum_46 : decode cX8_sum 46 = .ok (.getfield 60, 3) := dk_180 0 60 (dk_at dksX8_sum_2 0 rfl rfl)
theorem dX8_sum_49 : decode cX8_sum 49 = .ok (.iconst 1, 1) := dk_4 (dk_at dksX8_sum_2 3 rfl rfl)
theorem dX8_sum_50 : decode cX8_sum 50 = .ok (.iadd, 1) := dk_96 (dk_at dksX8_sum_2 4 rfl rfl)
theorem dX8_sum_51 : decode cX8_sum 51 = .ok (.putfield 60, 3) := dk_181 0 60 (dk_at dksX8_sum_2 5 rfl rfl)
theorem dX8_sum_54 : decode cX8_sum 54 = .ok (.aload_n 0, 1) := dk_42 (dk_at dksX8_sum_2 8 rfl rfl)
theorem dX8_sum_55 : decode cX8_sum 55 = .ok (.invokevirtual 141, 3) := dk_182 0 141 (dk_at dksX8_sum_2 9 rfl rfl)
theorem dX8_sum_58 : decode cX8_sum 58 = .ok (.aload_n 0, 1) := dk_42 (dk_at dksX8_sum_2 12 rfl rfl)
theorem dX8_sum_59 : decode cX8_sum 59 = .ok (.iload_n 1, 1) := dk_27 (dk_at dksX8_sum_2 13 rfl rfl)
theorem dX8_sum_60 : decode cX8_sum 60 = .ok (.ifCond .eq 7, 3) := dk_153 0 7 (dk_at dksX8_sum_2 14 rfl rfl)
theorem dX8_sum_63 : decode cX8_sum 63 = .ok (.iconst 2, 1) := dk_5 (dk_at dksX8_sum_2 17 rfl rfl)
theorem dX8_sum_64 : decode cX8_sum 64 = .ok (.goto 4, 3) := dk_167 0 4 (dk_at dksX8_sum_2 18 rfl rfl)
theorem dX8_sum_67 : decode cX8_sum 67 = .ok (.iconst 3, 1) := dk_6 (dk_at dksX8_sum_2 21 rfl rfl)
theorem dX8_sum_68 : decode cX8_sum 68 = .ok (.invokevirtual 135, 3) := dk_182 0 135 (dk_at dksX8_sum_3 0 rfl rfl)
theorem dX8_sum_71 : decode cX8_sum 71 = .ok (.goto (-67), 3) := dk_167 255 189 (dk_at dksX8_sum_3 3 rfl rfl)
theorem dX8_sum_74 : decode cX8_sum 74 = .ok (.return_, 1) := dk_177 (dk_at dksX8_sum_3 6 rfl rfl)
abbrev cX8_term : ByteArray := prog_15_method_22_code
def yX8_term : MethodName := ⟨RX8, "term", "()V"⟩
def dkwX8_term_3 : List UInt8 := [182, 0, 135, 167, 255, 189, 177]
abbrev dktX8_term_3 : List UInt8 := dkwX8_term_3 ++ []
def dkwX8_term_2 : List UInt8 := [180, 0, 60, 4, 96, 181, 0, 60, 42, 182, 0, 138, 42, 27, 153, 0, 7, 7, 167, 0, 4, 8]
abbrev dktX8_term_2 : List UInt8 := dkwX8_term_2 ++ dktX8_term_3
def dkwX8_term_1 : List UInt8 := [16, 47, 160, 0, 48, 42, 182, 0, 81, 16, 42, 160, 0, 7, 4, 167, 0, 4, 3, 60, 42, 89]
abbrev dktX8_term_1 : List UInt8 := dkwX8_term_1 ++ dktX8_term_2
def dkwX8_term_0 : List UInt8 := [42, 182, 0, 138, 42, 182, 0, 77, 153, 0, 66, 42, 182, 0, 81, 16, 42, 159, 0, 12, 42, 182, 0, 81]
abbrev dktX8_term_0 : List UInt8 := dkwX8_term_0 ++ dktX8_term_1
theorem dksX8_term_0 : cX8_term.data.toList.drop 0 = dktX8_term_0 := by decide +kernel
theorem dksX8_term_1 : cX8_term.data.toList.drop 24 = dktX8_term_1 := dk_seg dksX8_term_0 24 rfl rfl
theorem dksX8_term_2 : cX8_term.data.toList.drop 46 = dktX8_term_2 := dk_seg dksX8_term_1 22 rfl rfl
theorem dksX8_term_3 : cX8_term.data.toList.drop 68 = dktX8_term_3 := dk_seg dksX8_term_2 22 rfl rfl
theorem dX8_term_0 : decode cX8_term 0 = .ok (.aload_n 0, 1) := dk_42 (dk_at dksX8_term_0 0 rfl rfl)
theorem dX8_term_1 : decode cX8_term 1 = .ok (.invokevirtual 138, 3) := dk_182 0 138 (dk_at dksX8_term_0 1 rfl rfl)
theorem dX8_term_4 : decode cX8_term 4 = .ok (.aload_n 0, 1) := dk_42 (dk_at dksX8_term_0 4 rfl rfl)
theorem dX8_term_5 : decode cX8_term 5 = .ok (.invokevirtual 77, 3) := dk_182 0 77 (dk_at dksX8_term_0 5 rfl rfl)
theorem dX8_term_8 : decode cX8_term 8 = .ok (.ifCond .eq 66, 3) := dk_153 0 66 (dk_at dksX8_term_0 8 rfl rfl)
theorem dX8_term_11 : decode cX8_term 11 = .ok (.aload_n 0, 1) := dk_42 (dk_at dksX8_term_0 11 rfl rfl)
theorem dX8_term_12 : decode cX8_term 12 = .ok (.invokevirtual 81, 3) := dk_182 0 81 (dk_at dksX8_term_0 12 rfl rfl)
theorem dX8_term_15 : decode cX8_term 15 = .ok (.bipush 42, 2) := dk_16 42 (dk_at dksX8_term_0 15 rfl rfl)
theorem dX8_term_17 : decode cX8_term 17 = .ok (.if_icmp .eq 12, 3) := dk_159 0 12 (dk_at dksX8_term_0 17 rfl rfl)
theorem dX8_term_20 : decode cX8_term 20 = .ok (.aload_n 0, 1) := dk_42 (dk_at dksX8_term_0 20 rfl rfl)
theorem dX8_term_21 : decode cX8_term 21 = .ok (.invokevirtual 81, 3) := dk_182 0 81 (dk_at dksX8_term_0 21 rfl rfl)
theorem dX8_term_24 : decode cX8_term 24 = .ok (.bipush 47, 2) := dk_16 47 (dk_at dksX8_term_1 0 rfl rfl)
theorem dX8_term_26 : decode cX8_term 26 = .ok (.if_icmp .ne 48, 3) := dk_160 0 48 (dk_at dksX8_term_1 2 rfl rfl)
theorem dX8_term_29 : decode cX8_term 29 = .ok (.aload_n 0, 1) := dk_42 (dk_at dksX8_term_1 5 rfl rfl)
theorem dX8_term_30 : decode cX8_term 30 = .ok (.invokevirtual 81, 3) := dk_182 0 81 (dk_at dksX8_term_1 6 rfl rfl)
theorem dX8_term_33 : decode cX8_term 33 = .ok (.bipush 42, 2) := dk_16 42 (dk_at dksX8_term_1 9 rfl rfl)
theorem dX8_term_35 : decode cX8_term 35 = .ok (.if_icmp .ne 7, 3) := dk_160 0 7 (dk_at dksX8_term_1 11 rfl rfl)
theorem dX8_term_38 : decode cX8_term 38 = .ok (.iconst 1, 1) := dk_4 (dk_at dksX8_term_1 14 rfl rfl)
theorem dX8_term_39 : decode cX8_term 39 = .ok (.goto 4, 3) := dk_167 0 4 (dk_at dksX8_term_1 15 rfl rfl)
theorem dX8_term_42 : decode cX8_term 42 = .ok (.iconst 0, 1) := dk_3 (dk_at dksX8_term_1 18 rfl rfl)
theorem dX8_term_43 : decode cX8_term 43 = .ok (.istore_n 1, 1) := dk_60 (dk_at dksX8_term_1 19 rfl rfl)
theorem dX8_term_44 : decode cX8_term 44 = .ok (.aload_n 0, 1) := dk_42 (dk_at dksX8_term_1 20 rfl rfl)
theorem dX8_term_45 : decode cX8_term 45 = .ok (.dup, 1) := dk_89 (dk_at dksX8_term_1 21 rfl rfl)
theorem dX8_term_46 : decode cX8_term 46 = .ok (.getfield 60, 3) := dk_180 0 60 (dk_at dksX8_term_2 0 rfl rfl)
theorem dX8_term_49 : decode cX8_term 49 = .ok (.iconst 1, 1) := dk_4 (dk_at dksX8_term_2 3 rfl rfl)
theorem dX8_term_50 : decode cX8_term 50 = .ok (.iadd, 1) := dk_96 (dk_at dksX8_term_2 4 rfl rfl)
theorem dX8_term_51 : decode cX8_term 51 = .ok (.putfield 60, 3) := dk_181 0 60 (dk_at dksX8_term_2 5 rfl rfl)
theorem dX8_term_54 : decode cX8_term 54 = .ok (.aload_n 0, 1) := dk_42 (dk_at dksX8_term_2 8 rfl rfl)
theorem dX8_term_55 : decode cX8_term 55 = .ok (.invokevirtual 138, 3) := dk_182 0 138 (dk_at dksX8_term_2 9 rfl rfl)
theorem dX8_term_58 : decode cX8_term 58 = .ok (.aload_n 0, 1) := dk_42 (dk_at dksX8_term_2 12 rfl rfl)
theorem dX8_term_59 : decode cX8_term 59 = .ok (.iload_n 1, 1) := dk_27 (dk_at dksX8_term_2 13 rfl rfl)
theorem dX8_term_60 : decode cX8_term 60 = .ok (.ifCond .eq 7, 3) := dk_153 0 7 (dk_at dksX8_term_2 14 rfl rfl)
theorem dX8_term_63 : decode cX8_term 63 = .ok (.iconst 4, 1) := dk_7 (dk_at dksX8_term_2 17 rfl rfl)
theorem dX8_term_64 : decode cX8_term 64 = .ok (.goto 4, 3) := dk_167 0 4 (dk_at dksX8_term_2 18 rfl rfl)
theorem dX8_term_67 : decode cX8_term 67 = .ok (.iconst 5, 1) := dk_8 (dk_at dksX8_term_2 21 rfl rfl)
theorem dX8_term_68 : decode cX8_term 68 = .ok (.invokevirtual 135, 3) := dk_182 0 135 (dk_at dksX8_term_3 0 rfl rfl)
theorem dX8_term_71 : decode cX8_term 71 = .ok (.goto (-67), 3) := dk_167 255 189 (dk_at dksX8_term_3 3 rfl rfl)
theorem dX8_term_74 : decode cX8_term 74 = .ok (.return_, 1) := dk_177 (dk_at dksX8_term_3 6 rfl rfl)
abbrev cX8_factor : ByteArray := prog_15_method_21_code
def yX8_factor : MethodName := ⟨RX8, "factor", "()V"⟩
def dkwX8_factor_7 : List UInt8 := [167, 0, 4, 4, 182, 0, 135, 42, 29, 182, 0, 135, 177]
abbrev dktX8_factor_7 : List UInt8 := dkwX8_factor_7 ++ []
def dkwX8_factor_6 : List UInt8 := [61, 28, 156, 0, 14, 42, 3, 17, 39, 15, 182, 0, 132, 167, 0, 4, 28, 62, 42, 28, 156, 0, 7, 3]
abbrev dktX8_factor_6 : List UInt8 := dkwX8_factor_6 ++ dktX8_factor_7
def dkwX8_factor_5 : List UInt8 := [182, 0, 122, 153, 0, 7, 5, 167, 0, 17, 42, 18, 130, 182, 0, 122, 153, 0, 7, 6, 167, 0, 4, 2]
abbrev dktX8_factor_5 : List UInt8 := dkwX8_factor_5 ++ dktX8_factor_6
def dkwX8_factor_4 : List UInt8 := [153, 0, 7, 3, 167, 0, 43, 42, 18, 126, 182, 0, 122, 153, 0, 7, 4, 167, 0, 30, 42, 18, 128]
abbrev dktX8_factor_4 : List UInt8 := dkwX8_factor_4 ++ dktX8_factor_5
def dkwX8_factor_3 : List UInt8 := [4, 100, 181, 0, 110, 177, 27, 184, 0, 98, 153, 0, 7, 2, 167, 0, 56, 42, 18, 120, 182, 0, 122]
abbrev dktX8_factor_3 : List UInt8 := dkwX8_factor_3 ++ dktX8_factor_4
def dkwX8_factor_2 : List UInt8 := [89, 180, 0, 110, 4, 96, 181, 0, 110, 42, 182, 0, 113, 42, 16, 41, 182, 0, 116, 42, 89, 180, 0, 110]
abbrev dktX8_factor_2 : List UInt8 := dkwX8_factor_2 ++ dktX8_factor_3
def dkwX8_factor_1 : List UInt8 := [160, 0, 13, 42, 16, 251, 42, 180, 0, 60, 182, 0, 94, 42, 89, 180, 0, 60, 4, 96, 181, 0, 60, 42]
abbrev dktX8_factor_1 : List UInt8 := dkwX8_factor_1 ++ dktX8_factor_2
def dkwX8_factor_0 : List UInt8 := [42, 182, 0, 77, 154, 0, 4, 177, 42, 182, 0, 81, 60, 27, 16, 40, 160, 0, 62, 42, 180, 0, 110, 7]
abbrev dktX8_factor_0 : List UInt8 := dkwX8_factor_0 ++ dktX8_factor_1
theorem dksX8_factor_0 : cX8_factor.data.toList.drop 0 = dktX8_factor_0 := by decide +kernel
theorem dksX8_factor_1 : cX8_factor.data.toList.drop 24 = dktX8_factor_1 := dk_seg dksX8_factor_0 24 rfl rfl
theorem dksX8_factor_2 : cX8_factor.data.toList.drop 48 = dktX8_factor_2 := dk_seg dksX8_factor_1 24 rfl rfl
theorem dksX8_factor_3 : cX8_factor.data.toList.drop 72 = dktX8_factor_3 := dk_seg dksX8_factor_2 24 rfl rfl
theorem dksX8_factor_4 : cX8_factor.data.toList.drop 95 = dktX8_factor_4 := dk_seg dksX8_factor_3 23 rfl rfl
theorem dksX8_factor_5 : cX8_factor.data.toList.drop 118 = dktX8_factor_5 := dk_seg dksX8_factor_4 23 rfl rfl
theorem dksX8_factor_6 : cX8_factor.data.toList.drop 142 = dktX8_factor_6 := dk_seg dksX8_factor_5 24 rfl rfl
theorem dksX8_factor_7 : cX8_factor.data.toList.drop 166 = dktX8_factor_7 := dk_seg dksX8_factor_6 24 rfl rfl
theorem dX8_factor_0 : decode cX8_factor 0 = .ok (.aload_n 0, 1) := dk_42 (dk_at dksX8_factor_0 0 rfl rfl)
theorem dX8_factor_1 : decode cX8_factor 1 = .ok (.invokevirtual 77, 3) := dk_182 0 77 (dk_at dksX8_factor_0 1 rfl rfl)
theorem dX8_factor_4 : decode cX8_factor 4 = .ok (.ifCond .ne 4, 3) := dk_154 0 4 (dk_at dksX8_factor_0 4 rfl rfl)
theorem dX8_factor_7 : decode cX8_factor 7 = .ok (.return_, 1) := dk_177 (dk_at dksX8_factor_0 7 rfl rfl)
theorem dX8_factor_8 : decode cX8_factor 8 = .ok (.aload_n 0, 1) := dk_42 (dk_at dksX8_factor_0 8 rfl rfl)
theorem dX8_factor_9 : decode cX8_factor 9 = .ok (.invokevirtual 81, 3) := dk_182 0 81 (dk_at dksX8_factor_0 9 rfl rfl)
theorem dX8_factor_12 : decode cX8_factor 12 = .ok (.istore_n 1, 1) := dk_60 (dk_at dksX8_factor_0 12 rfl rfl)
theorem dX8_factor_13 : decode cX8_factor 13 = .ok (.iload_n 1, 1) := dk_27 (dk_at dksX8_factor_0 13 rfl rfl)
theorem dX8_factor_14 : decode cX8_factor 14 = .ok (.bipush 40, 2) := dk_16 40 (dk_at dksX8_factor_0 14 rfl rfl)
theorem dX8_factor_16 : decode cX8_factor 16 = .ok (.if_icmp .ne 62, 3) := dk_160 0 62 (dk_at dksX8_factor_0 16 rfl rfl)
theorem dX8_factor_19 : decode cX8_factor 19 = .ok (.aload_n 0, 1) := dk_42 (dk_at dksX8_factor_0 19 rfl rfl)
theorem dX8_factor_20 : decode cX8_factor 20 = .ok (.getfield 110, 3) := dk_180 0 110 (dk_at dksX8_factor_0 20 rfl rfl)
theorem dX8_factor_23 : decode cX8_factor 23 = .ok (.iconst 4, 1) := dk_7 (dk_at dksX8_factor_0 23 rfl rfl)
theorem dX8_factor_24 : decode cX8_factor 24 = .ok (.if_icmp .ne 13, 3) := dk_160 0 13 (dk_at dksX8_factor_1 0 rfl rfl)
theorem dX8_factor_27 : decode cX8_factor 27 = .ok (.aload_n 0, 1) := dk_42 (dk_at dksX8_factor_1 3 rfl rfl)
theorem dX8_factor_28 : decode cX8_factor 28 = .ok (.bipush (-5), 2) := dk_16 251 (dk_at dksX8_factor_1 4 rfl rfl)
theorem dX8_factor_30 : decode cX8_factor 30 = .ok (.aload_n 0, 1) := dk_42 (dk_at dksX8_factor_1 6 rfl rfl)
theorem dX8_factor_31 : decode cX8_factor 31 = .ok (.getfield 60, 3) := dk_180 0 60 (dk_at dksX8_factor_1 7 rfl rfl)
theorem dX8_factor_34 : decode cX8_factor 34 = .ok (.invokevirtual 94, 3) := dk_182 0 94 (dk_at dksX8_factor_1 10 rfl rfl)
theorem dX8_factor_37 : decode cX8_factor 37 = .ok (.aload_n 0, 1) := dk_42 (dk_at dksX8_factor_1 13 rfl rfl)
theorem dX8_factor_38 : decode cX8_factor 38 = .ok (.dup, 1) := dk_89 (dk_at dksX8_factor_1 14 rfl rfl)
theorem dX8_factor_39 : decode cX8_factor 39 = .ok (.getfield 60, 3) := dk_180 0 60 (dk_at dksX8_factor_1 15 rfl rfl)
theorem dX8_factor_42 : decode cX8_factor 42 = .ok (.iconst 1, 1) := dk_4 (dk_at dksX8_factor_1 18 rfl rfl)
theorem dX8_factor_43 : decode cX8_factor 43 = .ok (.iadd, 1) := dk_96 (dk_at dksX8_factor_1 19 rfl rfl)
theorem dX8_factor_44 : decode cX8_factor 44 = .ok (.putfield 60, 3) := dk_181 0 60 (dk_at dksX8_factor_1 20 rfl rfl)
theorem dX8_factor_47 : decode cX8_factor 47 = .ok (.aload_n 0, 1) := dk_42 (dk_at dksX8_factor_1 23 rfl rfl)
theorem dX8_factor_48 : decode cX8_factor 48 = .ok (.dup, 1) := dk_89 (dk_at dksX8_factor_2 0 rfl rfl)
theorem dX8_factor_49 : decode cX8_factor 49 = .ok (.getfield 110, 3) := dk_180 0 110 (dk_at dksX8_factor_2 1 rfl rfl)
theorem dX8_factor_52 : decode cX8_factor 52 = .ok (.iconst 1, 1) := dk_4 (dk_at dksX8_factor_2 4 rfl rfl)
theorem dX8_factor_53 : decode cX8_factor 53 = .ok (.iadd, 1) := dk_96 (dk_at dksX8_factor_2 5 rfl rfl)
theorem dX8_factor_54 : decode cX8_factor 54 = .ok (.putfield 110, 3) := dk_181 0 110 (dk_at dksX8_factor_2 6 rfl rfl)
theorem dX8_factor_57 : decode cX8_factor 57 = .ok (.aload_n 0, 1) := dk_42 (dk_at dksX8_factor_2 9 rfl rfl)
theorem dX8_factor_58 : decode cX8_factor 58 = .ok (.invokevirtual 113, 3) := dk_182 0 113 (dk_at dksX8_factor_2 10 rfl rfl)
theorem dX8_factor_61 : decode cX8_factor 61 = .ok (.aload_n 0, 1) := dk_42 (dk_at dksX8_factor_2 13 rfl rfl)
theorem dX8_factor_62 : decode cX8_factor 62 = .ok (.bipush 41, 2) := dk_16 41 (dk_at dksX8_factor_2 14 rfl rfl)
theorem dX8_factor_64 : decode cX8_factor 64 = .ok (.invokevirtual 116, 3) := dk_182 0 116 (dk_at dksX8_factor_2 16 rfl rfl)
theorem dX8_factor_67 : decode cX8_factor 67 = .ok (.aload_n 0, 1) := dk_42 (dk_at dksX8_factor_2 19 rfl rfl)
theorem dX8_factor_68 : decode cX8_factor 68 = .ok (.dup, 1) := dk_89 (dk_at dksX8_factor_2 20 rfl rfl)
theorem dX8_factor_69 : decode cX8_factor 69 = .ok (.getfield 110, 3) := dk_180 0 110 (dk_at dksX8_factor_2 21 rfl rfl)
theorem dX8_factor_72 : decode cX8_factor 72 = .ok (.iconst 1, 1) := dk_4 (dk_at dksX8_factor_3 0 rfl rfl)
theorem dX8_factor_73 : decode cX8_factor 73 = .ok (.isub, 1) := dk_100 (dk_at dksX8_factor_3 1 rfl rfl)
theorem dX8_factor_74 : decode cX8_factor 74 = .ok (.putfield 110, 3) := dk_181 0 110 (dk_at dksX8_factor_3 2 rfl rfl)
theorem dX8_factor_77 : decode cX8_factor 77 = .ok (.return_, 1) := dk_177 (dk_at dksX8_factor_3 5 rfl rfl)
theorem dX8_factor_78 : decode cX8_factor 78 = .ok (.iload_n 1, 1) := dk_27 (dk_at dksX8_factor_3 6 rfl rfl)
theorem dX8_factor_79 : decode cX8_factor 79 = .ok (.invokestatic 98, 3) := dk_184 0 98 (dk_at dksX8_factor_3 7 rfl rfl)
theorem dX8_factor_82 : decode cX8_factor 82 = .ok (.ifCond .eq 7, 3) := dk_153 0 7 (dk_at dksX8_factor_3 10 rfl rfl)
theorem dX8_factor_85 : decode cX8_factor 85 = .ok (.iconst (-1), 1) := dk_2 (dk_at dksX8_factor_3 13 rfl rfl)
theorem dX8_factor_86 : decode cX8_factor 86 = .ok (.goto 56, 3) := dk_167 0 56 (dk_at dksX8_factor_3 14 rfl rfl)
theorem dX8_factor_89 : decode cX8_factor 89 = .ok (.aload_n 0, 1) := dk_42 (dk_at dksX8_factor_3 17 rfl rfl)
theorem dX8_factor_90 : decode cX8_factor 90 = .ok (.ldc 120, 2) := dk_18 120 (dk_at dksX8_factor_3 18 rfl rfl)
theorem dX8_factor_92 : decode cX8_factor 92 = .ok (.invokevirtual 122, 3) := dk_182 0 122 (dk_at dksX8_factor_3 20 rfl rfl)
theorem dX8_factor_95 : decode cX8_factor 95 = .ok (.ifCond .eq 7, 3) := dk_153 0 7 (dk_at dksX8_factor_4 0 rfl rfl)
theorem dX8_factor_98 : decode cX8_factor 98 = .ok (.iconst 0, 1) := dk_3 (dk_at dksX8_factor_4 3 rfl rfl)
theorem dX8_factor_99 : decode cX8_factor 99 = .ok (.goto 43, 3) := dk_167 0 43 (dk_at dksX8_factor_4 4 rfl rfl)
theorem dX8_factor_102 : decode cX8_factor 102 = .ok (.aload_n 0, 1) := dk_42 (dk_at dksX8_factor_4 7 rfl rfl)
theorem dX8_factor_103 : decode cX8_factor 103 = .ok (.ldc 126, 2) := dk_18 126 (dk_at dksX8_factor_4 8 rfl rfl)
theorem dX8_factor_105 : decode cX8_factor 105 = .ok (.invokevirtual 122, 3) := dk_182 0 122 (dk_at dksX8_factor_4 10 rfl rfl)
theorem dX8_factor_108 : decode cX8_factor 108 = .ok (.ifCond .eq 7, 3) := dk_153 0 7 (dk_at dksX8_factor_4 13 rfl rfl)
theorem dX8_factor_111 : decode cX8_factor 111 = .ok (.iconst 1, 1) := dk_4 (dk_at dksX8_factor_4 16 rfl rfl)
theorem dX8_factor_112 : decode cX8_factor 112 = .ok (.goto 30, 3) := dk_167 0 30 (dk_at dksX8_factor_4 17 rfl rfl)
theorem dX8_factor_115 : decode cX8_factor 115 = .ok (.aload_n 0, 1) := dk_42 (dk_at dksX8_factor_4 20 rfl rfl)
theorem dX8_factor_116 : decode cX8_factor 116 = .ok (.ldc 128, 2) := dk_18 128 (dk_at dksX8_factor_4 21 rfl rfl)
theorem dX8_factor_118 : decode cX8_factor 118 = .ok (.invokevirtual 122, 3) := dk_182 0 122 (dk_at dksX8_factor_5 0 rfl rfl)
theorem dX8_factor_121 : decode cX8_factor 121 = .ok (.ifCond .eq 7, 3) := dk_153 0 7 (dk_at dksX8_factor_5 3 rfl rfl)
theorem dX8_factor_124 : decode cX8_factor 124 = .ok (.iconst 2, 1) := dk_5 (dk_at dksX8_factor_5 6 rfl rfl)
theorem dX8_factor_125 : decode cX8_factor 125 = .ok (.goto 17, 3) := dk_167 0 17 (dk_at dksX8_factor_5 7 rfl rfl)
theorem dX8_factor_128 : decode cX8_factor 128 = .ok (.aload_n 0, 1) := dk_42 (dk_at dksX8_factor_5 10 rfl rfl)
theorem dX8_factor_129 : decode cX8_factor 129 = .ok (.ldc 130, 2) := dk_18 130 (dk_at dksX8_factor_5 11 rfl rfl)
theorem dX8_factor_131 : decode cX8_factor 131 = .ok (.invokevirtual 122, 3) := dk_182 0 122 (dk_at dksX8_factor_5 13 rfl rfl)
theorem dX8_factor_134 : decode cX8_factor 134 = .ok (.ifCond .eq 7, 3) := dk_153 0 7 (dk_at dksX8_factor_5 16 rfl rfl)
theorem dX8_factor_137 : decode cX8_factor 137 = .ok (.iconst 3, 1) := dk_6 (dk_at dksX8_factor_5 19 rfl rfl)
theorem dX8_factor_138 : decode cX8_factor 138 = .ok (.goto 4, 3) := dk_167 0 4 (dk_at dksX8_factor_5 20 rfl rfl)
theorem dX8_factor_141 : decode cX8_factor 141 = .ok (.iconst (-1), 1) := dk_2 (dk_at dksX8_factor_5 23 rfl rfl)
theorem dX8_factor_142 : decode cX8_factor 142 = .ok (.istore_n 2, 1) := dk_61 (dk_at dksX8_factor_6 0 rfl rfl)
theorem dX8_factor_143 : decode cX8_factor 143 = .ok (.iload_n 2, 1) := dk_28 (dk_at dksX8_factor_6 1 rfl rfl)
theorem dX8_factor_144 : decode cX8_factor 144 = .ok (.ifCond .ge 14, 3) := dk_156 0 14 (dk_at dksX8_factor_6 2 rfl rfl)
theorem dX8_factor_147 : decode cX8_factor 147 = .ok (.aload_n 0, 1) := dk_42 (dk_at dksX8_factor_6 5 rfl rfl)
theorem dX8_factor_148 : decode cX8_factor 148 = .ok (.iconst 0, 1) := dk_3 (dk_at dksX8_factor_6 6 rfl rfl)
theorem dX8_factor_149 : decode cX8_factor 149 = .ok (.sipush 9999, 3) := dk_17 39 15 (dk_at dksX8_factor_6 7 rfl rfl)
theorem dX8_factor_152 : decode cX8_factor 152 = .ok (.invokevirtual 132, 3) := dk_182 0 132 (dk_at dksX8_factor_6 10 rfl rfl)
theorem dX8_factor_155 : decode cX8_factor 155 = .ok (.goto 4, 3) := dk_167 0 4 (dk_at dksX8_factor_6 13 rfl rfl)
theorem dX8_factor_158 : decode cX8_factor 158 = .ok (.iload_n 2, 1) := dk_28 (dk_at dksX8_factor_6 16 rfl rfl)
theorem dX8_factor_159 : decode cX8_factor 159 = .ok (.istore_n 3, 1) := dk_62 (dk_at dksX8_factor_6 17 rfl rfl)
theorem dX8_factor_160 : decode cX8_factor 160 = .ok (.aload_n 0, 1) := dk_42 (dk_at dksX8_factor_6 18 rfl rfl)
theorem dX8_factor_161 : decode cX8_factor 161 = .ok (.iload_n 2, 1) := dk_28 (dk_at dksX8_factor_6 19 rfl rfl)
theorem dX8_factor_162 : decode cX8_factor 162 = .ok (.ifCond .ge 7, 3) := dk_156 0 7 (dk_at dksX8_factor_6 20 rfl rfl)
theorem dX8_factor_165 : decode cX8_factor 165 = .ok (.iconst 0, 1) := dk_3 (dk_at dksX8_factor_6 23 rfl rfl)
theorem dX8_factor_166 : decode cX8_factor 166 = .ok (.goto 4, 3) := dk_167 0 4 (dk_at dksX8_factor_7 0 rfl rfl)
theorem dX8_factor_169 : decode cX8_factor 169 = .ok (.iconst 1, 1) := dk_4 (dk_at dksX8_factor_7 3 rfl rfl)
theorem dX8_factor_170 : decode cX8_factor 170 = .ok (.invokevirtual 135, 3) := dk_182 0 135 (dk_at dksX8_factor_7 4 rfl rfl)
theorem dX8_factor_173 : decode cX8_factor 173 = .ok (.aload_n 0, 1) := dk_42 (dk_at dksX8_factor_7 7 rfl rfl)
theorem dX8_factor_174 : decode cX8_factor 174 = .ok (.iload_n 3, 1) := dk_29 (dk_at dksX8_factor_7 8 rfl rfl)
theorem dX8_factor_175 : decode cX8_factor 175 = .ok (.invokevirtual 135, 3) := dk_182 0 135 (dk_at dksX8_factor_7 9 rfl rfl)
theorem dX8_factor_178 : decode cX8_factor 178 = .ok (.return_, 1) := dk_177 (dk_at dksX8_factor_7 12 rfl rfl)
abbrev cX8_emit : ByteArray := prog_15_method_20_code
def yX8_emit : MethodName := ⟨RX8, "emit", "(I)V"⟩
def dkwX8_emit_1 : List UInt8 := [42, 180, 0, 20, 7, 92, 46, 4, 96, 79, 177]
abbrev dktX8_emit_1 : List UInt8 := dkwX8_emit_1 ++ []
def dkwX8_emit_0 : List UInt8 := [42, 182, 0, 77, 154, 0, 4, 177, 42, 180, 0, 20, 17, 0, 155, 42, 180, 0, 20, 7, 46, 96, 27, 79]
abbrev dktX8_emit_0 : List UInt8 := dkwX8_emit_0 ++ dktX8_emit_1
theorem dksX8_emit_0 : cX8_emit.data.toList.drop 0 = dktX8_emit_0 := by decide +kernel
theorem dksX8_emit_1 : cX8_emit.data.toList.drop 24 = dktX8_emit_1 := dk_seg dksX8_emit_0 24 rfl rfl
theorem dX8_emit_0 : decode cX8_emit 0 = .ok (.aload_n 0, 1) := dk_42 (dk_at dksX8_emit_0 0 rfl rfl)
theorem dX8_emit_1 : decode cX8_emit 1 = .ok (.invokevirtual 77, 3) := dk_182 0 77 (dk_at dksX8_emit_0 1 rfl rfl)
theorem dX8_emit_4 : decode cX8_emit 4 = .ok (.ifCond .ne 4, 3) := dk_154 0 4 (dk_at dksX8_emit_0 4 rfl rfl)
theorem dX8_emit_7 : decode cX8_emit 7 = .ok (.return_, 1) := dk_177 (dk_at dksX8_emit_0 7 rfl rfl)
theorem dX8_emit_8 : decode cX8_emit 8 = .ok (.aload_n 0, 1) := dk_42 (dk_at dksX8_emit_0 8 rfl rfl)
theorem dX8_emit_9 : decode cX8_emit 9 = .ok (.getfield 20, 3) := dk_180 0 20 (dk_at dksX8_emit_0 9 rfl rfl)
theorem dX8_emit_12 : decode cX8_emit 12 = .ok (.sipush 155, 3) := dk_17 0 155 (dk_at dksX8_emit_0 12 rfl rfl)
theorem dX8_emit_15 : decode cX8_emit 15 = .ok (.aload_n 0, 1) := dk_42 (dk_at dksX8_emit_0 15 rfl rfl)
theorem dX8_emit_16 : decode cX8_emit 16 = .ok (.getfield 20, 3) := dk_180 0 20 (dk_at dksX8_emit_0 16 rfl rfl)
theorem dX8_emit_19 : decode cX8_emit 19 = .ok (.iconst 4, 1) := dk_7 (dk_at dksX8_emit_0 19 rfl rfl)
theorem dX8_emit_20 : decode cX8_emit 20 = .ok (.iaload, 1) := dk_46 (dk_at dksX8_emit_0 20 rfl rfl)
theorem dX8_emit_21 : decode cX8_emit 21 = .ok (.iadd, 1) := dk_96 (dk_at dksX8_emit_0 21 rfl rfl)
theorem dX8_emit_22 : decode cX8_emit 22 = .ok (.iload_n 1, 1) := dk_27 (dk_at dksX8_emit_0 22 rfl rfl)
theorem dX8_emit_23 : decode cX8_emit 23 = .ok (.iastore, 1) := dk_79 (dk_at dksX8_emit_0 23 rfl rfl)
theorem dX8_emit_24 : decode cX8_emit 24 = .ok (.aload_n 0, 1) := dk_42 (dk_at dksX8_emit_1 0 rfl rfl)
theorem dX8_emit_25 : decode cX8_emit 25 = .ok (.getfield 20, 3) := dk_180 0 20 (dk_at dksX8_emit_1 1 rfl rfl)
theorem dX8_emit_28 : decode cX8_emit 28 = .ok (.iconst 4, 1) := dk_7 (dk_at dksX8_emit_1 4 rfl rfl)
theorem dX8_emit_29 : decode cX8_emit 29 = .ok (.dup2, 1) := dk_92 (dk_at dksX8_emit_1 5 rfl rfl)
theorem dX8_emit_30 : decode cX8_emit 30 = .ok (.iaload, 1) := dk_46 (dk_at dksX8_emit_1 6 rfl rfl)
theorem dX8_emit_31 : decode cX8_emit 31 = .ok (.iconst 1, 1) := dk_4 (dk_at dksX8_emit_1 7 rfl rfl)
theorem dX8_emit_32 : decode cX8_emit 32 = .ok (.iadd, 1) := dk_96 (dk_at dksX8_emit_1 8 rfl rfl)
theorem dX8_emit_33 : decode cX8_emit 33 = .ok (.iastore, 1) := dk_79 (dk_at dksX8_emit_1 9 rfl rfl)
theorem dX8_emit_34 : decode cX8_emit 34 = .ok (.return_, 1) := dk_177 (dk_at dksX8_emit_1 10 rfl rfl)
abbrev cX8_remember : ByteArray := prog_15_method_82_code
def yX8_remember : MethodName := ⟨RX8, "remember", "()V"⟩
def dkwX8_remember_3 : List UInt8 := [4, 96, 181, 1, 47, 177]
abbrev dktX8_remember_3 : List UInt8 := dkwX8_remember_3 ++ []
def dkwX8_remember_2 : List UInt8 := [181, 1, 47, 42, 180, 0, 17, 42, 180, 0, 28, 42, 180, 1, 47, 50, 184, 0, 186, 42, 89, 180, 1, 47]
abbrev dktX8_remember_2 : List UInt8 := dkwX8_remember_2 ++ dktX8_remember_3
def dkwX8_remember_1 : List UInt8 := [180, 0, 28, 27, 4, 100, 50, 184, 0, 186, 132, 1, 1, 167, 255, 230, 42, 89, 180, 1, 47, 4, 100]
abbrev dktX8_remember_1 : List UInt8 := dkwX8_remember_1 ++ dktX8_remember_2
def dkwX8_remember_0 : List UInt8 := [42, 180, 1, 47, 16, 8, 160, 0, 44, 4, 60, 27, 16, 8, 162, 0, 26, 42, 180, 0, 28, 27, 50, 42]
abbrev dktX8_remember_0 : List UInt8 := dkwX8_remember_0 ++ dktX8_remember_1
theorem dksX8_remember_0 : cX8_remember.data.toList.drop 0 = dktX8_remember_0 := by decide +kernel
theorem dksX8_remember_1 : cX8_remember.data.toList.drop 24 = dktX8_remember_1 := dk_seg dksX8_remember_0 24 rfl rfl
theorem dksX8_remember_2 : cX8_remember.data.toList.drop 47 = dktX8_remember_2 := dk_seg dksX8_remember_1 23 rfl rfl
theorem dksX8_remember_3 : cX8_remember.data.toList.drop 71 = dktX8_remember_3 := dk_seg dksX8_remember_2 24 rfl rfl
theorem dX8_remember_0 : decode cX8_remember 0 = .ok (.aload_n 0, 1) := dk_42 (dk_at dksX8_remember_0 0 rfl rfl)
theorem dX8_remember_1 : decode cX8_remember 1 = .ok (.getfield 303, 3) := dk_180 1 47 (dk_at dksX8_remember_0 1 rfl rfl)
theorem dX8_remember_4 : decode cX8_remember 4 = .ok (.bipush 8, 2) := dk_16 8 (dk_at dksX8_remember_0 4 rfl rfl)
theorem dX8_remember_6 : decode cX8_remember 6 = .ok (.if_icmp .ne 44, 3) := dk_160 0 44 (dk_at dksX8_remember_0 6 rfl rfl)
theorem dX8_remember_9 : decode cX8_remember 9 = .ok (.iconst 1, 1) := dk_4 (dk_at dksX8_remember_0 9 rfl rfl)
theorem dX8_remember_10 : decode cX8_remember 10 = .ok (.istore_n 1, 1) := dk_60 (dk_at dksX8_remember_0 10 rfl rfl)
theorem dX8_remember_11 : decode cX8_remember 11 = .ok (.iload_n 1, 1) := dk_27 (dk_at dksX8_remember_0 11 rfl rfl)
theorem dX8_remember_12 : decode cX8_remember 12 = .ok (.bipush 8, 2) := dk_16 8 (dk_at dksX8_remember_0 12 rfl rfl)
theorem dX8_remember_14 : decode cX8_remember 14 = .ok (.if_icmp .ge 26, 3) := dk_162 0 26 (dk_at dksX8_remember_0 14 rfl rfl)
theorem dX8_remember_17 : decode cX8_remember 17 = .ok (.aload_n 0, 1) := dk_42 (dk_at dksX8_remember_0 17 rfl rfl)
theorem dX8_remember_18 : decode cX8_remember 18 = .ok (.getfield 28, 3) := dk_180 0 28 (dk_at dksX8_remember_0 18 rfl rfl)
theorem dX8_remember_21 : decode cX8_remember 21 = .ok (.iload_n 1, 1) := dk_27 (dk_at dksX8_remember_0 21 rfl rfl)
theorem dX8_remember_22 : decode cX8_remember 22 = .ok (.aaload, 1) := dk_50 (dk_at dksX8_remember_0 22 rfl rfl)
theorem dX8_remember_23 : decode cX8_remember 23 = .ok (.aload_n 0, 1) := dk_42 (dk_at dksX8_remember_0 23 rfl rfl)
theorem dX8_remember_24 : decode cX8_remember 24 = .ok (.getfield 28, 3) := dk_180 0 28 (dk_at dksX8_remember_1 0 rfl rfl)
theorem dX8_remember_27 : decode cX8_remember 27 = .ok (.iload_n 1, 1) := dk_27 (dk_at dksX8_remember_1 3 rfl rfl)
theorem dX8_remember_28 : decode cX8_remember 28 = .ok (.iconst 1, 1) := dk_4 (dk_at dksX8_remember_1 4 rfl rfl)
theorem dX8_remember_29 : decode cX8_remember 29 = .ok (.isub, 1) := dk_100 (dk_at dksX8_remember_1 5 rfl rfl)
theorem dX8_remember_30 : decode cX8_remember 30 = .ok (.aaload, 1) := dk_50 (dk_at dksX8_remember_1 6 rfl rfl)
theorem dX8_remember_31 : decode cX8_remember 31 = .ok (.invokestatic 186, 3) := dk_184 0 186 (dk_at dksX8_remember_1 7 rfl rfl)
theorem dX8_remember_34 : decode cX8_remember 34 = .ok (.iinc 1 1, 3) := dk_132 1 1 (dk_at dksX8_remember_1 10 rfl rfl)
theorem dX8_remember_37 : decode cX8_remember 37 = .ok (.goto (-26), 3) := dk_167 255 230 (dk_at dksX8_remember_1 13 rfl rfl)
theorem dX8_remember_40 : decode cX8_remember 40 = .ok (.aload_n 0, 1) := dk_42 (dk_at dksX8_remember_1 16 rfl rfl)
theorem dX8_remember_41 : decode cX8_remember 41 = .ok (.dup, 1) := dk_89 (dk_at dksX8_remember_1 17 rfl rfl)
theorem dX8_remember_42 : decode cX8_remember 42 = .ok (.getfield 303, 3) := dk_180 1 47 (dk_at dksX8_remember_1 18 rfl rfl)
theorem dX8_remember_45 : decode cX8_remember 45 = .ok (.iconst 1, 1) := dk_4 (dk_at dksX8_remember_1 21 rfl rfl)
theorem dX8_remember_46 : decode cX8_remember 46 = .ok (.isub, 1) := dk_100 (dk_at dksX8_remember_1 22 rfl rfl)
theorem dX8_remember_47 : decode cX8_remember 47 = .ok (.putfield 303, 3) := dk_181 1 47 (dk_at dksX8_remember_2 0 rfl rfl)
theorem dX8_remember_50 : decode cX8_remember 50 = .ok (.aload_n 0, 1) := dk_42 (dk_at dksX8_remember_2 3 rfl rfl)
theorem dX8_remember_51 : decode cX8_remember 51 = .ok (.getfield 17, 3) := dk_180 0 17 (dk_at dksX8_remember_2 4 rfl rfl)
theorem dX8_remember_54 : decode cX8_remember 54 = .ok (.aload_n 0, 1) := dk_42 (dk_at dksX8_remember_2 7 rfl rfl)
theorem dX8_remember_55 : decode cX8_remember 55 = .ok (.getfield 28, 3) := dk_180 0 28 (dk_at dksX8_remember_2 8 rfl rfl)
theorem dX8_remember_58 : decode cX8_remember 58 = .ok (.aload_n 0, 1) := dk_42 (dk_at dksX8_remember_2 11 rfl rfl)
theorem dX8_remember_59 : decode cX8_remember 59 = .ok (.getfield 303, 3) := dk_180 1 47 (dk_at dksX8_remember_2 12 rfl rfl)
theorem dX8_remember_62 : decode cX8_remember 62 = .ok (.aaload, 1) := dk_50 (dk_at dksX8_remember_2 15 rfl rfl)
theorem dX8_remember_63 : decode cX8_remember 63 = .ok (.invokestatic 186, 3) := dk_184 0 186 (dk_at dksX8_remember_2 16 rfl rfl)
theorem dX8_remember_66 : decode cX8_remember 66 = .ok (.aload_n 0, 1) := dk_42 (dk_at dksX8_remember_2 19 rfl rfl)
theorem dX8_remember_67 : decode cX8_remember 67 = .ok (.dup, 1) := dk_89 (dk_at dksX8_remember_2 20 rfl rfl)
theorem dX8_remember_68 : decode cX8_remember 68 = .ok (.getfield 303, 3) := dk_180 1 47 (dk_at dksX8_remember_2 21 rfl rfl)
theorem dX8_remember_71 : decode cX8_remember 71 = .ok (.iconst 1, 1) := dk_4 (dk_at dksX8_remember_3 0 rfl rfl)
theorem dX8_remember_72 : decode cX8_remember 72 = .ok (.iadd, 1) := dk_96 (dk_at dksX8_remember_3 1 rfl rfl)
theorem dX8_remember_73 : decode cX8_remember 73 = .ok (.putfield 303, 3) := dk_181 1 47 (dk_at dksX8_remember_3 2 rfl rfl)
theorem dX8_remember_76 : decode cX8_remember 76 = .ok (.return_, 1) := dk_177 (dk_at dksX8_remember_3 5 rfl rfl)
abbrev cX8_copy : ByteArray := prog_15_method_7_code
def yX8_copy : MethodName := ⟨RX8, "copy", "([I[I)V"⟩
def dkwX8_copy_0 : List UInt8 := [3, 61, 28, 17, 6, 119, 162, 0, 15, 43, 28, 42, 28, 46, 79, 132, 2, 1, 167, 255, 240, 177]
abbrev dktX8_copy_0 : List UInt8 := dkwX8_copy_0 ++ []
theorem dksX8_copy_0 : cX8_copy.data.toList.drop 0 = dktX8_copy_0 := by decide +kernel
theorem dX8_copy_0 : decode cX8_copy 0 = .ok (.iconst 0, 1) := dk_3 (dk_at dksX8_copy_0 0 rfl rfl)
theorem dX8_copy_1 : decode cX8_copy 1 = .ok (.istore_n 2, 1) := dk_61 (dk_at dksX8_copy_0 1 rfl rfl)
theorem dX8_copy_2 : decode cX8_copy 2 = .ok (.iload_n 2, 1) := dk_28 (dk_at dksX8_copy_0 2 rfl rfl)
theorem dX8_copy_3 : decode cX8_copy 3 = .ok (.sipush 1655, 3) := dk_17 6 119 (dk_at dksX8_copy_0 3 rfl rfl)
theorem dX8_copy_6 : decode cX8_copy 6 = .ok (.if_icmp .ge 15, 3) := dk_162 0 15 (dk_at dksX8_copy_0 6 rfl rfl)
theorem dX8_copy_9 : decode cX8_copy 9 = .ok (.aload_n 1, 1) := dk_43 (dk_at dksX8_copy_0 9 rfl rfl)
theorem dX8_copy_10 : decode cX8_copy 10 = .ok (.iload_n 2, 1) := dk_28 (dk_at dksX8_copy_0 10 rfl rfl)
theorem dX8_copy_11 : decode cX8_copy 11 = .ok (.aload_n 0, 1) := dk_42 (dk_at dksX8_copy_0 11 rfl rfl)
theorem dX8_copy_12 : decode cX8_copy 12 = .ok (.iload_n 2, 1) := dk_28 (dk_at dksX8_copy_0 12 rfl rfl)
theorem dX8_copy_13 : decode cX8_copy 13 = .ok (.iaload, 1) := dk_46 (dk_at dksX8_copy_0 13 rfl rfl)
theorem dX8_copy_14 : decode cX8_copy 14 = .ok (.iastore, 1) := dk_79 (dk_at dksX8_copy_0 14 rfl rfl)
theorem dX8_copy_15 : decode cX8_copy 15 = .ok (.iinc 2 1, 3) := dk_132 2 1 (dk_at dksX8_copy_0 15 rfl rfl)
theorem dX8_copy_18 : decode cX8_copy 18 = .ok (.goto (-16), 3) := dk_167 255 240 (dk_at dksX8_copy_0 18 rfl rfl)
theorem dX8_copy_21 : decode cX8_copy 21 = .ok (.return_, 1) := dk_177 (dk_at dksX8_copy_0 21 rfl rfl)
abbrev cX8_layFirst : ByteArray := prog_15_method_31_code
def yX8_layFirst : MethodName := ⟨RX8, "layFirst", "()V"⟩
def dkwX8_layFirst_5 : List UInt8 := [167, 255, 185, 132, 1, 1, 167, 255, 167, 177]
abbrev dktX8_layFirst_5 : List UInt8 := dkwX8_layFirst_5 ++ []
def dkwX8_layFirst_4 : List UInt8 := [16, 6, 27, 104, 28, 96, 79, 42, 180, 0, 17, 29, 5, 96, 92, 46, 4, 96, 79, 132, 2, 1]
abbrev dktX8_layFirst_4 : List UInt8 := dkwX8_layFirst_4 ++ dktX8_layFirst_5
def dkwX8_layFirst_3 : List UInt8 := [184, 0, 155, 46, 184, 0, 158, 62, 42, 180, 0, 17, 29, 6, 96, 42, 180, 0, 17, 29, 5, 96, 46, 96]
abbrev dktX8_layFirst_3 : List UInt8 := dkwX8_layFirst_3 ++ dktX8_layFirst_4
def dkwX8_layFirst_2 : List UInt8 := [180, 0, 17, 27, 184, 0, 147, 6, 96, 46, 162, 0, 62, 42, 180, 0, 17, 16, 6, 27, 104, 28, 96]
abbrev dktX8_layFirst_2 : List UInt8 := dkwX8_layFirst_2 ++ dktX8_layFirst_3
def dkwX8_layFirst_1 : List UInt8 := [132, 1, 1, 167, 255, 231, 3, 60, 27, 42, 180, 0, 17, 5, 46, 162, 0, 85, 3, 61, 28, 42]
abbrev dktX8_layFirst_1 : List UInt8 := dkwX8_layFirst_1 ++ dktX8_layFirst_2
def dkwX8_layFirst_0 : List UInt8 := [3, 60, 27, 42, 180, 0, 17, 3, 46, 162, 0, 21, 42, 180, 0, 17, 27, 184, 0, 158, 5, 96, 3, 79]
abbrev dktX8_layFirst_0 : List UInt8 := dkwX8_layFirst_0 ++ dktX8_layFirst_1
theorem dksX8_layFirst_0 : cX8_layFirst.data.toList.drop 0 = dktX8_layFirst_0 := by decide +kernel
theorem dksX8_layFirst_1 : cX8_layFirst.data.toList.drop 24 = dktX8_layFirst_1 := dk_seg dksX8_layFirst_0 24 rfl rfl
theorem dksX8_layFirst_2 : cX8_layFirst.data.toList.drop 46 = dktX8_layFirst_2 := dk_seg dksX8_layFirst_1 22 rfl rfl
theorem dksX8_layFirst_3 : cX8_layFirst.data.toList.drop 69 = dktX8_layFirst_3 := dk_seg dksX8_layFirst_2 23 rfl rfl
theorem dksX8_layFirst_4 : cX8_layFirst.data.toList.drop 93 = dktX8_layFirst_4 := dk_seg dksX8_layFirst_3 24 rfl rfl
theorem dksX8_layFirst_5 : cX8_layFirst.data.toList.drop 115 = dktX8_layFirst_5 := dk_seg dksX8_layFirst_4 22 rfl rfl
theorem dX8_layFirst_0 : decode cX8_layFirst 0 = .ok (.iconst 0, 1) := dk_3 (dk_at dksX8_layFirst_0 0 rfl rfl)
theorem dX8_layFirst_1 : decode cX8_layFirst 1 = .ok (.istore_n 1, 1) := dk_60 (dk_at dksX8_layFirst_0 1 rfl rfl)
theorem dX8_layFirst_2 : decode cX8_layFirst 2 = .ok (.iload_n 1, 1) := dk_27 (dk_at dksX8_layFirst_0 2 rfl rfl)
theorem dX8_layFirst_3 : decode cX8_layFirst 3 = .ok (.aload_n 0, 1) := dk_42 (dk_at dksX8_layFirst_0 3 rfl rfl)
theorem dX8_layFirst_4 : decode cX8_layFirst 4 = .ok (.getfield 17, 3) := dk_180 0 17 (dk_at dksX8_layFirst_0 4 rfl rfl)
theorem dX8_layFirst_7 : decode cX8_layFirst 7 = .ok (.iconst 0, 1) := dk_3 (dk_at dksX8_layFirst_0 7 rfl rfl)
theorem dX8_layFirst_8 : decode cX8_layFirst 8 = .ok (.iaload, 1) := dk_46 (dk_at dksX8_layFirst_0 8 rfl rfl)
theorem dX8_layFirst_9 : decode cX8_layFirst 9 = .ok (.if_icmp .ge 21, 3) := dk_162 0 21 (dk_at dksX8_layFirst_0 9 rfl rfl)
theorem dX8_layFirst_12 : decode cX8_layFirst 12 = .ok (.aload_n 0, 1) := dk_42 (dk_at dksX8_layFirst_0 12 rfl rfl)
theorem dX8_layFirst_13 : decode cX8_layFirst 13 = .ok (.getfield 17, 3) := dk_180 0 17 (dk_at dksX8_layFirst_0 13 rfl rfl)
theorem dX8_layFirst_16 : decode cX8_layFirst 16 = .ok (.iload_n 1, 1) := dk_27 (dk_at dksX8_layFirst_0 16 rfl rfl)
theorem dX8_layFirst_17 : decode cX8_layFirst 17 = .ok (.invokestatic 158, 3) := dk_184 0 158 (dk_at dksX8_layFirst_0 17 rfl rfl)
theorem dX8_layFirst_20 : decode cX8_layFirst 20 = .ok (.iconst 2, 1) := dk_5 (dk_at dksX8_layFirst_0 20 rfl rfl)
theorem dX8_layFirst_21 : decode cX8_layFirst 21 = .ok (.iadd, 1) := dk_96 (dk_at dksX8_layFirst_0 21 rfl rfl)
theorem dX8_layFirst_22 : decode cX8_layFirst 22 = .ok (.iconst 0, 1) := dk_3 (dk_at dksX8_layFirst_0 22 rfl rfl)
theorem dX8_layFirst_23 : decode cX8_layFirst 23 = .ok (.iastore, 1) := dk_79 (dk_at dksX8_layFirst_0 23 rfl rfl)
theorem dX8_layFirst_24 : decode cX8_layFirst 24 = .ok (.iinc 1 1, 3) := dk_132 1 1 (dk_at dksX8_layFirst_1 0 rfl rfl)
theorem dX8_layFirst_27 : decode cX8_layFirst 27 = .ok (.goto (-25), 3) := dk_167 255 231 (dk_at dksX8_layFirst_1 3 rfl rfl)
theorem dX8_layFirst_30 : decode cX8_layFirst 30 = .ok (.iconst 0, 1) := dk_3 (dk_at dksX8_layFirst_1 6 rfl rfl)
theorem dX8_layFirst_31 : decode cX8_layFirst 31 = .ok (.istore_n 1, 1) := dk_60 (dk_at dksX8_layFirst_1 7 rfl rfl)
theorem dX8_layFirst_32 : decode cX8_layFirst 32 = .ok (.iload_n 1, 1) := dk_27 (dk_at dksX8_layFirst_1 8 rfl rfl)
theorem dX8_layFirst_33 : decode cX8_layFirst 33 = .ok (.aload_n 0, 1) := dk_42 (dk_at dksX8_layFirst_1 9 rfl rfl)
theorem dX8_layFirst_34 : decode cX8_layFirst 34 = .ok (.getfield 17, 3) := dk_180 0 17 (dk_at dksX8_layFirst_1 10 rfl rfl)
theorem dX8_layFirst_37 : decode cX8_layFirst 37 = .ok (.iconst 2, 1) := dk_5 (dk_at dksX8_layFirst_1 13 rfl rfl)
theorem dX8_layFirst_38 : decode cX8_layFirst 38 = .ok (.iaload, 1) := dk_46 (dk_at dksX8_layFirst_1 14 rfl rfl)
theorem dX8_layFirst_39 : decode cX8_layFirst 39 = .ok (.if_icmp .ge 85, 3) := dk_162 0 85 (dk_at dksX8_layFirst_1 15 rfl rfl)
theorem dX8_layFirst_42 : decode cX8_layFirst 42 = .ok (.iconst 0, 1) := dk_3 (dk_at dksX8_layFirst_1 18 rfl rfl)
theorem dX8_layFirst_43 : decode cX8_layFirst 43 = .ok (.istore_n 2, 1) := dk_61 (dk_at dksX8_layFirst_1 19 rfl rfl)
theorem dX8_layFirst_44 : decode cX8_layFirst 44 = .ok (.iload_n 2, 1) := dk_28 (dk_at dksX8_layFirst_1 20 rfl rfl)
theorem dX8_layFirst_45 : decode cX8_layFirst 45 = .ok (.aload_n 0, 1) := dk_42 (dk_at dksX8_layFirst_1 21 rfl rfl)
theorem dX8_layFirst_46 : decode cX8_layFirst 46 = .ok (.getfield 17, 3) := dk_180 0 17 (dk_at dksX8_layFirst_2 0 rfl rfl)
theorem dX8_layFirst_49 : decode cX8_layFirst 49 = .ok (.iload_n 1, 1) := dk_27 (dk_at dksX8_layFirst_2 3 rfl rfl)
theorem dX8_layFirst_50 : decode cX8_layFirst 50 = .ok (.invokestatic 147, 3) := dk_184 0 147 (dk_at dksX8_layFirst_2 4 rfl rfl)
theorem dX8_layFirst_53 : decode cX8_layFirst 53 = .ok (.iconst 3, 1) := dk_6 (dk_at dksX8_layFirst_2 7 rfl rfl)
theorem dX8_layFirst_54 : decode cX8_layFirst 54 = .ok (.iadd, 1) := dk_96 (dk_at dksX8_layFirst_2 8 rfl rfl)
theorem dX8_layFirst_55 : decode cX8_layFirst 55 = .ok (.iaload, 1) := dk_46 (dk_at dksX8_layFirst_2 9 rfl rfl)
theorem dX8_layFirst_56 : decode cX8_layFirst 56 = .ok (.if_icmp .ge 62, 3) := dk_162 0 62 (dk_at dksX8_layFirst_2 10 rfl rfl)
theorem dX8_layFirst_59 : decode cX8_layFirst 59 = .ok (.aload_n 0, 1) := dk_42 (dk_at dksX8_layFirst_2 13 rfl rfl)
theorem dX8_layFirst_60 : decode cX8_layFirst 60 = .ok (.getfield 17, 3) := dk_180 0 17 (dk_at dksX8_layFirst_2 14 rfl rfl)
theorem dX8_layFirst_63 : decode cX8_layFirst 63 = .ok (.bipush 6, 2) := dk_16 6 (dk_at dksX8_layFirst_2 17 rfl rfl)
theorem dX8_layFirst_65 : decode cX8_layFirst 65 = .ok (.iload_n 1, 1) := dk_27 (dk_at dksX8_layFirst_2 19 rfl rfl)
theorem dX8_layFirst_66 : decode cX8_layFirst 66 = .ok (.imul, 1) := dk_104 (dk_at dksX8_layFirst_2 20 rfl rfl)
theorem dX8_layFirst_67 : decode cX8_layFirst 67 = .ok (.iload_n 2, 1) := dk_28 (dk_at dksX8_layFirst_2 21 rfl rfl)
theorem dX8_layFirst_68 : decode cX8_layFirst 68 = .ok (.iadd, 1) := dk_96 (dk_at dksX8_layFirst_2 22 rfl rfl)
theorem dX8_layFirst_69 : decode cX8_layFirst 69 = .ok (.invokestatic 155, 3) := dk_184 0 155 (dk_at dksX8_layFirst_3 0 rfl rfl)
theorem dX8_layFirst_72 : decode cX8_layFirst 72 = .ok (.iaload, 1) := dk_46 (dk_at dksX8_layFirst_3 3 rfl rfl)
theorem dX8_layFirst_73 : decode cX8_layFirst 73 = .ok (.invokestatic 158, 3) := dk_184 0 158 (dk_at dksX8_layFirst_3 4 rfl rfl)
theorem dX8_layFirst_76 : decode cX8_layFirst 76 = .ok (.istore_n 3, 1) := dk_62 (dk_at dksX8_layFirst_3 7 rfl rfl)
theorem dX8_layFirst_77 : decode cX8_layFirst 77 = .ok (.aload_n 0, 1) := dk_42 (dk_at dksX8_layFirst_3 8 rfl rfl)
theorem dX8_layFirst_78 : decode cX8_layFirst 78 = .ok (.getfield 17, 3) := dk_180 0 17 (dk_at dksX8_layFirst_3 9 rfl rfl)
theorem dX8_layFirst_81 : decode cX8_layFirst 81 = .ok (.iload_n 3, 1) := dk_29 (dk_at dksX8_layFirst_3 12 rfl rfl)
theorem dX8_layFirst_82 : decode cX8_layFirst 82 = .ok (.iconst 3, 1) := dk_6 (dk_at dksX8_layFirst_3 13 rfl rfl)
theorem dX8_layFirst_83 : decode cX8_layFirst 83 = .ok (.iadd, 1) := dk_96 (dk_at dksX8_layFirst_3 14 rfl rfl)
theorem dX8_layFirst_84 : decode cX8_layFirst 84 = .ok (.aload_n 0, 1) := dk_42 (dk_at dksX8_layFirst_3 15 rfl rfl)
theorem dX8_layFirst_85 : decode cX8_layFirst 85 = .ok (.getfield 17, 3) := dk_180 0 17 (dk_at dksX8_layFirst_3 16 rfl rfl)
theorem dX8_layFirst_88 : decode cX8_layFirst 88 = .ok (.iload_n 3, 1) := dk_29 (dk_at dksX8_layFirst_3 19 rfl rfl)
theorem dX8_layFirst_89 : decode cX8_layFirst 89 = .ok (.iconst 2, 1) := dk_5 (dk_at dksX8_layFirst_3 20 rfl rfl)
theorem dX8_layFirst_90 : decode cX8_layFirst 90 = .ok (.iadd, 1) := dk_96 (dk_at dksX8_layFirst_3 21 rfl rfl)
theorem dX8_layFirst_91 : decode cX8_layFirst 91 = .ok (.iaload, 1) := dk_46 (dk_at dksX8_layFirst_3 22 rfl rfl)
theorem dX8_layFirst_92 : decode cX8_layFirst 92 = .ok (.iadd, 1) := dk_96 (dk_at dksX8_layFirst_3 23 rfl rfl)
theorem dX8_layFirst_93 : decode cX8_layFirst 93 = .ok (.bipush 6, 2) := dk_16 6 (dk_at dksX8_layFirst_4 0 rfl rfl)
theorem dX8_layFirst_95 : decode cX8_layFirst 95 = .ok (.iload_n 1, 1) := dk_27 (dk_at dksX8_layFirst_4 2 rfl rfl)
theorem dX8_layFirst_96 : decode cX8_layFirst 96 = .ok (.imul, 1) := dk_104 (dk_at dksX8_layFirst_4 3 rfl rfl)
theorem dX8_layFirst_97 : decode cX8_layFirst 97 = .ok (.iload_n 2, 1) := dk_28 (dk_at dksX8_layFirst_4 4 rfl rfl)
theorem dX8_layFirst_98 : decode cX8_layFirst 98 = .ok (.iadd, 1) := dk_96 (dk_at dksX8_layFirst_4 5 rfl rfl)
theorem dX8_layFirst_99 : decode cX8_layFirst 99 = .ok (.iastore, 1) := dk_79 (dk_at dksX8_layFirst_4 6 rfl rfl)
theorem dX8_layFirst_100 : decode cX8_layFirst 100 = .ok (.aload_n 0, 1) := dk_42 (dk_at dksX8_layFirst_4 7 rfl rfl)
theorem dX8_layFirst_101 : decode cX8_layFirst 101 = .ok (.getfield 17, 3) := dk_180 0 17 (dk_at dksX8_layFirst_4 8 rfl rfl)
theorem dX8_layFirst_104 : decode cX8_layFirst 104 = .ok (.iload_n 3, 1) := dk_29 (dk_at dksX8_layFirst_4 11 rfl rfl)
theorem dX8_layFirst_105 : decode cX8_layFirst 105 = .ok (.iconst 2, 1) := dk_5 (dk_at dksX8_layFirst_4 12 rfl rfl)
theorem dX8_layFirst_106 : decode cX8_layFirst 106 = .ok (.iadd, 1) := dk_96 (dk_at dksX8_layFirst_4 13 rfl rfl)
theorem dX8_layFirst_107 : decode cX8_layFirst 107 = .ok (.dup2, 1) := dk_92 (dk_at dksX8_layFirst_4 14 rfl rfl)
theorem dX8_layFirst_108 : decode cX8_layFirst 108 = .ok (.iaload, 1) := dk_46 (dk_at dksX8_layFirst_4 15 rfl rfl)
theorem dX8_layFirst_109 : decode cX8_layFirst 109 = .ok (.iconst 1, 1) := dk_4 (dk_at dksX8_layFirst_4 16 rfl rfl)
theorem dX8_layFirst_110 : decode cX8_layFirst 110 = .ok (.iadd, 1) := dk_96 (dk_at dksX8_layFirst_4 17 rfl rfl)
theorem dX8_layFirst_111 : decode cX8_layFirst 111 = .ok (.iastore, 1) := dk_79 (dk_at dksX8_layFirst_4 18 rfl rfl)
theorem dX8_layFirst_112 : decode cX8_layFirst 112 = .ok (.iinc 2 1, 3) := dk_132 2 1 (dk_at dksX8_layFirst_4 19 rfl rfl)
theorem dX8_layFirst_115 : decode cX8_layFirst 115 = .ok (.goto (-71), 3) := dk_167 255 185 (dk_at dksX8_layFirst_5 0 rfl rfl)
theorem dX8_layFirst_118 : decode cX8_layFirst 118 = .ok (.iinc 1 1, 3) := dk_132 1 1 (dk_at dksX8_layFirst_5 3 rfl rfl)
theorem dX8_layFirst_121 : decode cX8_layFirst 121 = .ok (.goto (-89), 3) := dk_167 255 167 (dk_at dksX8_layFirst_5 6 rfl rfl)
theorem dX8_layFirst_124 : decode cX8_layFirst 124 = .ok (.return_, 1) := dk_177 (dk_at dksX8_layFirst_5 9 rfl rfl)
abbrev cX8_errorOffset : ByteArray := prog_15_method_30_code
def yX8_errorOffset : MethodName := ⟨RX8, "errorOffset", "()I"⟩
def dkwX8_errorOffset_0 : List UInt8 := [42, 3, 181, 0, 51, 42, 180, 0, 13, 172]
abbrev dktX8_errorOffset_0 : List UInt8 := dkwX8_errorOffset_0 ++ []
theorem dksX8_errorOffset_0 : cX8_errorOffset.data.toList.drop 0 = dktX8_errorOffset_0 := by decide +kernel
theorem dX8_errorOffset_0 : decode cX8_errorOffset 0 = .ok (.aload_n 0, 1) := dk_42 (dk_at dksX8_errorOffset_0 0 rfl rfl)
theorem dX8_errorOffset_1 : decode cX8_errorOffset 1 = .ok (.iconst 0, 1) := dk_3 (dk_at dksX8_errorOffset_0 1 rfl rfl)
theorem dX8_errorOffset_2 : decode cX8_errorOffset 2 = .ok (.putfield 51, 3) := dk_181 0 51 (dk_at dksX8_errorOffset_0 2 rfl rfl)
theorem dX8_errorOffset_5 : decode cX8_errorOffset 5 = .ok (.aload_n 0, 1) := dk_42 (dk_at dksX8_errorOffset_0 5 rfl rfl)
theorem dX8_errorOffset_6 : decode cX8_errorOffset 6 = .ok (.getfield 13, 3) := dk_180 0 13 (dk_at dksX8_errorOffset_0 6 rfl rfl)
theorem dX8_errorOffset_9 : decode cX8_errorOffset 9 = .ok (.ireturn, 1) := dk_172 (dk_at dksX8_errorOffset_0 9 rfl rfl)
abbrev cX8_machineCount : ByteArray := prog_15_method_60_code
def yX8_machineCount : MethodName := ⟨RX8, "machineCount", "()I"⟩
def dkwX8_machineCount_0 : List UInt8 := [42, 3, 181, 0, 51, 42, 180, 0, 17, 3, 46, 172]
abbrev dktX8_machineCount_0 : List UInt8 := dkwX8_machineCount_0 ++ []
theorem dksX8_machineCount_0 : cX8_machineCount.data.toList.drop 0 = dktX8_machineCount_0 := by decide +kernel
theorem dX8_machineCount_0 : decode cX8_machineCount 0 = .ok (.aload_n 0, 1) := dk_42 (dk_at dksX8_machineCount_0 0 rfl rfl)
theorem dX8_machineCount_1 : decode cX8_machineCount 1 = .ok (.iconst 0, 1) := dk_3 (dk_at dksX8_machineCount_0 1 rfl rfl)
theorem dX8_machineCount_2 : decode cX8_machineCount 2 = .ok (.putfield 51, 3) := dk_181 0 51 (dk_at dksX8_machineCount_0 2 rfl rfl)
theorem dX8_machineCount_5 : decode cX8_machineCount 5 = .ok (.aload_n 0, 1) := dk_42 (dk_at dksX8_machineCount_0 5 rfl rfl)
theorem dX8_machineCount_6 : decode cX8_machineCount 6 = .ok (.getfield 17, 3) := dk_180 0 17 (dk_at dksX8_machineCount_0 6 rfl rfl)
theorem dX8_machineCount_9 : decode cX8_machineCount 9 = .ok (.iconst 0, 1) := dk_3 (dk_at dksX8_machineCount_0 9 rfl rfl)
theorem dX8_machineCount_10 : decode cX8_machineCount 10 = .ok (.iaload, 1) := dk_46 (dk_at dksX8_machineCount_0 10 rfl rfl)
theorem dX8_machineCount_11 : decode cX8_machineCount 11 = .ok (.ireturn, 1) := dk_172 (dk_at dksX8_machineCount_0 11 rfl rfl)
abbrev cX8_jobCount : ByteArray := prog_15_method_61_code
def yX8_jobCount : MethodName := ⟨RX8, "jobCount", "()I"⟩
def dkwX8_jobCount_0 : List UInt8 := [42, 3, 181, 0, 51, 42, 180, 0, 17, 5, 46, 172]
abbrev dktX8_jobCount_0 : List UInt8 := dkwX8_jobCount_0 ++ []
theorem dksX8_jobCount_0 : cX8_jobCount.data.toList.drop 0 = dktX8_jobCount_0 := by decide +kernel
theorem dX8_jobCount_0 : decode cX8_jobCount 0 = .ok (.aload_n 0, 1) := dk_42 (dk_at dksX8_jobCount_0 0 rfl rfl)
theorem dX8_jobCount_1 : decode cX8_jobCount 1 = .ok (.iconst 0, 1) := dk_3 (dk_at dksX8_jobCount_0 1 rfl rfl)
theorem dX8_jobCount_2 : decode cX8_jobCount 2 = .ok (.putfield 51, 3) := dk_181 0 51 (dk_at dksX8_jobCount_0 2 rfl rfl)
theorem dX8_jobCount_5 : decode cX8_jobCount 5 = .ok (.aload_n 0, 1) := dk_42 (dk_at dksX8_jobCount_0 5 rfl rfl)
theorem dX8_jobCount_6 : decode cX8_jobCount 6 = .ok (.getfield 17, 3) := dk_180 0 17 (dk_at dksX8_jobCount_0 6 rfl rfl)
theorem dX8_jobCount_9 : decode cX8_jobCount 9 = .ok (.iconst 2, 1) := dk_5 (dk_at dksX8_jobCount_0 9 rfl rfl)
theorem dX8_jobCount_10 : decode cX8_jobCount 10 = .ok (.iaload, 1) := dk_46 (dk_at dksX8_jobCount_0 10 rfl rfl)
theorem dX8_jobCount_11 : decode cX8_jobCount 11 = .ok (.ireturn, 1) := dk_172 (dk_at dksX8_jobCount_0 11 rfl rfl)
abbrev cX8_operationCount : ByteArray := prog_15_method_62_code
def yX8_operationCount : MethodName := ⟨RX8, "operationCount", "(I)I"⟩
def dkwX8_operationCount_1 : List UInt8 := [184, 0, 147, 6, 96, 46, 172]
abbrev dktX8_operationCount_1 : List UInt8 := dkwX8_operationCount_1 ++ []
def dkwX8_operationCount_0 : List UInt8 := [42, 3, 181, 0, 51, 42, 27, 182, 1, 13, 153, 0, 7, 3, 167, 0, 14, 42, 180, 0, 17, 27]
abbrev dktX8_operationCount_0 : List UInt8 := dkwX8_operationCount_0 ++ dktX8_operationCount_1
theorem dksX8_operationCount_0 : cX8_operationCount.data.toList.drop 0 = dktX8_operationCount_0 := by decide +kernel
theorem dksX8_operationCount_1 : cX8_operationCount.data.toList.drop 22 = dktX8_operationCount_1 := dk_seg dksX8_operationCount_0 22 rfl rfl
theorem dX8_operationCount_0 : decode cX8_operationCount 0 = .ok (.aload_n 0, 1) := dk_42 (dk_at dksX8_operationCount_0 0 rfl rfl)
theorem dX8_operationCount_1 : decode cX8_operationCount 1 = .ok (.iconst 0, 1) := dk_3 (dk_at dksX8_operationCount_0 1 rfl rfl)
theorem dX8_operationCount_2 : decode cX8_operationCount 2 = .ok (.putfield 51, 3) := dk_181 0 51 (dk_at dksX8_operationCount_0 2 rfl rfl)
theorem dX8_operationCount_5 : decode cX8_operationCount 5 = .ok (.aload_n 0, 1) := dk_42 (dk_at dksX8_operationCount_0 5 rfl rfl)
theorem dX8_operationCount_6 : decode cX8_operationCount 6 = .ok (.iload_n 1, 1) := dk_27 (dk_at dksX8_operationCount_0 6 rfl rfl)
theorem dX8_operationCount_7 : decode cX8_operationCount 7 = .ok (.invokevirtual 269, 3) := dk_182 1 13 (dk_at dksX8_operationCount_0 7 rfl rfl)
theorem dX8_operationCount_10 : decode cX8_operationCount 10 = .ok (.ifCond .eq 7, 3) := dk_153 0 7 (dk_at dksX8_operationCount_0 10 rfl rfl)
theorem dX8_operationCount_13 : decode cX8_operationCount 13 = .ok (.iconst 0, 1) := dk_3 (dk_at dksX8_operationCount_0 13 rfl rfl)
theorem dX8_operationCount_14 : decode cX8_operationCount 14 = .ok (.goto 14, 3) := dk_167 0 14 (dk_at dksX8_operationCount_0 14 rfl rfl)
theorem dX8_operationCount_17 : decode cX8_operationCount 17 = .ok (.aload_n 0, 1) := dk_42 (dk_at dksX8_operationCount_0 17 rfl rfl)
theorem dX8_operationCount_18 : decode cX8_operationCount 18 = .ok (.getfield 17, 3) := dk_180 0 17 (dk_at dksX8_operationCount_0 18 rfl rfl)
theorem dX8_operationCount_21 : decode cX8_operationCount 21 = .ok (.iload_n 1, 1) := dk_27 (dk_at dksX8_operationCount_0 21 rfl rfl)
theorem dX8_operationCount_22 : decode cX8_operationCount 22 = .ok (.invokestatic 147, 3) := dk_184 0 147 (dk_at dksX8_operationCount_1 0 rfl rfl)
theorem dX8_operationCount_25 : decode cX8_operationCount 25 = .ok (.iconst 3, 1) := dk_6 (dk_at dksX8_operationCount_1 3 rfl rfl)
theorem dX8_operationCount_26 : decode cX8_operationCount 26 = .ok (.iadd, 1) := dk_96 (dk_at dksX8_operationCount_1 4 rfl rfl)
theorem dX8_operationCount_27 : decode cX8_operationCount 27 = .ok (.iaload, 1) := dk_46 (dk_at dksX8_operationCount_1 5 rfl rfl)
theorem dX8_operationCount_28 : decode cX8_operationCount 28 = .ok (.ireturn, 1) := dk_172 (dk_at dksX8_operationCount_1 6 rfl rfl)
abbrev cX8_noJob : ByteArray := prog_15_method_57_code
def yX8_noJob : MethodName := ⟨RX8, "noJob", "(I)Z"⟩
def dkwX8_noJob_1 : List UInt8 := [182, 0, 174, 172]
abbrev dktX8_noJob_1 : List UInt8 := dkwX8_noJob_1 ++ []
def dkwX8_noJob_0 : List UInt8 := [42, 27, 3, 42, 180, 0, 17, 5, 46, 4, 100, 184, 0, 73, 154, 0, 7, 4, 167, 0, 4, 3, 4]
abbrev dktX8_noJob_0 : List UInt8 := dkwX8_noJob_0 ++ dktX8_noJob_1
theorem dksX8_noJob_0 : cX8_noJob.data.toList.drop 0 = dktX8_noJob_0 := by decide +kernel
theorem dksX8_noJob_1 : cX8_noJob.data.toList.drop 23 = dktX8_noJob_1 := dk_seg dksX8_noJob_0 23 rfl rfl
theorem dX8_noJob_0 : decode cX8_noJob 0 = .ok (.aload_n 0, 1) := dk_42 (dk_at dksX8_noJob_0 0 rfl rfl)
theorem dX8_noJob_1 : decode cX8_noJob 1 = .ok (.iload_n 1, 1) := dk_27 (dk_at dksX8_noJob_0 1 rfl rfl)
theorem dX8_noJob_2 : decode cX8_noJob 2 = .ok (.iconst 0, 1) := dk_3 (dk_at dksX8_noJob_0 2 rfl rfl)
theorem dX8_noJob_3 : decode cX8_noJob 3 = .ok (.aload_n 0, 1) := dk_42 (dk_at dksX8_noJob_0 3 rfl rfl)
theorem dX8_noJob_4 : decode cX8_noJob 4 = .ok (.getfield 17, 3) := dk_180 0 17 (dk_at dksX8_noJob_0 4 rfl rfl)
theorem dX8_noJob_7 : decode cX8_noJob 7 = .ok (.iconst 2, 1) := dk_5 (dk_at dksX8_noJob_0 7 rfl rfl)
theorem dX8_noJob_8 : decode cX8_noJob 8 = .ok (.iaload, 1) := dk_46 (dk_at dksX8_noJob_0 8 rfl rfl)
theorem dX8_noJob_9 : decode cX8_noJob 9 = .ok (.iconst 1, 1) := dk_4 (dk_at dksX8_noJob_0 9 rfl rfl)
theorem dX8_noJob_10 : decode cX8_noJob 10 = .ok (.isub, 1) := dk_100 (dk_at dksX8_noJob_0 10 rfl rfl)
theorem dX8_noJob_11 : decode cX8_noJob 11 = .ok (.invokestatic 73, 3) := dk_184 0 73 (dk_at dksX8_noJob_0 11 rfl rfl)
theorem dX8_noJob_14 : decode cX8_noJob 14 = .ok (.ifCond .ne 7, 3) := dk_154 0 7 (dk_at dksX8_noJob_0 14 rfl rfl)
theorem dX8_noJob_17 : decode cX8_noJob 17 = .ok (.iconst 1, 1) := dk_4 (dk_at dksX8_noJob_0 17 rfl rfl)
theorem dX8_noJob_18 : decode cX8_noJob 18 = .ok (.goto 4, 3) := dk_167 0 4 (dk_at dksX8_noJob_0 18 rfl rfl)
theorem dX8_noJob_21 : decode cX8_noJob 21 = .ok (.iconst 0, 1) := dk_3 (dk_at dksX8_noJob_0 21 rfl rfl)
theorem dX8_noJob_22 : decode cX8_noJob 22 = .ok (.iconst 1, 1) := dk_4 (dk_at dksX8_noJob_0 22 rfl rfl)
theorem dX8_noJob_23 : decode cX8_noJob 23 = .ok (.invokevirtual 174, 3) := dk_182 0 174 (dk_at dksX8_noJob_1 0 rfl rfl)
theorem dX8_noJob_26 : decode cX8_noJob 26 = .ok (.ireturn, 1) := dk_172 (dk_at dksX8_noJob_1 3 rfl rfl)
abbrev cX8_operation : ByteArray := prog_15_method_63_code
def yX8_operation : MethodName := ⟨RX8, "operation", "(III)I"⟩
def dkwX8_operation_3 : List UInt8 := [172]
abbrev dktX8_operation_3 : List UInt8 := dkwX8_operation_3 ++ []
def dkwX8_operation_2 : List UInt8 := [160, 0, 12, 42, 21, 4, 182, 1, 23, 167, 0, 15, 42, 180, 0, 17, 21, 4, 184, 0, 155, 29, 96, 46]
abbrev dktX8_operation_2 : List UInt8 := dkwX8_operation_2 ++ dktX8_operation_3
def dkwX8_operation_1 : List UInt8 := [4, 167, 0, 4, 3, 5, 182, 0, 174, 153, 0, 5, 3, 172, 16, 6, 27, 104, 28, 96, 54, 4, 29, 5]
abbrev dktX8_operation_1 : List UInt8 := dkwX8_operation_1 ++ dktX8_operation_2
def dkwX8_operation_0 : List UInt8 := [42, 3, 181, 0, 51, 42, 27, 28, 182, 1, 19, 154, 0, 25, 42, 29, 3, 5, 184, 0, 73, 154, 0, 7]
abbrev dktX8_operation_0 : List UInt8 := dkwX8_operation_0 ++ dktX8_operation_1
theorem dksX8_operation_0 : cX8_operation.data.toList.drop 0 = dktX8_operation_0 := by decide +kernel
theorem dksX8_operation_1 : cX8_operation.data.toList.drop 24 = dktX8_operation_1 := dk_seg dksX8_operation_0 24 rfl rfl
theorem dksX8_operation_2 : cX8_operation.data.toList.drop 48 = dktX8_operation_2 := dk_seg dksX8_operation_1 24 rfl rfl
theorem dksX8_operation_3 : cX8_operation.data.toList.drop 72 = dktX8_operation_3 := dk_seg dksX8_operation_2 24 rfl rfl
theorem dX8_operation_0 : decode cX8_operation 0 = .ok (.aload_n 0, 1) := dk_42 (dk_at dksX8_operation_0 0 rfl rfl)
theorem dX8_operation_1 : decode cX8_operation 1 = .ok (.iconst 0, 1) := dk_3 (dk_at dksX8_operation_0 1 rfl rfl)
theorem dX8_operation_2 : decode cX8_operation 2 = .ok (.putfield 51, 3) := dk_181 0 51 (dk_at dksX8_operation_0 2 rfl rfl)
theorem dX8_operation_5 : decode cX8_operation 5 = .ok (.aload_n 0, 1) := dk_42 (dk_at dksX8_operation_0 5 rfl rfl)
theorem dX8_operation_6 : decode cX8_operation 6 = .ok (.iload_n 1, 1) := dk_27 (dk_at dksX8_operation_0 6 rfl rfl)
theorem dX8_operation_7 : decode cX8_operation 7 = .ok (.iload_n 2, 1) := dk_28 (dk_at dksX8_operation_0 7 rfl rfl)
theorem dX8_operation_8 : decode cX8_operation 8 = .ok (.invokevirtual 275, 3) := dk_182 1 19 (dk_at dksX8_operation_0 8 rfl rfl)
theorem dX8_operation_11 : decode cX8_operation 11 = .ok (.ifCond .ne 25, 3) := dk_154 0 25 (dk_at dksX8_operation_0 11 rfl rfl)
theorem dX8_operation_14 : decode cX8_operation 14 = .ok (.aload_n 0, 1) := dk_42 (dk_at dksX8_operation_0 14 rfl rfl)
theorem dX8_operation_15 : decode cX8_operation 15 = .ok (.iload_n 3, 1) := dk_29 (dk_at dksX8_operation_0 15 rfl rfl)
theorem dX8_operation_16 : decode cX8_operation 16 = .ok (.iconst 0, 1) := dk_3 (dk_at dksX8_operation_0 16 rfl rfl)
theorem dX8_operation_17 : decode cX8_operation 17 = .ok (.iconst 2, 1) := dk_5 (dk_at dksX8_operation_0 17 rfl rfl)
theorem dX8_operation_18 : decode cX8_operation 18 = .ok (.invokestatic 73, 3) := dk_184 0 73 (dk_at dksX8_operation_0 18 rfl rfl)
theorem dX8_operation_21 : decode cX8_operation 21 = .ok (.ifCond .ne 7, 3) := dk_154 0 7 (dk_at dksX8_operation_0 21 rfl rfl)
theorem dX8_operation_24 : decode cX8_operation 24 = .ok (.iconst 1, 1) := dk_4 (dk_at dksX8_operation_1 0 rfl rfl)
theorem dX8_operation_25 : decode cX8_operation 25 = .ok (.goto 4, 3) := dk_167 0 4 (dk_at dksX8_operation_1 1 rfl rfl)
theorem dX8_operation_28 : decode cX8_operation 28 = .ok (.iconst 0, 1) := dk_3 (dk_at dksX8_operation_1 4 rfl rfl)
theorem dX8_operation_29 : decode cX8_operation 29 = .ok (.iconst 2, 1) := dk_5 (dk_at dksX8_operation_1 5 rfl rfl)
theorem dX8_operation_30 : decode cX8_operation 30 = .ok (.invokevirtual 174, 3) := dk_182 0 174 (dk_at dksX8_operation_1 6 rfl rfl)
theorem dX8_operation_33 : decode cX8_operation 33 = .ok (.ifCond .eq 5, 3) := dk_153 0 5 (dk_at dksX8_operation_1 9 rfl rfl)
theorem dX8_operation_36 : decode cX8_operation 36 = .ok (.iconst 0, 1) := dk_3 (dk_at dksX8_operation_1 12 rfl rfl)
theorem dX8_operation_37 : decode cX8_operation 37 = .ok (.ireturn, 1) := dk_172 (dk_at dksX8_operation_1 13 rfl rfl)
theorem dX8_operation_38 : decode cX8_operation 38 = .ok (.bipush 6, 2) := dk_16 6 (dk_at dksX8_operation_1 14 rfl rfl)
theorem dX8_operation_40 : decode cX8_operation 40 = .ok (.iload_n 1, 1) := dk_27 (dk_at dksX8_operation_1 16 rfl rfl)
theorem dX8_operation_41 : decode cX8_operation 41 = .ok (.imul, 1) := dk_104 (dk_at dksX8_operation_1 17 rfl rfl)
theorem dX8_operation_42 : decode cX8_operation 42 = .ok (.iload_n 2, 1) := dk_28 (dk_at dksX8_operation_1 18 rfl rfl)
theorem dX8_operation_43 : decode cX8_operation 43 = .ok (.iadd, 1) := dk_96 (dk_at dksX8_operation_1 19 rfl rfl)
theorem dX8_operation_44 : decode cX8_operation 44 = .ok (.istore 4, 2) := dk_54 4 (dk_at dksX8_operation_1 20 rfl rfl)
theorem dX8_operation_46 : decode cX8_operation 46 = .ok (.iload_n 3, 1) := dk_29 (dk_at dksX8_operation_1 22 rfl rfl)
theorem dX8_operation_47 : decode cX8_operation 47 = .ok (.iconst 2, 1) := dk_5 (dk_at dksX8_operation_1 23 rfl rfl)
theorem dX8_operation_48 : decode cX8_operation 48 = .ok (.if_icmp .ne 12, 3) := dk_160 0 12 (dk_at dksX8_operation_2 0 rfl rfl)
theorem dX8_operation_51 : decode cX8_operation 51 = .ok (.aload_n 0, 1) := dk_42 (dk_at dksX8_operation_2 3 rfl rfl)
theorem dX8_operation_52 : decode cX8_operation 52 = .ok (.iload 4, 2) := dk_21 4 (dk_at dksX8_operation_2 4 rfl rfl)
theorem dX8_operation_54 : decode cX8_operation 54 = .ok (.invokevirtual 279, 3) := dk_182 1 23 (dk_at dksX8_operation_2 6 rfl rfl)
theorem dX8_operation_57 : decode cX8_operation 57 = .ok (.goto 15, 3) := dk_167 0 15 (dk_at dksX8_operation_2 9 rfl rfl)
theorem dX8_operation_60 : decode cX8_operation 60 = .ok (.aload_n 0, 1) := dk_42 (dk_at dksX8_operation_2 12 rfl rfl)
theorem dX8_operation_61 : decode cX8_operation 61 = .ok (.getfield 17, 3) := dk_180 0 17 (dk_at dksX8_operation_2 13 rfl rfl)
theorem dX8_operation_64 : decode cX8_operation 64 = .ok (.iload 4, 2) := dk_21 4 (dk_at dksX8_operation_2 16 rfl rfl)
theorem dX8_operation_66 : decode cX8_operation 66 = .ok (.invokestatic 155, 3) := dk_184 0 155 (dk_at dksX8_operation_2 18 rfl rfl)
theorem dX8_operation_69 : decode cX8_operation 69 = .ok (.iload_n 3, 1) := dk_29 (dk_at dksX8_operation_2 21 rfl rfl)
theorem dX8_operation_70 : decode cX8_operation 70 = .ok (.iadd, 1) := dk_96 (dk_at dksX8_operation_2 22 rfl rfl)
theorem dX8_operation_71 : decode cX8_operation 71 = .ok (.iaload, 1) := dk_46 (dk_at dksX8_operation_2 23 rfl rfl)
theorem dX8_operation_72 : decode cX8_operation 72 = .ok (.ireturn, 1) := dk_172 (dk_at dksX8_operation_3 0 rfl rfl)
abbrev cX8_noOperation : ByteArray := prog_15_method_58_code
def yX8_noOperation : MethodName := ⟨RX8, "noOperation", "(II)Z"⟩
def dkwX8_noOperation_1 : List UInt8 := [184, 0, 73, 154, 0, 7, 4, 167, 0, 4, 3, 4, 182, 0, 174, 153, 0, 7, 4, 167, 0, 4, 3, 172]
abbrev dktX8_noOperation_1 : List UInt8 := dkwX8_noOperation_1 ++ []
def dkwX8_noOperation_0 : List UInt8 := [42, 27, 182, 1, 13, 154, 0, 37, 42, 28, 3, 42, 180, 0, 17, 27, 184, 0, 147, 6, 96, 46, 4, 100]
abbrev dktX8_noOperation_0 : List UInt8 := dkwX8_noOperation_0 ++ dktX8_noOperation_1
theorem dksX8_noOperation_0 : cX8_noOperation.data.toList.drop 0 = dktX8_noOperation_0 := by decide +kernel
theorem dksX8_noOperation_1 : cX8_noOperation.data.toList.drop 24 = dktX8_noOperation_1 := dk_seg dksX8_noOperation_0 24 rfl rfl
theorem dX8_noOperation_0 : decode cX8_noOperation 0 = .ok (.aload_n 0, 1) := dk_42 (dk_at dksX8_noOperation_0 0 rfl rfl)
theorem dX8_noOperation_1 : decode cX8_noOperation 1 = .ok (.iload_n 1, 1) := dk_27 (dk_at dksX8_noOperation_0 1 rfl rfl)
theorem dX8_noOperation_2 : decode cX8_noOperation 2 = .ok (.invokevirtual 269, 3) := dk_182 1 13 (dk_at dksX8_noOperation_0 2 rfl rfl)
theorem dX8_noOperation_5 : decode cX8_noOperation 5 = .ok (.ifCond .ne 37, 3) := dk_154 0 37 (dk_at dksX8_noOperation_0 5 rfl rfl)
theorem dX8_noOperation_8 : decode cX8_noOperation 8 = .ok (.aload_n 0, 1) := dk_42 (dk_at dksX8_noOperation_0 8 rfl rfl)
theorem dX8_noOperation_9 : decode cX8_noOperation 9 = .ok (.iload_n 2, 1) := dk_28 (dk_at dksX8_noOperation_0 9 rfl rfl)
theorem dX8_noOperation_10 : decode cX8_noOperation 10 = .ok (.iconst 0, 1) := dk_3 (dk_at dksX8_noOperation_0 10 rfl rfl)
theorem dX8_noOperation_11 : decode cX8_noOperation 11 = .ok (.aload_n 0, 1) := dk_42 (dk_at dksX8_noOperation_0 11 rfl rfl)
theorem dX8_noOperation_12 : decode cX8_noOperation 12 = .ok (.getfield 17, 3) := dk_180 0 17 (dk_at dksX8_noOperation_0 12 rfl rfl)
theorem dX8_noOperation_15 : decode cX8_noOperation 15 = .ok (.iload_n 1, 1) := dk_27 (dk_at dksX8_noOperation_0 15 rfl rfl)
theorem dX8_noOperation_16 : decode cX8_noOperation 16 = .ok (.invokestatic 147, 3) := dk_184 0 147 (dk_at dksX8_noOperation_0 16 rfl rfl)
theorem dX8_noOperation_19 : decode cX8_noOperation 19 = .ok (.iconst 3, 1) := dk_6 (dk_at dksX8_noOperation_0 19 rfl rfl)
theorem dX8_noOperation_20 : decode cX8_noOperation 20 = .ok (.iadd, 1) := dk_96 (dk_at dksX8_noOperation_0 20 rfl rfl)
theorem dX8_noOperation_21 : decode cX8_noOperation 21 = .ok (.iaload, 1) := dk_46 (dk_at dksX8_noOperation_0 21 rfl rfl)
theorem dX8_noOperation_22 : decode cX8_noOperation 22 = .ok (.iconst 1, 1) := dk_4 (dk_at dksX8_noOperation_0 22 rfl rfl)
theorem dX8_noOperation_23 : decode cX8_noOperation 23 = .ok (.isub, 1) := dk_100 (dk_at dksX8_noOperation_0 23 rfl rfl)
theorem dX8_noOperation_24 : decode cX8_noOperation 24 = .ok (.invokestatic 73, 3) := dk_184 0 73 (dk_at dksX8_noOperation_1 0 rfl rfl)
theorem dX8_noOperation_27 : decode cX8_noOperation 27 = .ok (.ifCond .ne 7, 3) := dk_154 0 7 (dk_at dksX8_noOperation_1 3 rfl rfl)
theorem dX8_noOperation_30 : decode cX8_noOperation 30 = .ok (.iconst 1, 1) := dk_4 (dk_at dksX8_noOperation_1 6 rfl rfl)
theorem dX8_noOperation_31 : decode cX8_noOperation 31 = .ok (.goto 4, 3) := dk_167 0 4 (dk_at dksX8_noOperation_1 7 rfl rfl)
theorem dX8_noOperation_34 : decode cX8_noOperation 34 = .ok (.iconst 0, 1) := dk_3 (dk_at dksX8_noOperation_1 10 rfl rfl)
theorem dX8_noOperation_35 : decode cX8_noOperation 35 = .ok (.iconst 1, 1) := dk_4 (dk_at dksX8_noOperation_1 11 rfl rfl)
theorem dX8_noOperation_36 : decode cX8_noOperation 36 = .ok (.invokevirtual 174, 3) := dk_182 0 174 (dk_at dksX8_noOperation_1 12 rfl rfl)
theorem dX8_noOperation_39 : decode cX8_noOperation 39 = .ok (.ifCond .eq 7, 3) := dk_153 0 7 (dk_at dksX8_noOperation_1 15 rfl rfl)
theorem dX8_noOperation_42 : decode cX8_noOperation 42 = .ok (.iconst 1, 1) := dk_4 (dk_at dksX8_noOperation_1 18 rfl rfl)
theorem dX8_noOperation_43 : decode cX8_noOperation 43 = .ok (.goto 4, 3) := dk_167 0 4 (dk_at dksX8_noOperation_1 19 rfl rfl)
theorem dX8_noOperation_46 : decode cX8_noOperation 46 = .ok (.iconst 0, 1) := dk_3 (dk_at dksX8_noOperation_1 22 rfl rfl)
theorem dX8_noOperation_47 : decode cX8_noOperation 47 = .ok (.ireturn, 1) := dk_172 (dk_at dksX8_noOperation_1 23 rfl rfl)
abbrev cX8_placeOf : ByteArray := prog_15_method_36_code
def yX8_placeOf : MethodName := ⟨RX8, "placeOf", "(I)I"⟩
def dkwX8_placeOf_1 : List UInt8 := [159, 0, 9, 132, 3, 1, 167, 255, 241, 29, 172]
abbrev dktX8_placeOf_1 : List UInt8 := dkwX8_placeOf_1 ++ []
def dkwX8_placeOf_0 : List UInt8 := [42, 27, 182, 0, 193, 184, 0, 158, 6, 96, 61, 3, 62, 42, 180, 0, 17, 28, 29, 96, 46, 27]
abbrev dktX8_placeOf_0 : List UInt8 := dkwX8_placeOf_0 ++ dktX8_placeOf_1
theorem dksX8_placeOf_0 : cX8_placeOf.data.toList.drop 0 = dktX8_placeOf_0 := by decide +kernel
theorem dksX8_placeOf_1 : cX8_placeOf.data.toList.drop 22 = dktX8_placeOf_1 := dk_seg dksX8_placeOf_0 22 rfl rfl
theorem dX8_placeOf_0 : decode cX8_placeOf 0 = .ok (.aload_n 0, 1) := dk_42 (dk_at dksX8_placeOf_0 0 rfl rfl)
theorem dX8_placeOf_1 : decode cX8_placeOf 1 = .ok (.iload_n 1, 1) := dk_27 (dk_at dksX8_placeOf_0 1 rfl rfl)
theorem dX8_placeOf_2 : decode cX8_placeOf 2 = .ok (.invokevirtual 193, 3) := dk_182 0 193 (dk_at dksX8_placeOf_0 2 rfl rfl)
theorem dX8_placeOf_5 : decode cX8_placeOf 5 = .ok (.invokestatic 158, 3) := dk_184 0 158 (dk_at dksX8_placeOf_0 5 rfl rfl)
theorem dX8_placeOf_8 : decode cX8_placeOf 8 = .ok (.iconst 3, 1) := dk_6 (dk_at dksX8_placeOf_0 8 rfl rfl)
theorem dX8_placeOf_9 : decode cX8_placeOf 9 = .ok (.iadd, 1) := dk_96 (dk_at dksX8_placeOf_0 9 rfl rfl)
theorem dX8_placeOf_10 : decode cX8_placeOf 10 = .ok (.istore_n 2, 1) := dk_61 (dk_at dksX8_placeOf_0 10 rfl rfl)
theorem dX8_placeOf_11 : decode cX8_placeOf 11 = .ok (.iconst 0, 1) := dk_3 (dk_at dksX8_placeOf_0 11 rfl rfl)
theorem dX8_placeOf_12 : decode cX8_placeOf 12 = .ok (.istore_n 3, 1) := dk_62 (dk_at dksX8_placeOf_0 12 rfl rfl)
theorem dX8_placeOf_13 : decode cX8_placeOf 13 = .ok (.aload_n 0, 1) := dk_42 (dk_at dksX8_placeOf_0 13 rfl rfl)
theorem dX8_placeOf_14 : decode cX8_placeOf 14 = .ok (.getfield 17, 3) := dk_180 0 17 (dk_at dksX8_placeOf_0 14 rfl rfl)
theorem dX8_placeOf_17 : decode cX8_placeOf 17 = .ok (.iload_n 2, 1) := dk_28 (dk_at dksX8_placeOf_0 17 rfl rfl)
theorem dX8_placeOf_18 : decode cX8_placeOf 18 = .ok (.iload_n 3, 1) := dk_29 (dk_at dksX8_placeOf_0 18 rfl rfl)
theorem dX8_placeOf_19 : decode cX8_placeOf 19 = .ok (.iadd, 1) := dk_96 (dk_at dksX8_placeOf_0 19 rfl rfl)
theorem dX8_placeOf_20 : decode cX8_placeOf 20 = .ok (.iaload, 1) := dk_46 (dk_at dksX8_placeOf_0 20 rfl rfl)
theorem dX8_placeOf_21 : decode cX8_placeOf 21 = .ok (.iload_n 1, 1) := dk_27 (dk_at dksX8_placeOf_0 21 rfl rfl)
theorem dX8_placeOf_22 : decode cX8_placeOf 22 = .ok (.if_icmp .eq 9, 3) := dk_159 0 9 (dk_at dksX8_placeOf_1 0 rfl rfl)
theorem dX8_placeOf_25 : decode cX8_placeOf 25 = .ok (.iinc 3 1, 3) := dk_132 3 1 (dk_at dksX8_placeOf_1 3 rfl rfl)
theorem dX8_placeOf_28 : decode cX8_placeOf 28 = .ok (.goto (-15), 3) := dk_167 255 241 (dk_at dksX8_placeOf_1 6 rfl rfl)
theorem dX8_placeOf_31 : decode cX8_placeOf 31 = .ok (.iload_n 3, 1) := dk_29 (dk_at dksX8_placeOf_1 9 rfl rfl)
theorem dX8_placeOf_32 : decode cX8_placeOf 32 = .ok (.ireturn, 1) := dk_172 (dk_at dksX8_placeOf_1 10 rfl rfl)
abbrev cX8_machineOf : ByteArray := prog_15_method_34_code
def yX8_machineOf : MethodName := ⟨RX8, "machineOf", "(I)I"⟩
def dkwX8_machineOf_0 : List UInt8 := [42, 180, 0, 17, 27, 184, 0, 155, 46, 172]
abbrev dktX8_machineOf_0 : List UInt8 := dkwX8_machineOf_0 ++ []
theorem dksX8_machineOf_0 : cX8_machineOf.data.toList.drop 0 = dktX8_machineOf_0 := by decide +kernel
theorem dX8_machineOf_0 : decode cX8_machineOf 0 = .ok (.aload_n 0, 1) := dk_42 (dk_at dksX8_machineOf_0 0 rfl rfl)
theorem dX8_machineOf_1 : decode cX8_machineOf 1 = .ok (.getfield 17, 3) := dk_180 0 17 (dk_at dksX8_machineOf_0 1 rfl rfl)
theorem dX8_machineOf_4 : decode cX8_machineOf 4 = .ok (.iload_n 1, 1) := dk_27 (dk_at dksX8_machineOf_0 4 rfl rfl)
theorem dX8_machineOf_5 : decode cX8_machineOf 5 = .ok (.invokestatic 155, 3) := dk_184 0 155 (dk_at dksX8_machineOf_0 5 rfl rfl)
theorem dX8_machineOf_8 : decode cX8_machineOf 8 = .ok (.iaload, 1) := dk_46 (dk_at dksX8_machineOf_0 8 rfl rfl)
theorem dX8_machineOf_9 : decode cX8_machineOf 9 = .ok (.ireturn, 1) := dk_172 (dk_at dksX8_machineOf_0 9 rfl rfl)
abbrev cX8_orderLength : ByteArray := prog_15_method_64_code
def yX8_orderLength : MethodName := ⟨RX8, "orderLength", "(I)I"⟩
def dkwX8_orderLength_1 : List UInt8 := [184, 0, 158, 5, 96, 46, 172]
abbrev dktX8_orderLength_1 : List UInt8 := dkwX8_orderLength_1 ++ []
def dkwX8_orderLength_0 : List UInt8 := [42, 3, 181, 0, 51, 42, 27, 182, 1, 16, 153, 0, 7, 3, 167, 0, 14, 42, 180, 0, 17, 27]
abbrev dktX8_orderLength_0 : List UInt8 := dkwX8_orderLength_0 ++ dktX8_orderLength_1
theorem dksX8_orderLength_0 : cX8_orderLength.data.toList.drop 0 = dktX8_orderLength_0 := by decide +kernel
theorem dksX8_orderLength_1 : cX8_orderLength.data.toList.drop 22 = dktX8_orderLength_1 := dk_seg dksX8_orderLength_0 22 rfl rfl
theorem dX8_orderLength_0 : decode cX8_orderLength 0 = .ok (.aload_n 0, 1) := dk_42 (dk_at dksX8_orderLength_0 0 rfl rfl)
theorem dX8_orderLength_1 : decode cX8_orderLength 1 = .ok (.iconst 0, 1) := dk_3 (dk_at dksX8_orderLength_0 1 rfl rfl)
theorem dX8_orderLength_2 : decode cX8_orderLength 2 = .ok (.putfield 51, 3) := dk_181 0 51 (dk_at dksX8_orderLength_0 2 rfl rfl)
theorem dX8_orderLength_5 : decode cX8_orderLength 5 = .ok (.aload_n 0, 1) := dk_42 (dk_at dksX8_orderLength_0 5 rfl rfl)
theorem dX8_orderLength_6 : decode cX8_orderLength 6 = .ok (.iload_n 1, 1) := dk_27 (dk_at dksX8_orderLength_0 6 rfl rfl)
theorem dX8_orderLength_7 : decode cX8_orderLength 7 = .ok (.invokevirtual 272, 3) := dk_182 1 16 (dk_at dksX8_orderLength_0 7 rfl rfl)
theorem dX8_orderLength_10 : decode cX8_orderLength 10 = .ok (.ifCond .eq 7, 3) := dk_153 0 7 (dk_at dksX8_orderLength_0 10 rfl rfl)
theorem dX8_orderLength_13 : decode cX8_orderLength 13 = .ok (.iconst 0, 1) := dk_3 (dk_at dksX8_orderLength_0 13 rfl rfl)
theorem dX8_orderLength_14 : decode cX8_orderLength 14 = .ok (.goto 14, 3) := dk_167 0 14 (dk_at dksX8_orderLength_0 14 rfl rfl)
theorem dX8_orderLength_17 : decode cX8_orderLength 17 = .ok (.aload_n 0, 1) := dk_42 (dk_at dksX8_orderLength_0 17 rfl rfl)
theorem dX8_orderLength_18 : decode cX8_orderLength 18 = .ok (.getfield 17, 3) := dk_180 0 17 (dk_at dksX8_orderLength_0 18 rfl rfl)
theorem dX8_orderLength_21 : decode cX8_orderLength 21 = .ok (.iload_n 1, 1) := dk_27 (dk_at dksX8_orderLength_0 21 rfl rfl)
theorem dX8_orderLength_22 : decode cX8_orderLength 22 = .ok (.invokestatic 158, 3) := dk_184 0 158 (dk_at dksX8_orderLength_1 0 rfl rfl)
theorem dX8_orderLength_25 : decode cX8_orderLength 25 = .ok (.iconst 2, 1) := dk_5 (dk_at dksX8_orderLength_1 3 rfl rfl)
theorem dX8_orderLength_26 : decode cX8_orderLength 26 = .ok (.iadd, 1) := dk_96 (dk_at dksX8_orderLength_1 4 rfl rfl)
theorem dX8_orderLength_27 : decode cX8_orderLength 27 = .ok (.iaload, 1) := dk_46 (dk_at dksX8_orderLength_1 5 rfl rfl)
theorem dX8_orderLength_28 : decode cX8_orderLength 28 = .ok (.ireturn, 1) := dk_172 (dk_at dksX8_orderLength_1 6 rfl rfl)
abbrev cX8_noMachine : ByteArray := prog_15_method_56_code
def yX8_noMachine : MethodName := ⟨RX8, "noMachine", "(I)Z"⟩
def dkwX8_noMachine_1 : List UInt8 := [182, 0, 174, 172]
abbrev dktX8_noMachine_1 : List UInt8 := dkwX8_noMachine_1 ++ []
def dkwX8_noMachine_0 : List UInt8 := [42, 27, 3, 42, 180, 0, 17, 3, 46, 4, 100, 184, 0, 73, 154, 0, 7, 4, 167, 0, 4, 3, 4]
abbrev dktX8_noMachine_0 : List UInt8 := dkwX8_noMachine_0 ++ dktX8_noMachine_1
theorem dksX8_noMachine_0 : cX8_noMachine.data.toList.drop 0 = dktX8_noMachine_0 := by decide +kernel
theorem dksX8_noMachine_1 : cX8_noMachine.data.toList.drop 23 = dktX8_noMachine_1 := dk_seg dksX8_noMachine_0 23 rfl rfl
theorem dX8_noMachine_0 : decode cX8_noMachine 0 = .ok (.aload_n 0, 1) := dk_42 (dk_at dksX8_noMachine_0 0 rfl rfl)
theorem dX8_noMachine_1 : decode cX8_noMachine 1 = .ok (.iload_n 1, 1) := dk_27 (dk_at dksX8_noMachine_0 1 rfl rfl)
theorem dX8_noMachine_2 : decode cX8_noMachine 2 = .ok (.iconst 0, 1) := dk_3 (dk_at dksX8_noMachine_0 2 rfl rfl)
theorem dX8_noMachine_3 : decode cX8_noMachine 3 = .ok (.aload_n 0, 1) := dk_42 (dk_at dksX8_noMachine_0 3 rfl rfl)
theorem dX8_noMachine_4 : decode cX8_noMachine 4 = .ok (.getfield 17, 3) := dk_180 0 17 (dk_at dksX8_noMachine_0 4 rfl rfl)
theorem dX8_noMachine_7 : decode cX8_noMachine 7 = .ok (.iconst 0, 1) := dk_3 (dk_at dksX8_noMachine_0 7 rfl rfl)
theorem dX8_noMachine_8 : decode cX8_noMachine 8 = .ok (.iaload, 1) := dk_46 (dk_at dksX8_noMachine_0 8 rfl rfl)
theorem dX8_noMachine_9 : decode cX8_noMachine 9 = .ok (.iconst 1, 1) := dk_4 (dk_at dksX8_noMachine_0 9 rfl rfl)
theorem dX8_noMachine_10 : decode cX8_noMachine 10 = .ok (.isub, 1) := dk_100 (dk_at dksX8_noMachine_0 10 rfl rfl)
theorem dX8_noMachine_11 : decode cX8_noMachine 11 = .ok (.invokestatic 73, 3) := dk_184 0 73 (dk_at dksX8_noMachine_0 11 rfl rfl)
theorem dX8_noMachine_14 : decode cX8_noMachine 14 = .ok (.ifCond .ne 7, 3) := dk_154 0 7 (dk_at dksX8_noMachine_0 14 rfl rfl)
theorem dX8_noMachine_17 : decode cX8_noMachine 17 = .ok (.iconst 1, 1) := dk_4 (dk_at dksX8_noMachine_0 17 rfl rfl)
theorem dX8_noMachine_18 : decode cX8_noMachine 18 = .ok (.goto 4, 3) := dk_167 0 4 (dk_at dksX8_noMachine_0 18 rfl rfl)
theorem dX8_noMachine_21 : decode cX8_noMachine 21 = .ok (.iconst 0, 1) := dk_3 (dk_at dksX8_noMachine_0 21 rfl rfl)
theorem dX8_noMachine_22 : decode cX8_noMachine 22 = .ok (.iconst 1, 1) := dk_4 (dk_at dksX8_noMachine_0 22 rfl rfl)
theorem dX8_noMachine_23 : decode cX8_noMachine 23 = .ok (.invokevirtual 174, 3) := dk_182 0 174 (dk_at dksX8_noMachine_1 0 rfl rfl)
theorem dX8_noMachine_26 : decode cX8_noMachine 26 = .ok (.ireturn, 1) := dk_172 (dk_at dksX8_noMachine_1 3 rfl rfl)
abbrev cX8_orderAt : ByteArray := prog_15_method_65_code
def yX8_orderAt : MethodName := ⟨RX8, "orderAt", "(II)I"⟩
def dkwX8_orderAt_2 : List UInt8 := [167, 0, 19, 42, 180, 0, 17, 27, 184, 0, 158, 6, 96, 28, 96, 46, 184, 1, 26, 172]
abbrev dktX8_orderAt_2 : List UInt8 := dkwX8_orderAt_2 ++ []
def dkwX8_orderAt_1 : List UInt8 := [5, 96, 46, 4, 100, 184, 0, 73, 154, 0, 7, 4, 167, 0, 4, 3, 4, 182, 0, 174, 153, 0, 7, 3]
abbrev dktX8_orderAt_1 : List UInt8 := dkwX8_orderAt_1 ++ dktX8_orderAt_2
def dkwX8_orderAt_0 : List UInt8 := [42, 3, 181, 0, 51, 42, 27, 182, 1, 16, 154, 0, 37, 42, 28, 3, 42, 180, 0, 17, 27, 184, 0, 158]
abbrev dktX8_orderAt_0 : List UInt8 := dkwX8_orderAt_0 ++ dktX8_orderAt_1
theorem dksX8_orderAt_0 : cX8_orderAt.data.toList.drop 0 = dktX8_orderAt_0 := by decide +kernel
theorem dksX8_orderAt_1 : cX8_orderAt.data.toList.drop 24 = dktX8_orderAt_1 := dk_seg dksX8_orderAt_0 24 rfl rfl
theorem dksX8_orderAt_2 : cX8_orderAt.data.toList.drop 48 = dktX8_orderAt_2 := dk_seg dksX8_orderAt_1 24 rfl rfl
theorem dX8_orderAt_0 : decode cX8_orderAt 0 = .ok (.aload_n 0, 1) := dk_42 (dk_at dksX8_orderAt_0 0 rfl rfl)
theorem dX8_orderAt_1 : decode cX8_orderAt 1 = .ok (.iconst 0, 1) := dk_3 (dk_at dksX8_orderAt_0 1 rfl rfl)
theorem dX8_orderAt_2 : decode cX8_orderAt 2 = .ok (.putfield 51, 3) := dk_181 0 51 (dk_at dksX8_orderAt_0 2 rfl rfl)
theorem dX8_orderAt_5 : decode cX8_orderAt 5 = .ok (.aload_n 0, 1) := dk_42 (dk_at dksX8_orderAt_0 5 rfl rfl)
theorem dX8_orderAt_6 : decode cX8_orderAt 6 = .ok (.iload_n 1, 1) := dk_27 (dk_at dksX8_orderAt_0 6 rfl rfl)
theorem dX8_orderAt_7 : decode cX8_orderAt 7 = .ok (.invokevirtual 272, 3) := dk_182 1 16 (dk_at dksX8_orderAt_0 7 rfl rfl)
theorem dX8_orderAt_10 : decode cX8_orderAt 10 = .ok (.ifCond .ne 37, 3) := dk_154 0 37 (dk_at dksX8_orderAt_0 10 rfl rfl)
theorem dX8_orderAt_13 : decode cX8_orderAt 13 = .ok (.aload_n 0, 1) := dk_42 (dk_at dksX8_orderAt_0 13 rfl rfl)
theorem dX8_orderAt_14 : decode cX8_orderAt 14 = .ok (.iload_n 2, 1) := dk_28 (dk_at dksX8_orderAt_0 14 rfl rfl)
theorem dX8_orderAt_15 : decode cX8_orderAt 15 = .ok (.iconst 0, 1) := dk_3 (dk_at dksX8_orderAt_0 15 rfl rfl)
theorem dX8_orderAt_16 : decode cX8_orderAt 16 = .ok (.aload_n 0, 1) := dk_42 (dk_at dksX8_orderAt_0 16 rfl rfl)
theorem dX8_orderAt_17 : decode cX8_orderAt 17 = .ok (.getfield 17, 3) := dk_180 0 17 (dk_at dksX8_orderAt_0 17 rfl rfl)
theorem dX8_orderAt_20 : decode cX8_orderAt 20 = .ok (.iload_n 1, 1) := dk_27 (dk_at dksX8_orderAt_0 20 rfl rfl)
theorem dX8_orderAt_21 : decode cX8_orderAt 21 = .ok (.invokestatic 158, 3) := dk_184 0 158 (dk_at dksX8_orderAt_0 21 rfl rfl)
theorem dX8_orderAt_24 : decode cX8_orderAt 24 = .ok (.iconst 2, 1) := dk_5 (dk_at dksX8_orderAt_1 0 rfl rfl)
theorem dX8_orderAt_25 : decode cX8_orderAt 25 = .ok (.iadd, 1) := dk_96 (dk_at dksX8_orderAt_1 1 rfl rfl)
theorem dX8_orderAt_26 : decode cX8_orderAt 26 = .ok (.iaload, 1) := dk_46 (dk_at dksX8_orderAt_1 2 rfl rfl)
theorem dX8_orderAt_27 : decode cX8_orderAt 27 = .ok (.iconst 1, 1) := dk_4 (dk_at dksX8_orderAt_1 3 rfl rfl)
theorem dX8_orderAt_28 : decode cX8_orderAt 28 = .ok (.isub, 1) := dk_100 (dk_at dksX8_orderAt_1 4 rfl rfl)
theorem dX8_orderAt_29 : decode cX8_orderAt 29 = .ok (.invokestatic 73, 3) := dk_184 0 73 (dk_at dksX8_orderAt_1 5 rfl rfl)
theorem dX8_orderAt_32 : decode cX8_orderAt 32 = .ok (.ifCond .ne 7, 3) := dk_154 0 7 (dk_at dksX8_orderAt_1 8 rfl rfl)
theorem dX8_orderAt_35 : decode cX8_orderAt 35 = .ok (.iconst 1, 1) := dk_4 (dk_at dksX8_orderAt_1 11 rfl rfl)
theorem dX8_orderAt_36 : decode cX8_orderAt 36 = .ok (.goto 4, 3) := dk_167 0 4 (dk_at dksX8_orderAt_1 12 rfl rfl)
theorem dX8_orderAt_39 : decode cX8_orderAt 39 = .ok (.iconst 0, 1) := dk_3 (dk_at dksX8_orderAt_1 15 rfl rfl)
theorem dX8_orderAt_40 : decode cX8_orderAt 40 = .ok (.iconst 1, 1) := dk_4 (dk_at dksX8_orderAt_1 16 rfl rfl)
theorem dX8_orderAt_41 : decode cX8_orderAt 41 = .ok (.invokevirtual 174, 3) := dk_182 0 174 (dk_at dksX8_orderAt_1 17 rfl rfl)
theorem dX8_orderAt_44 : decode cX8_orderAt 44 = .ok (.ifCond .eq 7, 3) := dk_153 0 7 (dk_at dksX8_orderAt_1 20 rfl rfl)
theorem dX8_orderAt_47 : decode cX8_orderAt 47 = .ok (.iconst 0, 1) := dk_3 (dk_at dksX8_orderAt_1 23 rfl rfl)
theorem dX8_orderAt_48 : decode cX8_orderAt 48 = .ok (.goto 19, 3) := dk_167 0 19 (dk_at dksX8_orderAt_2 0 rfl rfl)
theorem dX8_orderAt_51 : decode cX8_orderAt 51 = .ok (.aload_n 0, 1) := dk_42 (dk_at dksX8_orderAt_2 3 rfl rfl)
theorem dX8_orderAt_52 : decode cX8_orderAt 52 = .ok (.getfield 17, 3) := dk_180 0 17 (dk_at dksX8_orderAt_2 4 rfl rfl)
theorem dX8_orderAt_55 : decode cX8_orderAt 55 = .ok (.iload_n 1, 1) := dk_27 (dk_at dksX8_orderAt_2 7 rfl rfl)
theorem dX8_orderAt_56 : decode cX8_orderAt 56 = .ok (.invokestatic 158, 3) := dk_184 0 158 (dk_at dksX8_orderAt_2 8 rfl rfl)
theorem dX8_orderAt_59 : decode cX8_orderAt 59 = .ok (.iconst 3, 1) := dk_6 (dk_at dksX8_orderAt_2 11 rfl rfl)
theorem dX8_orderAt_60 : decode cX8_orderAt 60 = .ok (.iadd, 1) := dk_96 (dk_at dksX8_orderAt_2 12 rfl rfl)
theorem dX8_orderAt_61 : decode cX8_orderAt 61 = .ok (.iload_n 2, 1) := dk_28 (dk_at dksX8_orderAt_2 13 rfl rfl)
theorem dX8_orderAt_62 : decode cX8_orderAt 62 = .ok (.iadd, 1) := dk_96 (dk_at dksX8_orderAt_2 14 rfl rfl)
theorem dX8_orderAt_63 : decode cX8_orderAt 63 = .ok (.iaload, 1) := dk_46 (dk_at dksX8_orderAt_2 15 rfl rfl)
theorem dX8_orderAt_64 : decode cX8_orderAt 64 = .ok (.invokestatic 282, 3) := dk_184 1 26 (dk_at dksX8_orderAt_2 16 rfl rfl)
theorem dX8_orderAt_67 : decode cX8_orderAt 67 = .ok (.ireturn, 1) := dk_172 (dk_at dksX8_orderAt_2 19 rfl rfl)
abbrev cX8_told : ByteArray := prog_15_method_55_code
def yX8_told : MethodName := ⟨RX8, "told", "(I)I"⟩
def dkwX8_told_0 : List UInt8 := [16, 10, 26, 16, 6, 108, 104, 26, 16, 6, 112, 96, 172]
abbrev dktX8_told_0 : List UInt8 := dkwX8_told_0 ++ []
theorem dksX8_told_0 : cX8_told.data.toList.drop 0 = dktX8_told_0 := by decide +kernel
theorem dX8_told_0 : decode cX8_told 0 = .ok (.bipush 10, 2) := dk_16 10 (dk_at dksX8_told_0 0 rfl rfl)
theorem dX8_told_2 : decode cX8_told 2 = .ok (.iload_n 0, 1) := dk_26 (dk_at dksX8_told_0 2 rfl rfl)
theorem dX8_told_3 : decode cX8_told 3 = .ok (.bipush 6, 2) := dk_16 6 (dk_at dksX8_told_0 3 rfl rfl)
theorem dX8_told_5 : decode cX8_told 5 = .ok (.idiv, 1) := dk_108 (dk_at dksX8_told_0 5 rfl rfl)
theorem dX8_told_6 : decode cX8_told 6 = .ok (.imul, 1) := dk_104 (dk_at dksX8_told_0 6 rfl rfl)
theorem dX8_told_7 : decode cX8_told 7 = .ok (.iload_n 0, 1) := dk_26 (dk_at dksX8_told_0 7 rfl rfl)
theorem dX8_told_8 : decode cX8_told 8 = .ok (.bipush 6, 2) := dk_16 6 (dk_at dksX8_told_0 8 rfl rfl)
theorem dX8_told_10 : decode cX8_told 10 = .ok (.irem, 1) := dk_112 (dk_at dksX8_told_0 10 rfl rfl)
theorem dX8_told_11 : decode cX8_told 11 = .ok (.iadd, 1) := dk_96 (dk_at dksX8_told_0 11 rfl rfl)
theorem dX8_told_12 : decode cX8_told 12 = .ok (.ireturn, 1) := dk_172 (dk_at dksX8_told_0 12 rfl rfl)
abbrev cX8_start : ByteArray := prog_15_method_66_code
def yX8_start : MethodName := ⟨RX8, "start", "(II)I"⟩
def dkwX8_start_1 : List UInt8 := [167, 0, 14, 42, 180, 0, 37, 16, 6, 27, 104, 28, 96, 46, 172]
abbrev dktX8_start_1 : List UInt8 := dkwX8_start_1 ++ []
def dkwX8_start_0 : List UInt8 := [42, 3, 181, 0, 51, 42, 27, 28, 182, 1, 19, 154, 0, 10, 42, 182, 0, 217, 154, 0, 7, 3]
abbrev dktX8_start_0 : List UInt8 := dkwX8_start_0 ++ dktX8_start_1
theorem dksX8_start_0 : cX8_start.data.toList.drop 0 = dktX8_start_0 := by decide +kernel
theorem dksX8_start_1 : cX8_start.data.toList.drop 22 = dktX8_start_1 := dk_seg dksX8_start_0 22 rfl rfl
theorem dX8_start_0 : decode cX8_start 0 = .ok (.aload_n 0, 1) := dk_42 (dk_at dksX8_start_0 0 rfl rfl)
theorem dX8_start_1 : decode cX8_start 1 = .ok (.iconst 0, 1) := dk_3 (dk_at dksX8_start_0 1 rfl rfl)
theorem dX8_start_2 : decode cX8_start 2 = .ok (.putfield 51, 3) := dk_181 0 51 (dk_at dksX8_start_0 2 rfl rfl)
theorem dX8_start_5 : decode cX8_start 5 = .ok (.aload_n 0, 1) := dk_42 (dk_at dksX8_start_0 5 rfl rfl)
theorem dX8_start_6 : decode cX8_start 6 = .ok (.iload_n 1, 1) := dk_27 (dk_at dksX8_start_0 6 rfl rfl)
theorem dX8_start_7 : decode cX8_start 7 = .ok (.iload_n 2, 1) := dk_28 (dk_at dksX8_start_0 7 rfl rfl)
theorem dX8_start_8 : decode cX8_start 8 = .ok (.invokevirtual 275, 3) := dk_182 1 19 (dk_at dksX8_start_0 8 rfl rfl)
theorem dX8_start_11 : decode cX8_start 11 = .ok (.ifCond .ne 10, 3) := dk_154 0 10 (dk_at dksX8_start_0 11 rfl rfl)
theorem dX8_start_14 : decode cX8_start 14 = .ok (.aload_n 0, 1) := dk_42 (dk_at dksX8_start_0 14 rfl rfl)
theorem dX8_start_15 : decode cX8_start 15 = .ok (.invokevirtual 217, 3) := dk_182 0 217 (dk_at dksX8_start_0 15 rfl rfl)
theorem dX8_start_18 : decode cX8_start 18 = .ok (.ifCond .ne 7, 3) := dk_154 0 7 (dk_at dksX8_start_0 18 rfl rfl)
theorem dX8_start_21 : decode cX8_start 21 = .ok (.iconst 0, 1) := dk_3 (dk_at dksX8_start_0 21 rfl rfl)
theorem dX8_start_22 : decode cX8_start 22 = .ok (.goto 14, 3) := dk_167 0 14 (dk_at dksX8_start_1 0 rfl rfl)
theorem dX8_start_25 : decode cX8_start 25 = .ok (.aload_n 0, 1) := dk_42 (dk_at dksX8_start_1 3 rfl rfl)
theorem dX8_start_26 : decode cX8_start 26 = .ok (.getfield 37, 3) := dk_180 0 37 (dk_at dksX8_start_1 4 rfl rfl)
theorem dX8_start_29 : decode cX8_start 29 = .ok (.bipush 6, 2) := dk_16 6 (dk_at dksX8_start_1 7 rfl rfl)
theorem dX8_start_31 : decode cX8_start 31 = .ok (.iload_n 1, 1) := dk_27 (dk_at dksX8_start_1 9 rfl rfl)
theorem dX8_start_32 : decode cX8_start 32 = .ok (.imul, 1) := dk_104 (dk_at dksX8_start_1 10 rfl rfl)
theorem dX8_start_33 : decode cX8_start 33 = .ok (.iload_n 2, 1) := dk_28 (dk_at dksX8_start_1 11 rfl rfl)
theorem dX8_start_34 : decode cX8_start 34 = .ok (.iadd, 1) := dk_96 (dk_at dksX8_start_1 12 rfl rfl)
theorem dX8_start_35 : decode cX8_start 35 = .ok (.iaload, 1) := dk_46 (dk_at dksX8_start_1 13 rfl rfl)
theorem dX8_start_36 : decode cX8_start 36 = .ok (.ireturn, 1) := dk_172 (dk_at dksX8_start_1 14 rfl rfl)
abbrev cX8_findStarts : ByteArray := prog_15_method_40_code
def yX8_findStarts : MethodName := ⟨RX8, "findStarts", "()Z"⟩
def dkwX8_findStarts_3 : List UInt8 := [154, 0, 5, 4, 172, 132, 1, 1, 167, 255, 207, 3, 172]
abbrev dktX8_findStarts_3 : List UInt8 := dkwX8_findStarts_3 ++ []
def dkwX8_findStarts_2 : List UInt8 := [182, 0, 211, 153, 0, 13, 42, 29, 182, 0, 214, 153, 0, 5, 4, 61, 132, 3, 1, 167, 255, 229, 28]
abbrev dktX8_findStarts_2 : List UInt8 := dkwX8_findStarts_2 ++ dktX8_findStarts_3
def dkwX8_findStarts_1 : List UInt8 := [167, 255, 240, 3, 60, 27, 16, 36, 163, 0, 49, 3, 61, 3, 62, 29, 16, 36, 162, 0, 27, 42, 29]
abbrev dktX8_findStarts_1 : List UInt8 := dkwX8_findStarts_1 ++ dktX8_findStarts_2
def dkwX8_findStarts_0 : List UInt8 := [42, 182, 0, 208, 3, 60, 27, 16, 36, 162, 0, 16, 42, 180, 0, 37, 27, 3, 79, 132, 1, 1]
abbrev dktX8_findStarts_0 : List UInt8 := dkwX8_findStarts_0 ++ dktX8_findStarts_1
theorem dksX8_findStarts_0 : cX8_findStarts.data.toList.drop 0 = dktX8_findStarts_0 := by decide +kernel
theorem dksX8_findStarts_1 : cX8_findStarts.data.toList.drop 22 = dktX8_findStarts_1 := dk_seg dksX8_findStarts_0 22 rfl rfl
theorem dksX8_findStarts_2 : cX8_findStarts.data.toList.drop 45 = dktX8_findStarts_2 := dk_seg dksX8_findStarts_1 23 rfl rfl
theorem dksX8_findStarts_3 : cX8_findStarts.data.toList.drop 68 = dktX8_findStarts_3 := dk_seg dksX8_findStarts_2 23 rfl rfl
theorem dX8_findStarts_0 : decode cX8_findStarts 0 = .ok (.aload_n 0, 1) := dk_42 (dk_at dksX8_findStarts_0 0 rfl rfl)
theorem dX8_findStarts_1 : decode cX8_findStarts 1 = .ok (.invokevirtual 208, 3) := dk_182 0 208 (dk_at dksX8_findStarts_0 1 rfl rfl)
theorem dX8_findStarts_4 : decode cX8_findStarts 4 = .ok (.iconst 0, 1) := dk_3 (dk_at dksX8_findStarts_0 4 rfl rfl)
theorem dX8_findStarts_5 : decode cX8_findStarts 5 = .ok (.istore_n 1, 1) := dk_60 (dk_at dksX8_findStarts_0 5 rfl rfl)
theorem dX8_findStarts_6 : decode cX8_findStarts 6 = .ok (.iload_n 1, 1) := dk_27 (dk_at dksX8_findStarts_0 6 rfl rfl)
theorem dX8_findStarts_7 : decode cX8_findStarts 7 = .ok (.bipush 36, 2) := dk_16 36 (dk_at dksX8_findStarts_0 7 rfl rfl)
theorem dX8_findStarts_9 : decode cX8_findStarts 9 = .ok (.if_icmp .ge 16, 3) := dk_162 0 16 (dk_at dksX8_findStarts_0 9 rfl rfl)
theorem dX8_findStarts_12 : decode cX8_findStarts 12 = .ok (.aload_n 0, 1) := dk_42 (dk_at dksX8_findStarts_0 12 rfl rfl)
theorem dX8_findStarts_13 : decode cX8_findStarts 13 = .ok (.getfield 37, 3) := dk_180 0 37 (dk_at dksX8_findStarts_0 13 rfl rfl)
theorem dX8_findStarts_16 : decode cX8_findStarts 16 = .ok (.iload_n 1, 1) := dk_27 (dk_at dksX8_findStarts_0 16 rfl rfl)
theorem dX8_findStarts_17 : decode cX8_findStarts 17 = .ok (.iconst 0, 1) := dk_3 (dk_at dksX8_findStarts_0 17 rfl rfl)
theorem dX8_findStarts_18 : decode cX8_findStarts 18 = .ok (.iastore, 1) := dk_79 (dk_at dksX8_findStarts_0 18 rfl rfl)
theorem dX8_findStarts_19 : decode cX8_findStarts 19 = .ok (.iinc 1 1, 3) := dk_132 1 1 (dk_at dksX8_findStarts_0 19 rfl rfl)
theorem dX8_findStarts_22 : decode cX8_findStarts 22 = .ok (.goto (-16), 3) := dk_167 255 240 (dk_at dksX8_findStarts_1 0 rfl rfl)
theorem dX8_findStarts_25 : decode cX8_findStarts 25 = .ok (.iconst 0, 1) := dk_3 (dk_at dksX8_findStarts_1 3 rfl rfl)
theorem dX8_findStarts_26 : decode cX8_findStarts 26 = .ok (.istore_n 1, 1) := dk_60 (dk_at dksX8_findStarts_1 4 rfl rfl)
theorem dX8_findStarts_27 : decode cX8_findStarts 27 = .ok (.iload_n 1, 1) := dk_27 (dk_at dksX8_findStarts_1 5 rfl rfl)
theorem dX8_findStarts_28 : decode cX8_findStarts 28 = .ok (.bipush 36, 2) := dk_16 36 (dk_at dksX8_findStarts_1 6 rfl rfl)
theorem dX8_findStarts_30 : decode cX8_findStarts 30 = .ok (.if_icmp .gt 49, 3) := dk_163 0 49 (dk_at dksX8_findStarts_1 8 rfl rfl)
theorem dX8_findStarts_33 : decode cX8_findStarts 33 = .ok (.iconst 0, 1) := dk_3 (dk_at dksX8_findStarts_1 11 rfl rfl)
theorem dX8_findStarts_34 : decode cX8_findStarts 34 = .ok (.istore_n 2, 1) := dk_61 (dk_at dksX8_findStarts_1 12 rfl rfl)
theorem dX8_findStarts_35 : decode cX8_findStarts 35 = .ok (.iconst 0, 1) := dk_3 (dk_at dksX8_findStarts_1 13 rfl rfl)
theorem dX8_findStarts_36 : decode cX8_findStarts 36 = .ok (.istore_n 3, 1) := dk_62 (dk_at dksX8_findStarts_1 14 rfl rfl)
theorem dX8_findStarts_37 : decode cX8_findStarts 37 = .ok (.iload_n 3, 1) := dk_29 (dk_at dksX8_findStarts_1 15 rfl rfl)
theorem dX8_findStarts_38 : decode cX8_findStarts 38 = .ok (.bipush 36, 2) := dk_16 36 (dk_at dksX8_findStarts_1 16 rfl rfl)
theorem dX8_findStarts_40 : decode cX8_findStarts 40 = .ok (.if_icmp .ge 27, 3) := dk_162 0 27 (dk_at dksX8_findStarts_1 18 rfl rfl)
theorem dX8_findStarts_43 : decode cX8_findStarts 43 = .ok (.aload_n 0, 1) := dk_42 (dk_at dksX8_findStarts_1 21 rfl rfl)
theorem dX8_findStarts_44 : decode cX8_findStarts 44 = .ok (.iload_n 3, 1) := dk_29 (dk_at dksX8_findStarts_1 22 rfl rfl)
theorem dX8_findStarts_45 : decode cX8_findStarts 45 = .ok (.invokevirtual 211, 3) := dk_182 0 211 (dk_at dksX8_findStarts_2 0 rfl rfl)
theorem dX8_findStarts_48 : decode cX8_findStarts 48 = .ok (.ifCond .eq 13, 3) := dk_153 0 13 (dk_at dksX8_findStarts_2 3 rfl rfl)
theorem dX8_findStarts_51 : decode cX8_findStarts 51 = .ok (.aload_n 0, 1) := dk_42 (dk_at dksX8_findStarts_2 6 rfl rfl)
theorem dX8_findStarts_52 : decode cX8_findStarts 52 = .ok (.iload_n 3, 1) := dk_29 (dk_at dksX8_findStarts_2 7 rfl rfl)
theorem dX8_findStarts_53 : decode cX8_findStarts 53 = .ok (.invokevirtual 214, 3) := dk_182 0 214 (dk_at dksX8_findStarts_2 8 rfl rfl)
theorem dX8_findStarts_56 : decode cX8_findStarts 56 = .ok (.ifCond .eq 5, 3) := dk_153 0 5 (dk_at dksX8_findStarts_2 11 rfl rfl)
theorem dX8_findStarts_59 : decode cX8_findStarts 59 = .ok (.iconst 1, 1) := dk_4 (dk_at dksX8_findStarts_2 14 rfl rfl)
theorem dX8_findStarts_60 : decode cX8_findStarts 60 = .ok (.istore_n 2, 1) := dk_61 (dk_at dksX8_findStarts_2 15 rfl rfl)
theorem dX8_findStarts_61 : decode cX8_findStarts 61 = .ok (.iinc 3 1, 3) := dk_132 3 1 (dk_at dksX8_findStarts_2 16 rfl rfl)
theorem dX8_findStarts_64 : decode cX8_findStarts 64 = .ok (.goto (-27), 3) := dk_167 255 229 (dk_at dksX8_findStarts_2 19 rfl rfl)
theorem dX8_findStarts_67 : decode cX8_findStarts 67 = .ok (.iload_n 2, 1) := dk_28 (dk_at dksX8_findStarts_2 22 rfl rfl)
theorem dX8_findStarts_68 : decode cX8_findStarts 68 = .ok (.ifCond .ne 5, 3) := dk_154 0 5 (dk_at dksX8_findStarts_3 0 rfl rfl)
theorem dX8_findStarts_71 : decode cX8_findStarts 71 = .ok (.iconst 1, 1) := dk_4 (dk_at dksX8_findStarts_3 3 rfl rfl)
theorem dX8_findStarts_72 : decode cX8_findStarts 72 = .ok (.ireturn, 1) := dk_172 (dk_at dksX8_findStarts_3 4 rfl rfl)
theorem dX8_findStarts_73 : decode cX8_findStarts 73 = .ok (.iinc 1 1, 3) := dk_132 1 1 (dk_at dksX8_findStarts_3 5 rfl rfl)
theorem dX8_findStarts_76 : decode cX8_findStarts 76 = .ok (.goto (-49), 3) := dk_167 255 207 (dk_at dksX8_findStarts_3 8 rfl rfl)
theorem dX8_findStarts_79 : decode cX8_findStarts 79 = .ok (.iconst 0, 1) := dk_3 (dk_at dksX8_findStarts_3 11 rfl rfl)
theorem dX8_findStarts_80 : decode cX8_findStarts 80 = .ok (.ireturn, 1) := dk_172 (dk_at dksX8_findStarts_3 12 rfl rfl)
abbrev cX8_layArcs : ByteArray := prog_15_method_38_code
def yX8_layArcs : MethodName := ⟨RX8, "layArcs", "()V"⟩
def dkwX8_layArcs_6 : List UInt8 := [132, 1, 1, 167, 255, 132, 177]
abbrev dktX8_layArcs_6 : List UInt8 := dkwX8_layArcs_6 ++ []
def dkwX8_layArcs_5 : List UInt8 := [182, 0, 199, 153, 0, 7, 3, 167, 0, 9, 42, 21, 4, 182, 0, 202, 96, 79, 132, 3, 1, 167, 255, 155]
abbrev dktX8_layArcs_5 : List UInt8 := dkwX8_layArcs_5 ++ dktX8_layArcs_6
def dkwX8_layArcs_4 : List UInt8 := [96, 167, 0, 5, 21, 4, 79, 42, 180, 0, 34, 21, 5, 42, 180, 0, 17, 28, 4, 96, 46, 42, 21, 4]
abbrev dktX8_layArcs_4 : List UInt8 := dkwX8_layArcs_4 ++ dktX8_layArcs_5
def dkwX8_layArcs_3 : List UInt8 := [96, 29, 96, 46, 54, 5, 42, 180, 0, 31, 21, 5, 42, 21, 4, 182, 0, 199, 153, 0, 10, 21, 4, 4]
abbrev dktX8_layArcs_3 : List UInt8 := dkwX8_layArcs_3 ++ dktX8_layArcs_4
def dkwX8_layArcs_2 : List UInt8 := [46, 162, 0, 95, 42, 180, 0, 17, 28, 6, 96, 29, 96, 4, 100, 46, 54, 4, 42, 180, 0, 17, 28, 6]
abbrev dktX8_layArcs_2 : List UInt8 := dkwX8_layArcs_2 ++ dktX8_layArcs_3
def dkwX8_layArcs_1 : List UInt8 := [42, 180, 0, 17, 3, 46, 162, 0, 120, 27, 184, 0, 158, 61, 4, 62, 29, 42, 180, 0, 17, 28, 5, 96]
abbrev dktX8_layArcs_1 : List UInt8 := dkwX8_layArcs_1 ++ dktX8_layArcs_2
def dkwX8_layArcs_0 : List UInt8 := [3, 60, 27, 16, 36, 162, 0, 16, 42, 180, 0, 31, 27, 2, 79, 132, 1, 1, 167, 255, 240, 3, 60, 27]
abbrev dktX8_layArcs_0 : List UInt8 := dkwX8_layArcs_0 ++ dktX8_layArcs_1
theorem dksX8_layArcs_0 : cX8_layArcs.data.toList.drop 0 = dktX8_layArcs_0 := by decide +kernel
theorem dksX8_layArcs_1 : cX8_layArcs.data.toList.drop 24 = dktX8_layArcs_1 := dk_seg dksX8_layArcs_0 24 rfl rfl
theorem dksX8_layArcs_2 : cX8_layArcs.data.toList.drop 48 = dktX8_layArcs_2 := dk_seg dksX8_layArcs_1 24 rfl rfl
theorem dksX8_layArcs_3 : cX8_layArcs.data.toList.drop 72 = dktX8_layArcs_3 := dk_seg dksX8_layArcs_2 24 rfl rfl
theorem dksX8_layArcs_4 : cX8_layArcs.data.toList.drop 96 = dktX8_layArcs_4 := dk_seg dksX8_layArcs_3 24 rfl rfl
theorem dksX8_layArcs_5 : cX8_layArcs.data.toList.drop 120 = dktX8_layArcs_5 := dk_seg dksX8_layArcs_4 24 rfl rfl
theorem dksX8_layArcs_6 : cX8_layArcs.data.toList.drop 144 = dktX8_layArcs_6 := dk_seg dksX8_layArcs_5 24 rfl rfl
theorem dX8_layArcs_0 : decode cX8_layArcs 0 = .ok (.iconst 0, 1) := dk_3 (dk_at dksX8_layArcs_0 0 rfl rfl)
theorem dX8_layArcs_1 : decode cX8_layArcs 1 = .ok (.istore_n 1, 1) := dk_60 (dk_at dksX8_layArcs_0 1 rfl rfl)
theorem dX8_layArcs_2 : decode cX8_layArcs 2 = .ok (.iload_n 1, 1) := dk_27 (dk_at dksX8_layArcs_0 2 rfl rfl)
theorem dX8_layArcs_3 : decode cX8_layArcs 3 = .ok (.bipush 36, 2) := dk_16 36 (dk_at dksX8_layArcs_0 3 rfl rfl)
theorem dX8_layArcs_5 : decode cX8_layArcs 5 = .ok (.if_icmp .ge 16, 3) := dk_162 0 16 (dk_at dksX8_layArcs_0 5 rfl rfl)
theorem dX8_layArcs_8 : decode cX8_layArcs 8 = .ok (.aload_n 0, 1) := dk_42 (dk_at dksX8_layArcs_0 8 rfl rfl)
theorem dX8_layArcs_9 : decode cX8_layArcs 9 = .ok (.getfield 31, 3) := dk_180 0 31 (dk_at dksX8_layArcs_0 9 rfl rfl)
theorem dX8_layArcs_12 : decode cX8_layArcs 12 = .ok (.iload_n 1, 1) := dk_27 (dk_at dksX8_layArcs_0 12 rfl rfl)
theorem dX8_layArcs_13 : decode cX8_layArcs 13 = .ok (.iconst (-1), 1) := dk_2 (dk_at dksX8_layArcs_0 13 rfl rfl)
theorem dX8_layArcs_14 : decode cX8_layArcs 14 = .ok (.iastore, 1) := dk_79 (dk_at dksX8_layArcs_0 14 rfl rfl)
theorem dX8_layArcs_15 : decode cX8_layArcs 15 = .ok (.iinc 1 1, 3) := dk_132 1 1 (dk_at dksX8_layArcs_0 15 rfl rfl)
theorem dX8_layArcs_18 : decode cX8_layArcs 18 = .ok (.goto (-16), 3) := dk_167 255 240 (dk_at dksX8_layArcs_0 18 rfl rfl)
theorem dX8_layArcs_21 : decode cX8_layArcs 21 = .ok (.iconst 0, 1) := dk_3 (dk_at dksX8_layArcs_0 21 rfl rfl)
theorem dX8_layArcs_22 : decode cX8_layArcs 22 = .ok (.istore_n 1, 1) := dk_60 (dk_at dksX8_layArcs_0 22 rfl rfl)
theorem dX8_layArcs_23 : decode cX8_layArcs 23 = .ok (.iload_n 1, 1) := dk_27 (dk_at dksX8_layArcs_0 23 rfl rfl)
theorem dX8_layArcs_24 : decode cX8_layArcs 24 = .ok (.aload_n 0, 1) := dk_42 (dk_at dksX8_layArcs_1 0 rfl rfl)
theorem dX8_layArcs_25 : decode cX8_layArcs 25 = .ok (.getfield 17, 3) := dk_180 0 17 (dk_at dksX8_layArcs_1 1 rfl rfl)
theorem dX8_layArcs_28 : decode cX8_layArcs 28 = .ok (.iconst 0, 1) := dk_3 (dk_at dksX8_layArcs_1 4 rfl rfl)
theorem dX8_layArcs_29 : decode cX8_layArcs 29 = .ok (.iaload, 1) := dk_46 (dk_at dksX8_layArcs_1 5 rfl rfl)
theorem dX8_layArcs_30 : decode cX8_layArcs 30 = .ok (.if_icmp .ge 120, 3) := dk_162 0 120 (dk_at dksX8_layArcs_1 6 rfl rfl)
theorem dX8_layArcs_33 : decode cX8_layArcs 33 = .ok (.iload_n 1, 1) := dk_27 (dk_at dksX8_layArcs_1 9 rfl rfl)
theorem dX8_layArcs_34 : decode cX8_layArcs 34 = .ok (.invokestatic 158, 3) := dk_184 0 158 (dk_at dksX8_layArcs_1 10 rfl rfl)
theorem dX8_layArcs_37 : decode cX8_layArcs 37 = .ok (.istore_n 2, 1) := dk_61 (dk_at dksX8_layArcs_1 13 rfl rfl)
theorem dX8_layArcs_38 : decode cX8_layArcs 38 = .ok (.iconst 1, 1) := dk_4 (dk_at dksX8_layArcs_1 14 rfl rfl)
theorem dX8_layArcs_39 : decode cX8_layArcs 39 = .ok (.istore_n 3, 1) := dk_62 (dk_at dksX8_layArcs_1 15 rfl rfl)
theorem dX8_layArcs_40 : decode cX8_layArcs 40 = .ok (.iload_n 3, 1) := dk_29 (dk_at dksX8_layArcs_1 16 rfl rfl)
theorem dX8_layArcs_41 : decode cX8_layArcs 41 = .ok (.aload_n 0, 1) := dk_42 (dk_at dksX8_layArcs_1 17 rfl rfl)
theorem dX8_layArcs_42 : decode cX8_layArcs 42 = .ok (.getfield 17, 3) := dk_180 0 17 (dk_at dksX8_layArcs_1 18 rfl rfl)
theorem dX8_layArcs_45 : decode cX8_layArcs 45 = .ok (.iload_n 2, 1) := dk_28 (dk_at dksX8_layArcs_1 21 rfl rfl)
theorem dX8_layArcs_46 : decode cX8_layArcs 46 = .ok (.iconst 2, 1) := dk_5 (dk_at dksX8_layArcs_1 22 rfl rfl)
theorem dX8_layArcs_47 : decode cX8_layArcs 47 = .ok (.iadd, 1) := dk_96 (dk_at dksX8_layArcs_1 23 rfl rfl)
theorem dX8_layArcs_48 : decode cX8_layArcs 48 = .ok (.iaload, 1) := dk_46 (dk_at dksX8_layArcs_2 0 rfl rfl)
theorem dX8_layArcs_49 : decode cX8_layArcs 49 = .ok (.if_icmp .ge 95, 3) := dk_162 0 95 (dk_at dksX8_layArcs_2 1 rfl rfl)
theorem dX8_layArcs_52 : decode cX8_layArcs 52 = .ok (.aload_n 0, 1) := dk_42 (dk_at dksX8_layArcs_2 4 rfl rfl)
theorem dX8_layArcs_53 : decode cX8_layArcs 53 = .ok (.getfield 17, 3) := dk_180 0 17 (dk_at dksX8_layArcs_2 5 rfl rfl)
theorem dX8_layArcs_56 : decode cX8_layArcs 56 = .ok (.iload_n 2, 1) := dk_28 (dk_at dksX8_layArcs_2 8 rfl rfl)
theorem dX8_layArcs_57 : decode cX8_layArcs 57 = .ok (.iconst 3, 1) := dk_6 (dk_at dksX8_layArcs_2 9 rfl rfl)
theorem dX8_layArcs_58 : decode cX8_layArcs 58 = .ok (.iadd, 1) := dk_96 (dk_at dksX8_layArcs_2 10 rfl rfl)
theorem dX8_layArcs_59 : decode cX8_layArcs 59 = .ok (.iload_n 3, 1) := dk_29 (dk_at dksX8_layArcs_2 11 rfl rfl)
theorem dX8_layArcs_60 : decode cX8_layArcs 60 = .ok (.iadd, 1) := dk_96 (dk_at dksX8_layArcs_2 12 rfl rfl)
theorem dX8_layArcs_61 : decode cX8_layArcs 61 = .ok (.iconst 1, 1) := dk_4 (dk_at dksX8_layArcs_2 13 rfl rfl)
theorem dX8_layArcs_62 : decode cX8_layArcs 62 = .ok (.isub, 1) := dk_100 (dk_at dksX8_layArcs_2 14 rfl rfl)
theorem dX8_layArcs_63 : decode cX8_layArcs 63 = .ok (.iaload, 1) := dk_46 (dk_at dksX8_layArcs_2 15 rfl rfl)
theorem dX8_layArcs_64 : decode cX8_layArcs 64 = .ok (.istore 4, 2) := dk_54 4 (dk_at dksX8_layArcs_2 16 rfl rfl)
theorem dX8_layArcs_66 : decode cX8_layArcs 66 = .ok (.aload_n 0, 1) := dk_42 (dk_at dksX8_layArcs_2 18 rfl rfl)
theorem dX8_layArcs_67 : decode cX8_layArcs 67 = .ok (.getfield 17, 3) := dk_180 0 17 (dk_at dksX8_layArcs_2 19 rfl rfl)
theorem dX8_layArcs_70 : decode cX8_layArcs 70 = .ok (.iload_n 2, 1) := dk_28 (dk_at dksX8_layArcs_2 22 rfl rfl)
theorem dX8_layArcs_71 : decode cX8_layArcs 71 = .ok (.iconst 3, 1) := dk_6 (dk_at dksX8_layArcs_2 23 rfl rfl)
theorem dX8_layArcs_72 : decode cX8_layArcs 72 = .ok (.iadd, 1) := dk_96 (dk_at dksX8_layArcs_3 0 rfl rfl)
theorem dX8_layArcs_73 : decode cX8_layArcs 73 = .ok (.iload_n 3, 1) := dk_29 (dk_at dksX8_layArcs_3 1 rfl rfl)
theorem dX8_layArcs_74 : decode cX8_layArcs 74 = .ok (.iadd, 1) := dk_96 (dk_at dksX8_layArcs_3 2 rfl rfl)
theorem dX8_layArcs_75 : decode cX8_layArcs 75 = .ok (.iaload, 1) := dk_46 (dk_at dksX8_layArcs_3 3 rfl rfl)
theorem dX8_layArcs_76 : decode cX8_layArcs 76 = .ok (.istore 5, 2) := dk_54 5 (dk_at dksX8_layArcs_3 4 rfl rfl)
theorem dX8_layArcs_78 : decode cX8_layArcs 78 = .ok (.aload_n 0, 1) := dk_42 (dk_at dksX8_layArcs_3 6 rfl rfl)
theorem dX8_layArcs_79 : decode cX8_layArcs 79 = .ok (.getfield 31, 3) := dk_180 0 31 (dk_at dksX8_layArcs_3 7 rfl rfl)
theorem dX8_layArcs_82 : decode cX8_layArcs 82 = .ok (.iload 5, 2) := dk_21 5 (dk_at dksX8_layArcs_3 10 rfl rfl)
theorem dX8_layArcs_84 : decode cX8_layArcs 84 = .ok (.aload_n 0, 1) := dk_42 (dk_at dksX8_layArcs_3 12 rfl rfl)
theorem dX8_layArcs_85 : decode cX8_layArcs 85 = .ok (.iload 4, 2) := dk_21 4 (dk_at dksX8_layArcs_3 13 rfl rfl)
theorem dX8_layArcs_87 : decode cX8_layArcs 87 = .ok (.invokevirtual 199, 3) := dk_182 0 199 (dk_at dksX8_layArcs_3 15 rfl rfl)
theorem dX8_layArcs_90 : decode cX8_layArcs 90 = .ok (.ifCond .eq 10, 3) := dk_153 0 10 (dk_at dksX8_layArcs_3 18 rfl rfl)
theorem dX8_layArcs_93 : decode cX8_layArcs 93 = .ok (.iload 4, 2) := dk_21 4 (dk_at dksX8_layArcs_3 21 rfl rfl)
theorem dX8_layArcs_95 : decode cX8_layArcs 95 = .ok (.iconst 1, 1) := dk_4 (dk_at dksX8_layArcs_3 23 rfl rfl)
theorem dX8_layArcs_96 : decode cX8_layArcs 96 = .ok (.iadd, 1) := dk_96 (dk_at dksX8_layArcs_4 0 rfl rfl)
theorem dX8_layArcs_97 : decode cX8_layArcs 97 = .ok (.goto 5, 3) := dk_167 0 5 (dk_at dksX8_layArcs_4 1 rfl rfl)
theorem dX8_layArcs_100 : decode cX8_layArcs 100 = .ok (.iload 4, 2) := dk_21 4 (dk_at dksX8_layArcs_4 4 rfl rfl)
theorem dX8_layArcs_102 : decode cX8_layArcs 102 = .ok (.iastore, 1) := dk_79 (dk_at dksX8_layArcs_4 6 rfl rfl)
theorem dX8_layArcs_103 : decode cX8_layArcs 103 = .ok (.aload_n 0, 1) := dk_42 (dk_at dksX8_layArcs_4 7 rfl rfl)
theorem dX8_layArcs_104 : decode cX8_layArcs 104 = .ok (.getfield 34, 3) := dk_180 0 34 (dk_at dksX8_layArcs_4 8 rfl rfl)
theorem dX8_layArcs_107 : decode cX8_layArcs 107 = .ok (.iload 5, 2) := dk_21 5 (dk_at dksX8_layArcs_4 11 rfl rfl)
theorem dX8_layArcs_109 : decode cX8_layArcs 109 = .ok (.aload_n 0, 1) := dk_42 (dk_at dksX8_layArcs_4 13 rfl rfl)
theorem dX8_layArcs_110 : decode cX8_layArcs 110 = .ok (.getfield 17, 3) := dk_180 0 17 (dk_at dksX8_layArcs_4 14 rfl rfl)
theorem dX8_layArcs_113 : decode cX8_layArcs 113 = .ok (.iload_n 2, 1) := dk_28 (dk_at dksX8_layArcs_4 17 rfl rfl)
theorem dX8_layArcs_114 : decode cX8_layArcs 114 = .ok (.iconst 1, 1) := dk_4 (dk_at dksX8_layArcs_4 18 rfl rfl)
theorem dX8_layArcs_115 : decode cX8_layArcs 115 = .ok (.iadd, 1) := dk_96 (dk_at dksX8_layArcs_4 19 rfl rfl)
theorem dX8_layArcs_116 : decode cX8_layArcs 116 = .ok (.iaload, 1) := dk_46 (dk_at dksX8_layArcs_4 20 rfl rfl)
theorem dX8_layArcs_117 : decode cX8_layArcs 117 = .ok (.aload_n 0, 1) := dk_42 (dk_at dksX8_layArcs_4 21 rfl rfl)
theorem dX8_layArcs_118 : decode cX8_layArcs 118 = .ok (.iload 4, 2) := dk_21 4 (dk_at dksX8_layArcs_4 22 rfl rfl)
theorem dX8_layArcs_120 : decode cX8_layArcs 120 = .ok (.invokevirtual 199, 3) := dk_182 0 199 (dk_at dksX8_layArcs_5 0 rfl rfl)
theorem dX8_layArcs_123 : decode cX8_layArcs 123 = .ok (.ifCond .eq 7, 3) := dk_153 0 7 (dk_at dksX8_layArcs_5 3 rfl rfl)
theorem dX8_layArcs_126 : decode cX8_layArcs 126 = .ok (.iconst 0, 1) := dk_3 (dk_at dksX8_layArcs_5 6 rfl rfl)
theorem dX8_layArcs_127 : decode cX8_layArcs 127 = .ok (.goto 9, 3) := dk_167 0 9 (dk_at dksX8_layArcs_5 7 rfl rfl)
theorem dX8_layArcs_130 : decode cX8_layArcs 130 = .ok (.aload_n 0, 1) := dk_42 (dk_at dksX8_layArcs_5 10 rfl rfl)
theorem dX8_layArcs_131 : decode cX8_layArcs 131 = .ok (.iload 4, 2) := dk_21 4 (dk_at dksX8_layArcs_5 11 rfl rfl)
theorem dX8_layArcs_133 : decode cX8_layArcs 133 = .ok (.invokevirtual 202, 3) := dk_182 0 202 (dk_at dksX8_layArcs_5 13 rfl rfl)
theorem dX8_layArcs_136 : decode cX8_layArcs 136 = .ok (.iadd, 1) := dk_96 (dk_at dksX8_layArcs_5 16 rfl rfl)
theorem dX8_layArcs_137 : decode cX8_layArcs 137 = .ok (.iastore, 1) := dk_79 (dk_at dksX8_layArcs_5 17 rfl rfl)
theorem dX8_layArcs_138 : decode cX8_layArcs 138 = .ok (.iinc 3 1, 3) := dk_132 3 1 (dk_at dksX8_layArcs_5 18 rfl rfl)
theorem dX8_layArcs_141 : decode cX8_layArcs 141 = .ok (.goto (-101), 3) := dk_167 255 155 (dk_at dksX8_layArcs_5 21 rfl rfl)
theorem dX8_layArcs_144 : decode cX8_layArcs 144 = .ok (.iinc 1 1, 3) := dk_132 1 1 (dk_at dksX8_layArcs_6 0 rfl rfl)
theorem dX8_layArcs_147 : decode cX8_layArcs 147 = .ok (.goto (-124), 3) := dk_167 255 132 (dk_at dksX8_layArcs_6 3 rfl rfl)
theorem dX8_layArcs_150 : decode cX8_layArcs 150 = .ok (.return_, 1) := dk_177 (dk_at dksX8_layArcs_6 6 rfl rfl)
abbrev cX8_isBlocking : ByteArray := prog_15_method_37_code
def yX8_isBlocking : MethodName := ⟨RX8, "isBlocking", "(I)Z"⟩
def dkwX8_isBlocking_1 : List UInt8 := [4, 167, 0, 4, 3, 172]
abbrev dktX8_isBlocking_1 : List UInt8 := dkwX8_isBlocking_1 ++ []
def dkwX8_isBlocking_0 : List UInt8 := [42, 180, 0, 17, 42, 27, 182, 0, 193, 184, 0, 158, 46, 154, 0, 15, 42, 27, 182, 0, 196, 154, 0, 7]
abbrev dktX8_isBlocking_0 : List UInt8 := dkwX8_isBlocking_0 ++ dktX8_isBlocking_1
theorem dksX8_isBlocking_0 : cX8_isBlocking.data.toList.drop 0 = dktX8_isBlocking_0 := by decide +kernel
theorem dksX8_isBlocking_1 : cX8_isBlocking.data.toList.drop 24 = dktX8_isBlocking_1 := dk_seg dksX8_isBlocking_0 24 rfl rfl
theorem dX8_isBlocking_0 : decode cX8_isBlocking 0 = .ok (.aload_n 0, 1) := dk_42 (dk_at dksX8_isBlocking_0 0 rfl rfl)
theorem dX8_isBlocking_1 : decode cX8_isBlocking 1 = .ok (.getfield 17, 3) := dk_180 0 17 (dk_at dksX8_isBlocking_0 1 rfl rfl)
theorem dX8_isBlocking_4 : decode cX8_isBlocking 4 = .ok (.aload_n 0, 1) := dk_42 (dk_at dksX8_isBlocking_0 4 rfl rfl)
theorem dX8_isBlocking_5 : decode cX8_isBlocking 5 = .ok (.iload_n 1, 1) := dk_27 (dk_at dksX8_isBlocking_0 5 rfl rfl)
theorem dX8_isBlocking_6 : decode cX8_isBlocking 6 = .ok (.invokevirtual 193, 3) := dk_182 0 193 (dk_at dksX8_isBlocking_0 6 rfl rfl)
theorem dX8_isBlocking_9 : decode cX8_isBlocking 9 = .ok (.invokestatic 158, 3) := dk_184 0 158 (dk_at dksX8_isBlocking_0 9 rfl rfl)
theorem dX8_isBlocking_12 : decode cX8_isBlocking 12 = .ok (.iaload, 1) := dk_46 (dk_at dksX8_isBlocking_0 12 rfl rfl)
theorem dX8_isBlocking_13 : decode cX8_isBlocking 13 = .ok (.ifCond .ne 15, 3) := dk_154 0 15 (dk_at dksX8_isBlocking_0 13 rfl rfl)
theorem dX8_isBlocking_16 : decode cX8_isBlocking 16 = .ok (.aload_n 0, 1) := dk_42 (dk_at dksX8_isBlocking_0 16 rfl rfl)
theorem dX8_isBlocking_17 : decode cX8_isBlocking 17 = .ok (.iload_n 1, 1) := dk_27 (dk_at dksX8_isBlocking_0 17 rfl rfl)
theorem dX8_isBlocking_18 : decode cX8_isBlocking 18 = .ok (.invokevirtual 196, 3) := dk_182 0 196 (dk_at dksX8_isBlocking_0 18 rfl rfl)
theorem dX8_isBlocking_21 : decode cX8_isBlocking 21 = .ok (.ifCond .ne 7, 3) := dk_154 0 7 (dk_at dksX8_isBlocking_0 21 rfl rfl)
theorem dX8_isBlocking_24 : decode cX8_isBlocking 24 = .ok (.iconst 1, 1) := dk_4 (dk_at dksX8_isBlocking_1 0 rfl rfl)
theorem dX8_isBlocking_25 : decode cX8_isBlocking 25 = .ok (.goto 4, 3) := dk_167 0 4 (dk_at dksX8_isBlocking_1 1 rfl rfl)
theorem dX8_isBlocking_28 : decode cX8_isBlocking 28 = .ok (.iconst 0, 1) := dk_3 (dk_at dksX8_isBlocking_1 4 rfl rfl)
theorem dX8_isBlocking_29 : decode cX8_isBlocking 29 = .ok (.ireturn, 1) := dk_172 (dk_at dksX8_isBlocking_1 5 rfl rfl)
abbrev cX8_isLast : ByteArray := prog_15_method_33_code
def yX8_isLast : MethodName := ⟨RX8, "isLast", "(I)Z"⟩
def dkwX8_isLast_1 : List UInt8 := [167, 0, 4, 3, 172]
abbrev dktX8_isLast_1 : List UInt8 := dkwX8_isLast_1 ++ []
def dkwX8_isLast_0 : List UInt8 := [27, 16, 6, 112, 42, 180, 0, 17, 27, 16, 6, 108, 184, 0, 147, 6, 96, 46, 4, 100, 160, 0, 7, 4]
abbrev dktX8_isLast_0 : List UInt8 := dkwX8_isLast_0 ++ dktX8_isLast_1
theorem dksX8_isLast_0 : cX8_isLast.data.toList.drop 0 = dktX8_isLast_0 := by decide +kernel
theorem dksX8_isLast_1 : cX8_isLast.data.toList.drop 24 = dktX8_isLast_1 := dk_seg dksX8_isLast_0 24 rfl rfl
theorem dX8_isLast_0 : decode cX8_isLast 0 = .ok (.iload_n 1, 1) := dk_27 (dk_at dksX8_isLast_0 0 rfl rfl)
theorem dX8_isLast_1 : decode cX8_isLast 1 = .ok (.bipush 6, 2) := dk_16 6 (dk_at dksX8_isLast_0 1 rfl rfl)
theorem dX8_isLast_3 : decode cX8_isLast 3 = .ok (.irem, 1) := dk_112 (dk_at dksX8_isLast_0 3 rfl rfl)
theorem dX8_isLast_4 : decode cX8_isLast 4 = .ok (.aload_n 0, 1) := dk_42 (dk_at dksX8_isLast_0 4 rfl rfl)
theorem dX8_isLast_5 : decode cX8_isLast 5 = .ok (.getfield 17, 3) := dk_180 0 17 (dk_at dksX8_isLast_0 5 rfl rfl)
theorem dX8_isLast_8 : decode cX8_isLast 8 = .ok (.iload_n 1, 1) := dk_27 (dk_at dksX8_isLast_0 8 rfl rfl)
theorem dX8_isLast_9 : decode cX8_isLast 9 = .ok (.bipush 6, 2) := dk_16 6 (dk_at dksX8_isLast_0 9 rfl rfl)
theorem dX8_isLast_11 : decode cX8_isLast 11 = .ok (.idiv, 1) := dk_108 (dk_at dksX8_isLast_0 11 rfl rfl)
theorem dX8_isLast_12 : decode cX8_isLast 12 = .ok (.invokestatic 147, 3) := dk_184 0 147 (dk_at dksX8_isLast_0 12 rfl rfl)
theorem dX8_isLast_15 : decode cX8_isLast 15 = .ok (.iconst 3, 1) := dk_6 (dk_at dksX8_isLast_0 15 rfl rfl)
theorem dX8_isLast_16 : decode cX8_isLast 16 = .ok (.iadd, 1) := dk_96 (dk_at dksX8_isLast_0 16 rfl rfl)
theorem dX8_isLast_17 : decode cX8_isLast 17 = .ok (.iaload, 1) := dk_46 (dk_at dksX8_isLast_0 17 rfl rfl)
theorem dX8_isLast_18 : decode cX8_isLast 18 = .ok (.iconst 1, 1) := dk_4 (dk_at dksX8_isLast_0 18 rfl rfl)
theorem dX8_isLast_19 : decode cX8_isLast 19 = .ok (.isub, 1) := dk_100 (dk_at dksX8_isLast_0 19 rfl rfl)
theorem dX8_isLast_20 : decode cX8_isLast 20 = .ok (.if_icmp .ne 7, 3) := dk_160 0 7 (dk_at dksX8_isLast_0 20 rfl rfl)
theorem dX8_isLast_23 : decode cX8_isLast 23 = .ok (.iconst 1, 1) := dk_4 (dk_at dksX8_isLast_0 23 rfl rfl)
theorem dX8_isLast_24 : decode cX8_isLast 24 = .ok (.goto 4, 3) := dk_167 0 4 (dk_at dksX8_isLast_1 0 rfl rfl)
theorem dX8_isLast_27 : decode cX8_isLast 27 = .ok (.iconst 0, 1) := dk_3 (dk_at dksX8_isLast_1 3 rfl rfl)
theorem dX8_isLast_28 : decode cX8_isLast 28 = .ok (.ireturn, 1) := dk_172 (dk_at dksX8_isLast_1 4 rfl rfl)
abbrev cX8_durationOf : ByteArray := prog_15_method_35_code
def yX8_durationOf : MethodName := ⟨RX8, "durationOf", "(I)I"⟩
def dkwX8_durationOf_0 : List UInt8 := [42, 180, 0, 17, 27, 184, 0, 155, 4, 96, 46, 172]
abbrev dktX8_durationOf_0 : List UInt8 := dkwX8_durationOf_0 ++ []
theorem dksX8_durationOf_0 : cX8_durationOf.data.toList.drop 0 = dktX8_durationOf_0 := by decide +kernel
theorem dX8_durationOf_0 : decode cX8_durationOf 0 = .ok (.aload_n 0, 1) := dk_42 (dk_at dksX8_durationOf_0 0 rfl rfl)
theorem dX8_durationOf_1 : decode cX8_durationOf 1 = .ok (.getfield 17, 3) := dk_180 0 17 (dk_at dksX8_durationOf_0 1 rfl rfl)
theorem dX8_durationOf_4 : decode cX8_durationOf 4 = .ok (.iload_n 1, 1) := dk_27 (dk_at dksX8_durationOf_0 4 rfl rfl)
theorem dX8_durationOf_5 : decode cX8_durationOf 5 = .ok (.invokestatic 155, 3) := dk_184 0 155 (dk_at dksX8_durationOf_0 5 rfl rfl)
theorem dX8_durationOf_8 : decode cX8_durationOf 8 = .ok (.iconst 1, 1) := dk_4 (dk_at dksX8_durationOf_0 8 rfl rfl)
theorem dX8_durationOf_9 : decode cX8_durationOf 9 = .ok (.iadd, 1) := dk_96 (dk_at dksX8_durationOf_0 9 rfl rfl)
theorem dX8_durationOf_10 : decode cX8_durationOf 10 = .ok (.iaload, 1) := dk_46 (dk_at dksX8_durationOf_0 10 rfl rfl)
theorem dX8_durationOf_11 : decode cX8_durationOf 11 = .ok (.ireturn, 1) := dk_172 (dk_at dksX8_durationOf_0 11 rfl rfl)
abbrev cX8_isThere : ByteArray := prog_15_method_32_code
def yX8_isThere : MethodName := ⟨RX8, "isThere", "(I)Z"⟩
def dkwX8_isThere_1 : List UInt8 := [108, 184, 0, 147, 6, 96, 46, 162, 0, 7, 4, 167, 0, 4, 3, 172]
abbrev dktX8_isThere_1 : List UInt8 := dkwX8_isThere_1 ++ []
def dkwX8_isThere_0 : List UInt8 := [27, 16, 6, 108, 42, 180, 0, 17, 5, 46, 162, 0, 28, 27, 16, 6, 112, 42, 180, 0, 17, 27, 16, 6]
abbrev dktX8_isThere_0 : List UInt8 := dkwX8_isThere_0 ++ dktX8_isThere_1
theorem dksX8_isThere_0 : cX8_isThere.data.toList.drop 0 = dktX8_isThere_0 := by decide +kernel
theorem dksX8_isThere_1 : cX8_isThere.data.toList.drop 24 = dktX8_isThere_1 := dk_seg dksX8_isThere_0 24 rfl rfl
theorem dX8_isThere_0 : decode cX8_isThere 0 = .ok (.iload_n 1, 1) := dk_27 (dk_at dksX8_isThere_0 0 rfl rfl)
theorem dX8_isThere_1 : decode cX8_isThere 1 = .ok (.bipush 6, 2) := dk_16 6 (dk_at dksX8_isThere_0 1 rfl rfl)
theorem dX8_isThere_3 : decode cX8_isThere 3 = .ok (.idiv, 1) := dk_108 (dk_at dksX8_isThere_0 3 rfl rfl)
theorem dX8_isThere_4 : decode cX8_isThere 4 = .ok (.aload_n 0, 1) := dk_42 (dk_at dksX8_isThere_0 4 rfl rfl)
theorem dX8_isThere_5 : decode cX8_isThere 5 = .ok (.getfield 17, 3) := dk_180 0 17 (dk_at dksX8_isThere_0 5 rfl rfl)
theorem dX8_isThere_8 : decode cX8_isThere 8 = .ok (.iconst 2, 1) := dk_5 (dk_at dksX8_isThere_0 8 rfl rfl)
theorem dX8_isThere_9 : decode cX8_isThere 9 = .ok (.iaload, 1) := dk_46 (dk_at dksX8_isThere_0 9 rfl rfl)
theorem dX8_isThere_10 : decode cX8_isThere 10 = .ok (.if_icmp .ge 28, 3) := dk_162 0 28 (dk_at dksX8_isThere_0 10 rfl rfl)
theorem dX8_isThere_13 : decode cX8_isThere 13 = .ok (.iload_n 1, 1) := dk_27 (dk_at dksX8_isThere_0 13 rfl rfl)
theorem dX8_isThere_14 : decode cX8_isThere 14 = .ok (.bipush 6, 2) := dk_16 6 (dk_at dksX8_isThere_0 14 rfl rfl)
theorem dX8_isThere_16 : decode cX8_isThere 16 = .ok (.irem, 1) := dk_112 (dk_at dksX8_isThere_0 16 rfl rfl)
theorem dX8_isThere_17 : decode cX8_isThere 17 = .ok (.aload_n 0, 1) := dk_42 (dk_at dksX8_isThere_0 17 rfl rfl)
theorem dX8_isThere_18 : decode cX8_isThere 18 = .ok (.getfield 17, 3) := dk_180 0 17 (dk_at dksX8_isThere_0 18 rfl rfl)
theorem dX8_isThere_21 : decode cX8_isThere 21 = .ok (.iload_n 1, 1) := dk_27 (dk_at dksX8_isThere_0 21 rfl rfl)
theorem dX8_isThere_22 : decode cX8_isThere 22 = .ok (.bipush 6, 2) := dk_16 6 (dk_at dksX8_isThere_0 22 rfl rfl)
theorem dX8_isThere_24 : decode cX8_isThere 24 = .ok (.idiv, 1) := dk_108 (dk_at dksX8_isThere_1 0 rfl rfl)
theorem dX8_isThere_25 : decode cX8_isThere 25 = .ok (.invokestatic 147, 3) := dk_184 0 147 (dk_at dksX8_isThere_1 1 rfl rfl)
theorem dX8_isThere_28 : decode cX8_isThere 28 = .ok (.iconst 3, 1) := dk_6 (dk_at dksX8_isThere_1 4 rfl rfl)
theorem dX8_isThere_29 : decode cX8_isThere 29 = .ok (.iadd, 1) := dk_96 (dk_at dksX8_isThere_1 5 rfl rfl)
theorem dX8_isThere_30 : decode cX8_isThere 30 = .ok (.iaload, 1) := dk_46 (dk_at dksX8_isThere_1 6 rfl rfl)
theorem dX8_isThere_31 : decode cX8_isThere 31 = .ok (.if_icmp .ge 7, 3) := dk_162 0 7 (dk_at dksX8_isThere_1 7 rfl rfl)
theorem dX8_isThere_34 : decode cX8_isThere 34 = .ok (.iconst 1, 1) := dk_4 (dk_at dksX8_isThere_1 10 rfl rfl)
theorem dX8_isThere_35 : decode cX8_isThere 35 = .ok (.goto 4, 3) := dk_167 0 4 (dk_at dksX8_isThere_1 11 rfl rfl)
theorem dX8_isThere_38 : decode cX8_isThere 38 = .ok (.iconst 0, 1) := dk_3 (dk_at dksX8_isThere_1 14 rfl rfl)
theorem dX8_isThere_39 : decode cX8_isThere 39 = .ok (.ireturn, 1) := dk_172 (dk_at dksX8_isThere_1 15 rfl rfl)
abbrev cX8_raises : ByteArray := prog_15_method_39_code
def yX8_raises : MethodName := ⟨RX8, "raises", "(I)Z"⟩
def dkwX8_raises_4 : List UInt8 := [172]
abbrev dktX8_raises_4 : List UInt8 := dkwX8_raises_4 ++ []
def dkwX8_raises_3 : List UInt8 := [184, 0, 205, 61, 28, 42, 180, 0, 37, 27, 46, 163, 0, 5, 3, 172, 42, 180, 0, 37, 27, 28, 79, 4]
abbrev dktX8_raises_3 : List UInt8 := dkwX8_raises_3 ++ dktX8_raises_4
def dkwX8_raises_2 : List UInt8 := [159, 0, 26, 28, 42, 180, 0, 37, 42, 180, 0, 31, 27, 46, 46, 42, 180, 0, 34, 27, 46, 96]
abbrev dktX8_raises_2 : List UInt8 := dkwX8_raises_2 ++ dktX8_raises_3
def dkwX8_raises_1 : List UInt8 := [180, 0, 37, 27, 4, 100, 46, 42, 27, 4, 100, 182, 0, 202, 96, 61, 42, 180, 0, 31, 27, 46, 2]
abbrev dktX8_raises_1 : List UInt8 := dkwX8_raises_1 ++ dktX8_raises_2
def dkwX8_raises_0 : List UInt8 := [27, 16, 6, 112, 154, 0, 18, 42, 180, 0, 17, 27, 16, 6, 108, 184, 0, 147, 46, 167, 0, 19, 42]
abbrev dktX8_raises_0 : List UInt8 := dkwX8_raises_0 ++ dktX8_raises_1
theorem dksX8_raises_0 : cX8_raises.data.toList.drop 0 = dktX8_raises_0 := by decide +kernel
theorem dksX8_raises_1 : cX8_raises.data.toList.drop 23 = dktX8_raises_1 := dk_seg dksX8_raises_0 23 rfl rfl
theorem dksX8_raises_2 : cX8_raises.data.toList.drop 46 = dktX8_raises_2 := dk_seg dksX8_raises_1 23 rfl rfl
theorem dksX8_raises_3 : cX8_raises.data.toList.drop 68 = dktX8_raises_3 := dk_seg dksX8_raises_2 22 rfl rfl
theorem dksX8_raises_4 : cX8_raises.data.toList.drop 92 = dktX8_raises_4 := dk_seg dksX8_raises_3 24 rfl rfl
theorem dX8_raises_0 : decode cX8_raises 0 = .ok (.iload_n 1, 1) := dk_27 (dk_at dksX8_raises_0 0 rfl rfl)
theorem dX8_raises_1 : decode cX8_raises 1 = .ok (.bipush 6, 2) := dk_16 6 (dk_at dksX8_raises_0 1 rfl rfl)
theorem dX8_raises_3 : decode cX8_raises 3 = .ok (.irem, 1) := dk_112 (dk_at dksX8_raises_0 3 rfl rfl)
theorem dX8_raises_4 : decode cX8_raises 4 = .ok (.ifCond .ne 18, 3) := dk_154 0 18 (dk_at dksX8_raises_0 4 rfl rfl)
theorem dX8_raises_7 : decode cX8_raises 7 = .ok (.aload_n 0, 1) := dk_42 (dk_at dksX8_raises_0 7 rfl rfl)
theorem dX8_raises_8 : decode cX8_raises 8 = .ok (.getfield 17, 3) := dk_180 0 17 (dk_at dksX8_raises_0 8 rfl rfl)
theorem dX8_raises_11 : decode cX8_raises 11 = .ok (.iload_n 1, 1) := dk_27 (dk_at dksX8_raises_0 11 rfl rfl)
theorem dX8_raises_12 : decode cX8_raises 12 = .ok (.bipush 6, 2) := dk_16 6 (dk_at dksX8_raises_0 12 rfl rfl)
theorem dX8_raises_14 : decode cX8_raises 14 = .ok (.idiv, 1) := dk_108 (dk_at dksX8_raises_0 14 rfl rfl)
theorem dX8_raises_15 : decode cX8_raises 15 = .ok (.invokestatic 147, 3) := dk_184 0 147 (dk_at dksX8_raises_0 15 rfl rfl)
theorem dX8_raises_18 : decode cX8_raises 18 = .ok (.iaload, 1) := dk_46 (dk_at dksX8_raises_0 18 rfl rfl)
theorem dX8_raises_19 : decode cX8_raises 19 = .ok (.goto 19, 3) := dk_167 0 19 (dk_at dksX8_raises_0 19 rfl rfl)
theorem dX8_raises_22 : decode cX8_raises 22 = .ok (.aload_n 0, 1) := dk_42 (dk_at dksX8_raises_0 22 rfl rfl)
theorem dX8_raises_23 : decode cX8_raises 23 = .ok (.getfield 37, 3) := dk_180 0 37 (dk_at dksX8_raises_1 0 rfl rfl)
theorem dX8_raises_26 : decode cX8_raises 26 = .ok (.iload_n 1, 1) := dk_27 (dk_at dksX8_raises_1 3 rfl rfl)
theorem dX8_raises_27 : decode cX8_raises 27 = .ok (.iconst 1, 1) := dk_4 (dk_at dksX8_raises_1 4 rfl rfl)
theorem dX8_raises_28 : decode cX8_raises 28 = .ok (.isub, 1) := dk_100 (dk_at dksX8_raises_1 5 rfl rfl)
theorem dX8_raises_29 : decode cX8_raises 29 = .ok (.iaload, 1) := dk_46 (dk_at dksX8_raises_1 6 rfl rfl)
theorem dX8_raises_30 : decode cX8_raises 30 = .ok (.aload_n 0, 1) := dk_42 (dk_at dksX8_raises_1 7 rfl rfl)
theorem dX8_raises_31 : decode cX8_raises 31 = .ok (.iload_n 1, 1) := dk_27 (dk_at dksX8_raises_1 8 rfl rfl)
theorem dX8_raises_32 : decode cX8_raises 32 = .ok (.iconst 1, 1) := dk_4 (dk_at dksX8_raises_1 9 rfl rfl)
theorem dX8_raises_33 : decode cX8_raises 33 = .ok (.isub, 1) := dk_100 (dk_at dksX8_raises_1 10 rfl rfl)
theorem dX8_raises_34 : decode cX8_raises 34 = .ok (.invokevirtual 202, 3) := dk_182 0 202 (dk_at dksX8_raises_1 11 rfl rfl)
theorem dX8_raises_37 : decode cX8_raises 37 = .ok (.iadd, 1) := dk_96 (dk_at dksX8_raises_1 14 rfl rfl)
theorem dX8_raises_38 : decode cX8_raises 38 = .ok (.istore_n 2, 1) := dk_61 (dk_at dksX8_raises_1 15 rfl rfl)
theorem dX8_raises_39 : decode cX8_raises 39 = .ok (.aload_n 0, 1) := dk_42 (dk_at dksX8_raises_1 16 rfl rfl)
theorem dX8_raises_40 : decode cX8_raises 40 = .ok (.getfield 31, 3) := dk_180 0 31 (dk_at dksX8_raises_1 17 rfl rfl)
theorem dX8_raises_43 : decode cX8_raises 43 = .ok (.iload_n 1, 1) := dk_27 (dk_at dksX8_raises_1 20 rfl rfl)
theorem dX8_raises_44 : decode cX8_raises 44 = .ok (.iaload, 1) := dk_46 (dk_at dksX8_raises_1 21 rfl rfl)
theorem dX8_raises_45 : decode cX8_raises 45 = .ok (.iconst (-1), 1) := dk_2 (dk_at dksX8_raises_1 22 rfl rfl)
theorem dX8_raises_46 : decode cX8_raises 46 = .ok (.if_icmp .eq 26, 3) := dk_159 0 26 (dk_at dksX8_raises_2 0 rfl rfl)
theorem dX8_raises_49 : decode cX8_raises 49 = .ok (.iload_n 2, 1) := dk_28 (dk_at dksX8_raises_2 3 rfl rfl)
theorem dX8_raises_50 : decode cX8_raises 50 = .ok (.aload_n 0, 1) := dk_42 (dk_at dksX8_raises_2 4 rfl rfl)
theorem dX8_raises_51 : decode cX8_raises 51 = .ok (.getfield 37, 3) := dk_180 0 37 (dk_at dksX8_raises_2 5 rfl rfl)
theorem dX8_raises_54 : decode cX8_raises 54 = .ok (.aload_n 0, 1) := dk_42 (dk_at dksX8_raises_2 8 rfl rfl)
theorem dX8_raises_55 : decode cX8_raises 55 = .ok (.getfield 31, 3) := dk_180 0 31 (dk_at dksX8_raises_2 9 rfl rfl)
theorem dX8_raises_58 : decode cX8_raises 58 = .ok (.iload_n 1, 1) := dk_27 (dk_at dksX8_raises_2 12 rfl rfl)
theorem dX8_raises_59 : decode cX8_raises 59 = .ok (.iaload, 1) := dk_46 (dk_at dksX8_raises_2 13 rfl rfl)
theorem dX8_raises_60 : decode cX8_raises 60 = .ok (.iaload, 1) := dk_46 (dk_at dksX8_raises_2 14 rfl rfl)
theorem dX8_raises_61 : decode cX8_raises 61 = .ok (.aload_n 0, 1) := dk_42 (dk_at dksX8_raises_2 15 rfl rfl)
theorem dX8_raises_62 : decode cX8_raises 62 = .ok (.getfield 34, 3) := dk_180 0 34 (dk_at dksX8_raises_2 16 rfl rfl)
theorem dX8_raises_65 : decode cX8_raises 65 = .ok (.iload_n 1, 1) := dk_27 (dk_at dksX8_raises_2 19 rfl rfl)
theorem dX8_raises_66 : decode cX8_raises 66 = .ok (.iaload, 1) := dk_46 (dk_at dksX8_raises_2 20 rfl rfl)
theorem dX8_raises_67 : decode cX8_raises 67 = .ok (.iadd, 1) := dk_96 (dk_at dksX8_raises_2 21 rfl rfl)
theorem dX8_raises_68 : decode cX8_raises 68 = .ok (.invokestatic 205, 3) := dk_184 0 205 (dk_at dksX8_raises_3 0 rfl rfl)
theorem dX8_raises_71 : decode cX8_raises 71 = .ok (.istore_n 2, 1) := dk_61 (dk_at dksX8_raises_3 3 rfl rfl)
theorem dX8_raises_72 : decode cX8_raises 72 = .ok (.iload_n 2, 1) := dk_28 (dk_at dksX8_raises_3 4 rfl rfl)
theorem dX8_raises_73 : decode cX8_raises 73 = .ok (.aload_n 0, 1) := dk_42 (dk_at dksX8_raises_3 5 rfl rfl)
theorem dX8_raises_74 : decode cX8_raises 74 = .ok (.getfield 37, 3) := dk_180 0 37 (dk_at dksX8_raises_3 6 rfl rfl)
theorem dX8_raises_77 : decode cX8_raises 77 = .ok (.iload_n 1, 1) := dk_27 (dk_at dksX8_raises_3 9 rfl rfl)
theorem dX8_raises_78 : decode cX8_raises 78 = .ok (.iaload, 1) := dk_46 (dk_at dksX8_raises_3 10 rfl rfl)
theorem dX8_raises_79 : decode cX8_raises 79 = .ok (.if_icmp .gt 5, 3) := dk_163 0 5 (dk_at dksX8_raises_3 11 rfl rfl)
theorem dX8_raises_82 : decode cX8_raises 82 = .ok (.iconst 0, 1) := dk_3 (dk_at dksX8_raises_3 14 rfl rfl)
theorem dX8_raises_83 : decode cX8_raises 83 = .ok (.ireturn, 1) := dk_172 (dk_at dksX8_raises_3 15 rfl rfl)
theorem dX8_raises_84 : decode cX8_raises 84 = .ok (.aload_n 0, 1) := dk_42 (dk_at dksX8_raises_3 16 rfl rfl)
theorem dX8_raises_85 : decode cX8_raises 85 = .ok (.getfield 37, 3) := dk_180 0 37 (dk_at dksX8_raises_3 17 rfl rfl)
theorem dX8_raises_88 : decode cX8_raises 88 = .ok (.iload_n 1, 1) := dk_27 (dk_at dksX8_raises_3 20 rfl rfl)
theorem dX8_raises_89 : decode cX8_raises 89 = .ok (.iload_n 2, 1) := dk_28 (dk_at dksX8_raises_3 21 rfl rfl)
theorem dX8_raises_90 : decode cX8_raises 90 = .ok (.iastore, 1) := dk_79 (dk_at dksX8_raises_3 22 rfl rfl)
theorem dX8_raises_91 : decode cX8_raises 91 = .ok (.iconst 1, 1) := dk_4 (dk_at dksX8_raises_3 23 rfl rfl)
theorem dX8_raises_92 : decode cX8_raises 92 = .ok (.ireturn, 1) := dk_172 (dk_at dksX8_raises_4 0 rfl rfl)
abbrev cX8_max : ByteArray := prog_15_method_6_code
def yX8_max : MethodName := ⟨RX8, "max", "(II)I"⟩
def dkwX8_max_0 : List UInt8 := [26, 27, 164, 0, 7, 26, 167, 0, 4, 27, 172]
abbrev dktX8_max_0 : List UInt8 := dkwX8_max_0 ++ []
theorem dksX8_max_0 : cX8_max.data.toList.drop 0 = dktX8_max_0 := by decide +kernel
theorem dX8_max_0 : decode cX8_max 0 = .ok (.iload_n 0, 1) := dk_26 (dk_at dksX8_max_0 0 rfl rfl)
theorem dX8_max_1 : decode cX8_max 1 = .ok (.iload_n 1, 1) := dk_27 (dk_at dksX8_max_0 1 rfl rfl)
theorem dX8_max_2 : decode cX8_max 2 = .ok (.if_icmp .le 7, 3) := dk_164 0 7 (dk_at dksX8_max_0 2 rfl rfl)
theorem dX8_max_5 : decode cX8_max 5 = .ok (.iload_n 0, 1) := dk_26 (dk_at dksX8_max_0 5 rfl rfl)
theorem dX8_max_6 : decode cX8_max 6 = .ok (.goto 4, 3) := dk_167 0 4 (dk_at dksX8_max_0 6 rfl rfl)
theorem dX8_max_9 : decode cX8_max 9 = .ok (.iload_n 1, 1) := dk_27 (dk_at dksX8_max_0 9 rfl rfl)
theorem dX8_max_10 : decode cX8_max 10 = .ok (.ireturn, 1) := dk_172 (dk_at dksX8_max_0 10 rfl rfl)
abbrev cX8_leave : ByteArray := prog_15_method_67_code
def yX8_leave : MethodName := ⟨RX8, "leave", "(II)I"⟩
def dkwX8_leave_1 : List UInt8 := [167, 0, 13, 42, 16, 6, 27, 104, 28, 96, 182, 1, 29, 172]
abbrev dktX8_leave_1 : List UInt8 := dkwX8_leave_1 ++ []
def dkwX8_leave_0 : List UInt8 := [42, 3, 181, 0, 51, 42, 27, 28, 182, 1, 19, 154, 0, 10, 42, 182, 0, 217, 154, 0, 7, 3]
abbrev dktX8_leave_0 : List UInt8 := dkwX8_leave_0 ++ dktX8_leave_1
theorem dksX8_leave_0 : cX8_leave.data.toList.drop 0 = dktX8_leave_0 := by decide +kernel
theorem dksX8_leave_1 : cX8_leave.data.toList.drop 22 = dktX8_leave_1 := dk_seg dksX8_leave_0 22 rfl rfl
theorem dX8_leave_0 : decode cX8_leave 0 = .ok (.aload_n 0, 1) := dk_42 (dk_at dksX8_leave_0 0 rfl rfl)
theorem dX8_leave_1 : decode cX8_leave 1 = .ok (.iconst 0, 1) := dk_3 (dk_at dksX8_leave_0 1 rfl rfl)
theorem dX8_leave_2 : decode cX8_leave 2 = .ok (.putfield 51, 3) := dk_181 0 51 (dk_at dksX8_leave_0 2 rfl rfl)
theorem dX8_leave_5 : decode cX8_leave 5 = .ok (.aload_n 0, 1) := dk_42 (dk_at dksX8_leave_0 5 rfl rfl)
theorem dX8_leave_6 : decode cX8_leave 6 = .ok (.iload_n 1, 1) := dk_27 (dk_at dksX8_leave_0 6 rfl rfl)
theorem dX8_leave_7 : decode cX8_leave 7 = .ok (.iload_n 2, 1) := dk_28 (dk_at dksX8_leave_0 7 rfl rfl)
theorem dX8_leave_8 : decode cX8_leave 8 = .ok (.invokevirtual 275, 3) := dk_182 1 19 (dk_at dksX8_leave_0 8 rfl rfl)
theorem dX8_leave_11 : decode cX8_leave 11 = .ok (.ifCond .ne 10, 3) := dk_154 0 10 (dk_at dksX8_leave_0 11 rfl rfl)
theorem dX8_leave_14 : decode cX8_leave 14 = .ok (.aload_n 0, 1) := dk_42 (dk_at dksX8_leave_0 14 rfl rfl)
theorem dX8_leave_15 : decode cX8_leave 15 = .ok (.invokevirtual 217, 3) := dk_182 0 217 (dk_at dksX8_leave_0 15 rfl rfl)
theorem dX8_leave_18 : decode cX8_leave 18 = .ok (.ifCond .ne 7, 3) := dk_154 0 7 (dk_at dksX8_leave_0 18 rfl rfl)
theorem dX8_leave_21 : decode cX8_leave 21 = .ok (.iconst 0, 1) := dk_3 (dk_at dksX8_leave_0 21 rfl rfl)
theorem dX8_leave_22 : decode cX8_leave 22 = .ok (.goto 13, 3) := dk_167 0 13 (dk_at dksX8_leave_1 0 rfl rfl)
theorem dX8_leave_25 : decode cX8_leave 25 = .ok (.aload_n 0, 1) := dk_42 (dk_at dksX8_leave_1 3 rfl rfl)
theorem dX8_leave_26 : decode cX8_leave 26 = .ok (.bipush 6, 2) := dk_16 6 (dk_at dksX8_leave_1 4 rfl rfl)
theorem dX8_leave_28 : decode cX8_leave 28 = .ok (.iload_n 1, 1) := dk_27 (dk_at dksX8_leave_1 6 rfl rfl)
theorem dX8_leave_29 : decode cX8_leave 29 = .ok (.imul, 1) := dk_104 (dk_at dksX8_leave_1 7 rfl rfl)
theorem dX8_leave_30 : decode cX8_leave 30 = .ok (.iload_n 2, 1) := dk_28 (dk_at dksX8_leave_1 8 rfl rfl)
theorem dX8_leave_31 : decode cX8_leave 31 = .ok (.iadd, 1) := dk_96 (dk_at dksX8_leave_1 9 rfl rfl)
theorem dX8_leave_32 : decode cX8_leave 32 = .ok (.invokevirtual 285, 3) := dk_182 1 29 (dk_at dksX8_leave_1 10 rfl rfl)
theorem dX8_leave_35 : decode cX8_leave 35 = .ok (.ireturn, 1) := dk_172 (dk_at dksX8_leave_1 13 rfl rfl)
abbrev cX8_leaveOf : ByteArray := prog_15_method_49_code
def yX8_leaveOf : MethodName := ⟨RX8, "leaveOf", "(I)I"⟩
def dkwX8_leaveOf_1 : List UInt8 := [46, 42, 27, 182, 0, 202, 96, 172]
abbrev dktX8_leaveOf_1 : List UInt8 := dkwX8_leaveOf_1 ++ []
def dkwX8_leaveOf_0 : List UInt8 := [42, 27, 182, 0, 199, 153, 0, 14, 42, 180, 0, 37, 27, 4, 96, 46, 167, 0, 15, 42, 180, 0, 37, 27]
abbrev dktX8_leaveOf_0 : List UInt8 := dkwX8_leaveOf_0 ++ dktX8_leaveOf_1
theorem dksX8_leaveOf_0 : cX8_leaveOf.data.toList.drop 0 = dktX8_leaveOf_0 := by decide +kernel
theorem dksX8_leaveOf_1 : cX8_leaveOf.data.toList.drop 24 = dktX8_leaveOf_1 := dk_seg dksX8_leaveOf_0 24 rfl rfl
theorem dX8_leaveOf_0 : decode cX8_leaveOf 0 = .ok (.aload_n 0, 1) := dk_42 (dk_at dksX8_leaveOf_0 0 rfl rfl)
theorem dX8_leaveOf_1 : decode cX8_leaveOf 1 = .ok (.iload_n 1, 1) := dk_27 (dk_at dksX8_leaveOf_0 1 rfl rfl)
theorem dX8_leaveOf_2 : decode cX8_leaveOf 2 = .ok (.invokevirtual 199, 3) := dk_182 0 199 (dk_at dksX8_leaveOf_0 2 rfl rfl)
theorem dX8_leaveOf_5 : decode cX8_leaveOf 5 = .ok (.ifCond .eq 14, 3) := dk_153 0 14 (dk_at dksX8_leaveOf_0 5 rfl rfl)
theorem dX8_leaveOf_8 : decode cX8_leaveOf 8 = .ok (.aload_n 0, 1) := dk_42 (dk_at dksX8_leaveOf_0 8 rfl rfl)
theorem dX8_leaveOf_9 : decode cX8_leaveOf 9 = .ok (.getfield 37, 3) := dk_180 0 37 (dk_at dksX8_leaveOf_0 9 rfl rfl)
theorem dX8_leaveOf_12 : decode cX8_leaveOf 12 = .ok (.iload_n 1, 1) := dk_27 (dk_at dksX8_leaveOf_0 12 rfl rfl)
theorem dX8_leaveOf_13 : decode cX8_leaveOf 13 = .ok (.iconst 1, 1) := dk_4 (dk_at dksX8_leaveOf_0 13 rfl rfl)
theorem dX8_leaveOf_14 : decode cX8_leaveOf 14 = .ok (.iadd, 1) := dk_96 (dk_at dksX8_leaveOf_0 14 rfl rfl)
theorem dX8_leaveOf_15 : decode cX8_leaveOf 15 = .ok (.iaload, 1) := dk_46 (dk_at dksX8_leaveOf_0 15 rfl rfl)
theorem dX8_leaveOf_16 : decode cX8_leaveOf 16 = .ok (.goto 15, 3) := dk_167 0 15 (dk_at dksX8_leaveOf_0 16 rfl rfl)
theorem dX8_leaveOf_19 : decode cX8_leaveOf 19 = .ok (.aload_n 0, 1) := dk_42 (dk_at dksX8_leaveOf_0 19 rfl rfl)
theorem dX8_leaveOf_20 : decode cX8_leaveOf 20 = .ok (.getfield 37, 3) := dk_180 0 37 (dk_at dksX8_leaveOf_0 20 rfl rfl)
theorem dX8_leaveOf_23 : decode cX8_leaveOf 23 = .ok (.iload_n 1, 1) := dk_27 (dk_at dksX8_leaveOf_0 23 rfl rfl)
theorem dX8_leaveOf_24 : decode cX8_leaveOf 24 = .ok (.iaload, 1) := dk_46 (dk_at dksX8_leaveOf_1 0 rfl rfl)
theorem dX8_leaveOf_25 : decode cX8_leaveOf 25 = .ok (.aload_n 0, 1) := dk_42 (dk_at dksX8_leaveOf_1 1 rfl rfl)
theorem dX8_leaveOf_26 : decode cX8_leaveOf 26 = .ok (.iload_n 1, 1) := dk_27 (dk_at dksX8_leaveOf_1 2 rfl rfl)
theorem dX8_leaveOf_27 : decode cX8_leaveOf 27 = .ok (.invokevirtual 202, 3) := dk_182 0 202 (dk_at dksX8_leaveOf_1 3 rfl rfl)
theorem dX8_leaveOf_30 : decode cX8_leaveOf 30 = .ok (.iadd, 1) := dk_96 (dk_at dksX8_leaveOf_1 6 rfl rfl)
theorem dX8_leaveOf_31 : decode cX8_leaveOf 31 = .ok (.ireturn, 1) := dk_172 (dk_at dksX8_leaveOf_1 7 rfl rfl)
abbrev cX8_completion : ByteArray := prog_15_method_68_code
def yX8_completion : MethodName := ⟨RX8, "completion", "(I)I"⟩
def dkwX8_completion_1 : List UInt8 := [42, 27, 182, 0, 223, 172]
abbrev dktX8_completion_1 : List UInt8 := dkwX8_completion_1 ++ []
def dkwX8_completion_0 : List UInt8 := [42, 3, 181, 0, 51, 42, 27, 182, 1, 13, 154, 0, 10, 42, 182, 0, 217, 154, 0, 7, 3, 167, 0, 8]
abbrev dktX8_completion_0 : List UInt8 := dkwX8_completion_0 ++ dktX8_completion_1
theorem dksX8_completion_0 : cX8_completion.data.toList.drop 0 = dktX8_completion_0 := by decide +kernel
theorem dksX8_completion_1 : cX8_completion.data.toList.drop 24 = dktX8_completion_1 := dk_seg dksX8_completion_0 24 rfl rfl
theorem dX8_completion_0 : decode cX8_completion 0 = .ok (.aload_n 0, 1) := dk_42 (dk_at dksX8_completion_0 0 rfl rfl)
theorem dX8_completion_1 : decode cX8_completion 1 = .ok (.iconst 0, 1) := dk_3 (dk_at dksX8_completion_0 1 rfl rfl)
theorem dX8_completion_2 : decode cX8_completion 2 = .ok (.putfield 51, 3) := dk_181 0 51 (dk_at dksX8_completion_0 2 rfl rfl)
theorem dX8_completion_5 : decode cX8_completion 5 = .ok (.aload_n 0, 1) := dk_42 (dk_at dksX8_completion_0 5 rfl rfl)
theorem dX8_completion_6 : decode cX8_completion 6 = .ok (.iload_n 1, 1) := dk_27 (dk_at dksX8_completion_0 6 rfl rfl)
theorem dX8_completion_7 : decode cX8_completion 7 = .ok (.invokevirtual 269, 3) := dk_182 1 13 (dk_at dksX8_completion_0 7 rfl rfl)
theorem dX8_completion_10 : decode cX8_completion 10 = .ok (.ifCond .ne 10, 3) := dk_154 0 10 (dk_at dksX8_completion_0 10 rfl rfl)
theorem dX8_completion_13 : decode cX8_completion 13 = .ok (.aload_n 0, 1) := dk_42 (dk_at dksX8_completion_0 13 rfl rfl)
theorem dX8_completion_14 : decode cX8_completion 14 = .ok (.invokevirtual 217, 3) := dk_182 0 217 (dk_at dksX8_completion_0 14 rfl rfl)
theorem dX8_completion_17 : decode cX8_completion 17 = .ok (.ifCond .ne 7, 3) := dk_154 0 7 (dk_at dksX8_completion_0 17 rfl rfl)
theorem dX8_completion_20 : decode cX8_completion 20 = .ok (.iconst 0, 1) := dk_3 (dk_at dksX8_completion_0 20 rfl rfl)
theorem dX8_completion_21 : decode cX8_completion 21 = .ok (.goto 8, 3) := dk_167 0 8 (dk_at dksX8_completion_0 21 rfl rfl)
theorem dX8_completion_24 : decode cX8_completion 24 = .ok (.aload_n 0, 1) := dk_42 (dk_at dksX8_completion_1 0 rfl rfl)
theorem dX8_completion_25 : decode cX8_completion 25 = .ok (.iload_n 1, 1) := dk_27 (dk_at dksX8_completion_1 1 rfl rfl)
theorem dX8_completion_26 : decode cX8_completion 26 = .ok (.invokevirtual 223, 3) := dk_182 0 223 (dk_at dksX8_completion_1 2 rfl rfl)
theorem dX8_completion_29 : decode cX8_completion 29 = .ok (.ireturn, 1) := dk_172 (dk_at dksX8_completion_1 5 rfl rfl)
abbrev cX8_completionOf : ByteArray := prog_15_method_43_code
def yX8_completionOf : MethodName := ⟨RX8, "completionOf", "(I)I"⟩
def dkwX8_completionOf_1 : List UInt8 := [46, 42, 28, 182, 0, 202, 96, 172]
abbrev dktX8_completionOf_1 : List UInt8 := dkwX8_completionOf_1 ++ []
def dkwX8_completionOf_0 : List UInt8 := [16, 6, 27, 104, 42, 180, 0, 17, 27, 184, 0, 147, 6, 96, 46, 96, 4, 100, 61, 42, 180, 0, 37, 28]
abbrev dktX8_completionOf_0 : List UInt8 := dkwX8_completionOf_0 ++ dktX8_completionOf_1
theorem dksX8_completionOf_0 : cX8_completionOf.data.toList.drop 0 = dktX8_completionOf_0 := by decide +kernel
theorem dksX8_completionOf_1 : cX8_completionOf.data.toList.drop 24 = dktX8_completionOf_1 := dk_seg dksX8_completionOf_0 24 rfl rfl
theorem dX8_completionOf_0 : decode cX8_completionOf 0 = .ok (.bipush 6, 2) := dk_16 6 (dk_at dksX8_completionOf_0 0 rfl rfl)
theorem dX8_completionOf_2 : decode cX8_completionOf 2 = .ok (.iload_n 1, 1) := dk_27 (dk_at dksX8_completionOf_0 2 rfl rfl)
theorem dX8_completionOf_3 : decode cX8_completionOf 3 = .ok (.imul, 1) := dk_104 (dk_at dksX8_completionOf_0 3 rfl rfl)
theorem dX8_completionOf_4 : decode cX8_completionOf 4 = .ok (.aload_n 0, 1) := dk_42 (dk_at dksX8_completionOf_0 4 rfl rfl)
theorem dX8_completionOf_5 : decode cX8_completionOf 5 = .ok (.getfield 17, 3) := dk_180 0 17 (dk_at dksX8_completionOf_0 5 rfl rfl)
theorem dX8_completionOf_8 : decode cX8_completionOf 8 = .ok (.iload_n 1, 1) := dk_27 (dk_at dksX8_completionOf_0 8 rfl rfl)
theorem dX8_completionOf_9 : decode cX8_completionOf 9 = .ok (.invokestatic 147, 3) := dk_184 0 147 (dk_at dksX8_completionOf_0 9 rfl rfl)
theorem dX8_completionOf_12 : decode cX8_completionOf 12 = .ok (.iconst 3, 1) := dk_6 (dk_at dksX8_completionOf_0 12 rfl rfl)
theorem dX8_completionOf_13 : decode cX8_completionOf 13 = .ok (.iadd, 1) := dk_96 (dk_at dksX8_completionOf_0 13 rfl rfl)
theorem dX8_completionOf_14 : decode cX8_completionOf 14 = .ok (.iaload, 1) := dk_46 (dk_at dksX8_completionOf_0 14 rfl rfl)
theorem dX8_completionOf_15 : decode cX8_completionOf 15 = .ok (.iadd, 1) := dk_96 (dk_at dksX8_completionOf_0 15 rfl rfl)
theorem dX8_completionOf_16 : decode cX8_completionOf 16 = .ok (.iconst 1, 1) := dk_4 (dk_at dksX8_completionOf_0 16 rfl rfl)
theorem dX8_completionOf_17 : decode cX8_completionOf 17 = .ok (.isub, 1) := dk_100 (dk_at dksX8_completionOf_0 17 rfl rfl)
theorem dX8_completionOf_18 : decode cX8_completionOf 18 = .ok (.istore_n 2, 1) := dk_61 (dk_at dksX8_completionOf_0 18 rfl rfl)
theorem dX8_completionOf_19 : decode cX8_completionOf 19 = .ok (.aload_n 0, 1) := dk_42 (dk_at dksX8_completionOf_0 19 rfl rfl)
theorem dX8_completionOf_20 : decode cX8_completionOf 20 = .ok (.getfield 37, 3) := dk_180 0 37 (dk_at dksX8_completionOf_0 20 rfl rfl)
theorem dX8_completionOf_23 : decode cX8_completionOf 23 = .ok (.iload_n 2, 1) := dk_28 (dk_at dksX8_completionOf_0 23 rfl rfl)
theorem dX8_completionOf_24 : decode cX8_completionOf 24 = .ok (.iaload, 1) := dk_46 (dk_at dksX8_completionOf_1 0 rfl rfl)
theorem dX8_completionOf_25 : decode cX8_completionOf 25 = .ok (.aload_n 0, 1) := dk_42 (dk_at dksX8_completionOf_1 1 rfl rfl)
theorem dX8_completionOf_26 : decode cX8_completionOf 26 = .ok (.iload_n 2, 1) := dk_28 (dk_at dksX8_completionOf_1 2 rfl rfl)
theorem dX8_completionOf_27 : decode cX8_completionOf 27 = .ok (.invokevirtual 202, 3) := dk_182 0 202 (dk_at dksX8_completionOf_1 3 rfl rfl)
theorem dX8_completionOf_30 : decode cX8_completionOf 30 = .ok (.iadd, 1) := dk_96 (dk_at dksX8_completionOf_1 6 rfl rfl)
theorem dX8_completionOf_31 : decode cX8_completionOf 31 = .ok (.ireturn, 1) := dk_172 (dk_at dksX8_completionOf_1 7 rfl rfl)
abbrev cX8_makespan : ByteArray := prog_15_method_70_code
def yX8_makespan : MethodName := ⟨RX8, "makespan", "()I"⟩
def dkwX8_makespan_0 : List UInt8 := [42, 3, 181, 0, 51, 42, 182, 1, 32, 172]
abbrev dktX8_makespan_0 : List UInt8 := dkwX8_makespan_0 ++ []
theorem dksX8_makespan_0 : cX8_makespan.data.toList.drop 0 = dktX8_makespan_0 := by decide +kernel
theorem dX8_makespan_0 : decode cX8_makespan 0 = .ok (.aload_n 0, 1) := dk_42 (dk_at dksX8_makespan_0 0 rfl rfl)
theorem dX8_makespan_1 : decode cX8_makespan 1 = .ok (.iconst 0, 1) := dk_3 (dk_at dksX8_makespan_0 1 rfl rfl)
theorem dX8_makespan_2 : decode cX8_makespan 2 = .ok (.putfield 51, 3) := dk_181 0 51 (dk_at dksX8_makespan_0 2 rfl rfl)
theorem dX8_makespan_5 : decode cX8_makespan 5 = .ok (.aload_n 0, 1) := dk_42 (dk_at dksX8_makespan_0 5 rfl rfl)
theorem dX8_makespan_6 : decode cX8_makespan 6 = .ok (.invokevirtual 288, 3) := dk_182 1 32 (dk_at dksX8_makespan_0 6 rfl rfl)
theorem dX8_makespan_9 : decode cX8_makespan 9 = .ok (.ireturn, 1) := dk_172 (dk_at dksX8_makespan_0 9 rfl rfl)
abbrev cX8_spanNow : ByteArray := prog_15_method_69_code
def yX8_spanNow : MethodName := ⟨RX8, "spanNow", "()I"⟩
def dkwX8_spanNow_0 : List UInt8 := [42, 182, 0, 217, 153, 0, 10, 42, 182, 0, 247, 167, 0, 4, 3, 172]
abbrev dktX8_spanNow_0 : List UInt8 := dkwX8_spanNow_0 ++ []
theorem dksX8_spanNow_0 : cX8_spanNow.data.toList.drop 0 = dktX8_spanNow_0 := by decide +kernel
theorem dX8_spanNow_0 : decode cX8_spanNow 0 = .ok (.aload_n 0, 1) := dk_42 (dk_at dksX8_spanNow_0 0 rfl rfl)
theorem dX8_spanNow_1 : decode cX8_spanNow 1 = .ok (.invokevirtual 217, 3) := dk_182 0 217 (dk_at dksX8_spanNow_0 1 rfl rfl)
theorem dX8_spanNow_4 : decode cX8_spanNow 4 = .ok (.ifCond .eq 10, 3) := dk_153 0 10 (dk_at dksX8_spanNow_0 4 rfl rfl)
theorem dX8_spanNow_7 : decode cX8_spanNow 7 = .ok (.aload_n 0, 1) := dk_42 (dk_at dksX8_spanNow_0 7 rfl rfl)
theorem dX8_spanNow_8 : decode cX8_spanNow 8 = .ok (.invokevirtual 247, 3) := dk_182 0 247 (dk_at dksX8_spanNow_0 8 rfl rfl)
theorem dX8_spanNow_11 : decode cX8_spanNow 11 = .ok (.goto 4, 3) := dk_167 0 4 (dk_at dksX8_spanNow_0 11 rfl rfl)
theorem dX8_spanNow_14 : decode cX8_spanNow 14 = .ok (.iconst 0, 1) := dk_3 (dk_at dksX8_spanNow_0 14 rfl rfl)
theorem dX8_spanNow_15 : decode cX8_spanNow 15 = .ok (.ireturn, 1) := dk_172 (dk_at dksX8_spanNow_0 15 rfl rfl)
abbrev cX8_makespanOf : ByteArray := prog_15_method_44_code
def yX8_makespanOf : MethodName := ⟨RX8, "makespanOf", "()I"⟩
def dkwX8_makespanOf_1 : List UInt8 := [132, 2, 1, 167, 255, 233, 27, 172]
abbrev dktX8_makespanOf_1 : List UInt8 := dkwX8_makespanOf_1 ++ []
def dkwX8_makespanOf_0 : List UInt8 := [3, 60, 3, 61, 28, 42, 180, 0, 17, 5, 46, 162, 0, 19, 27, 42, 28, 182, 0, 223, 184, 0, 205, 60]
abbrev dktX8_makespanOf_0 : List UInt8 := dkwX8_makespanOf_0 ++ dktX8_makespanOf_1
theorem dksX8_makespanOf_0 : cX8_makespanOf.data.toList.drop 0 = dktX8_makespanOf_0 := by decide +kernel
theorem dksX8_makespanOf_1 : cX8_makespanOf.data.toList.drop 24 = dktX8_makespanOf_1 := dk_seg dksX8_makespanOf_0 24 rfl rfl
theorem dX8_makespanOf_0 : decode cX8_makespanOf 0 = .ok (.iconst 0, 1) := dk_3 (dk_at dksX8_makespanOf_0 0 rfl rfl)
theorem dX8_makespanOf_1 : decode cX8_makespanOf 1 = .ok (.istore_n 1, 1) := dk_60 (dk_at dksX8_makespanOf_0 1 rfl rfl)
theorem dX8_makespanOf_2 : decode cX8_makespanOf 2 = .ok (.iconst 0, 1) := dk_3 (dk_at dksX8_makespanOf_0 2 rfl rfl)
theorem dX8_makespanOf_3 : decode cX8_makespanOf 3 = .ok (.istore_n 2, 1) := dk_61 (dk_at dksX8_makespanOf_0 3 rfl rfl)
theorem dX8_makespanOf_4 : decode cX8_makespanOf 4 = .ok (.iload_n 2, 1) := dk_28 (dk_at dksX8_makespanOf_0 4 rfl rfl)
theorem dX8_makespanOf_5 : decode cX8_makespanOf 5 = .ok (.aload_n 0, 1) := dk_42 (dk_at dksX8_makespanOf_0 5 rfl rfl)
theorem dX8_makespanOf_6 : decode cX8_makespanOf 6 = .ok (.getfield 17, 3) := dk_180 0 17 (dk_at dksX8_makespanOf_0 6 rfl rfl)
theorem dX8_makespanOf_9 : decode cX8_makespanOf 9 = .ok (.iconst 2, 1) := dk_5 (dk_at dksX8_makespanOf_0 9 rfl rfl)
theorem dX8_makespanOf_10 : decode cX8_makespanOf 10 = .ok (.iaload, 1) := dk_46 (dk_at dksX8_makespanOf_0 10 rfl rfl)
theorem dX8_makespanOf_11 : decode cX8_makespanOf 11 = .ok (.if_icmp .ge 19, 3) := dk_162 0 19 (dk_at dksX8_makespanOf_0 11 rfl rfl)
theorem dX8_makespanOf_14 : decode cX8_makespanOf 14 = .ok (.iload_n 1, 1) := dk_27 (dk_at dksX8_makespanOf_0 14 rfl rfl)
theorem dX8_makespanOf_15 : decode cX8_makespanOf 15 = .ok (.aload_n 0, 1) := dk_42 (dk_at dksX8_makespanOf_0 15 rfl rfl)
theorem dX8_makespanOf_16 : decode cX8_makespanOf 16 = .ok (.iload_n 2, 1) := dk_28 (dk_at dksX8_makespanOf_0 16 rfl rfl)
theorem dX8_makespanOf_17 : decode cX8_makespanOf 17 = .ok (.invokevirtual 223, 3) := dk_182 0 223 (dk_at dksX8_makespanOf_0 17 rfl rfl)
theorem dX8_makespanOf_20 : decode cX8_makespanOf 20 = .ok (.invokestatic 205, 3) := dk_184 0 205 (dk_at dksX8_makespanOf_0 20 rfl rfl)
theorem dX8_makespanOf_23 : decode cX8_makespanOf 23 = .ok (.istore_n 1, 1) := dk_60 (dk_at dksX8_makespanOf_0 23 rfl rfl)
theorem dX8_makespanOf_24 : decode cX8_makespanOf 24 = .ok (.iinc 2 1, 3) := dk_132 2 1 (dk_at dksX8_makespanOf_1 0 rfl rfl)
theorem dX8_makespanOf_27 : decode cX8_makespanOf 27 = .ok (.goto (-23), 3) := dk_167 255 233 (dk_at dksX8_makespanOf_1 3 rfl rfl)
theorem dX8_makespanOf_30 : decode cX8_makespanOf 30 = .ok (.iload_n 1, 1) := dk_27 (dk_at dksX8_makespanOf_1 6 rfl rfl)
theorem dX8_makespanOf_31 : decode cX8_makespanOf 31 = .ok (.ireturn, 1) := dk_172 (dk_at dksX8_makespanOf_1 7 rfl rfl)
abbrev cX8_jobCost : ByteArray := prog_15_method_71_code
def yX8_jobCost : MethodName := ⟨RX8, "jobCost", "(I)I"⟩
def dkwX8_jobCost_1 : List UInt8 := [42, 27, 182, 0, 238, 172]
abbrev dktX8_jobCost_1 : List UInt8 := dkwX8_jobCost_1 ++ []
def dkwX8_jobCost_0 : List UInt8 := [42, 3, 181, 0, 51, 42, 27, 182, 1, 13, 154, 0, 10, 42, 182, 0, 217, 154, 0, 7, 3, 167, 0, 8]
abbrev dktX8_jobCost_0 : List UInt8 := dkwX8_jobCost_0 ++ dktX8_jobCost_1
theorem dksX8_jobCost_0 : cX8_jobCost.data.toList.drop 0 = dktX8_jobCost_0 := by decide +kernel
theorem dksX8_jobCost_1 : cX8_jobCost.data.toList.drop 24 = dktX8_jobCost_1 := dk_seg dksX8_jobCost_0 24 rfl rfl
theorem dX8_jobCost_0 : decode cX8_jobCost 0 = .ok (.aload_n 0, 1) := dk_42 (dk_at dksX8_jobCost_0 0 rfl rfl)
theorem dX8_jobCost_1 : decode cX8_jobCost 1 = .ok (.iconst 0, 1) := dk_3 (dk_at dksX8_jobCost_0 1 rfl rfl)
theorem dX8_jobCost_2 : decode cX8_jobCost 2 = .ok (.putfield 51, 3) := dk_181 0 51 (dk_at dksX8_jobCost_0 2 rfl rfl)
theorem dX8_jobCost_5 : decode cX8_jobCost 5 = .ok (.aload_n 0, 1) := dk_42 (dk_at dksX8_jobCost_0 5 rfl rfl)
theorem dX8_jobCost_6 : decode cX8_jobCost 6 = .ok (.iload_n 1, 1) := dk_27 (dk_at dksX8_jobCost_0 6 rfl rfl)
theorem dX8_jobCost_7 : decode cX8_jobCost 7 = .ok (.invokevirtual 269, 3) := dk_182 1 13 (dk_at dksX8_jobCost_0 7 rfl rfl)
theorem dX8_jobCost_10 : decode cX8_jobCost 10 = .ok (.ifCond .ne 10, 3) := dk_154 0 10 (dk_at dksX8_jobCost_0 10 rfl rfl)
theorem dX8_jobCost_13 : decode cX8_jobCost 13 = .ok (.aload_n 0, 1) := dk_42 (dk_at dksX8_jobCost_0 13 rfl rfl)
theorem dX8_jobCost_14 : decode cX8_jobCost 14 = .ok (.invokevirtual 217, 3) := dk_182 0 217 (dk_at dksX8_jobCost_0 14 rfl rfl)
theorem dX8_jobCost_17 : decode cX8_jobCost 17 = .ok (.ifCond .ne 7, 3) := dk_154 0 7 (dk_at dksX8_jobCost_0 17 rfl rfl)
theorem dX8_jobCost_20 : decode cX8_jobCost 20 = .ok (.iconst 0, 1) := dk_3 (dk_at dksX8_jobCost_0 20 rfl rfl)
theorem dX8_jobCost_21 : decode cX8_jobCost 21 = .ok (.goto 8, 3) := dk_167 0 8 (dk_at dksX8_jobCost_0 21 rfl rfl)
theorem dX8_jobCost_24 : decode cX8_jobCost 24 = .ok (.aload_n 0, 1) := dk_42 (dk_at dksX8_jobCost_1 0 rfl rfl)
theorem dX8_jobCost_25 : decode cX8_jobCost 25 = .ok (.iload_n 1, 1) := dk_27 (dk_at dksX8_jobCost_1 1 rfl rfl)
theorem dX8_jobCost_26 : decode cX8_jobCost 26 = .ok (.invokevirtual 238, 3) := dk_182 0 238 (dk_at dksX8_jobCost_1 2 rfl rfl)
theorem dX8_jobCost_29 : decode cX8_jobCost 29 = .ok (.ireturn, 1) := dk_172 (dk_at dksX8_jobCost_1 5 rfl rfl)
abbrev cX8_costOf : ByteArray := prog_15_method_47_code
def yX8_costOf : MethodName := ⟨RX8, "costOf", "(I)I"⟩
def dkwX8_costOf_8 : List UInt8 := [42, 180, 0, 44, 3, 47, 136, 172]
abbrev dktX8_costOf_8 : List UInt8 := dkwX8_costOf_8 ++ []
def dkwX8_costOf_7 : List UInt8 := [42, 180, 0, 44, 29, 4, 100, 47, 42, 180, 0, 44, 29, 47, 184, 0, 234, 80, 132, 4, 1, 167, 255, 92]
abbrev dktX8_costOf_7 : List UInt8 := dkwX8_costOf_7 ++ dktX8_costOf_8
def dkwX8_costOf_6 : List UInt8 := [184, 0, 147, 46, 133, 80, 132, 3, 1, 167, 0, 33, 132, 3, 255, 42, 180, 0, 44, 29, 4, 100, 21, 5]
abbrev dktX8_costOf_6 : List UInt8 := dkwX8_costOf_6 ++ dktX8_costOf_7
def dkwX8_costOf_5 : List UInt8 := [160, 0, 18, 42, 180, 0, 17, 27, 184, 0, 147, 5, 96, 46, 133, 167, 0, 13, 42, 180, 0, 17, 27]
abbrev dktX8_costOf_5 : List UInt8 := dkwX8_costOf_5 ++ dktX8_costOf_6
def dkwX8_costOf_4 : List UInt8 := [4, 160, 0, 18, 42, 180, 0, 17, 27, 184, 0, 147, 4, 96, 46, 133, 167, 0, 34, 21, 6, 5]
abbrev dktX8_costOf_4 : List UInt8 := dkwX8_costOf_4 ++ dktX8_costOf_5
def dkwX8_costOf_3 : List UInt8 := [29, 21, 5, 154, 0, 9, 21, 6, 133, 167, 0, 65, 21, 6, 154, 0, 8, 28, 133, 167, 0, 55, 21, 6]
abbrev dktX8_costOf_3 : List UInt8 := dkwX8_costOf_3 ++ dktX8_costOf_4
def dkwX8_costOf_2 : List UInt8 := [4, 163, 0, 104, 132, 4, 1, 42, 180, 0, 17, 17, 0, 155, 21, 4, 96, 46, 54, 6, 42, 180, 0, 44]
abbrev dktX8_costOf_2 : List UInt8 := dkwX8_costOf_2 ++ dktX8_costOf_3
def dkwX8_costOf_1 : List UInt8 := [42, 180, 0, 17, 7, 46, 162, 0, 159, 42, 180, 0, 17, 17, 0, 155, 21, 4, 96, 46, 54, 5, 21, 5]
abbrev dktX8_costOf_1 : List UInt8 := dkwX8_costOf_1 ++ dktX8_costOf_2
def dkwX8_costOf_0 : List UInt8 := [42, 27, 182, 0, 223, 61, 3, 62, 42, 180, 0, 17, 6, 46, 154, 0, 5, 28, 172, 3, 54, 4, 21, 4]
abbrev dktX8_costOf_0 : List UInt8 := dkwX8_costOf_0 ++ dktX8_costOf_1
theorem dksX8_costOf_0 : cX8_costOf.data.toList.drop 0 = dktX8_costOf_0 := by decide +kernel
theorem dksX8_costOf_1 : cX8_costOf.data.toList.drop 24 = dktX8_costOf_1 := dk_seg dksX8_costOf_0 24 rfl rfl
theorem dksX8_costOf_2 : cX8_costOf.data.toList.drop 48 = dktX8_costOf_2 := dk_seg dksX8_costOf_1 24 rfl rfl
theorem dksX8_costOf_3 : cX8_costOf.data.toList.drop 72 = dktX8_costOf_3 := dk_seg dksX8_costOf_2 24 rfl rfl
theorem dksX8_costOf_4 : cX8_costOf.data.toList.drop 96 = dktX8_costOf_4 := dk_seg dksX8_costOf_3 24 rfl rfl
theorem dksX8_costOf_5 : cX8_costOf.data.toList.drop 118 = dktX8_costOf_5 := dk_seg dksX8_costOf_4 22 rfl rfl
theorem dksX8_costOf_6 : cX8_costOf.data.toList.drop 141 = dktX8_costOf_6 := dk_seg dksX8_costOf_5 23 rfl rfl
theorem dksX8_costOf_7 : cX8_costOf.data.toList.drop 165 = dktX8_costOf_7 := dk_seg dksX8_costOf_6 24 rfl rfl
theorem dksX8_costOf_8 : cX8_costOf.data.toList.drop 189 = dktX8_costOf_8 := dk_seg dksX8_costOf_7 24 rfl rfl
theorem dX8_costOf_0 : decode cX8_costOf 0 = .ok (.aload_n 0, 1) := dk_42 (dk_at dksX8_costOf_0 0 rfl rfl)
theorem dX8_costOf_1 : decode cX8_costOf 1 = .ok (.iload_n 1, 1) := dk_27 (dk_at dksX8_costOf_0 1 rfl rfl)
theorem dX8_costOf_2 : decode cX8_costOf 2 = .ok (.invokevirtual 223, 3) := dk_182 0 223 (dk_at dksX8_costOf_0 2 rfl rfl)
theorem dX8_costOf_5 : decode cX8_costOf 5 = .ok (.istore_n 2, 1) := dk_61 (dk_at dksX8_costOf_0 5 rfl rfl)
theorem dX8_costOf_6 : decode cX8_costOf 6 = .ok (.iconst 0, 1) := dk_3 (dk_at dksX8_costOf_0 6 rfl rfl)
theorem dX8_costOf_7 : decode cX8_costOf 7 = .ok (.istore_n 3, 1) := dk_62 (dk_at dksX8_costOf_0 7 rfl rfl)
theorem dX8_costOf_8 : decode cX8_costOf 8 = .ok (.aload_n 0, 1) := dk_42 (dk_at dksX8_costOf_0 8 rfl rfl)
theorem dX8_costOf_9 : decode cX8_costOf 9 = .ok (.getfield 17, 3) := dk_180 0 17 (dk_at dksX8_costOf_0 9 rfl rfl)
theorem dX8_costOf_12 : decode cX8_costOf 12 = .ok (.iconst 3, 1) := dk_6 (dk_at dksX8_costOf_0 12 rfl rfl)
theorem dX8_costOf_13 : decode cX8_costOf 13 = .ok (.iaload, 1) := dk_46 (dk_at dksX8_costOf_0 13 rfl rfl)
theorem dX8_costOf_14 : decode cX8_costOf 14 = .ok (.ifCond .ne 5, 3) := dk_154 0 5 (dk_at dksX8_costOf_0 14 rfl rfl)
theorem dX8_costOf_17 : decode cX8_costOf 17 = .ok (.iload_n 2, 1) := dk_28 (dk_at dksX8_costOf_0 17 rfl rfl)
theorem dX8_costOf_18 : decode cX8_costOf 18 = .ok (.ireturn, 1) := dk_172 (dk_at dksX8_costOf_0 18 rfl rfl)
theorem dX8_costOf_19 : decode cX8_costOf 19 = .ok (.iconst 0, 1) := dk_3 (dk_at dksX8_costOf_0 19 rfl rfl)
theorem dX8_costOf_20 : decode cX8_costOf 20 = .ok (.istore 4, 2) := dk_54 4 (dk_at dksX8_costOf_0 20 rfl rfl)
theorem dX8_costOf_22 : decode cX8_costOf 22 = .ok (.iload 4, 2) := dk_21 4 (dk_at dksX8_costOf_0 22 rfl rfl)
theorem dX8_costOf_24 : decode cX8_costOf 24 = .ok (.aload_n 0, 1) := dk_42 (dk_at dksX8_costOf_1 0 rfl rfl)
theorem dX8_costOf_25 : decode cX8_costOf 25 = .ok (.getfield 17, 3) := dk_180 0 17 (dk_at dksX8_costOf_1 1 rfl rfl)
theorem dX8_costOf_28 : decode cX8_costOf 28 = .ok (.iconst 4, 1) := dk_7 (dk_at dksX8_costOf_1 4 rfl rfl)
theorem dX8_costOf_29 : decode cX8_costOf 29 = .ok (.iaload, 1) := dk_46 (dk_at dksX8_costOf_1 5 rfl rfl)
theorem dX8_costOf_30 : decode cX8_costOf 30 = .ok (.if_icmp .ge 159, 3) := dk_162 0 159 (dk_at dksX8_costOf_1 6 rfl rfl)
theorem dX8_costOf_33 : decode cX8_costOf 33 = .ok (.aload_n 0, 1) := dk_42 (dk_at dksX8_costOf_1 9 rfl rfl)
theorem dX8_costOf_34 : decode cX8_costOf 34 = .ok (.getfield 17, 3) := dk_180 0 17 (dk_at dksX8_costOf_1 10 rfl rfl)
theorem dX8_costOf_37 : decode cX8_costOf 37 = .ok (.sipush 155, 3) := dk_17 0 155 (dk_at dksX8_costOf_1 13 rfl rfl)
theorem dX8_costOf_40 : decode cX8_costOf 40 = .ok (.iload 4, 2) := dk_21 4 (dk_at dksX8_costOf_1 16 rfl rfl)
theorem dX8_costOf_42 : decode cX8_costOf 42 = .ok (.iadd, 1) := dk_96 (dk_at dksX8_costOf_1 18 rfl rfl)
theorem dX8_costOf_43 : decode cX8_costOf 43 = .ok (.iaload, 1) := dk_46 (dk_at dksX8_costOf_1 19 rfl rfl)
theorem dX8_costOf_44 : decode cX8_costOf 44 = .ok (.istore 5, 2) := dk_54 5 (dk_at dksX8_costOf_1 20 rfl rfl)
theorem dX8_costOf_46 : decode cX8_costOf 46 = .ok (.iload 5, 2) := dk_21 5 (dk_at dksX8_costOf_1 22 rfl rfl)
theorem dX8_costOf_48 : decode cX8_costOf 48 = .ok (.iconst 1, 1) := dk_4 (dk_at dksX8_costOf_2 0 rfl rfl)
theorem dX8_costOf_49 : decode cX8_costOf 49 = .ok (.if_icmp .gt 104, 3) := dk_163 0 104 (dk_at dksX8_costOf_2 1 rfl rfl)
theorem dX8_costOf_52 : decode cX8_costOf 52 = .ok (.iinc 4 1, 3) := dk_132 4 1 (dk_at dksX8_costOf_2 4 rfl rfl)
theorem dX8_costOf_55 : decode cX8_costOf 55 = .ok (.aload_n 0, 1) := dk_42 (dk_at dksX8_costOf_2 7 rfl rfl)
theorem dX8_costOf_56 : decode cX8_costOf 56 = .ok (.getfield 17, 3) := dk_180 0 17 (dk_at dksX8_costOf_2 8 rfl rfl)
theorem dX8_costOf_59 : decode cX8_costOf 59 = .ok (.sipush 155, 3) := dk_17 0 155 (dk_at dksX8_costOf_2 11 rfl rfl)
theorem dX8_costOf_62 : decode cX8_costOf 62 = .ok (.iload 4, 2) := dk_21 4 (dk_at dksX8_costOf_2 14 rfl rfl)
theorem dX8_costOf_64 : decode cX8_costOf 64 = .ok (.iadd, 1) := dk_96 (dk_at dksX8_costOf_2 16 rfl rfl)
theorem dX8_costOf_65 : decode cX8_costOf 65 = .ok (.iaload, 1) := dk_46 (dk_at dksX8_costOf_2 17 rfl rfl)
theorem dX8_costOf_66 : decode cX8_costOf 66 = .ok (.istore 6, 2) := dk_54 6 (dk_at dksX8_costOf_2 18 rfl rfl)
theorem dX8_costOf_68 : decode cX8_costOf 68 = .ok (.aload_n 0, 1) := dk_42 (dk_at dksX8_costOf_2 20 rfl rfl)
theorem dX8_costOf_69 : decode cX8_costOf 69 = .ok (.getfield 44, 3) := dk_180 0 44 (dk_at dksX8_costOf_2 21 rfl rfl)
theorem dX8_costOf_72 : decode cX8_costOf 72 = .ok (.iload_n 3, 1) := dk_29 (dk_at dksX8_costOf_3 0 rfl rfl)
theorem dX8_costOf_73 : decode cX8_costOf 73 = .ok (.iload 5, 2) := dk_21 5 (dk_at dksX8_costOf_3 1 rfl rfl)
theorem dX8_costOf_75 : decode cX8_costOf 75 = .ok (.ifCond .ne 9, 3) := dk_154 0 9 (dk_at dksX8_costOf_3 3 rfl rfl)
theorem dX8_costOf_78 : decode cX8_costOf 78 = .ok (.iload 6, 2) := dk_21 6 (dk_at dksX8_costOf_3 6 rfl rfl)
theorem dX8_costOf_80 : decode cX8_costOf 80 = .ok (.i2l, 1) := dk_133 (dk_at dksX8_costOf_3 8 rfl rfl)
theorem dX8_costOf_81 : decode cX8_costOf 81 = .ok (.goto 65, 3) := dk_167 0 65 (dk_at dksX8_costOf_3 9 rfl rfl)
theorem dX8_costOf_84 : decode cX8_costOf 84 = .ok (.iload 6, 2) := dk_21 6 (dk_at dksX8_costOf_3 12 rfl rfl)
theorem dX8_costOf_86 : decode cX8_costOf 86 = .ok (.ifCond .ne 8, 3) := dk_154 0 8 (dk_at dksX8_costOf_3 14 rfl rfl)
theorem dX8_costOf_89 : decode cX8_costOf 89 = .ok (.iload_n 2, 1) := dk_28 (dk_at dksX8_costOf_3 17 rfl rfl)
theorem dX8_costOf_90 : decode cX8_costOf 90 = .ok (.i2l, 1) := dk_133 (dk_at dksX8_costOf_3 18 rfl rfl)
theorem dX8_costOf_91 : decode cX8_costOf 91 = .ok (.goto 55, 3) := dk_167 0 55 (dk_at dksX8_costOf_3 19 rfl rfl)
theorem dX8_costOf_94 : decode cX8_costOf 94 = .ok (.iload 6, 2) := dk_21 6 (dk_at dksX8_costOf_3 22 rfl rfl)
theorem dX8_costOf_96 : decode cX8_costOf 96 = .ok (.iconst 1, 1) := dk_4 (dk_at dksX8_costOf_4 0 rfl rfl)
theorem dX8_costOf_97 : decode cX8_costOf 97 = .ok (.if_icmp .ne 18, 3) := dk_160 0 18 (dk_at dksX8_costOf_4 1 rfl rfl)
theorem dX8_costOf_100 : decode cX8_costOf 100 = .ok (.aload_n 0, 1) := dk_42 (dk_at dksX8_costOf_4 4 rfl rfl)
theorem dX8_costOf_101 : decode cX8_costOf 101 = .ok (.getfield 17, 3) := dk_180 0 17 (dk_at dksX8_costOf_4 5 rfl rfl)
theorem dX8_costOf_104 : decode cX8_costOf 104 = .ok (.iload_n 1, 1) := dk_27 (dk_at dksX8_costOf_4 8 rfl rfl)
theorem dX8_costOf_105 : decode cX8_costOf 105 = .ok (.invokestatic 147, 3) := dk_184 0 147 (dk_at dksX8_costOf_4 9 rfl rfl)
theorem dX8_costOf_108 : decode cX8_costOf 108 = .ok (.iconst 1, 1) := dk_4 (dk_at dksX8_costOf_4 12 rfl rfl)
theorem dX8_costOf_109 : decode cX8_costOf 109 = .ok (.iadd, 1) := dk_96 (dk_at dksX8_costOf_4 13 rfl rfl)
theorem dX8_costOf_110 : decode cX8_costOf 110 = .ok (.iaload, 1) := dk_46 (dk_at dksX8_costOf_4 14 rfl rfl)
theorem dX8_costOf_111 : decode cX8_costOf 111 = .ok (.i2l, 1) := dk_133 (dk_at dksX8_costOf_4 15 rfl rfl)
theorem dX8_costOf_112 : decode cX8_costOf 112 = .ok (.goto 34, 3) := dk_167 0 34 (dk_at dksX8_costOf_4 16 rfl rfl)
theorem dX8_costOf_115 : decode cX8_costOf 115 = .ok (.iload 6, 2) := dk_21 6 (dk_at dksX8_costOf_4 19 rfl rfl)
theorem dX8_costOf_117 : decode cX8_costOf 117 = .ok (.iconst 2, 1) := dk_5 (dk_at dksX8_costOf_4 21 rfl rfl)
theorem dX8_costOf_118 : decode cX8_costOf 118 = .ok (.if_icmp .ne 18, 3) := dk_160 0 18 (dk_at dksX8_costOf_5 0 rfl rfl)
theorem dX8_costOf_121 : decode cX8_costOf 121 = .ok (.aload_n 0, 1) := dk_42 (dk_at dksX8_costOf_5 3 rfl rfl)
theorem dX8_costOf_122 : decode cX8_costOf 122 = .ok (.getfield 17, 3) := dk_180 0 17 (dk_at dksX8_costOf_5 4 rfl rfl)
theorem dX8_costOf_125 : decode cX8_costOf 125 = .ok (.iload_n 1, 1) := dk_27 (dk_at dksX8_costOf_5 7 rfl rfl)
theorem dX8_costOf_126 : decode cX8_costOf 126 = .ok (.invokestatic 147, 3) := dk_184 0 147 (dk_at dksX8_costOf_5 8 rfl rfl)
theorem dX8_costOf_129 : decode cX8_costOf 129 = .ok (.iconst 2, 1) := dk_5 (dk_at dksX8_costOf_5 11 rfl rfl)
theorem dX8_costOf_130 : decode cX8_costOf 130 = .ok (.iadd, 1) := dk_96 (dk_at dksX8_costOf_5 12 rfl rfl)
theorem dX8_costOf_131 : decode cX8_costOf 131 = .ok (.iaload, 1) := dk_46 (dk_at dksX8_costOf_5 13 rfl rfl)
theorem dX8_costOf_132 : decode cX8_costOf 132 = .ok (.i2l, 1) := dk_133 (dk_at dksX8_costOf_5 14 rfl rfl)
theorem dX8_costOf_133 : decode cX8_costOf 133 = .ok (.goto 13, 3) := dk_167 0 13 (dk_at dksX8_costOf_5 15 rfl rfl)
theorem dX8_costOf_136 : decode cX8_costOf 136 = .ok (.aload_n 0, 1) := dk_42 (dk_at dksX8_costOf_5 18 rfl rfl)
theorem dX8_costOf_137 : decode cX8_costOf 137 = .ok (.getfield 17, 3) := dk_180 0 17 (dk_at dksX8_costOf_5 19 rfl rfl)
theorem dX8_costOf_140 : decode cX8_costOf 140 = .ok (.iload_n 1, 1) := dk_27 (dk_at dksX8_costOf_5 22 rfl rfl)
theorem dX8_costOf_141 : decode cX8_costOf 141 = .ok (.invokestatic 147, 3) := dk_184 0 147 (dk_at dksX8_costOf_6 0 rfl rfl)
theorem dX8_costOf_144 : decode cX8_costOf 144 = .ok (.iaload, 1) := dk_46 (dk_at dksX8_costOf_6 3 rfl rfl)
theorem dX8_costOf_145 : decode cX8_costOf 145 = .ok (.i2l, 1) := dk_133 (dk_at dksX8_costOf_6 4 rfl rfl)
theorem dX8_costOf_146 : decode cX8_costOf 146 = .ok (.lastore, 1) := dk_80 (dk_at dksX8_costOf_6 5 rfl rfl)
theorem dX8_costOf_147 : decode cX8_costOf 147 = .ok (.iinc 3 1, 3) := dk_132 3 1 (dk_at dksX8_costOf_6 6 rfl rfl)
theorem dX8_costOf_150 : decode cX8_costOf 150 = .ok (.goto 33, 3) := dk_167 0 33 (dk_at dksX8_costOf_6 9 rfl rfl)
theorem dX8_costOf_153 : decode cX8_costOf 153 = .ok (.iinc 3 (-1), 3) := dk_132 3 255 (dk_at dksX8_costOf_6 12 rfl rfl)
theorem dX8_costOf_156 : decode cX8_costOf 156 = .ok (.aload_n 0, 1) := dk_42 (dk_at dksX8_costOf_6 15 rfl rfl)
theorem dX8_costOf_157 : decode cX8_costOf 157 = .ok (.getfield 44, 3) := dk_180 0 44 (dk_at dksX8_costOf_6 16 rfl rfl)
theorem dX8_costOf_160 : decode cX8_costOf 160 = .ok (.iload_n 3, 1) := dk_29 (dk_at dksX8_costOf_6 19 rfl rfl)
theorem dX8_costOf_161 : decode cX8_costOf 161 = .ok (.iconst 1, 1) := dk_4 (dk_at dksX8_costOf_6 20 rfl rfl)
theorem dX8_costOf_162 : decode cX8_costOf 162 = .ok (.isub, 1) := dk_100 (dk_at dksX8_costOf_6 21 rfl rfl)
theorem dX8_costOf_163 : decode cX8_costOf 163 = .ok (.iload 5, 2) := dk_21 5 (dk_at dksX8_costOf_6 22 rfl rfl)
theorem dX8_costOf_165 : decode cX8_costOf 165 = .ok (.aload_n 0, 1) := dk_42 (dk_at dksX8_costOf_7 0 rfl rfl)
theorem dX8_costOf_166 : decode cX8_costOf 166 = .ok (.getfield 44, 3) := dk_180 0 44 (dk_at dksX8_costOf_7 1 rfl rfl)
theorem dX8_costOf_169 : decode cX8_costOf 169 = .ok (.iload_n 3, 1) := dk_29 (dk_at dksX8_costOf_7 4 rfl rfl)
theorem dX8_costOf_170 : decode cX8_costOf 170 = .ok (.iconst 1, 1) := dk_4 (dk_at dksX8_costOf_7 5 rfl rfl)
theorem dX8_costOf_171 : decode cX8_costOf 171 = .ok (.isub, 1) := dk_100 (dk_at dksX8_costOf_7 6 rfl rfl)
theorem dX8_costOf_172 : decode cX8_costOf 172 = .ok (.laload, 1) := dk_47 (dk_at dksX8_costOf_7 7 rfl rfl)
theorem dX8_costOf_173 : decode cX8_costOf 173 = .ok (.aload_n 0, 1) := dk_42 (dk_at dksX8_costOf_7 8 rfl rfl)
theorem dX8_costOf_174 : decode cX8_costOf 174 = .ok (.getfield 44, 3) := dk_180 0 44 (dk_at dksX8_costOf_7 9 rfl rfl)
theorem dX8_costOf_177 : decode cX8_costOf 177 = .ok (.iload_n 3, 1) := dk_29 (dk_at dksX8_costOf_7 12 rfl rfl)
theorem dX8_costOf_178 : decode cX8_costOf 178 = .ok (.laload, 1) := dk_47 (dk_at dksX8_costOf_7 13 rfl rfl)
theorem dX8_costOf_179 : decode cX8_costOf 179 = .ok (.invokestatic 234, 3) := dk_184 0 234 (dk_at dksX8_costOf_7 14 rfl rfl)
theorem dX8_costOf_182 : decode cX8_costOf 182 = .ok (.lastore, 1) := dk_80 (dk_at dksX8_costOf_7 17 rfl rfl)
theorem dX8_costOf_183 : decode cX8_costOf 183 = .ok (.iinc 4 1, 3) := dk_132 4 1 (dk_at dksX8_costOf_7 18 rfl rfl)
theorem dX8_costOf_186 : decode cX8_costOf 186 = .ok (.goto (-164), 3) := dk_167 255 92 (dk_at dksX8_costOf_7 21 rfl rfl)
theorem dX8_costOf_189 : decode cX8_costOf 189 = .ok (.aload_n 0, 1) := dk_42 (dk_at dksX8_costOf_8 0 rfl rfl)
theorem dX8_costOf_190 : decode cX8_costOf 190 = .ok (.getfield 44, 3) := dk_180 0 44 (dk_at dksX8_costOf_8 1 rfl rfl)
theorem dX8_costOf_193 : decode cX8_costOf 193 = .ok (.iconst 0, 1) := dk_3 (dk_at dksX8_costOf_8 4 rfl rfl)
theorem dX8_costOf_194 : decode cX8_costOf 194 = .ok (.laload, 1) := dk_47 (dk_at dksX8_costOf_8 5 rfl rfl)
theorem dX8_costOf_195 : decode cX8_costOf 195 = .ok (.l2i, 1) := dk_136 (dk_at dksX8_costOf_8 6 rfl rfl)
theorem dX8_costOf_196 : decode cX8_costOf 196 = .ok (.ireturn, 1) := dk_172 (dk_at dksX8_costOf_8 7 rfl rfl)
abbrev cX8_operate : ByteArray := prog_15_method_46_code
def yX8_operate : MethodName := ⟨RX8, "operate", "(IJJ)J"⟩
def dkwX8_operate_1 : List UInt8 := [31, 33, 97, 167, 0, 17, 26, 6, 160, 0, 9, 31, 33, 101, 167, 0, 6, 31, 33, 105, 184, 0, 230, 173]
abbrev dktX8_operate_1 : List UInt8 := dkwX8_operate_1 ++ []
def dkwX8_operate_0 : List UInt8 := [26, 8, 160, 0, 17, 33, 9, 148, 154, 0, 7, 9, 167, 0, 6, 31, 33, 109, 173, 26, 5, 160, 0, 9]
abbrev dktX8_operate_0 : List UInt8 := dkwX8_operate_0 ++ dktX8_operate_1
theorem dksX8_operate_0 : cX8_operate.data.toList.drop 0 = dktX8_operate_0 := by decide +kernel
theorem dksX8_operate_1 : cX8_operate.data.toList.drop 24 = dktX8_operate_1 := dk_seg dksX8_operate_0 24 rfl rfl
theorem dX8_operate_0 : decode cX8_operate 0 = .ok (.iload_n 0, 1) := dk_26 (dk_at dksX8_operate_0 0 rfl rfl)
theorem dX8_operate_1 : decode cX8_operate 1 = .ok (.iconst 5, 1) := dk_8 (dk_at dksX8_operate_0 1 rfl rfl)
theorem dX8_operate_2 : decode cX8_operate 2 = .ok (.if_icmp .ne 17, 3) := dk_160 0 17 (dk_at dksX8_operate_0 2 rfl rfl)
theorem dX8_operate_5 : decode cX8_operate 5 = .ok (.lload_n 3, 1) := dk_33 (dk_at dksX8_operate_0 5 rfl rfl)
theorem dX8_operate_6 : decode cX8_operate 6 = .ok (.lconst 0, 1) := dk_9 (dk_at dksX8_operate_0 6 rfl rfl)
theorem dX8_operate_7 : decode cX8_operate 7 = .ok (.lcmp, 1) := dk_148 (dk_at dksX8_operate_0 7 rfl rfl)
theorem dX8_operate_8 : decode cX8_operate 8 = .ok (.ifCond .ne 7, 3) := dk_154 0 7 (dk_at dksX8_operate_0 8 rfl rfl)
theorem dX8_operate_11 : decode cX8_operate 11 = .ok (.lconst 0, 1) := dk_9 (dk_at dksX8_operate_0 11 rfl rfl)
theorem dX8_operate_12 : decode cX8_operate 12 = .ok (.goto 6, 3) := dk_167 0 6 (dk_at dksX8_operate_0 12 rfl rfl)
theorem dX8_operate_15 : decode cX8_operate 15 = .ok (.lload_n 1, 1) := dk_31 (dk_at dksX8_operate_0 15 rfl rfl)
theorem dX8_operate_16 : decode cX8_operate 16 = .ok (.lload_n 3, 1) := dk_33 (dk_at dksX8_operate_0 16 rfl rfl)
theorem dX8_operate_17 : decode cX8_operate 17 = .ok (.ldiv, 1) := dk_109 (dk_at dksX8_operate_0 17 rfl rfl)
theorem dX8_operate_18 : decode cX8_operate 18 = .ok (.lreturn, 1) := dk_173 (dk_at dksX8_operate_0 18 rfl rfl)
theorem dX8_operate_19 : decode cX8_operate 19 = .ok (.iload_n 0, 1) := dk_26 (dk_at dksX8_operate_0 19 rfl rfl)
theorem dX8_operate_20 : decode cX8_operate 20 = .ok (.iconst 2, 1) := dk_5 (dk_at dksX8_operate_0 20 rfl rfl)
theorem dX8_operate_21 : decode cX8_operate 21 = .ok (.if_icmp .ne 9, 3) := dk_160 0 9 (dk_at dksX8_operate_0 21 rfl rfl)
theorem dX8_operate_24 : decode cX8_operate 24 = .ok (.lload_n 1, 1) := dk_31 (dk_at dksX8_operate_1 0 rfl rfl)
theorem dX8_operate_25 : decode cX8_operate 25 = .ok (.lload_n 3, 1) := dk_33 (dk_at dksX8_operate_1 1 rfl rfl)
theorem dX8_operate_26 : decode cX8_operate 26 = .ok (.ladd, 1) := dk_97 (dk_at dksX8_operate_1 2 rfl rfl)
theorem dX8_operate_27 : decode cX8_operate 27 = .ok (.goto 17, 3) := dk_167 0 17 (dk_at dksX8_operate_1 3 rfl rfl)
theorem dX8_operate_30 : decode cX8_operate 30 = .ok (.iload_n 0, 1) := dk_26 (dk_at dksX8_operate_1 6 rfl rfl)
theorem dX8_operate_31 : decode cX8_operate 31 = .ok (.iconst 3, 1) := dk_6 (dk_at dksX8_operate_1 7 rfl rfl)
theorem dX8_operate_32 : decode cX8_operate 32 = .ok (.if_icmp .ne 9, 3) := dk_160 0 9 (dk_at dksX8_operate_1 8 rfl rfl)
theorem dX8_operate_35 : decode cX8_operate 35 = .ok (.lload_n 1, 1) := dk_31 (dk_at dksX8_operate_1 11 rfl rfl)
theorem dX8_operate_36 : decode cX8_operate 36 = .ok (.lload_n 3, 1) := dk_33 (dk_at dksX8_operate_1 12 rfl rfl)
theorem dX8_operate_37 : decode cX8_operate 37 = .ok (.lsub, 1) := dk_101 (dk_at dksX8_operate_1 13 rfl rfl)
theorem dX8_operate_38 : decode cX8_operate 38 = .ok (.goto 6, 3) := dk_167 0 6 (dk_at dksX8_operate_1 14 rfl rfl)
theorem dX8_operate_41 : decode cX8_operate 41 = .ok (.lload_n 1, 1) := dk_31 (dk_at dksX8_operate_1 17 rfl rfl)
theorem dX8_operate_42 : decode cX8_operate 42 = .ok (.lload_n 3, 1) := dk_33 (dk_at dksX8_operate_1 18 rfl rfl)
theorem dX8_operate_43 : decode cX8_operate 43 = .ok (.lmul, 1) := dk_105 (dk_at dksX8_operate_1 19 rfl rfl)
theorem dX8_operate_44 : decode cX8_operate 44 = .ok (.invokestatic 230, 3) := dk_184 0 230 (dk_at dksX8_operate_1 20 rfl rfl)
theorem dX8_operate_47 : decode cX8_operate 47 = .ok (.lreturn, 1) := dk_173 (dk_at dksX8_operate_1 23 rfl rfl)
abbrev cX8_limited : ByteArray := prog_15_method_45_code
def yX8_limited : MethodName := ⟨RX8, "limited", "(J)J"⟩
def dkwX8_limited_1 : List UInt8 := [20, 0, 228, 167, 0, 4, 30, 173]
abbrev dktX8_limited_1 : List UInt8 := dkwX8_limited_1 ++ []
def dkwX8_limited_0 : List UInt8 := [30, 20, 0, 226, 148, 158, 0, 9, 20, 0, 226, 167, 0, 18, 30, 20, 0, 228, 148, 156, 0, 9]
abbrev dktX8_limited_0 : List UInt8 := dkwX8_limited_0 ++ dktX8_limited_1
theorem dksX8_limited_0 : cX8_limited.data.toList.drop 0 = dktX8_limited_0 := by decide +kernel
theorem dksX8_limited_1 : cX8_limited.data.toList.drop 22 = dktX8_limited_1 := dk_seg dksX8_limited_0 22 rfl rfl
theorem dX8_limited_0 : decode cX8_limited 0 = .ok (.lload_n 0, 1) := dk_30 (dk_at dksX8_limited_0 0 rfl rfl)
theorem dX8_limited_1 : decode cX8_limited 1 = .ok (.ldc2_w 226, 3) := dk_20 0 226 (dk_at dksX8_limited_0 1 rfl rfl)
theorem dX8_limited_4 : decode cX8_limited 4 = .ok (.lcmp, 1) := dk_148 (dk_at dksX8_limited_0 4 rfl rfl)
theorem dX8_limited_5 : decode cX8_limited 5 = .ok (.ifCond .le 9, 3) := dk_158 0 9 (dk_at dksX8_limited_0 5 rfl rfl)
theorem dX8_limited_8 : decode cX8_limited 8 = .ok (.ldc2_w 226, 3) := dk_20 0 226 (dk_at dksX8_limited_0 8 rfl rfl)
theorem dX8_limited_11 : decode cX8_limited 11 = .ok (.goto 18, 3) := dk_167 0 18 (dk_at dksX8_limited_0 11 rfl rfl)
theorem dX8_limited_14 : decode cX8_limited 14 = .ok (.lload_n 0, 1) := dk_30 (dk_at dksX8_limited_0 14 rfl rfl)
theorem dX8_limited_15 : decode cX8_limited 15 = .ok (.ldc2_w 228, 3) := dk_20 0 228 (dk_at dksX8_limited_0 15 rfl rfl)
theorem dX8_limited_18 : decode cX8_limited 18 = .ok (.lcmp, 1) := dk_148 (dk_at dksX8_limited_0 18 rfl rfl)
theorem dX8_limited_19 : decode cX8_limited 19 = .ok (.ifCond .ge 9, 3) := dk_156 0 9 (dk_at dksX8_limited_0 19 rfl rfl)
theorem dX8_limited_22 : decode cX8_limited 22 = .ok (.ldc2_w 228, 3) := dk_20 0 228 (dk_at dksX8_limited_1 0 rfl rfl)
theorem dX8_limited_25 : decode cX8_limited 25 = .ok (.goto 4, 3) := dk_167 0 4 (dk_at dksX8_limited_1 3 rfl rfl)
theorem dX8_limited_28 : decode cX8_limited 28 = .ok (.lload_n 0, 1) := dk_30 (dk_at dksX8_limited_1 6 rfl rfl)
theorem dX8_limited_29 : decode cX8_limited 29 = .ok (.lreturn, 1) := dk_173 (dk_at dksX8_limited_1 7 rfl rfl)
abbrev cX8_planCost : ByteArray := prog_15_method_72_code
def yX8_planCost : MethodName := ⟨RX8, "planCost", "()I"⟩
def dkwX8_planCost_0 : List UInt8 := [42, 3, 181, 0, 51, 42, 182, 0, 217, 153, 0, 10, 42, 182, 0, 250, 167, 0, 4, 3, 172]
abbrev dktX8_planCost_0 : List UInt8 := dkwX8_planCost_0 ++ []
theorem dksX8_planCost_0 : cX8_planCost.data.toList.drop 0 = dktX8_planCost_0 := by decide +kernel
theorem dX8_planCost_0 : decode cX8_planCost 0 = .ok (.aload_n 0, 1) := dk_42 (dk_at dksX8_planCost_0 0 rfl rfl)
theorem dX8_planCost_1 : decode cX8_planCost 1 = .ok (.iconst 0, 1) := dk_3 (dk_at dksX8_planCost_0 1 rfl rfl)
theorem dX8_planCost_2 : decode cX8_planCost 2 = .ok (.putfield 51, 3) := dk_181 0 51 (dk_at dksX8_planCost_0 2 rfl rfl)
theorem dX8_planCost_5 : decode cX8_planCost 5 = .ok (.aload_n 0, 1) := dk_42 (dk_at dksX8_planCost_0 5 rfl rfl)
theorem dX8_planCost_6 : decode cX8_planCost 6 = .ok (.invokevirtual 217, 3) := dk_182 0 217 (dk_at dksX8_planCost_0 6 rfl rfl)
theorem dX8_planCost_9 : decode cX8_planCost 9 = .ok (.ifCond .eq 10, 3) := dk_153 0 10 (dk_at dksX8_planCost_0 9 rfl rfl)
theorem dX8_planCost_12 : decode cX8_planCost 12 = .ok (.aload_n 0, 1) := dk_42 (dk_at dksX8_planCost_0 12 rfl rfl)
theorem dX8_planCost_13 : decode cX8_planCost 13 = .ok (.invokevirtual 250, 3) := dk_182 0 250 (dk_at dksX8_planCost_0 13 rfl rfl)
theorem dX8_planCost_16 : decode cX8_planCost 16 = .ok (.goto 4, 3) := dk_167 0 4 (dk_at dksX8_planCost_0 16 rfl rfl)
theorem dX8_planCost_19 : decode cX8_planCost 19 = .ok (.iconst 0, 1) := dk_3 (dk_at dksX8_planCost_0 19 rfl rfl)
theorem dX8_planCost_20 : decode cX8_planCost 20 = .ok (.ireturn, 1) := dk_172 (dk_at dksX8_planCost_0 20 rfl rfl)
abbrev cX8_costOfPlan : ByteArray := prog_15_method_48_code
def yX8_costOfPlan : MethodName := ⟨RX8, "costOfPlan", "()I"⟩
def dkwX8_costOfPlan_1 : List UInt8 := [132, 2, 1, 167, 255, 235, 27, 172]
abbrev dktX8_costOfPlan_1 : List UInt8 := dkwX8_costOfPlan_1 ++ []
def dkwX8_costOfPlan_0 : List UInt8 := [3, 60, 3, 61, 28, 42, 180, 0, 17, 5, 46, 162, 0, 17, 27, 42, 28, 182, 0, 238, 96, 60]
abbrev dktX8_costOfPlan_0 : List UInt8 := dkwX8_costOfPlan_0 ++ dktX8_costOfPlan_1
theorem dksX8_costOfPlan_0 : cX8_costOfPlan.data.toList.drop 0 = dktX8_costOfPlan_0 := by decide +kernel
theorem dksX8_costOfPlan_1 : cX8_costOfPlan.data.toList.drop 22 = dktX8_costOfPlan_1 := dk_seg dksX8_costOfPlan_0 22 rfl rfl
theorem dX8_costOfPlan_0 : decode cX8_costOfPlan 0 = .ok (.iconst 0, 1) := dk_3 (dk_at dksX8_costOfPlan_0 0 rfl rfl)
theorem dX8_costOfPlan_1 : decode cX8_costOfPlan 1 = .ok (.istore_n 1, 1) := dk_60 (dk_at dksX8_costOfPlan_0 1 rfl rfl)
theorem dX8_costOfPlan_2 : decode cX8_costOfPlan 2 = .ok (.iconst 0, 1) := dk_3 (dk_at dksX8_costOfPlan_0 2 rfl rfl)
theorem dX8_costOfPlan_3 : decode cX8_costOfPlan 3 = .ok (.istore_n 2, 1) := dk_61 (dk_at dksX8_costOfPlan_0 3 rfl rfl)
theorem dX8_costOfPlan_4 : decode cX8_costOfPlan 4 = .ok (.iload_n 2, 1) := dk_28 (dk_at dksX8_costOfPlan_0 4 rfl rfl)
theorem dX8_costOfPlan_5 : decode cX8_costOfPlan 5 = .ok (.aload_n 0, 1) := dk_42 (dk_at dksX8_costOfPlan_0 5 rfl rfl)
theorem dX8_costOfPlan_6 : decode cX8_costOfPlan 6 = .ok (.getfield 17, 3) := dk_180 0 17 (dk_at dksX8_costOfPlan_0 6 rfl rfl)
theorem dX8_costOfPlan_9 : decode cX8_costOfPlan 9 = .ok (.iconst 2, 1) := dk_5 (dk_at dksX8_costOfPlan_0 9 rfl rfl)
theorem dX8_costOfPlan_10 : decode cX8_costOfPlan 10 = .ok (.iaload, 1) := dk_46 (dk_at dksX8_costOfPlan_0 10 rfl rfl)
theorem dX8_costOfPlan_11 : decode cX8_costOfPlan 11 = .ok (.if_icmp .ge 17, 3) := dk_162 0 17 (dk_at dksX8_costOfPlan_0 11 rfl rfl)
theorem dX8_costOfPlan_14 : decode cX8_costOfPlan 14 = .ok (.iload_n 1, 1) := dk_27 (dk_at dksX8_costOfPlan_0 14 rfl rfl)
theorem dX8_costOfPlan_15 : decode cX8_costOfPlan 15 = .ok (.aload_n 0, 1) := dk_42 (dk_at dksX8_costOfPlan_0 15 rfl rfl)
theorem dX8_costOfPlan_16 : decode cX8_costOfPlan 16 = .ok (.iload_n 2, 1) := dk_28 (dk_at dksX8_costOfPlan_0 16 rfl rfl)
theorem dX8_costOfPlan_17 : decode cX8_costOfPlan 17 = .ok (.invokevirtual 238, 3) := dk_182 0 238 (dk_at dksX8_costOfPlan_0 17 rfl rfl)
theorem dX8_costOfPlan_20 : decode cX8_costOfPlan 20 = .ok (.iadd, 1) := dk_96 (dk_at dksX8_costOfPlan_0 20 rfl rfl)
theorem dX8_costOfPlan_21 : decode cX8_costOfPlan 21 = .ok (.istore_n 1, 1) := dk_60 (dk_at dksX8_costOfPlan_0 21 rfl rfl)
theorem dX8_costOfPlan_22 : decode cX8_costOfPlan 22 = .ok (.iinc 2 1, 3) := dk_132 2 1 (dk_at dksX8_costOfPlan_1 0 rfl rfl)
theorem dX8_costOfPlan_25 : decode cX8_costOfPlan 25 = .ok (.goto (-21), 3) := dk_167 255 235 (dk_at dksX8_costOfPlan_1 3 rfl rfl)
theorem dX8_costOfPlan_28 : decode cX8_costOfPlan 28 = .ok (.iload_n 1, 1) := dk_27 (dk_at dksX8_costOfPlan_1 6 rfl rfl)
theorem dX8_costOfPlan_29 : decode cX8_costOfPlan 29 = .ok (.ireturn, 1) := dk_172 (dk_at dksX8_costOfPlan_1 7 rfl rfl)
abbrev cX8_blockedTime : ByteArray := prog_15_method_73_code
def yX8_blockedTime : MethodName := ⟨RX8, "blockedTime", "(I)I"⟩
def dkwX8_blockedTime_3 : List UInt8 := [100, 42, 21, 4, 182, 0, 202, 100, 96, 61, 132, 3, 1, 167, 255, 199, 28, 172]
abbrev dktX8_blockedTime_3 : List UInt8 := dkwX8_blockedTime_3 ++ []
def dkwX8_blockedTime_2 : List UInt8 := [184, 0, 158, 6, 96, 29, 96, 46, 54, 4, 28, 42, 21, 4, 182, 1, 29, 42, 180, 0, 37, 21, 4, 46]
abbrev dktX8_blockedTime_2 : List UInt8 := dkwX8_blockedTime_2 ++ dktX8_blockedTime_3
def dkwX8_blockedTime_1 : List UInt8 := [3, 62, 29, 42, 180, 0, 17, 27, 184, 0, 158, 5, 96, 46, 162, 0, 48, 42, 180, 0, 17, 27]
abbrev dktX8_blockedTime_1 : List UInt8 := dkwX8_blockedTime_1 ++ dktX8_blockedTime_2
def dkwX8_blockedTime_0 : List UInt8 := [42, 3, 181, 0, 51, 42, 27, 182, 1, 16, 154, 0, 10, 42, 182, 0, 217, 154, 0, 5, 3, 172, 3, 61]
abbrev dktX8_blockedTime_0 : List UInt8 := dkwX8_blockedTime_0 ++ dktX8_blockedTime_1
theorem dksX8_blockedTime_0 : cX8_blockedTime.data.toList.drop 0 = dktX8_blockedTime_0 := by decide +kernel
theorem dksX8_blockedTime_1 : cX8_blockedTime.data.toList.drop 24 = dktX8_blockedTime_1 := dk_seg dksX8_blockedTime_0 24 rfl rfl
theorem dksX8_blockedTime_2 : cX8_blockedTime.data.toList.drop 46 = dktX8_blockedTime_2 := dk_seg dksX8_blockedTime_1 22 rfl rfl
theorem dksX8_blockedTime_3 : cX8_blockedTime.data.toList.drop 70 = dktX8_blockedTime_3 := dk_seg dksX8_blockedTime_2 24 rfl rfl
theorem dX8_blockedTime_0 : decode cX8_blockedTime 0 = .ok (.aload_n 0, 1) := dk_42 (dk_at dksX8_blockedTime_0 0 rfl rfl)
theorem dX8_blockedTime_1 : decode cX8_blockedTime 1 = .ok (.iconst 0, 1) := dk_3 (dk_at dksX8_blockedTime_0 1 rfl rfl)
theorem dX8_blockedTime_2 : decode cX8_blockedTime 2 = .ok (.putfield 51, 3) := dk_181 0 51 (dk_at dksX8_blockedTime_0 2 rfl rfl)
theorem dX8_blockedTime_5 : decode cX8_blockedTime 5 = .ok (.aload_n 0, 1) := dk_42 (dk_at dksX8_blockedTime_0 5 rfl rfl)
theorem dX8_blockedTime_6 : decode cX8_blockedTime 6 = .ok (.iload_n 1, 1) := dk_27 (dk_at dksX8_blockedTime_0 6 rfl rfl)
theorem dX8_blockedTime_7 : decode cX8_blockedTime 7 = .ok (.invokevirtual 272, 3) := dk_182 1 16 (dk_at dksX8_blockedTime_0 7 rfl rfl)
theorem dX8_blockedTime_10 : decode cX8_blockedTime 10 = .ok (.ifCond .ne 10, 3) := dk_154 0 10 (dk_at dksX8_blockedTime_0 10 rfl rfl)
theorem dX8_blockedTime_13 : decode cX8_blockedTime 13 = .ok (.aload_n 0, 1) := dk_42 (dk_at dksX8_blockedTime_0 13 rfl rfl)
theorem dX8_blockedTime_14 : decode cX8_blockedTime 14 = .ok (.invokevirtual 217, 3) := dk_182 0 217 (dk_at dksX8_blockedTime_0 14 rfl rfl)
theorem dX8_blockedTime_17 : decode cX8_blockedTime 17 = .ok (.ifCond .ne 5, 3) := dk_154 0 5 (dk_at dksX8_blockedTime_0 17 rfl rfl)
theorem dX8_blockedTime_20 : decode cX8_blockedTime 20 = .ok (.iconst 0, 1) := dk_3 (dk_at dksX8_blockedTime_0 20 rfl rfl)
theorem dX8_blockedTime_21 : decode cX8_blockedTime 21 = .ok (.ireturn, 1) := dk_172 (dk_at dksX8_blockedTime_0 21 rfl rfl)
theorem dX8_blockedTime_22 : decode cX8_blockedTime 22 = .ok (.iconst 0, 1) := dk_3 (dk_at dksX8_blockedTime_0 22 rfl rfl)
theorem dX8_blockedTime_23 : decode cX8_blockedTime 23 = .ok (.istore_n 2, 1) := dk_61 (dk_at dksX8_blockedTime_0 23 rfl rfl)
theorem dX8_blockedTime_24 : decode cX8_blockedTime 24 = .ok (.iconst 0, 1) := dk_3 (dk_at dksX8_blockedTime_1 0 rfl rfl)
theorem dX8_blockedTime_25 : decode cX8_blockedTime 25 = .ok (.istore_n 3, 1) := dk_62 (dk_at dksX8_blockedTime_1 1 rfl rfl)
theorem dX8_blockedTime_26 : decode cX8_blockedTime 26 = .ok (.iload_n 3, 1) := dk_29 (dk_at dksX8_blockedTime_1 2 rfl rfl)
theorem dX8_blockedTime_27 : decode cX8_blockedTime 27 = .ok (.aload_n 0, 1) := dk_42 (dk_at dksX8_blockedTime_1 3 rfl rfl)
theorem dX8_blockedTime_28 : decode cX8_blockedTime 28 = .ok (.getfield 17, 3) := dk_180 0 17 (dk_at dksX8_blockedTime_1 4 rfl rfl)
theorem dX8_blockedTime_31 : decode cX8_blockedTime 31 = .ok (.iload_n 1, 1) := dk_27 (dk_at dksX8_blockedTime_1 7 rfl rfl)
theorem dX8_blockedTime_32 : decode cX8_blockedTime 32 = .ok (.invokestatic 158, 3) := dk_184 0 158 (dk_at dksX8_blockedTime_1 8 rfl rfl)
theorem dX8_blockedTime_35 : decode cX8_blockedTime 35 = .ok (.iconst 2, 1) := dk_5 (dk_at dksX8_blockedTime_1 11 rfl rfl)
theorem dX8_blockedTime_36 : decode cX8_blockedTime 36 = .ok (.iadd, 1) := dk_96 (dk_at dksX8_blockedTime_1 12 rfl rfl)
theorem dX8_blockedTime_37 : decode cX8_blockedTime 37 = .ok (.iaload, 1) := dk_46 (dk_at dksX8_blockedTime_1 13 rfl rfl)
theorem dX8_blockedTime_38 : decode cX8_blockedTime 38 = .ok (.if_icmp .ge 48, 3) := dk_162 0 48 (dk_at dksX8_blockedTime_1 14 rfl rfl)
theorem dX8_blockedTime_41 : decode cX8_blockedTime 41 = .ok (.aload_n 0, 1) := dk_42 (dk_at dksX8_blockedTime_1 17 rfl rfl)
theorem dX8_blockedTime_42 : decode cX8_blockedTime 42 = .ok (.getfield 17, 3) := dk_180 0 17 (dk_at dksX8_blockedTime_1 18 rfl rfl)
theorem dX8_blockedTime_45 : decode cX8_blockedTime 45 = .ok (.iload_n 1, 1) := dk_27 (dk_at dksX8_blockedTime_1 21 rfl rfl)
theorem dX8_blockedTime_46 : decode cX8_blockedTime 46 = .ok (.invokestatic 158, 3) := dk_184 0 158 (dk_at dksX8_blockedTime_2 0 rfl rfl)
theorem dX8_blockedTime_49 : decode cX8_blockedTime 49 = .ok (.iconst 3, 1) := dk_6 (dk_at dksX8_blockedTime_2 3 rfl rfl)
theorem dX8_blockedTime_50 : decode cX8_blockedTime 50 = .ok (.iadd, 1) := dk_96 (dk_at dksX8_blockedTime_2 4 rfl rfl)
theorem dX8_blockedTime_51 : decode cX8_blockedTime 51 = .ok (.iload_n 3, 1) := dk_29 (dk_at dksX8_blockedTime_2 5 rfl rfl)
theorem dX8_blockedTime_52 : decode cX8_blockedTime 52 = .ok (.iadd, 1) := dk_96 (dk_at dksX8_blockedTime_2 6 rfl rfl)
theorem dX8_blockedTime_53 : decode cX8_blockedTime 53 = .ok (.iaload, 1) := dk_46 (dk_at dksX8_blockedTime_2 7 rfl rfl)
theorem dX8_blockedTime_54 : decode cX8_blockedTime 54 = .ok (.istore 4, 2) := dk_54 4 (dk_at dksX8_blockedTime_2 8 rfl rfl)
theorem dX8_blockedTime_56 : decode cX8_blockedTime 56 = .ok (.iload_n 2, 1) := dk_28 (dk_at dksX8_blockedTime_2 10 rfl rfl)
theorem dX8_blockedTime_57 : decode cX8_blockedTime 57 = .ok (.aload_n 0, 1) := dk_42 (dk_at dksX8_blockedTime_2 11 rfl rfl)
theorem dX8_blockedTime_58 : decode cX8_blockedTime 58 = .ok (.iload 4, 2) := dk_21 4 (dk_at dksX8_blockedTime_2 12 rfl rfl)
theorem dX8_blockedTime_60 : decode cX8_blockedTime 60 = .ok (.invokevirtual 285, 3) := dk_182 1 29 (dk_at dksX8_blockedTime_2 14 rfl rfl)
theorem dX8_blockedTime_63 : decode cX8_blockedTime 63 = .ok (.aload_n 0, 1) := dk_42 (dk_at dksX8_blockedTime_2 17 rfl rfl)
theorem dX8_blockedTime_64 : decode cX8_blockedTime 64 = .ok (.getfield 37, 3) := dk_180 0 37 (dk_at dksX8_blockedTime_2 18 rfl rfl)
theorem dX8_blockedTime_67 : decode cX8_blockedTime 67 = .ok (.iload 4, 2) := dk_21 4 (dk_at dksX8_blockedTime_2 21 rfl rfl)
theorem dX8_blockedTime_69 : decode cX8_blockedTime 69 = .ok (.iaload, 1) := dk_46 (dk_at dksX8_blockedTime_2 23 rfl rfl)
theorem dX8_blockedTime_70 : decode cX8_blockedTime 70 = .ok (.isub, 1) := dk_100 (dk_at dksX8_blockedTime_3 0 rfl rfl)
theorem dX8_blockedTime_71 : decode cX8_blockedTime 71 = .ok (.aload_n 0, 1) := dk_42 (dk_at dksX8_blockedTime_3 1 rfl rfl)
theorem dX8_blockedTime_72 : decode cX8_blockedTime 72 = .ok (.iload 4, 2) := dk_21 4 (dk_at dksX8_blockedTime_3 2 rfl rfl)
theorem dX8_blockedTime_74 : decode cX8_blockedTime 74 = .ok (.invokevirtual 202, 3) := dk_182 0 202 (dk_at dksX8_blockedTime_3 4 rfl rfl)
theorem dX8_blockedTime_77 : decode cX8_blockedTime 77 = .ok (.isub, 1) := dk_100 (dk_at dksX8_blockedTime_3 7 rfl rfl)
theorem dX8_blockedTime_78 : decode cX8_blockedTime 78 = .ok (.iadd, 1) := dk_96 (dk_at dksX8_blockedTime_3 8 rfl rfl)
theorem dX8_blockedTime_79 : decode cX8_blockedTime 79 = .ok (.istore_n 2, 1) := dk_61 (dk_at dksX8_blockedTime_3 9 rfl rfl)
theorem dX8_blockedTime_80 : decode cX8_blockedTime 80 = .ok (.iinc 3 1, 3) := dk_132 3 1 (dk_at dksX8_blockedTime_3 10 rfl rfl)
theorem dX8_blockedTime_83 : decode cX8_blockedTime 83 = .ok (.goto (-57), 3) := dk_167 255 199 (dk_at dksX8_blockedTime_3 13 rfl rfl)
theorem dX8_blockedTime_86 : decode cX8_blockedTime 86 = .ok (.iload_n 2, 1) := dk_28 (dk_at dksX8_blockedTime_3 16 rfl rfl)
theorem dX8_blockedTime_87 : decode cX8_blockedTime 87 = .ok (.ireturn, 1) := dk_172 (dk_at dksX8_blockedTime_3 17 rfl rfl)
abbrev cX8_criticalLength : ByteArray := prog_15_method_74_code
def yX8_criticalLength : MethodName := ⟨RX8, "criticalLength", "()I"⟩
def dkwX8_criticalLength_0 : List UInt8 := [42, 3, 181, 0, 51, 42, 182, 1, 35, 42, 180, 1, 7, 172]
abbrev dktX8_criticalLength_0 : List UInt8 := dkwX8_criticalLength_0 ++ []
theorem dksX8_criticalLength_0 : cX8_criticalLength.data.toList.drop 0 = dktX8_criticalLength_0 := by decide +kernel
theorem dX8_criticalLength_0 : decode cX8_criticalLength 0 = .ok (.aload_n 0, 1) := dk_42 (dk_at dksX8_criticalLength_0 0 rfl rfl)
theorem dX8_criticalLength_1 : decode cX8_criticalLength 1 = .ok (.iconst 0, 1) := dk_3 (dk_at dksX8_criticalLength_0 1 rfl rfl)
theorem dX8_criticalLength_2 : decode cX8_criticalLength 2 = .ok (.putfield 51, 3) := dk_181 0 51 (dk_at dksX8_criticalLength_0 2 rfl rfl)
theorem dX8_criticalLength_5 : decode cX8_criticalLength 5 = .ok (.aload_n 0, 1) := dk_42 (dk_at dksX8_criticalLength_0 5 rfl rfl)
theorem dX8_criticalLength_6 : decode cX8_criticalLength 6 = .ok (.invokevirtual 291, 3) := dk_182 1 35 (dk_at dksX8_criticalLength_0 6 rfl rfl)
theorem dX8_criticalLength_9 : decode cX8_criticalLength 9 = .ok (.aload_n 0, 1) := dk_42 (dk_at dksX8_criticalLength_0 9 rfl rfl)
theorem dX8_criticalLength_10 : decode cX8_criticalLength 10 = .ok (.getfield 263, 3) := dk_180 1 7 (dk_at dksX8_criticalLength_0 10 rfl rfl)
theorem dX8_criticalLength_13 : decode cX8_criticalLength 13 = .ok (.ireturn, 1) := dk_172 (dk_at dksX8_criticalLength_0 13 rfl rfl)
abbrev cX8_findPath : ByteArray := prog_15_method_53_code
def yX8_findPath : MethodName := ⟨RX8, "findPath", "()V"⟩
def dkwX8_findPath_8 : List UInt8 := [177]
abbrev dktX8_findPath_8 : List UInt8 := dkwX8_findPath_8 ++ []
def dkwX8_findPath_7 : List UInt8 := [180, 0, 37, 28, 46, 160, 0, 9, 28, 4, 100, 167, 0, 9, 42, 180, 0, 31, 28, 46, 61, 167, 255, 138]
abbrev dktX8_findPath_7 : List UInt8 := dkwX8_findPath_7 ++ dktX8_findPath_8
def dkwX8_findPath_6 : List UInt8 := [177, 29, 154, 0, 34, 42, 180, 0, 37, 28, 4, 100, 46, 42, 28, 4, 100, 182, 0, 202, 96, 42]
abbrev dktX8_findPath_6 : List UInt8 := dkwX8_findPath_6 ++ dktX8_findPath_7
def dkwX8_findPath_5 : List UInt8 := [153, 0, 25, 42, 180, 0, 37, 28, 46, 42, 180, 0, 17, 28, 16, 6, 108, 184, 0, 147, 46, 160, 0, 4]
abbrev dktX8_findPath_5 : List UInt8 := dkwX8_findPath_5 ++ dktX8_findPath_6
def dkwX8_findPath_4 : List UInt8 := [180, 1, 7, 4, 96, 181, 1, 7, 28, 16, 6, 112, 154, 0, 7, 4, 167, 0, 4, 3, 62, 29]
abbrev dktX8_findPath_4 : List UInt8 := dkwX8_findPath_4 ++ dktX8_findPath_5
def dkwX8_findPath_3 : List UInt8 := [159, 0, 115, 42, 28, 182, 1, 10, 154, 0, 107, 42, 180, 0, 48, 42, 180, 1, 7, 28, 79, 42, 89]
abbrev dktX8_findPath_3 : List UInt8 := dkwX8_findPath_3 ++ dktX8_findPath_4
def dkwX8_findPath_2 : List UInt8 := [184, 0, 147, 6, 96, 46, 96, 4, 100, 61, 132, 3, 255, 167, 255, 218, 27, 153, 0, 120, 28, 2]
abbrev dktX8_findPath_2 : List UInt8 := dkwX8_findPath_2 ++ dktX8_findPath_3
def dkwX8_findPath_1 : List UInt8 := [155, 0, 40, 42, 29, 182, 0, 223, 42, 182, 0, 247, 160, 0, 22, 16, 6, 29, 104, 42, 180, 0, 17, 29]
abbrev dktX8_findPath_1 : List UInt8 := dkwX8_findPath_1 ++ dktX8_findPath_2
def dkwX8_findPath_0 : List UInt8 := [42, 182, 0, 217, 60, 42, 3, 181, 1, 7, 2, 61, 42, 180, 0, 17, 5, 46, 4, 100, 62, 29]
abbrev dktX8_findPath_0 : List UInt8 := dkwX8_findPath_0 ++ dktX8_findPath_1
theorem dksX8_findPath_0 : cX8_findPath.data.toList.drop 0 = dktX8_findPath_0 := by decide +kernel
theorem dksX8_findPath_1 : cX8_findPath.data.toList.drop 22 = dktX8_findPath_1 := dk_seg dksX8_findPath_0 22 rfl rfl
theorem dksX8_findPath_2 : cX8_findPath.data.toList.drop 46 = dktX8_findPath_2 := dk_seg dksX8_findPath_1 24 rfl rfl
theorem dksX8_findPath_3 : cX8_findPath.data.toList.drop 68 = dktX8_findPath_3 := dk_seg dksX8_findPath_2 22 rfl rfl
theorem dksX8_findPath_4 : cX8_findPath.data.toList.drop 91 = dktX8_findPath_4 := dk_seg dksX8_findPath_3 23 rfl rfl
theorem dksX8_findPath_5 : cX8_findPath.data.toList.drop 113 = dktX8_findPath_5 := dk_seg dksX8_findPath_4 22 rfl rfl
theorem dksX8_findPath_6 : cX8_findPath.data.toList.drop 137 = dktX8_findPath_6 := dk_seg dksX8_findPath_5 24 rfl rfl
theorem dksX8_findPath_7 : cX8_findPath.data.toList.drop 159 = dktX8_findPath_7 := dk_seg dksX8_findPath_6 22 rfl rfl
theorem dksX8_findPath_8 : cX8_findPath.data.toList.drop 183 = dktX8_findPath_8 := dk_seg dksX8_findPath_7 24 rfl rfl
theorem dX8_findPath_0 : decode cX8_findPath 0 = .ok (.aload_n 0, 1) := dk_42 (dk_at dksX8_findPath_0 0 rfl rfl)
theorem dX8_findPath_1 : decode cX8_findPath 1 = .ok (.invokevirtual 217, 3) := dk_182 0 217 (dk_at dksX8_findPath_0 1 rfl rfl)
theorem dX8_findPath_4 : decode cX8_findPath 4 = .ok (.istore_n 1, 1) := dk_60 (dk_at dksX8_findPath_0 4 rfl rfl)
theorem dX8_findPath_5 : decode cX8_findPath 5 = .ok (.aload_n 0, 1) := dk_42 (dk_at dksX8_findPath_0 5 rfl rfl)
theorem dX8_findPath_6 : decode cX8_findPath 6 = .ok (.iconst 0, 1) := dk_3 (dk_at dksX8_findPath_0 6 rfl rfl)
theorem dX8_findPath_7 : decode cX8_findPath 7 = .ok (.putfield 263, 3) := dk_181 1 7 (dk_at dksX8_findPath_0 7 rfl rfl)
theorem dX8_findPath_10 : decode cX8_findPath 10 = .ok (.iconst (-1), 1) := dk_2 (dk_at dksX8_findPath_0 10 rfl rfl)
theorem dX8_findPath_11 : decode cX8_findPath 11 = .ok (.istore_n 2, 1) := dk_61 (dk_at dksX8_findPath_0 11 rfl rfl)
theorem dX8_findPath_12 : decode cX8_findPath 12 = .ok (.aload_n 0, 1) := dk_42 (dk_at dksX8_findPath_0 12 rfl rfl)
theorem dX8_findPath_13 : decode cX8_findPath 13 = .ok (.getfield 17, 3) := dk_180 0 17 (dk_at dksX8_findPath_0 13 rfl rfl)
theorem dX8_findPath_16 : decode cX8_findPath 16 = .ok (.iconst 2, 1) := dk_5 (dk_at dksX8_findPath_0 16 rfl rfl)
theorem dX8_findPath_17 : decode cX8_findPath 17 = .ok (.iaload, 1) := dk_46 (dk_at dksX8_findPath_0 17 rfl rfl)
theorem dX8_findPath_18 : decode cX8_findPath 18 = .ok (.iconst 1, 1) := dk_4 (dk_at dksX8_findPath_0 18 rfl rfl)
theorem dX8_findPath_19 : decode cX8_findPath 19 = .ok (.isub, 1) := dk_100 (dk_at dksX8_findPath_0 19 rfl rfl)
theorem dX8_findPath_20 : decode cX8_findPath 20 = .ok (.istore_n 3, 1) := dk_62 (dk_at dksX8_findPath_0 20 rfl rfl)
theorem dX8_findPath_21 : decode cX8_findPath 21 = .ok (.iload_n 3, 1) := dk_29 (dk_at dksX8_findPath_0 21 rfl rfl)
theorem dX8_findPath_22 : decode cX8_findPath 22 = .ok (.ifCond .lt 40, 3) := dk_155 0 40 (dk_at dksX8_findPath_1 0 rfl rfl)
theorem dX8_findPath_25 : decode cX8_findPath 25 = .ok (.aload_n 0, 1) := dk_42 (dk_at dksX8_findPath_1 3 rfl rfl)
theorem dX8_findPath_26 : decode cX8_findPath 26 = .ok (.iload_n 3, 1) := dk_29 (dk_at dksX8_findPath_1 4 rfl rfl)
theorem dX8_findPath_27 : decode cX8_findPath 27 = .ok (.invokevirtual 223, 3) := dk_182 0 223 (dk_at dksX8_findPath_1 5 rfl rfl)
theorem dX8_findPath_30 : decode cX8_findPath 30 = .ok (.aload_n 0, 1) := dk_42 (dk_at dksX8_findPath_1 8 rfl rfl)
theorem dX8_findPath_31 : decode cX8_findPath 31 = .ok (.invokevirtual 247, 3) := dk_182 0 247 (dk_at dksX8_findPath_1 9 rfl rfl)
theorem dX8_findPath_34 : decode cX8_findPath 34 = .ok (.if_icmp .ne 22, 3) := dk_160 0 22 (dk_at dksX8_findPath_1 12 rfl rfl)
theorem dX8_findPath_37 : decode cX8_findPath 37 = .ok (.bipush 6, 2) := dk_16 6 (dk_at dksX8_findPath_1 15 rfl rfl)
theorem dX8_findPath_39 : decode cX8_findPath 39 = .ok (.iload_n 3, 1) := dk_29 (dk_at dksX8_findPath_1 17 rfl rfl)
theorem dX8_findPath_40 : decode cX8_findPath 40 = .ok (.imul, 1) := dk_104 (dk_at dksX8_findPath_1 18 rfl rfl)
theorem dX8_findPath_41 : decode cX8_findPath 41 = .ok (.aload_n 0, 1) := dk_42 (dk_at dksX8_findPath_1 19 rfl rfl)
theorem dX8_findPath_42 : decode cX8_findPath 42 = .ok (.getfield 17, 3) := dk_180 0 17 (dk_at dksX8_findPath_1 20 rfl rfl)
theorem dX8_findPath_45 : decode cX8_findPath 45 = .ok (.iload_n 3, 1) := dk_29 (dk_at dksX8_findPath_1 23 rfl rfl)
theorem dX8_findPath_46 : decode cX8_findPath 46 = .ok (.invokestatic 147, 3) := dk_184 0 147 (dk_at dksX8_findPath_2 0 rfl rfl)
theorem dX8_findPath_49 : decode cX8_findPath 49 = .ok (.iconst 3, 1) := dk_6 (dk_at dksX8_findPath_2 3 rfl rfl)
theorem dX8_findPath_50 : decode cX8_findPath 50 = .ok (.iadd, 1) := dk_96 (dk_at dksX8_findPath_2 4 rfl rfl)
theorem dX8_findPath_51 : decode cX8_findPath 51 = .ok (.iaload, 1) := dk_46 (dk_at dksX8_findPath_2 5 rfl rfl)
theorem dX8_findPath_52 : decode cX8_findPath 52 = .ok (.iadd, 1) := dk_96 (dk_at dksX8_findPath_2 6 rfl rfl)
theorem dX8_findPath_53 : decode cX8_findPath 53 = .ok (.iconst 1, 1) := dk_4 (dk_at dksX8_findPath_2 7 rfl rfl)
theorem dX8_findPath_54 : decode cX8_findPath 54 = .ok (.isub, 1) := dk_100 (dk_at dksX8_findPath_2 8 rfl rfl)
theorem dX8_findPath_55 : decode cX8_findPath 55 = .ok (.istore_n 2, 1) := dk_61 (dk_at dksX8_findPath_2 9 rfl rfl)
theorem dX8_findPath_56 : decode cX8_findPath 56 = .ok (.iinc 3 (-1), 3) := dk_132 3 255 (dk_at dksX8_findPath_2 10 rfl rfl)
theorem dX8_findPath_59 : decode cX8_findPath 59 = .ok (.goto (-38), 3) := dk_167 255 218 (dk_at dksX8_findPath_2 13 rfl rfl)
theorem dX8_findPath_62 : decode cX8_findPath 62 = .ok (.iload_n 1, 1) := dk_27 (dk_at dksX8_findPath_2 16 rfl rfl)
theorem dX8_findPath_63 : decode cX8_findPath 63 = .ok (.ifCond .eq 120, 3) := dk_153 0 120 (dk_at dksX8_findPath_2 17 rfl rfl)
theorem dX8_findPath_66 : decode cX8_findPath 66 = .ok (.iload_n 2, 1) := dk_28 (dk_at dksX8_findPath_2 20 rfl rfl)
theorem dX8_findPath_67 : decode cX8_findPath 67 = .ok (.iconst (-1), 1) := dk_2 (dk_at dksX8_findPath_2 21 rfl rfl)
theorem dX8_findPath_68 : decode cX8_findPath 68 = .ok (.if_icmp .eq 115, 3) := dk_159 0 115 (dk_at dksX8_findPath_3 0 rfl rfl)
theorem dX8_findPath_71 : decode cX8_findPath 71 = .ok (.aload_n 0, 1) := dk_42 (dk_at dksX8_findPath_3 3 rfl rfl)
theorem dX8_findPath_72 : decode cX8_findPath 72 = .ok (.iload_n 2, 1) := dk_28 (dk_at dksX8_findPath_3 4 rfl rfl)
theorem dX8_findPath_73 : decode cX8_findPath 73 = .ok (.invokevirtual 266, 3) := dk_182 1 10 (dk_at dksX8_findPath_3 5 rfl rfl)
theorem dX8_findPath_76 : decode cX8_findPath 76 = .ok (.ifCond .ne 107, 3) := dk_154 0 107 (dk_at dksX8_findPath_3 8 rfl rfl)
theorem dX8_findPath_79 : decode cX8_findPath 79 = .ok (.aload_n 0, 1) := dk_42 (dk_at dksX8_findPath_3 11 rfl rfl)
theorem dX8_findPath_80 : decode cX8_findPath 80 = .ok (.getfield 48, 3) := dk_180 0 48 (dk_at dksX8_findPath_3 12 rfl rfl)
theorem dX8_findPath_83 : decode cX8_findPath 83 = .ok (.aload_n 0, 1) := dk_42 (dk_at dksX8_findPath_3 15 rfl rfl)
theorem dX8_findPath_84 : decode cX8_findPath 84 = .ok (.getfield 263, 3) := dk_180 1 7 (dk_at dksX8_findPath_3 16 rfl rfl)
theorem dX8_findPath_87 : decode cX8_findPath 87 = .ok (.iload_n 2, 1) := dk_28 (dk_at dksX8_findPath_3 19 rfl rfl)
theorem dX8_findPath_88 : decode cX8_findPath 88 = .ok (.iastore, 1) := dk_79 (dk_at dksX8_findPath_3 20 rfl rfl)
theorem dX8_findPath_89 : decode cX8_findPath 89 = .ok (.aload_n 0, 1) := dk_42 (dk_at dksX8_findPath_3 21 rfl rfl)
theorem dX8_findPath_90 : decode cX8_findPath 90 = .ok (.dup, 1) := dk_89 (dk_at dksX8_findPath_3 22 rfl rfl)
theorem dX8_findPath_91 : decode cX8_findPath 91 = .ok (.getfield 263, 3) := dk_180 1 7 (dk_at dksX8_findPath_4 0 rfl rfl)
theorem dX8_findPath_94 : decode cX8_findPath 94 = .ok (.iconst 1, 1) := dk_4 (dk_at dksX8_findPath_4 3 rfl rfl)
theorem dX8_findPath_95 : decode cX8_findPath 95 = .ok (.iadd, 1) := dk_96 (dk_at dksX8_findPath_4 4 rfl rfl)
theorem dX8_findPath_96 : decode cX8_findPath 96 = .ok (.putfield 263, 3) := dk_181 1 7 (dk_at dksX8_findPath_4 5 rfl rfl)
theorem dX8_findPath_99 : decode cX8_findPath 99 = .ok (.iload_n 2, 1) := dk_28 (dk_at dksX8_findPath_4 8 rfl rfl)
theorem dX8_findPath_100 : decode cX8_findPath 100 = .ok (.bipush 6, 2) := dk_16 6 (dk_at dksX8_findPath_4 9 rfl rfl)
theorem dX8_findPath_102 : decode cX8_findPath 102 = .ok (.irem, 1) := dk_112 (dk_at dksX8_findPath_4 11 rfl rfl)
theorem dX8_findPath_103 : decode cX8_findPath 103 = .ok (.ifCond .ne 7, 3) := dk_154 0 7 (dk_at dksX8_findPath_4 12 rfl rfl)
theorem dX8_findPath_106 : decode cX8_findPath 106 = .ok (.iconst 1, 1) := dk_4 (dk_at dksX8_findPath_4 15 rfl rfl)
theorem dX8_findPath_107 : decode cX8_findPath 107 = .ok (.goto 4, 3) := dk_167 0 4 (dk_at dksX8_findPath_4 16 rfl rfl)
theorem dX8_findPath_110 : decode cX8_findPath 110 = .ok (.iconst 0, 1) := dk_3 (dk_at dksX8_findPath_4 19 rfl rfl)
theorem dX8_findPath_111 : decode cX8_findPath 111 = .ok (.istore_n 3, 1) := dk_62 (dk_at dksX8_findPath_4 20 rfl rfl)
theorem dX8_findPath_112 : decode cX8_findPath 112 = .ok (.iload_n 3, 1) := dk_29 (dk_at dksX8_findPath_4 21 rfl rfl)
theorem dX8_findPath_113 : decode cX8_findPath 113 = .ok (.ifCond .eq 25, 3) := dk_153 0 25 (dk_at dksX8_findPath_5 0 rfl rfl)
theorem dX8_findPath_116 : decode cX8_findPath 116 = .ok (.aload_n 0, 1) := dk_42 (dk_at dksX8_findPath_5 3 rfl rfl)
theorem dX8_findPath_117 : decode cX8_findPath 117 = .ok (.getfield 37, 3) := dk_180 0 37 (dk_at dksX8_findPath_5 4 rfl rfl)
theorem dX8_findPath_120 : decode cX8_findPath 120 = .ok (.iload_n 2, 1) := dk_28 (dk_at dksX8_findPath_5 7 rfl rfl)
theorem dX8_findPath_121 : decode cX8_findPath 121 = .ok (.iaload, 1) := dk_46 (dk_at dksX8_findPath_5 8 rfl rfl)
theorem dX8_findPath_122 : decode cX8_findPath 122 = .ok (.aload_n 0, 1) := dk_42 (dk_at dksX8_findPath_5 9 rfl rfl)
theorem dX8_findPath_123 : decode cX8_findPath 123 = .ok (.getfield 17, 3) := dk_180 0 17 (dk_at dksX8_findPath_5 10 rfl rfl)
theorem dX8_findPath_126 : decode cX8_findPath 126 = .ok (.iload_n 2, 1) := dk_28 (dk_at dksX8_findPath_5 13 rfl rfl)
theorem dX8_findPath_127 : decode cX8_findPath 127 = .ok (.bipush 6, 2) := dk_16 6 (dk_at dksX8_findPath_5 14 rfl rfl)
theorem dX8_findPath_129 : decode cX8_findPath 129 = .ok (.idiv, 1) := dk_108 (dk_at dksX8_findPath_5 16 rfl rfl)
theorem dX8_findPath_130 : decode cX8_findPath 130 = .ok (.invokestatic 147, 3) := dk_184 0 147 (dk_at dksX8_findPath_5 17 rfl rfl)
theorem dX8_findPath_133 : decode cX8_findPath 133 = .ok (.iaload, 1) := dk_46 (dk_at dksX8_findPath_5 20 rfl rfl)
theorem dX8_findPath_134 : decode cX8_findPath 134 = .ok (.if_icmp .ne 4, 3) := dk_160 0 4 (dk_at dksX8_findPath_5 21 rfl rfl)
theorem dX8_findPath_137 : decode cX8_findPath 137 = .ok (.return_, 1) := dk_177 (dk_at dksX8_findPath_6 0 rfl rfl)
theorem dX8_findPath_138 : decode cX8_findPath 138 = .ok (.iload_n 3, 1) := dk_29 (dk_at dksX8_findPath_6 1 rfl rfl)
theorem dX8_findPath_139 : decode cX8_findPath 139 = .ok (.ifCond .ne 34, 3) := dk_154 0 34 (dk_at dksX8_findPath_6 2 rfl rfl)
theorem dX8_findPath_142 : decode cX8_findPath 142 = .ok (.aload_n 0, 1) := dk_42 (dk_at dksX8_findPath_6 5 rfl rfl)
theorem dX8_findPath_143 : decode cX8_findPath 143 = .ok (.getfield 37, 3) := dk_180 0 37 (dk_at dksX8_findPath_6 6 rfl rfl)
theorem dX8_findPath_146 : decode cX8_findPath 146 = .ok (.iload_n 2, 1) := dk_28 (dk_at dksX8_findPath_6 9 rfl rfl)
theorem dX8_findPath_147 : decode cX8_findPath 147 = .ok (.iconst 1, 1) := dk_4 (dk_at dksX8_findPath_6 10 rfl rfl)
theorem dX8_findPath_148 : decode cX8_findPath 148 = .ok (.isub, 1) := dk_100 (dk_at dksX8_findPath_6 11 rfl rfl)
theorem dX8_findPath_149 : decode cX8_findPath 149 = .ok (.iaload, 1) := dk_46 (dk_at dksX8_findPath_6 12 rfl rfl)
theorem dX8_findPath_150 : decode cX8_findPath 150 = .ok (.aload_n 0, 1) := dk_42 (dk_at dksX8_findPath_6 13 rfl rfl)
theorem dX8_findPath_151 : decode cX8_findPath 151 = .ok (.iload_n 2, 1) := dk_28 (dk_at dksX8_findPath_6 14 rfl rfl)
theorem dX8_findPath_152 : decode cX8_findPath 152 = .ok (.iconst 1, 1) := dk_4 (dk_at dksX8_findPath_6 15 rfl rfl)
theorem dX8_findPath_153 : decode cX8_findPath 153 = .ok (.isub, 1) := dk_100 (dk_at dksX8_findPath_6 16 rfl rfl)
theorem dX8_findPath_154 : decode cX8_findPath 154 = .ok (.invokevirtual 202, 3) := dk_182 0 202 (dk_at dksX8_findPath_6 17 rfl rfl)
theorem dX8_findPath_157 : decode cX8_findPath 157 = .ok (.iadd, 1) := dk_96 (dk_at dksX8_findPath_6 20 rfl rfl)
theorem dX8_findPath_158 : decode cX8_findPath 158 = .ok (.aload_n 0, 1) := dk_42 (dk_at dksX8_findPath_6 21 rfl rfl)
theorem dX8_findPath_159 : decode cX8_findPath 159 = .ok (.getfield 37, 3) := dk_180 0 37 (dk_at dksX8_findPath_7 0 rfl rfl)
theorem dX8_findPath_162 : decode cX8_findPath 162 = .ok (.iload_n 2, 1) := dk_28 (dk_at dksX8_findPath_7 3 rfl rfl)
theorem dX8_findPath_163 : decode cX8_findPath 163 = .ok (.iaload, 1) := dk_46 (dk_at dksX8_findPath_7 4 rfl rfl)
theorem dX8_findPath_164 : decode cX8_findPath 164 = .ok (.if_icmp .ne 9, 3) := dk_160 0 9 (dk_at dksX8_findPath_7 5 rfl rfl)
theorem dX8_findPath_167 : decode cX8_findPath 167 = .ok (.iload_n 2, 1) := dk_28 (dk_at dksX8_findPath_7 8 rfl rfl)
theorem dX8_findPath_168 : decode cX8_findPath 168 = .ok (.iconst 1, 1) := dk_4 (dk_at dksX8_findPath_7 9 rfl rfl)
theorem dX8_findPath_169 : decode cX8_findPath 169 = .ok (.isub, 1) := dk_100 (dk_at dksX8_findPath_7 10 rfl rfl)
theorem dX8_findPath_170 : decode cX8_findPath 170 = .ok (.goto 9, 3) := dk_167 0 9 (dk_at dksX8_findPath_7 11 rfl rfl)
theorem dX8_findPath_173 : decode cX8_findPath 173 = .ok (.aload_n 0, 1) := dk_42 (dk_at dksX8_findPath_7 14 rfl rfl)
theorem dX8_findPath_174 : decode cX8_findPath 174 = .ok (.getfield 31, 3) := dk_180 0 31 (dk_at dksX8_findPath_7 15 rfl rfl)
theorem dX8_findPath_177 : decode cX8_findPath 177 = .ok (.iload_n 2, 1) := dk_28 (dk_at dksX8_findPath_7 18 rfl rfl)
theorem dX8_findPath_178 : decode cX8_findPath 178 = .ok (.iaload, 1) := dk_46 (dk_at dksX8_findPath_7 19 rfl rfl)
theorem dX8_findPath_179 : decode cX8_findPath 179 = .ok (.istore_n 2, 1) := dk_61 (dk_at dksX8_findPath_7 20 rfl rfl)
theorem dX8_findPath_180 : decode cX8_findPath 180 = .ok (.goto (-118), 3) := dk_167 255 138 (dk_at dksX8_findPath_7 21 rfl rfl)
theorem dX8_findPath_183 : decode cX8_findPath 183 = .ok (.return_, 1) := dk_177 (dk_at dksX8_findPath_8 0 rfl rfl)
abbrev cX8_isOnPath : ByteArray := prog_15_method_54_code
def yX8_isOnPath : MethodName := ⟨RX8, "isOnPath", "(I)Z"⟩
def dkwX8_isOnPath_1 : List UInt8 := [132, 2, 1, 167, 255, 233, 3, 172]
abbrev dktX8_isOnPath_1 : List UInt8 := dkwX8_isOnPath_1 ++ []
def dkwX8_isOnPath_0 : List UInt8 := [3, 61, 28, 42, 180, 1, 7, 162, 0, 21, 42, 180, 0, 48, 28, 46, 27, 160, 0, 5, 4, 172]
abbrev dktX8_isOnPath_0 : List UInt8 := dkwX8_isOnPath_0 ++ dktX8_isOnPath_1
theorem dksX8_isOnPath_0 : cX8_isOnPath.data.toList.drop 0 = dktX8_isOnPath_0 := by decide +kernel
theorem dksX8_isOnPath_1 : cX8_isOnPath.data.toList.drop 22 = dktX8_isOnPath_1 := dk_seg dksX8_isOnPath_0 22 rfl rfl
theorem dX8_isOnPath_0 : decode cX8_isOnPath 0 = .ok (.iconst 0, 1) := dk_3 (dk_at dksX8_isOnPath_0 0 rfl rfl)
theorem dX8_isOnPath_1 : decode cX8_isOnPath 1 = .ok (.istore_n 2, 1) := dk_61 (dk_at dksX8_isOnPath_0 1 rfl rfl)
theorem dX8_isOnPath_2 : decode cX8_isOnPath 2 = .ok (.iload_n 2, 1) := dk_28 (dk_at dksX8_isOnPath_0 2 rfl rfl)
theorem dX8_isOnPath_3 : decode cX8_isOnPath 3 = .ok (.aload_n 0, 1) := dk_42 (dk_at dksX8_isOnPath_0 3 rfl rfl)
theorem dX8_isOnPath_4 : decode cX8_isOnPath 4 = .ok (.getfield 263, 3) := dk_180 1 7 (dk_at dksX8_isOnPath_0 4 rfl rfl)
theorem dX8_isOnPath_7 : decode cX8_isOnPath 7 = .ok (.if_icmp .ge 21, 3) := dk_162 0 21 (dk_at dksX8_isOnPath_0 7 rfl rfl)
theorem dX8_isOnPath_10 : decode cX8_isOnPath 10 = .ok (.aload_n 0, 1) := dk_42 (dk_at dksX8_isOnPath_0 10 rfl rfl)
theorem dX8_isOnPath_11 : decode cX8_isOnPath 11 = .ok (.getfield 48, 3) := dk_180 0 48 (dk_at dksX8_isOnPath_0 11 rfl rfl)
theorem dX8_isOnPath_14 : decode cX8_isOnPath 14 = .ok (.iload_n 2, 1) := dk_28 (dk_at dksX8_isOnPath_0 14 rfl rfl)
theorem dX8_isOnPath_15 : decode cX8_isOnPath 15 = .ok (.iaload, 1) := dk_46 (dk_at dksX8_isOnPath_0 15 rfl rfl)
theorem dX8_isOnPath_16 : decode cX8_isOnPath 16 = .ok (.iload_n 1, 1) := dk_27 (dk_at dksX8_isOnPath_0 16 rfl rfl)
theorem dX8_isOnPath_17 : decode cX8_isOnPath 17 = .ok (.if_icmp .ne 5, 3) := dk_160 0 5 (dk_at dksX8_isOnPath_0 17 rfl rfl)
theorem dX8_isOnPath_20 : decode cX8_isOnPath 20 = .ok (.iconst 1, 1) := dk_4 (dk_at dksX8_isOnPath_0 20 rfl rfl)
theorem dX8_isOnPath_21 : decode cX8_isOnPath 21 = .ok (.ireturn, 1) := dk_172 (dk_at dksX8_isOnPath_0 21 rfl rfl)
theorem dX8_isOnPath_22 : decode cX8_isOnPath 22 = .ok (.iinc 2 1, 3) := dk_132 2 1 (dk_at dksX8_isOnPath_1 0 rfl rfl)
theorem dX8_isOnPath_25 : decode cX8_isOnPath 25 = .ok (.goto (-23), 3) := dk_167 255 233 (dk_at dksX8_isOnPath_1 3 rfl rfl)
theorem dX8_isOnPath_28 : decode cX8_isOnPath 28 = .ok (.iconst 0, 1) := dk_3 (dk_at dksX8_isOnPath_1 6 rfl rfl)
theorem dX8_isOnPath_29 : decode cX8_isOnPath 29 = .ok (.ireturn, 1) := dk_172 (dk_at dksX8_isOnPath_1 7 rfl rfl)
abbrev cX8_critical : ByteArray := prog_15_method_75_code
def yX8_critical : MethodName := ⟨RX8, "critical", "(I)I"⟩
def dkwX8_critical_2 : List UInt8 := [184, 1, 26, 172]
abbrev dktX8_critical_2 : List UInt8 := dkwX8_critical_2 ++ []
def dkwX8_critical_1 : List UInt8 := [4, 167, 0, 4, 3, 4, 182, 0, 174, 153, 0, 7, 3, 167, 0, 12, 42, 180, 0, 48, 27, 46]
abbrev dktX8_critical_1 : List UInt8 := dkwX8_critical_1 ++ dktX8_critical_2
def dkwX8_critical_0 : List UInt8 := [42, 3, 181, 0, 51, 42, 182, 1, 35, 42, 27, 3, 42, 180, 1, 7, 4, 100, 184, 0, 73, 154, 0, 7]
abbrev dktX8_critical_0 : List UInt8 := dkwX8_critical_0 ++ dktX8_critical_1
theorem dksX8_critical_0 : cX8_critical.data.toList.drop 0 = dktX8_critical_0 := by decide +kernel
theorem dksX8_critical_1 : cX8_critical.data.toList.drop 24 = dktX8_critical_1 := dk_seg dksX8_critical_0 24 rfl rfl
theorem dksX8_critical_2 : cX8_critical.data.toList.drop 46 = dktX8_critical_2 := dk_seg dksX8_critical_1 22 rfl rfl
theorem dX8_critical_0 : decode cX8_critical 0 = .ok (.aload_n 0, 1) := dk_42 (dk_at dksX8_critical_0 0 rfl rfl)
theorem dX8_critical_1 : decode cX8_critical 1 = .ok (.iconst 0, 1) := dk_3 (dk_at dksX8_critical_0 1 rfl rfl)
theorem dX8_critical_2 : decode cX8_critical 2 = .ok (.putfield 51, 3) := dk_181 0 51 (dk_at dksX8_critical_0 2 rfl rfl)
theorem dX8_critical_5 : decode cX8_critical 5 = .ok (.aload_n 0, 1) := dk_42 (dk_at dksX8_critical_0 5 rfl rfl)
theorem dX8_critical_6 : decode cX8_critical 6 = .ok (.invokevirtual 291, 3) := dk_182 1 35 (dk_at dksX8_critical_0 6 rfl rfl)
theorem dX8_critical_9 : decode cX8_critical 9 = .ok (.aload_n 0, 1) := dk_42 (dk_at dksX8_critical_0 9 rfl rfl)
theorem dX8_critical_10 : decode cX8_critical 10 = .ok (.iload_n 1, 1) := dk_27 (dk_at dksX8_critical_0 10 rfl rfl)
theorem dX8_critical_11 : decode cX8_critical 11 = .ok (.iconst 0, 1) := dk_3 (dk_at dksX8_critical_0 11 rfl rfl)
theorem dX8_critical_12 : decode cX8_critical 12 = .ok (.aload_n 0, 1) := dk_42 (dk_at dksX8_critical_0 12 rfl rfl)
theorem dX8_critical_13 : decode cX8_critical 13 = .ok (.getfield 263, 3) := dk_180 1 7 (dk_at dksX8_critical_0 13 rfl rfl)
theorem dX8_critical_16 : decode cX8_critical 16 = .ok (.iconst 1, 1) := dk_4 (dk_at dksX8_critical_0 16 rfl rfl)
theorem dX8_critical_17 : decode cX8_critical 17 = .ok (.isub, 1) := dk_100 (dk_at dksX8_critical_0 17 rfl rfl)
theorem dX8_critical_18 : decode cX8_critical 18 = .ok (.invokestatic 73, 3) := dk_184 0 73 (dk_at dksX8_critical_0 18 rfl rfl)
theorem dX8_critical_21 : decode cX8_critical 21 = .ok (.ifCond .ne 7, 3) := dk_154 0 7 (dk_at dksX8_critical_0 21 rfl rfl)
theorem dX8_critical_24 : decode cX8_critical 24 = .ok (.iconst 1, 1) := dk_4 (dk_at dksX8_critical_1 0 rfl rfl)
theorem dX8_critical_25 : decode cX8_critical 25 = .ok (.goto 4, 3) := dk_167 0 4 (dk_at dksX8_critical_1 1 rfl rfl)
theorem dX8_critical_28 : decode cX8_critical 28 = .ok (.iconst 0, 1) := dk_3 (dk_at dksX8_critical_1 4 rfl rfl)
theorem dX8_critical_29 : decode cX8_critical 29 = .ok (.iconst 1, 1) := dk_4 (dk_at dksX8_critical_1 5 rfl rfl)
theorem dX8_critical_30 : decode cX8_critical 30 = .ok (.invokevirtual 174, 3) := dk_182 0 174 (dk_at dksX8_critical_1 6 rfl rfl)
theorem dX8_critical_33 : decode cX8_critical 33 = .ok (.ifCond .eq 7, 3) := dk_153 0 7 (dk_at dksX8_critical_1 9 rfl rfl)
theorem dX8_critical_36 : decode cX8_critical 36 = .ok (.iconst 0, 1) := dk_3 (dk_at dksX8_critical_1 12 rfl rfl)
theorem dX8_critical_37 : decode cX8_critical 37 = .ok (.goto 12, 3) := dk_167 0 12 (dk_at dksX8_critical_1 13 rfl rfl)
theorem dX8_critical_40 : decode cX8_critical 40 = .ok (.aload_n 0, 1) := dk_42 (dk_at dksX8_critical_1 16 rfl rfl)
theorem dX8_critical_41 : decode cX8_critical 41 = .ok (.getfield 48, 3) := dk_180 0 48 (dk_at dksX8_critical_1 17 rfl rfl)
theorem dX8_critical_44 : decode cX8_critical 44 = .ok (.iload_n 1, 1) := dk_27 (dk_at dksX8_critical_1 20 rfl rfl)
theorem dX8_critical_45 : decode cX8_critical 45 = .ok (.iaload, 1) := dk_46 (dk_at dksX8_critical_1 21 rfl rfl)
theorem dX8_critical_46 : decode cX8_critical 46 = .ok (.invokestatic 282, 3) := dk_184 1 26 (dk_at dksX8_critical_2 0 rfl rfl)
theorem dX8_critical_49 : decode cX8_critical 49 = .ok (.ireturn, 1) := dk_172 (dk_at dksX8_critical_2 3 rfl rfl)
abbrev cX8_blockCount : ByteArray := prog_15_method_76_code
def yX8_blockCount : MethodName := ⟨RX8, "blockCount", "()I"⟩
def dkwX8_blockCount_2 : List UInt8 := [182, 0, 193, 159, 0, 7, 4, 167, 0, 4, 3, 96, 60, 132, 2, 1, 167, 255, 208, 27, 172]
abbrev dktX8_blockCount_2 : List UInt8 := dkwX8_blockCount_2 ++ []
def dkwX8_blockCount_1 : List UInt8 := [153, 0, 28, 42, 42, 180, 0, 48, 28, 46, 182, 0, 193, 42, 42, 180, 0, 48, 28, 4, 100, 46]
abbrev dktX8_blockCount_1 : List UInt8 := dkwX8_blockCount_1 ++ dktX8_blockCount_2
def dkwX8_blockCount_0 : List UInt8 := [42, 3, 181, 0, 51, 42, 182, 1, 35, 3, 60, 3, 61, 28, 42, 180, 1, 7, 162, 0, 46, 27, 28]
abbrev dktX8_blockCount_0 : List UInt8 := dkwX8_blockCount_0 ++ dktX8_blockCount_1
theorem dksX8_blockCount_0 : cX8_blockCount.data.toList.drop 0 = dktX8_blockCount_0 := by decide +kernel
theorem dksX8_blockCount_1 : cX8_blockCount.data.toList.drop 23 = dktX8_blockCount_1 := dk_seg dksX8_blockCount_0 23 rfl rfl
theorem dksX8_blockCount_2 : cX8_blockCount.data.toList.drop 45 = dktX8_blockCount_2 := dk_seg dksX8_blockCount_1 22 rfl rfl
theorem dX8_blockCount_0 : decode cX8_blockCount 0 = .ok (.aload_n 0, 1) := dk_42 (dk_at dksX8_blockCount_0 0 rfl rfl)
theorem dX8_blockCount_1 : decode cX8_blockCount 1 = .ok (.iconst 0, 1) := dk_3 (dk_at dksX8_blockCount_0 1 rfl rfl)
theorem dX8_blockCount_2 : decode cX8_blockCount 2 = .ok (.putfield 51, 3) := dk_181 0 51 (dk_at dksX8_blockCount_0 2 rfl rfl)
theorem dX8_blockCount_5 : decode cX8_blockCount 5 = .ok (.aload_n 0, 1) := dk_42 (dk_at dksX8_blockCount_0 5 rfl rfl)
theorem dX8_blockCount_6 : decode cX8_blockCount 6 = .ok (.invokevirtual 291, 3) := dk_182 1 35 (dk_at dksX8_blockCount_0 6 rfl rfl)
theorem dX8_blockCount_9 : decode cX8_blockCount 9 = .ok (.iconst 0, 1) := dk_3 (dk_at dksX8_blockCount_0 9 rfl rfl)
theorem dX8_blockCount_10 : decode cX8_blockCount 10 = .ok (.istore_n 1, 1) := dk_60 (dk_at dksX8_blockCount_0 10 rfl rfl)
theorem dX8_blockCount_11 : decode cX8_blockCount 11 = .ok (.iconst 0, 1) := dk_3 (dk_at dksX8_blockCount_0 11 rfl rfl)
theorem dX8_blockCount_12 : decode cX8_blockCount 12 = .ok (.istore_n 2, 1) := dk_61 (dk_at dksX8_blockCount_0 12 rfl rfl)
theorem dX8_blockCount_13 : decode cX8_blockCount 13 = .ok (.iload_n 2, 1) := dk_28 (dk_at dksX8_blockCount_0 13 rfl rfl)
theorem dX8_blockCount_14 : decode cX8_blockCount 14 = .ok (.aload_n 0, 1) := dk_42 (dk_at dksX8_blockCount_0 14 rfl rfl)
theorem dX8_blockCount_15 : decode cX8_blockCount 15 = .ok (.getfield 263, 3) := dk_180 1 7 (dk_at dksX8_blockCount_0 15 rfl rfl)
theorem dX8_blockCount_18 : decode cX8_blockCount 18 = .ok (.if_icmp .ge 46, 3) := dk_162 0 46 (dk_at dksX8_blockCount_0 18 rfl rfl)
theorem dX8_blockCount_21 : decode cX8_blockCount 21 = .ok (.iload_n 1, 1) := dk_27 (dk_at dksX8_blockCount_0 21 rfl rfl)
theorem dX8_blockCount_22 : decode cX8_blockCount 22 = .ok (.iload_n 2, 1) := dk_28 (dk_at dksX8_blockCount_0 22 rfl rfl)
theorem dX8_blockCount_23 : decode cX8_blockCount 23 = .ok (.ifCond .eq 28, 3) := dk_153 0 28 (dk_at dksX8_blockCount_1 0 rfl rfl)
theorem dX8_blockCount_26 : decode cX8_blockCount 26 = .ok (.aload_n 0, 1) := dk_42 (dk_at dksX8_blockCount_1 3 rfl rfl)
theorem dX8_blockCount_27 : decode cX8_blockCount 27 = .ok (.aload_n 0, 1) := dk_42 (dk_at dksX8_blockCount_1 4 rfl rfl)
theorem dX8_blockCount_28 : decode cX8_blockCount 28 = .ok (.getfield 48, 3) := dk_180 0 48 (dk_at dksX8_blockCount_1 5 rfl rfl)
theorem dX8_blockCount_31 : decode cX8_blockCount 31 = .ok (.iload_n 2, 1) := dk_28 (dk_at dksX8_blockCount_1 8 rfl rfl)
theorem dX8_blockCount_32 : decode cX8_blockCount 32 = .ok (.iaload, 1) := dk_46 (dk_at dksX8_blockCount_1 9 rfl rfl)
theorem dX8_blockCount_33 : decode cX8_blockCount 33 = .ok (.invokevirtual 193, 3) := dk_182 0 193 (dk_at dksX8_blockCount_1 10 rfl rfl)
theorem dX8_blockCount_36 : decode cX8_blockCount 36 = .ok (.aload_n 0, 1) := dk_42 (dk_at dksX8_blockCount_1 13 rfl rfl)
theorem dX8_blockCount_37 : decode cX8_blockCount 37 = .ok (.aload_n 0, 1) := dk_42 (dk_at dksX8_blockCount_1 14 rfl rfl)
theorem dX8_blockCount_38 : decode cX8_blockCount 38 = .ok (.getfield 48, 3) := dk_180 0 48 (dk_at dksX8_blockCount_1 15 rfl rfl)
theorem dX8_blockCount_41 : decode cX8_blockCount 41 = .ok (.iload_n 2, 1) := dk_28 (dk_at dksX8_blockCount_1 18 rfl rfl)
theorem dX8_blockCount_42 : decode cX8_blockCount 42 = .ok (.iconst 1, 1) := dk_4 (dk_at dksX8_blockCount_1 19 rfl rfl)
theorem dX8_blockCount_43 : decode cX8_blockCount 43 = .ok (.isub, 1) := dk_100 (dk_at dksX8_blockCount_1 20 rfl rfl)
theorem dX8_blockCount_44 : decode cX8_blockCount 44 = .ok (.iaload, 1) := dk_46 (dk_at dksX8_blockCount_1 21 rfl rfl)
theorem dX8_blockCount_45 : decode cX8_blockCount 45 = .ok (.invokevirtual 193, 3) := dk_182 0 193 (dk_at dksX8_blockCount_2 0 rfl rfl)
theorem dX8_blockCount_48 : decode cX8_blockCount 48 = .ok (.if_icmp .eq 7, 3) := dk_159 0 7 (dk_at dksX8_blockCount_2 3 rfl rfl)
theorem dX8_blockCount_51 : decode cX8_blockCount 51 = .ok (.iconst 1, 1) := dk_4 (dk_at dksX8_blockCount_2 6 rfl rfl)
theorem dX8_blockCount_52 : decode cX8_blockCount 52 = .ok (.goto 4, 3) := dk_167 0 4 (dk_at dksX8_blockCount_2 7 rfl rfl)
theorem dX8_blockCount_55 : decode cX8_blockCount 55 = .ok (.iconst 0, 1) := dk_3 (dk_at dksX8_blockCount_2 10 rfl rfl)
theorem dX8_blockCount_56 : decode cX8_blockCount 56 = .ok (.iadd, 1) := dk_96 (dk_at dksX8_blockCount_2 11 rfl rfl)
theorem dX8_blockCount_57 : decode cX8_blockCount 57 = .ok (.istore_n 1, 1) := dk_60 (dk_at dksX8_blockCount_2 12 rfl rfl)
theorem dX8_blockCount_58 : decode cX8_blockCount 58 = .ok (.iinc 2 1, 3) := dk_132 2 1 (dk_at dksX8_blockCount_2 13 rfl rfl)
theorem dX8_blockCount_61 : decode cX8_blockCount 61 = .ok (.goto (-48), 3) := dk_167 255 208 (dk_at dksX8_blockCount_2 16 rfl rfl)
theorem dX8_blockCount_64 : decode cX8_blockCount 64 = .ok (.iload_n 1, 1) := dk_27 (dk_at dksX8_blockCount_2 19 rfl rfl)
theorem dX8_blockCount_65 : decode cX8_blockCount 65 = .ok (.ireturn, 1) := dk_172 (dk_at dksX8_blockCount_2 20 rfl rfl)
abbrev cX8_longestBlock : ByteArray := prog_15_method_77_code
def yX8_longestBlock : MethodName := ⟨RX8, "longestBlock", "()I"⟩
def dkwX8_longestBlock_3 : List UInt8 := [167, 255, 202, 27, 172]
abbrev dktX8_longestBlock_3 : List UInt8 := dkwX8_longestBlock_3 ++ []
def dkwX8_longestBlock_2 : List UInt8 := [182, 0, 193, 159, 0, 7, 4, 167, 0, 6, 28, 4, 96, 61, 27, 28, 184, 0, 205, 60, 132, 3, 1]
abbrev dktX8_longestBlock_2 : List UInt8 := dkwX8_longestBlock_2 ++ dktX8_longestBlock_3
def dkwX8_longestBlock_1 : List UInt8 := [153, 0, 28, 42, 42, 180, 0, 48, 29, 46, 182, 0, 193, 42, 42, 180, 0, 48, 29, 4, 100, 46]
abbrev dktX8_longestBlock_1 : List UInt8 := dkwX8_longestBlock_1 ++ dktX8_longestBlock_2
def dkwX8_longestBlock_0 : List UInt8 := [42, 3, 181, 0, 51, 42, 182, 1, 35, 3, 60, 3, 61, 3, 62, 29, 42, 180, 1, 7, 162, 0, 52, 29]
abbrev dktX8_longestBlock_0 : List UInt8 := dkwX8_longestBlock_0 ++ dktX8_longestBlock_1
theorem dksX8_longestBlock_0 : cX8_longestBlock.data.toList.drop 0 = dktX8_longestBlock_0 := by decide +kernel
theorem dksX8_longestBlock_1 : cX8_longestBlock.data.toList.drop 24 = dktX8_longestBlock_1 := dk_seg dksX8_longestBlock_0 24 rfl rfl
theorem dksX8_longestBlock_2 : cX8_longestBlock.data.toList.drop 46 = dktX8_longestBlock_2 := dk_seg dksX8_longestBlock_1 22 rfl rfl
theorem dksX8_longestBlock_3 : cX8_longestBlock.data.toList.drop 69 = dktX8_longestBlock_3 := dk_seg dksX8_longestBlock_2 23 rfl rfl
theorem dX8_longestBlock_0 : decode cX8_longestBlock 0 = .ok (.aload_n 0, 1) := dk_42 (dk_at dksX8_longestBlock_0 0 rfl rfl)
theorem dX8_longestBlock_1 : decode cX8_longestBlock 1 = .ok (.iconst 0, 1) := dk_3 (dk_at dksX8_longestBlock_0 1 rfl rfl)
theorem dX8_longestBlock_2 : decode cX8_longestBlock 2 = .ok (.putfield 51, 3) := dk_181 0 51 (dk_at dksX8_longestBlock_0 2 rfl rfl)
theorem dX8_longestBlock_5 : decode cX8_longestBlock 5 = .ok (.aload_n 0, 1) := dk_42 (dk_at dksX8_longestBlock_0 5 rfl rfl)
theorem dX8_longestBlock_6 : decode cX8_longestBlock 6 = .ok (.invokevirtual 291, 3) := dk_182 1 35 (dk_at dksX8_longestBlock_0 6 rfl rfl)
theorem dX8_longestBlock_9 : decode cX8_longestBlock 9 = .ok (.iconst 0, 1) := dk_3 (dk_at dksX8_longestBlock_0 9 rfl rfl)
theorem dX8_longestBlock_10 : decode cX8_longestBlock 10 = .ok (.istore_n 1, 1) := dk_60 (dk_at dksX8_longestBlock_0 10 rfl rfl)
theorem dX8_longestBlock_11 : decode cX8_longestBlock 11 = .ok (.iconst 0, 1) := dk_3 (dk_at dksX8_longestBlock_0 11 rfl rfl)
theorem dX8_longestBlock_12 : decode cX8_longestBlock 12 = .ok (.istore_n 2, 1) := dk_61 (dk_at dksX8_longestBlock_0 12 rfl rfl)
theorem dX8_longestBlock_13 : decode cX8_longestBlock 13 = .ok (.iconst 0, 1) := dk_3 (dk_at dksX8_longestBlock_0 13 rfl rfl)
theorem dX8_longestBlock_14 : decode cX8_longestBlock 14 = .ok (.istore_n 3, 1) := dk_62 (dk_at dksX8_longestBlock_0 14 rfl rfl)
theorem dX8_longestBlock_15 : decode cX8_longestBlock 15 = .ok (.iload_n 3, 1) := dk_29 (dk_at dksX8_longestBlock_0 15 rfl rfl)
theorem dX8_longestBlock_16 : decode cX8_longestBlock 16 = .ok (.aload_n 0, 1) := dk_42 (dk_at dksX8_longestBlock_0 16 rfl rfl)
theorem dX8_longestBlock_17 : decode cX8_longestBlock 17 = .ok (.getfield 263, 3) := dk_180 1 7 (dk_at dksX8_longestBlock_0 17 rfl rfl)
theorem dX8_longestBlock_20 : decode cX8_longestBlock 20 = .ok (.if_icmp .ge 52, 3) := dk_162 0 52 (dk_at dksX8_longestBlock_0 20 rfl rfl)
theorem dX8_longestBlock_23 : decode cX8_longestBlock 23 = .ok (.iload_n 3, 1) := dk_29 (dk_at dksX8_longestBlock_0 23 rfl rfl)
theorem dX8_longestBlock_24 : decode cX8_longestBlock 24 = .ok (.ifCond .eq 28, 3) := dk_153 0 28 (dk_at dksX8_longestBlock_1 0 rfl rfl)
theorem dX8_longestBlock_27 : decode cX8_longestBlock 27 = .ok (.aload_n 0, 1) := dk_42 (dk_at dksX8_longestBlock_1 3 rfl rfl)
theorem dX8_longestBlock_28 : decode cX8_longestBlock 28 = .ok (.aload_n 0, 1) := dk_42 (dk_at dksX8_longestBlock_1 4 rfl rfl)
theorem dX8_longestBlock_29 : decode cX8_longestBlock 29 = .ok (.getfield 48, 3) := dk_180 0 48 (dk_at dksX8_longestBlock_1 5 rfl rfl)
theorem dX8_longestBlock_32 : decode cX8_longestBlock 32 = .ok (.iload_n 3, 1) := dk_29 (dk_at dksX8_longestBlock_1 8 rfl rfl)
theorem dX8_longestBlock_33 : decode cX8_longestBlock 33 = .ok (.iaload, 1) := dk_46 (dk_at dksX8_longestBlock_1 9 rfl rfl)
theorem dX8_longestBlock_34 : decode cX8_longestBlock 34 = .ok (.invokevirtual 193, 3) := dk_182 0 193 (dk_at dksX8_longestBlock_1 10 rfl rfl)
theorem dX8_longestBlock_37 : decode cX8_longestBlock 37 = .ok (.aload_n 0, 1) := dk_42 (dk_at dksX8_longestBlock_1 13 rfl rfl)
theorem dX8_longestBlock_38 : decode cX8_longestBlock 38 = .ok (.aload_n 0, 1) := dk_42 (dk_at dksX8_longestBlock_1 14 rfl rfl)
theorem dX8_longestBlock_39 : decode cX8_longestBlock 39 = .ok (.getfield 48, 3) := dk_180 0 48 (dk_at dksX8_longestBlock_1 15 rfl rfl)
theorem dX8_longestBlock_42 : decode cX8_longestBlock 42 = .ok (.iload_n 3, 1) := dk_29 (dk_at dksX8_longestBlock_1 18 rfl rfl)
theorem dX8_longestBlock_43 : decode cX8_longestBlock 43 = .ok (.iconst 1, 1) := dk_4 (dk_at dksX8_longestBlock_1 19 rfl rfl)
theorem dX8_longestBlock_44 : decode cX8_longestBlock 44 = .ok (.isub, 1) := dk_100 (dk_at dksX8_longestBlock_1 20 rfl rfl)
theorem dX8_longestBlock_45 : decode cX8_longestBlock 45 = .ok (.iaload, 1) := dk_46 (dk_at dksX8_longestBlock_1 21 rfl rfl)
theorem dX8_longestBlock_46 : decode cX8_longestBlock 46 = .ok (.invokevirtual 193, 3) := dk_182 0 193 (dk_at dksX8_longestBlock_2 0 rfl rfl)
theorem dX8_longestBlock_49 : decode cX8_longestBlock 49 = .ok (.if_icmp .eq 7, 3) := dk_159 0 7 (dk_at dksX8_longestBlock_2 3 rfl rfl)
theorem dX8_longestBlock_52 : decode cX8_longestBlock 52 = .ok (.iconst 1, 1) := dk_4 (dk_at dksX8_longestBlock_2 6 rfl rfl)
theorem dX8_longestBlock_53 : decode cX8_longestBlock 53 = .ok (.goto 6, 3) := dk_167 0 6 (dk_at dksX8_longestBlock_2 7 rfl rfl)
theorem dX8_longestBlock_56 : decode cX8_longestBlock 56 = .ok (.iload_n 2, 1) := dk_28 (dk_at dksX8_longestBlock_2 10 rfl rfl)
theorem dX8_longestBlock_57 : decode cX8_longestBlock 57 = .ok (.iconst 1, 1) := dk_4 (dk_at dksX8_longestBlock_2 11 rfl rfl)
theorem dX8_longestBlock_58 : decode cX8_longestBlock 58 = .ok (.iadd, 1) := dk_96 (dk_at dksX8_longestBlock_2 12 rfl rfl)
theorem dX8_longestBlock_59 : decode cX8_longestBlock 59 = .ok (.istore_n 2, 1) := dk_61 (dk_at dksX8_longestBlock_2 13 rfl rfl)
theorem dX8_longestBlock_60 : decode cX8_longestBlock 60 = .ok (.iload_n 1, 1) := dk_27 (dk_at dksX8_longestBlock_2 14 rfl rfl)
theorem dX8_longestBlock_61 : decode cX8_longestBlock 61 = .ok (.iload_n 2, 1) := dk_28 (dk_at dksX8_longestBlock_2 15 rfl rfl)
theorem dX8_longestBlock_62 : decode cX8_longestBlock 62 = .ok (.invokestatic 205, 3) := dk_184 0 205 (dk_at dksX8_longestBlock_2 16 rfl rfl)
theorem dX8_longestBlock_65 : decode cX8_longestBlock 65 = .ok (.istore_n 1, 1) := dk_60 (dk_at dksX8_longestBlock_2 19 rfl rfl)
theorem dX8_longestBlock_66 : decode cX8_longestBlock 66 = .ok (.iinc 3 1, 3) := dk_132 3 1 (dk_at dksX8_longestBlock_2 20 rfl rfl)
theorem dX8_longestBlock_69 : decode cX8_longestBlock 69 = .ok (.goto (-54), 3) := dk_167 255 202 (dk_at dksX8_longestBlock_3 0 rfl rfl)
theorem dX8_longestBlock_72 : decode cX8_longestBlock 72 = .ok (.iload_n 1, 1) := dk_27 (dk_at dksX8_longestBlock_3 3 rfl rfl)
theorem dX8_longestBlock_73 : decode cX8_longestBlock 73 = .ok (.ireturn, 1) := dk_172 (dk_at dksX8_longestBlock_3 4 rfl rfl)
abbrev cX8_deadlocks : ByteArray := prog_15_method_79_code
def yX8_deadlocks : MethodName := ⟨RX8, "deadlocks", "(II)Z"⟩
def dkwX8_deadlocks_1 : List UInt8 := [4, 167, 0, 4, 3, 172]
abbrev dktX8_deadlocks_1 : List UInt8 := dkwX8_deadlocks_1 ++ []
def dkwX8_deadlocks_0 : List UInt8 := [42, 3, 181, 0, 51, 42, 27, 28, 182, 1, 38, 154, 0, 17, 42, 27, 28, 182, 1, 41, 2, 160, 0, 7]
abbrev dktX8_deadlocks_0 : List UInt8 := dkwX8_deadlocks_0 ++ dktX8_deadlocks_1
theorem dksX8_deadlocks_0 : cX8_deadlocks.data.toList.drop 0 = dktX8_deadlocks_0 := by decide +kernel
theorem dksX8_deadlocks_1 : cX8_deadlocks.data.toList.drop 24 = dktX8_deadlocks_1 := dk_seg dksX8_deadlocks_0 24 rfl rfl
theorem dX8_deadlocks_0 : decode cX8_deadlocks 0 = .ok (.aload_n 0, 1) := dk_42 (dk_at dksX8_deadlocks_0 0 rfl rfl)
theorem dX8_deadlocks_1 : decode cX8_deadlocks 1 = .ok (.iconst 0, 1) := dk_3 (dk_at dksX8_deadlocks_0 1 rfl rfl)
theorem dX8_deadlocks_2 : decode cX8_deadlocks 2 = .ok (.putfield 51, 3) := dk_181 0 51 (dk_at dksX8_deadlocks_0 2 rfl rfl)
theorem dX8_deadlocks_5 : decode cX8_deadlocks 5 = .ok (.aload_n 0, 1) := dk_42 (dk_at dksX8_deadlocks_0 5 rfl rfl)
theorem dX8_deadlocks_6 : decode cX8_deadlocks 6 = .ok (.iload_n 1, 1) := dk_27 (dk_at dksX8_deadlocks_0 6 rfl rfl)
theorem dX8_deadlocks_7 : decode cX8_deadlocks 7 = .ok (.iload_n 2, 1) := dk_28 (dk_at dksX8_deadlocks_0 7 rfl rfl)
theorem dX8_deadlocks_8 : decode cX8_deadlocks 8 = .ok (.invokevirtual 294, 3) := dk_182 1 38 (dk_at dksX8_deadlocks_0 8 rfl rfl)
theorem dX8_deadlocks_11 : decode cX8_deadlocks 11 = .ok (.ifCond .ne 17, 3) := dk_154 0 17 (dk_at dksX8_deadlocks_0 11 rfl rfl)
theorem dX8_deadlocks_14 : decode cX8_deadlocks 14 = .ok (.aload_n 0, 1) := dk_42 (dk_at dksX8_deadlocks_0 14 rfl rfl)
theorem dX8_deadlocks_15 : decode cX8_deadlocks 15 = .ok (.iload_n 1, 1) := dk_27 (dk_at dksX8_deadlocks_0 15 rfl rfl)
theorem dX8_deadlocks_16 : decode cX8_deadlocks 16 = .ok (.iload_n 2, 1) := dk_28 (dk_at dksX8_deadlocks_0 16 rfl rfl)
theorem dX8_deadlocks_17 : decode cX8_deadlocks 17 = .ok (.invokevirtual 297, 3) := dk_182 1 41 (dk_at dksX8_deadlocks_0 17 rfl rfl)
theorem dX8_deadlocks_20 : decode cX8_deadlocks 20 = .ok (.iconst (-1), 1) := dk_2 (dk_at dksX8_deadlocks_0 20 rfl rfl)
theorem dX8_deadlocks_21 : decode cX8_deadlocks 21 = .ok (.if_icmp .ne 7, 3) := dk_160 0 7 (dk_at dksX8_deadlocks_0 21 rfl rfl)
theorem dX8_deadlocks_24 : decode cX8_deadlocks 24 = .ok (.iconst 1, 1) := dk_4 (dk_at dksX8_deadlocks_1 0 rfl rfl)
theorem dX8_deadlocks_25 : decode cX8_deadlocks 25 = .ok (.goto 4, 3) := dk_167 0 4 (dk_at dksX8_deadlocks_1 1 rfl rfl)
theorem dX8_deadlocks_28 : decode cX8_deadlocks 28 = .ok (.iconst 0, 1) := dk_3 (dk_at dksX8_deadlocks_1 4 rfl rfl)
theorem dX8_deadlocks_29 : decode cX8_deadlocks 29 = .ok (.ireturn, 1) := dk_172 (dk_at dksX8_deadlocks_1 5 rfl rfl)
abbrev cX8_noSwap : ByteArray := prog_15_method_59_code
def yX8_noSwap : MethodName := ⟨RX8, "noSwap", "(II)Z"⟩
def dkwX8_noSwap_1 : List UInt8 := [184, 0, 73, 154, 0, 7, 4, 167, 0, 4, 3, 4, 182, 0, 174, 153, 0, 7, 4, 167, 0, 4, 3, 172]
abbrev dktX8_noSwap_1 : List UInt8 := dkwX8_noSwap_1 ++ []
def dkwX8_noSwap_0 : List UInt8 := [42, 27, 182, 1, 16, 154, 0, 37, 42, 28, 3, 42, 180, 0, 17, 27, 184, 0, 158, 5, 96, 46, 5, 100]
abbrev dktX8_noSwap_0 : List UInt8 := dkwX8_noSwap_0 ++ dktX8_noSwap_1
theorem dksX8_noSwap_0 : cX8_noSwap.data.toList.drop 0 = dktX8_noSwap_0 := by decide +kernel
theorem dksX8_noSwap_1 : cX8_noSwap.data.toList.drop 24 = dktX8_noSwap_1 := dk_seg dksX8_noSwap_0 24 rfl rfl
theorem dX8_noSwap_0 : decode cX8_noSwap 0 = .ok (.aload_n 0, 1) := dk_42 (dk_at dksX8_noSwap_0 0 rfl rfl)
theorem dX8_noSwap_1 : decode cX8_noSwap 1 = .ok (.iload_n 1, 1) := dk_27 (dk_at dksX8_noSwap_0 1 rfl rfl)
theorem dX8_noSwap_2 : decode cX8_noSwap 2 = .ok (.invokevirtual 272, 3) := dk_182 1 16 (dk_at dksX8_noSwap_0 2 rfl rfl)
theorem dX8_noSwap_5 : decode cX8_noSwap 5 = .ok (.ifCond .ne 37, 3) := dk_154 0 37 (dk_at dksX8_noSwap_0 5 rfl rfl)
theorem dX8_noSwap_8 : decode cX8_noSwap 8 = .ok (.aload_n 0, 1) := dk_42 (dk_at dksX8_noSwap_0 8 rfl rfl)
theorem dX8_noSwap_9 : decode cX8_noSwap 9 = .ok (.iload_n 2, 1) := dk_28 (dk_at dksX8_noSwap_0 9 rfl rfl)
theorem dX8_noSwap_10 : decode cX8_noSwap 10 = .ok (.iconst 0, 1) := dk_3 (dk_at dksX8_noSwap_0 10 rfl rfl)
theorem dX8_noSwap_11 : decode cX8_noSwap 11 = .ok (.aload_n 0, 1) := dk_42 (dk_at dksX8_noSwap_0 11 rfl rfl)
theorem dX8_noSwap_12 : decode cX8_noSwap 12 = .ok (.getfield 17, 3) := dk_180 0 17 (dk_at dksX8_noSwap_0 12 rfl rfl)
theorem dX8_noSwap_15 : decode cX8_noSwap 15 = .ok (.iload_n 1, 1) := dk_27 (dk_at dksX8_noSwap_0 15 rfl rfl)
theorem dX8_noSwap_16 : decode cX8_noSwap 16 = .ok (.invokestatic 158, 3) := dk_184 0 158 (dk_at dksX8_noSwap_0 16 rfl rfl)
theorem dX8_noSwap_19 : decode cX8_noSwap 19 = .ok (.iconst 2, 1) := dk_5 (dk_at dksX8_noSwap_0 19 rfl rfl)
theorem dX8_noSwap_20 : decode cX8_noSwap 20 = .ok (.iadd, 1) := dk_96 (dk_at dksX8_noSwap_0 20 rfl rfl)
theorem dX8_noSwap_21 : decode cX8_noSwap 21 = .ok (.iaload, 1) := dk_46 (dk_at dksX8_noSwap_0 21 rfl rfl)
theorem dX8_noSwap_22 : decode cX8_noSwap 22 = .ok (.iconst 2, 1) := dk_5 (dk_at dksX8_noSwap_0 22 rfl rfl)
theorem dX8_noSwap_23 : decode cX8_noSwap 23 = .ok (.isub, 1) := dk_100 (dk_at dksX8_noSwap_0 23 rfl rfl)
theorem dX8_noSwap_24 : decode cX8_noSwap 24 = .ok (.invokestatic 73, 3) := dk_184 0 73 (dk_at dksX8_noSwap_1 0 rfl rfl)
theorem dX8_noSwap_27 : decode cX8_noSwap 27 = .ok (.ifCond .ne 7, 3) := dk_154 0 7 (dk_at dksX8_noSwap_1 3 rfl rfl)
theorem dX8_noSwap_30 : decode cX8_noSwap 30 = .ok (.iconst 1, 1) := dk_4 (dk_at dksX8_noSwap_1 6 rfl rfl)
theorem dX8_noSwap_31 : decode cX8_noSwap 31 = .ok (.goto 4, 3) := dk_167 0 4 (dk_at dksX8_noSwap_1 7 rfl rfl)
theorem dX8_noSwap_34 : decode cX8_noSwap 34 = .ok (.iconst 0, 1) := dk_3 (dk_at dksX8_noSwap_1 10 rfl rfl)
theorem dX8_noSwap_35 : decode cX8_noSwap 35 = .ok (.iconst 1, 1) := dk_4 (dk_at dksX8_noSwap_1 11 rfl rfl)
theorem dX8_noSwap_36 : decode cX8_noSwap 36 = .ok (.invokevirtual 174, 3) := dk_182 0 174 (dk_at dksX8_noSwap_1 12 rfl rfl)
theorem dX8_noSwap_39 : decode cX8_noSwap 39 = .ok (.ifCond .eq 7, 3) := dk_153 0 7 (dk_at dksX8_noSwap_1 15 rfl rfl)
theorem dX8_noSwap_42 : decode cX8_noSwap 42 = .ok (.iconst 1, 1) := dk_4 (dk_at dksX8_noSwap_1 18 rfl rfl)
theorem dX8_noSwap_43 : decode cX8_noSwap 43 = .ok (.goto 4, 3) := dk_167 0 4 (dk_at dksX8_noSwap_1 19 rfl rfl)
theorem dX8_noSwap_46 : decode cX8_noSwap 46 = .ok (.iconst 0, 1) := dk_3 (dk_at dksX8_noSwap_1 22 rfl rfl)
theorem dX8_noSwap_47 : decode cX8_noSwap 47 = .ok (.ireturn, 1) := dk_172 (dk_at dksX8_noSwap_1 23 rfl rfl)
abbrev cX8_spanAfter : ByteArray := prog_15_method_78_code
def yX8_spanAfter : MethodName := ⟨RX8, "spanAfter", "(II)I"⟩
def dkwX8_spanAfter_1 : List UInt8 := [28, 182, 0, 241, 29, 172]
abbrev dktX8_spanAfter_1 : List UInt8 := dkwX8_spanAfter_1 ++ []
def dkwX8_spanAfter_0 : List UInt8 := [42, 27, 28, 182, 0, 241, 42, 182, 0, 244, 153, 0, 7, 2, 167, 0, 7, 42, 182, 0, 247, 62, 42, 27]
abbrev dktX8_spanAfter_0 : List UInt8 := dkwX8_spanAfter_0 ++ dktX8_spanAfter_1
theorem dksX8_spanAfter_0 : cX8_spanAfter.data.toList.drop 0 = dktX8_spanAfter_0 := by decide +kernel
theorem dksX8_spanAfter_1 : cX8_spanAfter.data.toList.drop 24 = dktX8_spanAfter_1 := dk_seg dksX8_spanAfter_0 24 rfl rfl
theorem dX8_spanAfter_0 : decode cX8_spanAfter 0 = .ok (.aload_n 0, 1) := dk_42 (dk_at dksX8_spanAfter_0 0 rfl rfl)
theorem dX8_spanAfter_1 : decode cX8_spanAfter 1 = .ok (.iload_n 1, 1) := dk_27 (dk_at dksX8_spanAfter_0 1 rfl rfl)
theorem dX8_spanAfter_2 : decode cX8_spanAfter 2 = .ok (.iload_n 2, 1) := dk_28 (dk_at dksX8_spanAfter_0 2 rfl rfl)
theorem dX8_spanAfter_3 : decode cX8_spanAfter 3 = .ok (.invokevirtual 241, 3) := dk_182 0 241 (dk_at dksX8_spanAfter_0 3 rfl rfl)
theorem dX8_spanAfter_6 : decode cX8_spanAfter 6 = .ok (.aload_n 0, 1) := dk_42 (dk_at dksX8_spanAfter_0 6 rfl rfl)
theorem dX8_spanAfter_7 : decode cX8_spanAfter 7 = .ok (.invokevirtual 244, 3) := dk_182 0 244 (dk_at dksX8_spanAfter_0 7 rfl rfl)
theorem dX8_spanAfter_10 : decode cX8_spanAfter 10 = .ok (.ifCond .eq 7, 3) := dk_153 0 7 (dk_at dksX8_spanAfter_0 10 rfl rfl)
theorem dX8_spanAfter_13 : decode cX8_spanAfter 13 = .ok (.iconst (-1), 1) := dk_2 (dk_at dksX8_spanAfter_0 13 rfl rfl)
theorem dX8_spanAfter_14 : decode cX8_spanAfter 14 = .ok (.goto 7, 3) := dk_167 0 7 (dk_at dksX8_spanAfter_0 14 rfl rfl)
theorem dX8_spanAfter_17 : decode cX8_spanAfter 17 = .ok (.aload_n 0, 1) := dk_42 (dk_at dksX8_spanAfter_0 17 rfl rfl)
theorem dX8_spanAfter_18 : decode cX8_spanAfter 18 = .ok (.invokevirtual 247, 3) := dk_182 0 247 (dk_at dksX8_spanAfter_0 18 rfl rfl)
theorem dX8_spanAfter_21 : decode cX8_spanAfter 21 = .ok (.istore_n 3, 1) := dk_62 (dk_at dksX8_spanAfter_0 21 rfl rfl)
theorem dX8_spanAfter_22 : decode cX8_spanAfter 22 = .ok (.aload_n 0, 1) := dk_42 (dk_at dksX8_spanAfter_0 22 rfl rfl)
theorem dX8_spanAfter_23 : decode cX8_spanAfter 23 = .ok (.iload_n 1, 1) := dk_27 (dk_at dksX8_spanAfter_0 23 rfl rfl)
theorem dX8_spanAfter_24 : decode cX8_spanAfter 24 = .ok (.iload_n 2, 1) := dk_28 (dk_at dksX8_spanAfter_1 0 rfl rfl)
theorem dX8_spanAfter_25 : decode cX8_spanAfter 25 = .ok (.invokevirtual 241, 3) := dk_182 0 241 (dk_at dksX8_spanAfter_1 1 rfl rfl)
theorem dX8_spanAfter_28 : decode cX8_spanAfter 28 = .ok (.iload_n 3, 1) := dk_29 (dk_at dksX8_spanAfter_1 4 rfl rfl)
theorem dX8_spanAfter_29 : decode cX8_spanAfter 29 = .ok (.ireturn, 1) := dk_172 (dk_at dksX8_spanAfter_1 5 rfl rfl)
abbrev cX8_exchange : ByteArray := prog_15_method_50_code
def yX8_exchange : MethodName := ⟨RX8, "exchange", "(II)V"⟩
def dkwX8_exchange_1 : List UInt8 := [180, 0, 17, 29, 4, 96, 46, 79, 42, 180, 0, 17, 29, 4, 96, 21, 4, 79, 177]
abbrev dktX8_exchange_1 : List UInt8 := dkwX8_exchange_1 ++ []
def dkwX8_exchange_0 : List UInt8 := [27, 184, 0, 158, 6, 96, 28, 96, 62, 42, 180, 0, 17, 29, 46, 54, 4, 42, 180, 0, 17, 29, 42]
abbrev dktX8_exchange_0 : List UInt8 := dkwX8_exchange_0 ++ dktX8_exchange_1
theorem dksX8_exchange_0 : cX8_exchange.data.toList.drop 0 = dktX8_exchange_0 := by decide +kernel
theorem dksX8_exchange_1 : cX8_exchange.data.toList.drop 23 = dktX8_exchange_1 := dk_seg dksX8_exchange_0 23 rfl rfl
theorem dX8_exchange_0 : decode cX8_exchange 0 = .ok (.iload_n 1, 1) := dk_27 (dk_at dksX8_exchange_0 0 rfl rfl)
theorem dX8_exchange_1 : decode cX8_exchange 1 = .ok (.invokestatic 158, 3) := dk_184 0 158 (dk_at dksX8_exchange_0 1 rfl rfl)
theorem dX8_exchange_4 : decode cX8_exchange 4 = .ok (.iconst 3, 1) := dk_6 (dk_at dksX8_exchange_0 4 rfl rfl)
theorem dX8_exchange_5 : decode cX8_exchange 5 = .ok (.iadd, 1) := dk_96 (dk_at dksX8_exchange_0 5 rfl rfl)
theorem dX8_exchange_6 : decode cX8_exchange 6 = .ok (.iload_n 2, 1) := dk_28 (dk_at dksX8_exchange_0 6 rfl rfl)
theorem dX8_exchange_7 : decode cX8_exchange 7 = .ok (.iadd, 1) := dk_96 (dk_at dksX8_exchange_0 7 rfl rfl)
theorem dX8_exchange_8 : decode cX8_exchange 8 = .ok (.istore_n 3, 1) := dk_62 (dk_at dksX8_exchange_0 8 rfl rfl)
theorem dX8_exchange_9 : decode cX8_exchange 9 = .ok (.aload_n 0, 1) := dk_42 (dk_at dksX8_exchange_0 9 rfl rfl)
theorem dX8_exchange_10 : decode cX8_exchange 10 = .ok (.getfield 17, 3) := dk_180 0 17 (dk_at dksX8_exchange_0 10 rfl rfl)
theorem dX8_exchange_13 : decode cX8_exchange 13 = .ok (.iload_n 3, 1) := dk_29 (dk_at dksX8_exchange_0 13 rfl rfl)
theorem dX8_exchange_14 : decode cX8_exchange 14 = .ok (.iaload, 1) := dk_46 (dk_at dksX8_exchange_0 14 rfl rfl)
theorem dX8_exchange_15 : decode cX8_exchange 15 = .ok (.istore 4, 2) := dk_54 4 (dk_at dksX8_exchange_0 15 rfl rfl)
theorem dX8_exchange_17 : decode cX8_exchange 17 = .ok (.aload_n 0, 1) := dk_42 (dk_at dksX8_exchange_0 17 rfl rfl)
theorem dX8_exchange_18 : decode cX8_exchange 18 = .ok (.getfield 17, 3) := dk_180 0 17 (dk_at dksX8_exchange_0 18 rfl rfl)
theorem dX8_exchange_21 : decode cX8_exchange 21 = .ok (.iload_n 3, 1) := dk_29 (dk_at dksX8_exchange_0 21 rfl rfl)
theorem dX8_exchange_22 : decode cX8_exchange 22 = .ok (.aload_n 0, 1) := dk_42 (dk_at dksX8_exchange_0 22 rfl rfl)
theorem dX8_exchange_23 : decode cX8_exchange 23 = .ok (.getfield 17, 3) := dk_180 0 17 (dk_at dksX8_exchange_1 0 rfl rfl)
theorem dX8_exchange_26 : decode cX8_exchange 26 = .ok (.iload_n 3, 1) := dk_29 (dk_at dksX8_exchange_1 3 rfl rfl)
theorem dX8_exchange_27 : decode cX8_exchange 27 = .ok (.iconst 1, 1) := dk_4 (dk_at dksX8_exchange_1 4 rfl rfl)
theorem dX8_exchange_28 : decode cX8_exchange 28 = .ok (.iadd, 1) := dk_96 (dk_at dksX8_exchange_1 5 rfl rfl)
theorem dX8_exchange_29 : decode cX8_exchange 29 = .ok (.iaload, 1) := dk_46 (dk_at dksX8_exchange_1 6 rfl rfl)
theorem dX8_exchange_30 : decode cX8_exchange 30 = .ok (.iastore, 1) := dk_79 (dk_at dksX8_exchange_1 7 rfl rfl)
theorem dX8_exchange_31 : decode cX8_exchange 31 = .ok (.aload_n 0, 1) := dk_42 (dk_at dksX8_exchange_1 8 rfl rfl)
theorem dX8_exchange_32 : decode cX8_exchange 32 = .ok (.getfield 17, 3) := dk_180 0 17 (dk_at dksX8_exchange_1 9 rfl rfl)
theorem dX8_exchange_35 : decode cX8_exchange 35 = .ok (.iload_n 3, 1) := dk_29 (dk_at dksX8_exchange_1 12 rfl rfl)
theorem dX8_exchange_36 : decode cX8_exchange 36 = .ok (.iconst 1, 1) := dk_4 (dk_at dksX8_exchange_1 13 rfl rfl)
theorem dX8_exchange_37 : decode cX8_exchange 37 = .ok (.iadd, 1) := dk_96 (dk_at dksX8_exchange_1 14 rfl rfl)
theorem dX8_exchange_38 : decode cX8_exchange 38 = .ok (.iload 4, 2) := dk_21 4 (dk_at dksX8_exchange_1 15 rfl rfl)
theorem dX8_exchange_40 : decode cX8_exchange 40 = .ok (.iastore, 1) := dk_79 (dk_at dksX8_exchange_1 17 rfl rfl)
theorem dX8_exchange_41 : decode cX8_exchange 41 = .ok (.return_, 1) := dk_177 (dk_at dksX8_exchange_1 18 rfl rfl)
abbrev cX8_isDeadlocked : ByteArray := prog_15_method_42_code
def yX8_isDeadlocked : MethodName := ⟨RX8, "isDeadlocked", "()Z"⟩
def dkwX8_isDeadlocked_1 : List UInt8 := [167, 0, 4, 3, 172]
abbrev dktX8_isDeadlocked_1 : List UInt8 := dkwX8_isDeadlocked_1 ++ []
def dkwX8_isDeadlocked_0 : List UInt8 := [42, 182, 0, 217, 153, 0, 19, 42, 180, 0, 17, 4, 46, 154, 0, 14, 42, 182, 0, 220, 153, 0, 7, 4]
abbrev dktX8_isDeadlocked_0 : List UInt8 := dkwX8_isDeadlocked_0 ++ dktX8_isDeadlocked_1
theorem dksX8_isDeadlocked_0 : cX8_isDeadlocked.data.toList.drop 0 = dktX8_isDeadlocked_0 := by decide +kernel
theorem dksX8_isDeadlocked_1 : cX8_isDeadlocked.data.toList.drop 24 = dktX8_isDeadlocked_1 := dk_seg dksX8_isDeadlocked_0 24 rfl rfl
theorem dX8_isDeadlocked_0 : decode cX8_isDeadlocked 0 = .ok (.aload_n 0, 1) := dk_42 (dk_at dksX8_isDeadlocked_0 0 rfl rfl)
theorem dX8_isDeadlocked_1 : decode cX8_isDeadlocked 1 = .ok (.invokevirtual 217, 3) := dk_182 0 217 (dk_at dksX8_isDeadlocked_0 1 rfl rfl)
theorem dX8_isDeadlocked_4 : decode cX8_isDeadlocked 4 = .ok (.ifCond .eq 19, 3) := dk_153 0 19 (dk_at dksX8_isDeadlocked_0 4 rfl rfl)
theorem dX8_isDeadlocked_7 : decode cX8_isDeadlocked 7 = .ok (.aload_n 0, 1) := dk_42 (dk_at dksX8_isDeadlocked_0 7 rfl rfl)
theorem dX8_isDeadlocked_8 : decode cX8_isDeadlocked 8 = .ok (.getfield 17, 3) := dk_180 0 17 (dk_at dksX8_isDeadlocked_0 8 rfl rfl)
theorem dX8_isDeadlocked_11 : decode cX8_isDeadlocked 11 = .ok (.iconst 1, 1) := dk_4 (dk_at dksX8_isDeadlocked_0 11 rfl rfl)
theorem dX8_isDeadlocked_12 : decode cX8_isDeadlocked 12 = .ok (.iaload, 1) := dk_46 (dk_at dksX8_isDeadlocked_0 12 rfl rfl)
theorem dX8_isDeadlocked_13 : decode cX8_isDeadlocked 13 = .ok (.ifCond .ne 14, 3) := dk_154 0 14 (dk_at dksX8_isDeadlocked_0 13 rfl rfl)
theorem dX8_isDeadlocked_16 : decode cX8_isDeadlocked 16 = .ok (.aload_n 0, 1) := dk_42 (dk_at dksX8_isDeadlocked_0 16 rfl rfl)
theorem dX8_isDeadlocked_17 : decode cX8_isDeadlocked 17 = .ok (.invokevirtual 220, 3) := dk_182 0 220 (dk_at dksX8_isDeadlocked_0 17 rfl rfl)
theorem dX8_isDeadlocked_20 : decode cX8_isDeadlocked 20 = .ok (.ifCond .eq 7, 3) := dk_153 0 7 (dk_at dksX8_isDeadlocked_0 20 rfl rfl)
theorem dX8_isDeadlocked_23 : decode cX8_isDeadlocked 23 = .ok (.iconst 1, 1) := dk_4 (dk_at dksX8_isDeadlocked_0 23 rfl rfl)
theorem dX8_isDeadlocked_24 : decode cX8_isDeadlocked 24 = .ok (.goto 4, 3) := dk_167 0 4 (dk_at dksX8_isDeadlocked_1 0 rfl rfl)
theorem dX8_isDeadlocked_27 : decode cX8_isDeadlocked 27 = .ok (.iconst 0, 1) := dk_3 (dk_at dksX8_isDeadlocked_1 3 rfl rfl)
theorem dX8_isDeadlocked_28 : decode cX8_isDeadlocked 28 = .ok (.ireturn, 1) := dk_172 (dk_at dksX8_isDeadlocked_1 4 rfl rfl)
abbrev cX8_hasCycle : ByteArray := prog_15_method_41_code
def yX8_hasCycle : MethodName := ⟨RX8, "hasCycle", "()Z"⟩
def dkwX8_hasCycle_6 : List UInt8 := [27, 158, 0, 7, 4, 167, 0, 4, 3, 172]
abbrev dktX8_hasCycle_6 : List UInt8 := dkwX8_hasCycle_6 ++ []
def dkwX8_hasCycle_5 : List UInt8 := [167, 0, 15, 42, 180, 0, 40, 29, 4, 84, 4, 61, 132, 1, 255, 132, 3, 1, 167, 255, 173, 167, 255, 162]
abbrev dktX8_hasCycle_5 : List UInt8 := dkwX8_hasCycle_5 ++ dktX8_hasCycle_6
def dkwX8_hasCycle_4 : List UInt8 := [180, 0, 31, 29, 46, 2, 159, 0, 20, 42, 180, 0, 40, 42, 180, 0, 31, 29, 46, 51, 154, 0, 6]
abbrev dktX8_hasCycle_4 : List UInt8 := dkwX8_hasCycle_4 ++ dktX8_hasCycle_5
def dkwX8_hasCycle_3 : List UInt8 := [154, 0, 60, 29, 16, 6, 112, 158, 0, 14, 42, 180, 0, 40, 29, 4, 100, 51, 153, 0, 42, 42]
abbrev dktX8_hasCycle_3 : List UInt8 := dkwX8_hasCycle_3 ++ dktX8_hasCycle_4
def dkwX8_hasCycle_2 : List UInt8 := [3, 62, 29, 16, 36, 162, 0, 83, 42, 29, 182, 0, 211, 153, 0, 69, 42, 180, 0, 40, 29, 51]
abbrev dktX8_hasCycle_2 : List UInt8 := dkwX8_hasCycle_2 ++ dktX8_hasCycle_3
def dkwX8_hasCycle_1 : List UInt8 := [153, 0, 7, 4, 167, 0, 4, 3, 96, 60, 132, 2, 1, 167, 255, 224, 4, 61, 28, 153, 0, 96, 3, 61]
abbrev dktX8_hasCycle_1 : List UInt8 := dkwX8_hasCycle_1 ++ dktX8_hasCycle_2
def dkwX8_hasCycle_0 : List UInt8 := [3, 60, 3, 61, 28, 16, 36, 162, 0, 32, 42, 180, 0, 40, 28, 3, 84, 27, 42, 28, 182, 0, 211]
abbrev dktX8_hasCycle_0 : List UInt8 := dkwX8_hasCycle_0 ++ dktX8_hasCycle_1
theorem dksX8_hasCycle_0 : cX8_hasCycle.data.toList.drop 0 = dktX8_hasCycle_0 := by decide +kernel
theorem dksX8_hasCycle_1 : cX8_hasCycle.data.toList.drop 23 = dktX8_hasCycle_1 := dk_seg dksX8_hasCycle_0 23 rfl rfl
theorem dksX8_hasCycle_2 : cX8_hasCycle.data.toList.drop 47 = dktX8_hasCycle_2 := dk_seg dksX8_hasCycle_1 24 rfl rfl
theorem dksX8_hasCycle_3 : cX8_hasCycle.data.toList.drop 69 = dktX8_hasCycle_3 := dk_seg dksX8_hasCycle_2 22 rfl rfl
theorem dksX8_hasCycle_4 : cX8_hasCycle.data.toList.drop 91 = dktX8_hasCycle_4 := dk_seg dksX8_hasCycle_3 22 rfl rfl
theorem dksX8_hasCycle_5 : cX8_hasCycle.data.toList.drop 114 = dktX8_hasCycle_5 := dk_seg dksX8_hasCycle_4 23 rfl rfl
theorem dksX8_hasCycle_6 : cX8_hasCycle.data.toList.drop 138 = dktX8_hasCycle_6 := dk_seg dksX8_hasCycle_5 24 rfl rfl
theorem dX8_hasCycle_0 : decode cX8_hasCycle 0 = .ok (.iconst 0, 1) := dk_3 (dk_at dksX8_hasCycle_0 0 rfl rfl)
theorem dX8_hasCycle_1 : decode cX8_hasCycle 1 = .ok (.istore_n 1, 1) := dk_60 (dk_at dksX8_hasCycle_0 1 rfl rfl)
theorem dX8_hasCycle_2 : decode cX8_hasCycle 2 = .ok (.iconst 0, 1) := dk_3 (dk_at dksX8_hasCycle_0 2 rfl rfl)
theorem dX8_hasCycle_3 : decode cX8_hasCycle 3 = .ok (.istore_n 2, 1) := dk_61 (dk_at dksX8_hasCycle_0 3 rfl rfl)
theorem dX8_hasCycle_4 : decode cX8_hasCycle 4 = .ok (.iload_n 2, 1) := dk_28 (dk_at dksX8_hasCycle_0 4 rfl rfl)
theorem dX8_hasCycle_5 : decode cX8_hasCycle 5 = .ok (.bipush 36, 2) := dk_16 36 (dk_at dksX8_hasCycle_0 5 rfl rfl)
theorem dX8_hasCycle_7 : decode cX8_hasCycle 7 = .ok (.if_icmp .ge 32, 3) := dk_162 0 32 (dk_at dksX8_hasCycle_0 7 rfl rfl)
theorem dX8_hasCycle_10 : decode cX8_hasCycle 10 = .ok (.aload_n 0, 1) := dk_42 (dk_at dksX8_hasCycle_0 10 rfl rfl)
theorem dX8_hasCycle_11 : decode cX8_hasCycle 11 = .ok (.getfield 40, 3) := dk_180 0 40 (dk_at dksX8_hasCycle_0 11 rfl rfl)
theorem dX8_hasCycle_14 : decode cX8_hasCycle 14 = .ok (.iload_n 2, 1) := dk_28 (dk_at dksX8_hasCycle_0 14 rfl rfl)
theorem dX8_hasCycle_15 : decode cX8_hasCycle 15 = .ok (.iconst 0, 1) := dk_3 (dk_at dksX8_hasCycle_0 15 rfl rfl)
theorem dX8_hasCycle_16 : decode cX8_hasCycle 16 = .ok (.bastore, 1) := dk_84 (dk_at dksX8_hasCycle_0 16 rfl rfl)
theorem dX8_hasCycle_17 : decode cX8_hasCycle 17 = .ok (.iload_n 1, 1) := dk_27 (dk_at dksX8_hasCycle_0 17 rfl rfl)
theorem dX8_hasCycle_18 : decode cX8_hasCycle 18 = .ok (.aload_n 0, 1) := dk_42 (dk_at dksX8_hasCycle_0 18 rfl rfl)
theorem dX8_hasCycle_19 : decode cX8_hasCycle 19 = .ok (.iload_n 2, 1) := dk_28 (dk_at dksX8_hasCycle_0 19 rfl rfl)
theorem dX8_hasCycle_20 : decode cX8_hasCycle 20 = .ok (.invokevirtual 211, 3) := dk_182 0 211 (dk_at dksX8_hasCycle_0 20 rfl rfl)
theorem dX8_hasCycle_23 : decode cX8_hasCycle 23 = .ok (.ifCond .eq 7, 3) := dk_153 0 7 (dk_at dksX8_hasCycle_1 0 rfl rfl)
theorem dX8_hasCycle_26 : decode cX8_hasCycle 26 = .ok (.iconst 1, 1) := dk_4 (dk_at dksX8_hasCycle_1 3 rfl rfl)
theorem dX8_hasCycle_27 : decode cX8_hasCycle 27 = .ok (.goto 4, 3) := dk_167 0 4 (dk_at dksX8_hasCycle_1 4 rfl rfl)
theorem dX8_hasCycle_30 : decode cX8_hasCycle 30 = .ok (.iconst 0, 1) := dk_3 (dk_at dksX8_hasCycle_1 7 rfl rfl)
theorem dX8_hasCycle_31 : decode cX8_hasCycle 31 = .ok (.iadd, 1) := dk_96 (dk_at dksX8_hasCycle_1 8 rfl rfl)
theorem dX8_hasCycle_32 : decode cX8_hasCycle 32 = .ok (.istore_n 1, 1) := dk_60 (dk_at dksX8_hasCycle_1 9 rfl rfl)
theorem dX8_hasCycle_33 : decode cX8_hasCycle 33 = .ok (.iinc 2 1, 3) := dk_132 2 1 (dk_at dksX8_hasCycle_1 10 rfl rfl)
theorem dX8_hasCycle_36 : decode cX8_hasCycle 36 = .ok (.goto (-32), 3) := dk_167 255 224 (dk_at dksX8_hasCycle_1 13 rfl rfl)
theorem dX8_hasCycle_39 : decode cX8_hasCycle 39 = .ok (.iconst 1, 1) := dk_4 (dk_at dksX8_hasCycle_1 16 rfl rfl)
theorem dX8_hasCycle_40 : decode cX8_hasCycle 40 = .ok (.istore_n 2, 1) := dk_61 (dk_at dksX8_hasCycle_1 17 rfl rfl)
theorem dX8_hasCycle_41 : decode cX8_hasCycle 41 = .ok (.iload_n 2, 1) := dk_28 (dk_at dksX8_hasCycle_1 18 rfl rfl)
theorem dX8_hasCycle_42 : decode cX8_hasCycle 42 = .ok (.ifCond .eq 96, 3) := dk_153 0 96 (dk_at dksX8_hasCycle_1 19 rfl rfl)
theorem dX8_hasCycle_45 : decode cX8_hasCycle 45 = .ok (.iconst 0, 1) := dk_3 (dk_at dksX8_hasCycle_1 22 rfl rfl)
theorem dX8_hasCycle_46 : decode cX8_hasCycle 46 = .ok (.istore_n 2, 1) := dk_61 (dk_at dksX8_hasCycle_1 23 rfl rfl)
theorem dX8_hasCycle_47 : decode cX8_hasCycle 47 = .ok (.iconst 0, 1) := dk_3 (dk_at dksX8_hasCycle_2 0 rfl rfl)
theorem dX8_hasCycle_48 : decode cX8_hasCycle 48 = .ok (.istore_n 3, 1) := dk_62 (dk_at dksX8_hasCycle_2 1 rfl rfl)
theorem dX8_hasCycle_49 : decode cX8_hasCycle 49 = .ok (.iload_n 3, 1) := dk_29 (dk_at dksX8_hasCycle_2 2 rfl rfl)
theorem dX8_hasCycle_50 : decode cX8_hasCycle 50 = .ok (.bipush 36, 2) := dk_16 36 (dk_at dksX8_hasCycle_2 3 rfl rfl)
theorem dX8_hasCycle_52 : decode cX8_hasCycle 52 = .ok (.if_icmp .ge 83, 3) := dk_162 0 83 (dk_at dksX8_hasCycle_2 5 rfl rfl)
theorem dX8_hasCycle_55 : decode cX8_hasCycle 55 = .ok (.aload_n 0, 1) := dk_42 (dk_at dksX8_hasCycle_2 8 rfl rfl)
theorem dX8_hasCycle_56 : decode cX8_hasCycle 56 = .ok (.iload_n 3, 1) := dk_29 (dk_at dksX8_hasCycle_2 9 rfl rfl)
theorem dX8_hasCycle_57 : decode cX8_hasCycle 57 = .ok (.invokevirtual 211, 3) := dk_182 0 211 (dk_at dksX8_hasCycle_2 10 rfl rfl)
theorem dX8_hasCycle_60 : decode cX8_hasCycle 60 = .ok (.ifCond .eq 69, 3) := dk_153 0 69 (dk_at dksX8_hasCycle_2 13 rfl rfl)
theorem dX8_hasCycle_63 : decode cX8_hasCycle 63 = .ok (.aload_n 0, 1) := dk_42 (dk_at dksX8_hasCycle_2 16 rfl rfl)
theorem dX8_hasCycle_64 : decode cX8_hasCycle 64 = .ok (.getfield 40, 3) := dk_180 0 40 (dk_at dksX8_hasCycle_2 17 rfl rfl)
theorem dX8_hasCycle_67 : decode cX8_hasCycle 67 = .ok (.iload_n 3, 1) := dk_29 (dk_at dksX8_hasCycle_2 20 rfl rfl)
theorem dX8_hasCycle_68 : decode cX8_hasCycle 68 = .ok (.baload, 1) := dk_51 (dk_at dksX8_hasCycle_2 21 rfl rfl)
theorem dX8_hasCycle_69 : decode cX8_hasCycle 69 = .ok (.ifCond .ne 60, 3) := dk_154 0 60 (dk_at dksX8_hasCycle_3 0 rfl rfl)
theorem dX8_hasCycle_72 : decode cX8_hasCycle 72 = .ok (.iload_n 3, 1) := dk_29 (dk_at dksX8_hasCycle_3 3 rfl rfl)
theorem dX8_hasCycle_73 : decode cX8_hasCycle 73 = .ok (.bipush 6, 2) := dk_16 6 (dk_at dksX8_hasCycle_3 4 rfl rfl)
theorem dX8_hasCycle_75 : decode cX8_hasCycle 75 = .ok (.irem, 1) := dk_112 (dk_at dksX8_hasCycle_3 6 rfl rfl)
theorem dX8_hasCycle_76 : decode cX8_hasCycle 76 = .ok (.ifCond .le 14, 3) := dk_158 0 14 (dk_at dksX8_hasCycle_3 7 rfl rfl)
theorem dX8_hasCycle_79 : decode cX8_hasCycle 79 = .ok (.aload_n 0, 1) := dk_42 (dk_at dksX8_hasCycle_3 10 rfl rfl)
theorem dX8_hasCycle_80 : decode cX8_hasCycle 80 = .ok (.getfield 40, 3) := dk_180 0 40 (dk_at dksX8_hasCycle_3 11 rfl rfl)
theorem dX8_hasCycle_83 : decode cX8_hasCycle 83 = .ok (.iload_n 3, 1) := dk_29 (dk_at dksX8_hasCycle_3 14 rfl rfl)
theorem dX8_hasCycle_84 : decode cX8_hasCycle 84 = .ok (.iconst 1, 1) := dk_4 (dk_at dksX8_hasCycle_3 15 rfl rfl)
theorem dX8_hasCycle_85 : decode cX8_hasCycle 85 = .ok (.isub, 1) := dk_100 (dk_at dksX8_hasCycle_3 16 rfl rfl)
theorem dX8_hasCycle_86 : decode cX8_hasCycle 86 = .ok (.baload, 1) := dk_51 (dk_at dksX8_hasCycle_3 17 rfl rfl)
theorem dX8_hasCycle_87 : decode cX8_hasCycle 87 = .ok (.ifCond .eq 42, 3) := dk_153 0 42 (dk_at dksX8_hasCycle_3 18 rfl rfl)
theorem dX8_hasCycle_90 : decode cX8_hasCycle 90 = .ok (.aload_n 0, 1) := dk_42 (dk_at dksX8_hasCycle_3 21 rfl rfl)
theorem dX8_hasCycle_91 : decode cX8_hasCycle 91 = .ok (.getfield 31, 3) := dk_180 0 31 (dk_at dksX8_hasCycle_4 0 rfl rfl)
theorem dX8_hasCycle_94 : decode cX8_hasCycle 94 = .ok (.iload_n 3, 1) := dk_29 (dk_at dksX8_hasCycle_4 3 rfl rfl)
theorem dX8_hasCycle_95 : decode cX8_hasCycle 95 = .ok (.iaload, 1) := dk_46 (dk_at dksX8_hasCycle_4 4 rfl rfl)
theorem dX8_hasCycle_96 : decode cX8_hasCycle 96 = .ok (.iconst (-1), 1) := dk_2 (dk_at dksX8_hasCycle_4 5 rfl rfl)
theorem dX8_hasCycle_97 : decode cX8_hasCycle 97 = .ok (.if_icmp .eq 20, 3) := dk_159 0 20 (dk_at dksX8_hasCycle_4 6 rfl rfl)
theorem dX8_hasCycle_100 : decode cX8_hasCycle 100 = .ok (.aload_n 0, 1) := dk_42 (dk_at dksX8_hasCycle_4 9 rfl rfl)
theorem dX8_hasCycle_101 : decode cX8_hasCycle 101 = .ok (.getfield 40, 3) := dk_180 0 40 (dk_at dksX8_hasCycle_4 10 rfl rfl)
theorem dX8_hasCycle_104 : decode cX8_hasCycle 104 = .ok (.aload_n 0, 1) := dk_42 (dk_at dksX8_hasCycle_4 13 rfl rfl)
theorem dX8_hasCycle_105 : decode cX8_hasCycle 105 = .ok (.getfield 31, 3) := dk_180 0 31 (dk_at dksX8_hasCycle_4 14 rfl rfl)
theorem dX8_hasCycle_108 : decode cX8_hasCycle 108 = .ok (.iload_n 3, 1) := dk_29 (dk_at dksX8_hasCycle_4 17 rfl rfl)
theorem dX8_hasCycle_109 : decode cX8_hasCycle 109 = .ok (.iaload, 1) := dk_46 (dk_at dksX8_hasCycle_4 18 rfl rfl)
theorem dX8_hasCycle_110 : decode cX8_hasCycle 110 = .ok (.baload, 1) := dk_51 (dk_at dksX8_hasCycle_4 19 rfl rfl)
theorem dX8_hasCycle_111 : decode cX8_hasCycle 111 = .ok (.ifCond .ne 6, 3) := dk_154 0 6 (dk_at dksX8_hasCycle_4 20 rfl rfl)
theorem dX8_hasCycle_114 : decode cX8_hasCycle 114 = .ok (.goto 15, 3) := dk_167 0 15 (dk_at dksX8_hasCycle_5 0 rfl rfl)
theorem dX8_hasCycle_117 : decode cX8_hasCycle 117 = .ok (.aload_n 0, 1) := dk_42 (dk_at dksX8_hasCycle_5 3 rfl rfl)
theorem dX8_hasCycle_118 : decode cX8_hasCycle 118 = .ok (.getfield 40, 3) := dk_180 0 40 (dk_at dksX8_hasCycle_5 4 rfl rfl)
theorem dX8_hasCycle_121 : decode cX8_hasCycle 121 = .ok (.iload_n 3, 1) := dk_29 (dk_at dksX8_hasCycle_5 7 rfl rfl)
theorem dX8_hasCycle_122 : decode cX8_hasCycle 122 = .ok (.iconst 1, 1) := dk_4 (dk_at dksX8_hasCycle_5 8 rfl rfl)
theorem dX8_hasCycle_123 : decode cX8_hasCycle 123 = .ok (.bastore, 1) := dk_84 (dk_at dksX8_hasCycle_5 9 rfl rfl)
theorem dX8_hasCycle_124 : decode cX8_hasCycle 124 = .ok (.iconst 1, 1) := dk_4 (dk_at dksX8_hasCycle_5 10 rfl rfl)
theorem dX8_hasCycle_125 : decode cX8_hasCycle 125 = .ok (.istore_n 2, 1) := dk_61 (dk_at dksX8_hasCycle_5 11 rfl rfl)
theorem dX8_hasCycle_126 : decode cX8_hasCycle 126 = .ok (.iinc 1 (-1), 3) := dk_132 1 255 (dk_at dksX8_hasCycle_5 12 rfl rfl)
theorem dX8_hasCycle_129 : decode cX8_hasCycle 129 = .ok (.iinc 3 1, 3) := dk_132 3 1 (dk_at dksX8_hasCycle_5 15 rfl rfl)
theorem dX8_hasCycle_132 : decode cX8_hasCycle 132 = .ok (.goto (-83), 3) := dk_167 255 173 (dk_at dksX8_hasCycle_5 18 rfl rfl)
theorem dX8_hasCycle_135 : decode cX8_hasCycle 135 = .ok (.goto (-94), 3) := dk_167 255 162 (dk_at dksX8_hasCycle_5 21 rfl rfl)
theorem dX8_hasCycle_138 : decode cX8_hasCycle 138 = .ok (.iload_n 1, 1) := dk_27 (dk_at dksX8_hasCycle_6 0 rfl rfl)
theorem dX8_hasCycle_139 : decode cX8_hasCycle 139 = .ok (.ifCond .le 7, 3) := dk_158 0 7 (dk_at dksX8_hasCycle_6 1 rfl rfl)
theorem dX8_hasCycle_142 : decode cX8_hasCycle 142 = .ok (.iconst 1, 1) := dk_4 (dk_at dksX8_hasCycle_6 4 rfl rfl)
theorem dX8_hasCycle_143 : decode cX8_hasCycle 143 = .ok (.goto 4, 3) := dk_167 0 4 (dk_at dksX8_hasCycle_6 5 rfl rfl)
theorem dX8_hasCycle_146 : decode cX8_hasCycle 146 = .ok (.iconst 0, 1) := dk_3 (dk_at dksX8_hasCycle_6 8 rfl rfl)
theorem dX8_hasCycle_147 : decode cX8_hasCycle 147 = .ok (.ireturn, 1) := dk_172 (dk_at dksX8_hasCycle_6 9 rfl rfl)
abbrev cX8_makespanAfter : ByteArray := prog_15_method_80_code
def yX8_makespanAfter : MethodName := ⟨RX8, "makespanAfter", "(II)I"⟩
def dkwX8_makespanAfter_1 : List UInt8 := [172]
abbrev dktX8_makespanAfter_1 : List UInt8 := dkwX8_makespanAfter_1 ++ []
def dkwX8_makespanAfter_0 : List UInt8 := [42, 3, 181, 0, 51, 42, 27, 28, 182, 1, 38, 153, 0, 7, 3, 167, 0, 9, 42, 27, 28, 182, 1, 41]
abbrev dktX8_makespanAfter_0 : List UInt8 := dkwX8_makespanAfter_0 ++ dktX8_makespanAfter_1
theorem dksX8_makespanAfter_0 : cX8_makespanAfter.data.toList.drop 0 = dktX8_makespanAfter_0 := by decide +kernel
theorem dksX8_makespanAfter_1 : cX8_makespanAfter.data.toList.drop 24 = dktX8_makespanAfter_1 := dk_seg dksX8_makespanAfter_0 24 rfl rfl
theorem dX8_makespanAfter_0 : decode cX8_makespanAfter 0 = .ok (.aload_n 0, 1) := dk_42 (dk_at dksX8_makespanAfter_0 0 rfl rfl)
theorem dX8_makespanAfter_1 : decode cX8_makespanAfter 1 = .ok (.iconst 0, 1) := dk_3 (dk_at dksX8_makespanAfter_0 1 rfl rfl)
theorem dX8_makespanAfter_2 : decode cX8_makespanAfter 2 = .ok (.putfield 51, 3) := dk_181 0 51 (dk_at dksX8_makespanAfter_0 2 rfl rfl)
theorem dX8_makespanAfter_5 : decode cX8_makespanAfter 5 = .ok (.aload_n 0, 1) := dk_42 (dk_at dksX8_makespanAfter_0 5 rfl rfl)
theorem dX8_makespanAfter_6 : decode cX8_makespanAfter 6 = .ok (.iload_n 1, 1) := dk_27 (dk_at dksX8_makespanAfter_0 6 rfl rfl)
theorem dX8_makespanAfter_7 : decode cX8_makespanAfter 7 = .ok (.iload_n 2, 1) := dk_28 (dk_at dksX8_makespanAfter_0 7 rfl rfl)
theorem dX8_makespanAfter_8 : decode cX8_makespanAfter 8 = .ok (.invokevirtual 294, 3) := dk_182 1 38 (dk_at dksX8_makespanAfter_0 8 rfl rfl)
theorem dX8_makespanAfter_11 : decode cX8_makespanAfter 11 = .ok (.ifCond .eq 7, 3) := dk_153 0 7 (dk_at dksX8_makespanAfter_0 11 rfl rfl)
theorem dX8_makespanAfter_14 : decode cX8_makespanAfter 14 = .ok (.iconst 0, 1) := dk_3 (dk_at dksX8_makespanAfter_0 14 rfl rfl)
theorem dX8_makespanAfter_15 : decode cX8_makespanAfter 15 = .ok (.goto 9, 3) := dk_167 0 9 (dk_at dksX8_makespanAfter_0 15 rfl rfl)
theorem dX8_makespanAfter_18 : decode cX8_makespanAfter 18 = .ok (.aload_n 0, 1) := dk_42 (dk_at dksX8_makespanAfter_0 18 rfl rfl)
theorem dX8_makespanAfter_19 : decode cX8_makespanAfter 19 = .ok (.iload_n 1, 1) := dk_27 (dk_at dksX8_makespanAfter_0 19 rfl rfl)
theorem dX8_makespanAfter_20 : decode cX8_makespanAfter 20 = .ok (.iload_n 2, 1) := dk_28 (dk_at dksX8_makespanAfter_0 20 rfl rfl)
theorem dX8_makespanAfter_21 : decode cX8_makespanAfter 21 = .ok (.invokevirtual 297, 3) := dk_182 1 41 (dk_at dksX8_makespanAfter_0 21 rfl rfl)
theorem dX8_makespanAfter_24 : decode cX8_makespanAfter 24 = .ok (.ireturn, 1) := dk_172 (dk_at dksX8_makespanAfter_1 0 rfl rfl)
abbrev cX8_bestSwap : ByteArray := prog_15_method_81_code
def yX8_bestSwap : MethodName := ⟨RX8, "bestSwap", "()I"⟩
def dkwX8_bestSwap_0 : List UInt8 := [42, 3, 181, 0, 51, 42, 182, 1, 44, 172]
abbrev dktX8_bestSwap_0 : List UInt8 := dkwX8_bestSwap_0 ++ []
theorem dksX8_bestSwap_0 : cX8_bestSwap.data.toList.drop 0 = dktX8_bestSwap_0 := by decide +kernel
theorem dX8_bestSwap_0 : decode cX8_bestSwap 0 = .ok (.aload_n 0, 1) := dk_42 (dk_at dksX8_bestSwap_0 0 rfl rfl)
theorem dX8_bestSwap_1 : decode cX8_bestSwap 1 = .ok (.iconst 0, 1) := dk_3 (dk_at dksX8_bestSwap_0 1 rfl rfl)
theorem dX8_bestSwap_2 : decode cX8_bestSwap 2 = .ok (.putfield 51, 3) := dk_181 0 51 (dk_at dksX8_bestSwap_0 2 rfl rfl)
theorem dX8_bestSwap_5 : decode cX8_bestSwap 5 = .ok (.aload_n 0, 1) := dk_42 (dk_at dksX8_bestSwap_0 5 rfl rfl)
theorem dX8_bestSwap_6 : decode cX8_bestSwap 6 = .ok (.invokevirtual 300, 3) := dk_182 1 44 (dk_at dksX8_bestSwap_0 6 rfl rfl)
theorem dX8_bestSwap_9 : decode cX8_bestSwap 9 = .ok (.ireturn, 1) := dk_172 (dk_at dksX8_bestSwap_0 9 rfl rfl)
abbrev cX8_findBest : ByteArray := prog_15_method_51_code
def yX8_findBest : MethodName := ⟨RX8, "findBest", "()I"⟩
def dkwX8_findBest_5 : List UInt8 := [172]
abbrev dktX8_findBest_5 : List UInt8 := dkwX8_findBest_5 ++ []
def dkwX8_findBest_4 : List UInt8 := [21, 5, 181, 1, 0, 42, 28, 29, 182, 0, 241, 132, 3, 1, 167, 255, 163, 132, 2, 1, 167, 255, 145, 27]
abbrev dktX8_findBest_4 : List UInt8 := dkwX8_findBest_4 ++ dktX8_findBest_5
def dkwX8_findBest_3 : List UInt8 := [42, 180, 1, 0, 184, 1, 3, 153, 0, 22, 16, 100, 28, 104, 29, 96, 60, 42, 21, 4, 181, 0, 253, 42]
abbrev dktX8_findBest_3 : List UInt8 := dkwX8_findBest_3 ++ dktX8_findBest_4
def dkwX8_findBest_2 : List UInt8 := [182, 0, 247, 54, 4, 42, 182, 0, 250, 54, 5, 27, 2, 159, 0, 21, 21, 4, 21, 5, 42, 180, 0, 253]
abbrev dktX8_findBest_2 : List UInt8 := dkwX8_findBest_2 ++ dktX8_findBest_3
def dkwX8_findBest_1 : List UInt8 := [184, 0, 158, 5, 96, 46, 162, 0, 82, 42, 28, 29, 182, 0, 241, 42, 182, 0, 244, 154, 0, 57, 42]
abbrev dktX8_findBest_1 : List UInt8 := dkwX8_findBest_1 ++ dktX8_findBest_2
def dkwX8_findBest_0 : List UInt8 := [2, 60, 3, 61, 28, 42, 180, 0, 17, 3, 46, 162, 0, 107, 3, 62, 29, 4, 96, 42, 180, 0, 17, 28]
abbrev dktX8_findBest_0 : List UInt8 := dkwX8_findBest_0 ++ dktX8_findBest_1
theorem dksX8_findBest_0 : cX8_findBest.data.toList.drop 0 = dktX8_findBest_0 := by decide +kernel
theorem dksX8_findBest_1 : cX8_findBest.data.toList.drop 24 = dktX8_findBest_1 := dk_seg dksX8_findBest_0 24 rfl rfl
theorem dksX8_findBest_2 : cX8_findBest.data.toList.drop 47 = dktX8_findBest_2 := dk_seg dksX8_findBest_1 23 rfl rfl
theorem dksX8_findBest_3 : cX8_findBest.data.toList.drop 71 = dktX8_findBest_3 := dk_seg dksX8_findBest_2 24 rfl rfl
theorem dksX8_findBest_4 : cX8_findBest.data.toList.drop 95 = dktX8_findBest_4 := dk_seg dksX8_findBest_3 24 rfl rfl
theorem dksX8_findBest_5 : cX8_findBest.data.toList.drop 119 = dktX8_findBest_5 := dk_seg dksX8_findBest_4 24 rfl rfl
theorem dX8_findBest_0 : decode cX8_findBest 0 = .ok (.iconst (-1), 1) := dk_2 (dk_at dksX8_findBest_0 0 rfl rfl)
theorem dX8_findBest_1 : decode cX8_findBest 1 = .ok (.istore_n 1, 1) := dk_60 (dk_at dksX8_findBest_0 1 rfl rfl)
theorem dX8_findBest_2 : decode cX8_findBest 2 = .ok (.iconst 0, 1) := dk_3 (dk_at dksX8_findBest_0 2 rfl rfl)
theorem dX8_findBest_3 : decode cX8_findBest 3 = .ok (.istore_n 2, 1) := dk_61 (dk_at dksX8_findBest_0 3 rfl rfl)
theorem dX8_findBest_4 : decode cX8_findBest 4 = .ok (.iload_n 2, 1) := dk_28 (dk_at dksX8_findBest_0 4 rfl rfl)
theorem dX8_findBest_5 : decode cX8_findBest 5 = .ok (.aload_n 0, 1) := dk_42 (dk_at dksX8_findBest_0 5 rfl rfl)
theorem dX8_findBest_6 : decode cX8_findBest 6 = .ok (.getfield 17, 3) := dk_180 0 17 (dk_at dksX8_findBest_0 6 rfl rfl)
theorem dX8_findBest_9 : decode cX8_findBest 9 = .ok (.iconst 0, 1) := dk_3 (dk_at dksX8_findBest_0 9 rfl rfl)
theorem dX8_findBest_10 : decode cX8_findBest 10 = .ok (.iaload, 1) := dk_46 (dk_at dksX8_findBest_0 10 rfl rfl)
theorem dX8_findBest_11 : decode cX8_findBest 11 = .ok (.if_icmp .ge 107, 3) := dk_162 0 107 (dk_at dksX8_findBest_0 11 rfl rfl)
theorem dX8_findBest_14 : decode cX8_findBest 14 = .ok (.iconst 0, 1) := dk_3 (dk_at dksX8_findBest_0 14 rfl rfl)
theorem dX8_findBest_15 : decode cX8_findBest 15 = .ok (.istore_n 3, 1) := dk_62 (dk_at dksX8_findBest_0 15 rfl rfl)
theorem dX8_findBest_16 : decode cX8_findBest 16 = .ok (.iload_n 3, 1) := dk_29 (dk_at dksX8_findBest_0 16 rfl rfl)
theorem dX8_findBest_17 : decode cX8_findBest 17 = .ok (.iconst 1, 1) := dk_4 (dk_at dksX8_findBest_0 17 rfl rfl)
theorem dX8_findBest_18 : decode cX8_findBest 18 = .ok (.iadd, 1) := dk_96 (dk_at dksX8_findBest_0 18 rfl rfl)
theorem dX8_findBest_19 : decode cX8_findBest 19 = .ok (.aload_n 0, 1) := dk_42 (dk_at dksX8_findBest_0 19 rfl rfl)
theorem dX8_findBest_20 : decode cX8_findBest 20 = .ok (.getfield 17, 3) := dk_180 0 17 (dk_at dksX8_findBest_0 20 rfl rfl)
theorem dX8_findBest_23 : decode cX8_findBest 23 = .ok (.iload_n 2, 1) := dk_28 (dk_at dksX8_findBest_0 23 rfl rfl)
theorem dX8_findBest_24 : decode cX8_findBest 24 = .ok (.invokestatic 158, 3) := dk_184 0 158 (dk_at dksX8_findBest_1 0 rfl rfl)
theorem dX8_findBest_27 : decode cX8_findBest 27 = .ok (.iconst 2, 1) := dk_5 (dk_at dksX8_findBest_1 3 rfl rfl)
theorem dX8_findBest_28 : decode cX8_findBest 28 = .ok (.iadd, 1) := dk_96 (dk_at dksX8_findBest_1 4 rfl rfl)
theorem dX8_findBest_29 : decode cX8_findBest 29 = .ok (.iaload, 1) := dk_46 (dk_at dksX8_findBest_1 5 rfl rfl)
theorem dX8_findBest_30 : decode cX8_findBest 30 = .ok (.if_icmp .ge 82, 3) := dk_162 0 82 (dk_at dksX8_findBest_1 6 rfl rfl)
theorem dX8_findBest_33 : decode cX8_findBest 33 = .ok (.aload_n 0, 1) := dk_42 (dk_at dksX8_findBest_1 9 rfl rfl)
theorem dX8_findBest_34 : decode cX8_findBest 34 = .ok (.iload_n 2, 1) := dk_28 (dk_at dksX8_findBest_1 10 rfl rfl)
theorem dX8_findBest_35 : decode cX8_findBest 35 = .ok (.iload_n 3, 1) := dk_29 (dk_at dksX8_findBest_1 11 rfl rfl)
theorem dX8_findBest_36 : decode cX8_findBest 36 = .ok (.invokevirtual 241, 3) := dk_182 0 241 (dk_at dksX8_findBest_1 12 rfl rfl)
theorem dX8_findBest_39 : decode cX8_findBest 39 = .ok (.aload_n 0, 1) := dk_42 (dk_at dksX8_findBest_1 15 rfl rfl)
theorem dX8_findBest_40 : decode cX8_findBest 40 = .ok (.invokevirtual 244, 3) := dk_182 0 244 (dk_at dksX8_findBest_1 16 rfl rfl)
theorem dX8_findBest_43 : decode cX8_findBest 43 = .ok (.ifCond .ne 57, 3) := dk_154 0 57 (dk_at dksX8_findBest_1 19 rfl rfl)
theorem dX8_findBest_46 : decode cX8_findBest 46 = .ok (.aload_n 0, 1) := dk_42 (dk_at dksX8_findBest_1 22 rfl rfl)
theorem dX8_findBest_47 : decode cX8_findBest 47 = .ok (.invokevirtual 247, 3) := dk_182 0 247 (dk_at dksX8_findBest_2 0 rfl rfl)
theorem dX8_findBest_50 : decode cX8_findBest 50 = .ok (.istore 4, 2) := dk_54 4 (dk_at dksX8_findBest_2 3 rfl rfl)
theorem dX8_findBest_52 : decode cX8_findBest 52 = .ok (.aload_n 0, 1) := dk_42 (dk_at dksX8_findBest_2 5 rfl rfl)
theorem dX8_findBest_53 : decode cX8_findBest 53 = .ok (.invokevirtual 250, 3) := dk_182 0 250 (dk_at dksX8_findBest_2 6 rfl rfl)
theorem dX8_findBest_56 : decode cX8_findBest 56 = .ok (.istore 5, 2) := dk_54 5 (dk_at dksX8_findBest_2 9 rfl rfl)
theorem dX8_findBest_58 : decode cX8_findBest 58 = .ok (.iload_n 1, 1) := dk_27 (dk_at dksX8_findBest_2 11 rfl rfl)
theorem dX8_findBest_59 : decode cX8_findBest 59 = .ok (.iconst (-1), 1) := dk_2 (dk_at dksX8_findBest_2 12 rfl rfl)
theorem dX8_findBest_60 : decode cX8_findBest 60 = .ok (.if_icmp .eq 21, 3) := dk_159 0 21 (dk_at dksX8_findBest_2 13 rfl rfl)
theorem dX8_findBest_63 : decode cX8_findBest 63 = .ok (.iload 4, 2) := dk_21 4 (dk_at dksX8_findBest_2 16 rfl rfl)
theorem dX8_findBest_65 : decode cX8_findBest 65 = .ok (.iload 5, 2) := dk_21 5 (dk_at dksX8_findBest_2 18 rfl rfl)
theorem dX8_findBest_67 : decode cX8_findBest 67 = .ok (.aload_n 0, 1) := dk_42 (dk_at dksX8_findBest_2 20 rfl rfl)
theorem dX8_findBest_68 : decode cX8_findBest 68 = .ok (.getfield 253, 3) := dk_180 0 253 (dk_at dksX8_findBest_2 21 rfl rfl)
theorem dX8_findBest_71 : decode cX8_findBest 71 = .ok (.aload_n 0, 1) := dk_42 (dk_at dksX8_findBest_3 0 rfl rfl)
theorem dX8_findBest_72 : decode cX8_findBest 72 = .ok (.getfield 256, 3) := dk_180 1 0 (dk_at dksX8_findBest_3 1 rfl rfl)
theorem dX8_findBest_75 : decode cX8_findBest 75 = .ok (.invokestatic 259, 3) := dk_184 1 3 (dk_at dksX8_findBest_3 4 rfl rfl)
theorem dX8_findBest_78 : decode cX8_findBest 78 = .ok (.ifCond .eq 22, 3) := dk_153 0 22 (dk_at dksX8_findBest_3 7 rfl rfl)
theorem dX8_findBest_81 : decode cX8_findBest 81 = .ok (.bipush 100, 2) := dk_16 100 (dk_at dksX8_findBest_3 10 rfl rfl)
theorem dX8_findBest_83 : decode cX8_findBest 83 = .ok (.iload_n 2, 1) := dk_28 (dk_at dksX8_findBest_3 12 rfl rfl)
theorem dX8_findBest_84 : decode cX8_findBest 84 = .ok (.imul, 1) := dk_104 (dk_at dksX8_findBest_3 13 rfl rfl)
theorem dX8_findBest_85 : decode cX8_findBest 85 = .ok (.iload_n 3, 1) := dk_29 (dk_at dksX8_findBest_3 14 rfl rfl)
theorem dX8_findBest_86 : decode cX8_findBest 86 = .ok (.iadd, 1) := dk_96 (dk_at dksX8_findBest_3 15 rfl rfl)
theorem dX8_findBest_87 : decode cX8_findBest 87 = .ok (.istore_n 1, 1) := dk_60 (dk_at dksX8_findBest_3 16 rfl rfl)
theorem dX8_findBest_88 : decode cX8_findBest 88 = .ok (.aload_n 0, 1) := dk_42 (dk_at dksX8_findBest_3 17 rfl rfl)
theorem dX8_findBest_89 : decode cX8_findBest 89 = .ok (.iload 4, 2) := dk_21 4 (dk_at dksX8_findBest_3 18 rfl rfl)
theorem dX8_findBest_91 : decode cX8_findBest 91 = .ok (.putfield 253, 3) := dk_181 0 253 (dk_at dksX8_findBest_3 20 rfl rfl)
theorem dX8_findBest_94 : decode cX8_findBest 94 = .ok (.aload_n 0, 1) := dk_42 (dk_at dksX8_findBest_3 23 rfl rfl)
theorem dX8_findBest_95 : decode cX8_findBest 95 = .ok (.iload 5, 2) := dk_21 5 (dk_at dksX8_findBest_4 0 rfl rfl)
theorem dX8_findBest_97 : decode cX8_findBest 97 = .ok (.putfield 256, 3) := dk_181 1 0 (dk_at dksX8_findBest_4 2 rfl rfl)
theorem dX8_findBest_100 : decode cX8_findBest 100 = .ok (.aload_n 0, 1) := dk_42 (dk_at dksX8_findBest_4 5 rfl rfl)
theorem dX8_findBest_101 : decode cX8_findBest 101 = .ok (.iload_n 2, 1) := dk_28 (dk_at dksX8_findBest_4 6 rfl rfl)
theorem dX8_findBest_102 : decode cX8_findBest 102 = .ok (.iload_n 3, 1) := dk_29 (dk_at dksX8_findBest_4 7 rfl rfl)
theorem dX8_findBest_103 : decode cX8_findBest 103 = .ok (.invokevirtual 241, 3) := dk_182 0 241 (dk_at dksX8_findBest_4 8 rfl rfl)
theorem dX8_findBest_106 : decode cX8_findBest 106 = .ok (.iinc 3 1, 3) := dk_132 3 1 (dk_at dksX8_findBest_4 11 rfl rfl)
theorem dX8_findBest_109 : decode cX8_findBest 109 = .ok (.goto (-93), 3) := dk_167 255 163 (dk_at dksX8_findBest_4 14 rfl rfl)
theorem dX8_findBest_112 : decode cX8_findBest 112 = .ok (.iinc 2 1, 3) := dk_132 2 1 (dk_at dksX8_findBest_4 17 rfl rfl)
theorem dX8_findBest_115 : decode cX8_findBest 115 = .ok (.goto (-111), 3) := dk_167 255 145 (dk_at dksX8_findBest_4 20 rfl rfl)
theorem dX8_findBest_118 : decode cX8_findBest 118 = .ok (.iload_n 1, 1) := dk_27 (dk_at dksX8_findBest_4 23 rfl rfl)
theorem dX8_findBest_119 : decode cX8_findBest 119 = .ok (.ireturn, 1) := dk_172 (dk_at dksX8_findBest_5 0 rfl rfl)
abbrev cX8_isBetter : ByteArray := prog_15_method_52_code
def yX8_isBetter : MethodName := ⟨RX8, "isBetter", "(IIII)Z"⟩
def dkwX8_isBetter_1 : List UInt8 := [167, 0, 4, 3, 172]
abbrev dktX8_isBetter_1 : List UInt8 := dkwX8_isBetter_1 ++ []
def dkwX8_isBetter_0 : List UInt8 := [26, 28, 159, 0, 16, 26, 28, 162, 0, 7, 4, 167, 0, 17, 3, 167, 0, 13, 27, 29, 162, 0, 7, 4]
abbrev dktX8_isBetter_0 : List UInt8 := dkwX8_isBetter_0 ++ dktX8_isBetter_1
theorem dksX8_isBetter_0 : cX8_isBetter.data.toList.drop 0 = dktX8_isBetter_0 := by decide +kernel
theorem dksX8_isBetter_1 : cX8_isBetter.data.toList.drop 24 = dktX8_isBetter_1 := dk_seg dksX8_isBetter_0 24 rfl rfl
theorem dX8_isBetter_0 : decode cX8_isBetter 0 = .ok (.iload_n 0, 1) := dk_26 (dk_at dksX8_isBetter_0 0 rfl rfl)
theorem dX8_isBetter_1 : decode cX8_isBetter 1 = .ok (.iload_n 2, 1) := dk_28 (dk_at dksX8_isBetter_0 1 rfl rfl)
theorem dX8_isBetter_2 : decode cX8_isBetter 2 = .ok (.if_icmp .eq 16, 3) := dk_159 0 16 (dk_at dksX8_isBetter_0 2 rfl rfl)
theorem dX8_isBetter_5 : decode cX8_isBetter 5 = .ok (.iload_n 0, 1) := dk_26 (dk_at dksX8_isBetter_0 5 rfl rfl)
theorem dX8_isBetter_6 : decode cX8_isBetter 6 = .ok (.iload_n 2, 1) := dk_28 (dk_at dksX8_isBetter_0 6 rfl rfl)
theorem dX8_isBetter_7 : decode cX8_isBetter 7 = .ok (.if_icmp .ge 7, 3) := dk_162 0 7 (dk_at dksX8_isBetter_0 7 rfl rfl)
theorem dX8_isBetter_10 : decode cX8_isBetter 10 = .ok (.iconst 1, 1) := dk_4 (dk_at dksX8_isBetter_0 10 rfl rfl)
theorem dX8_isBetter_11 : decode cX8_isBetter 11 = .ok (.goto 17, 3) := dk_167 0 17 (dk_at dksX8_isBetter_0 11 rfl rfl)
theorem dX8_isBetter_14 : decode cX8_isBetter 14 = .ok (.iconst 0, 1) := dk_3 (dk_at dksX8_isBetter_0 14 rfl rfl)
theorem dX8_isBetter_15 : decode cX8_isBetter 15 = .ok (.goto 13, 3) := dk_167 0 13 (dk_at dksX8_isBetter_0 15 rfl rfl)
theorem dX8_isBetter_18 : decode cX8_isBetter 18 = .ok (.iload_n 1, 1) := dk_27 (dk_at dksX8_isBetter_0 18 rfl rfl)
theorem dX8_isBetter_19 : decode cX8_isBetter 19 = .ok (.iload_n 3, 1) := dk_29 (dk_at dksX8_isBetter_0 19 rfl rfl)
theorem dX8_isBetter_20 : decode cX8_isBetter 20 = .ok (.if_icmp .ge 7, 3) := dk_162 0 7 (dk_at dksX8_isBetter_0 20 rfl rfl)
theorem dX8_isBetter_23 : decode cX8_isBetter 23 = .ok (.iconst 1, 1) := dk_4 (dk_at dksX8_isBetter_0 23 rfl rfl)
theorem dX8_isBetter_24 : decode cX8_isBetter 24 = .ok (.goto 4, 3) := dk_167 0 4 (dk_at dksX8_isBetter_1 0 rfl rfl)
theorem dX8_isBetter_27 : decode cX8_isBetter 27 = .ok (.iconst 0, 1) := dk_3 (dk_at dksX8_isBetter_1 3 rfl rfl)
theorem dX8_isBetter_28 : decode cX8_isBetter 28 = .ok (.ireturn, 1) := dk_172 (dk_at dksX8_isBetter_1 4 rfl rfl)
abbrev cX8_swap : ByteArray := prog_15_method_83_code
def yX8_swap : MethodName := ⟨RX8, "swap", "(II)I"⟩
def dkwX8_swap_2 : List UInt8 := [182, 0, 241, 42, 182, 1, 32, 172]
abbrev dktX8_swap_2 : List UInt8 := dkwX8_swap_2 ++ []
def dkwX8_swap_1 : List UInt8 := [160, 0, 7, 4, 167, 0, 4, 3, 5, 182, 0, 174, 153, 0, 5, 3, 172, 42, 182, 0, 183, 42, 27, 28]
abbrev dktX8_swap_1 : List UInt8 := dkwX8_swap_1 ++ dktX8_swap_2
def dkwX8_swap_0 : List UInt8 := [42, 3, 181, 0, 51, 42, 27, 28, 182, 1, 38, 154, 0, 26, 42, 42, 27, 28, 182, 1, 41, 2]
abbrev dktX8_swap_0 : List UInt8 := dkwX8_swap_0 ++ dktX8_swap_1
theorem dksX8_swap_0 : cX8_swap.data.toList.drop 0 = dktX8_swap_0 := by decide +kernel
theorem dksX8_swap_1 : cX8_swap.data.toList.drop 22 = dktX8_swap_1 := dk_seg dksX8_swap_0 22 rfl rfl
theorem dksX8_swap_2 : cX8_swap.data.toList.drop 46 = dktX8_swap_2 := dk_seg dksX8_swap_1 24 rfl rfl
theorem dX8_swap_0 : decode cX8_swap 0 = .ok (.aload_n 0, 1) := dk_42 (dk_at dksX8_swap_0 0 rfl rfl)
theorem dX8_swap_1 : decode cX8_swap 1 = .ok (.iconst 0, 1) := dk_3 (dk_at dksX8_swap_0 1 rfl rfl)
theorem dX8_swap_2 : decode cX8_swap 2 = .ok (.putfield 51, 3) := dk_181 0 51 (dk_at dksX8_swap_0 2 rfl rfl)
theorem dX8_swap_5 : decode cX8_swap 5 = .ok (.aload_n 0, 1) := dk_42 (dk_at dksX8_swap_0 5 rfl rfl)
theorem dX8_swap_6 : decode cX8_swap 6 = .ok (.iload_n 1, 1) := dk_27 (dk_at dksX8_swap_0 6 rfl rfl)
theorem dX8_swap_7 : decode cX8_swap 7 = .ok (.iload_n 2, 1) := dk_28 (dk_at dksX8_swap_0 7 rfl rfl)
theorem dX8_swap_8 : decode cX8_swap 8 = .ok (.invokevirtual 294, 3) := dk_182 1 38 (dk_at dksX8_swap_0 8 rfl rfl)
theorem dX8_swap_11 : decode cX8_swap 11 = .ok (.ifCond .ne 26, 3) := dk_154 0 26 (dk_at dksX8_swap_0 11 rfl rfl)
theorem dX8_swap_14 : decode cX8_swap 14 = .ok (.aload_n 0, 1) := dk_42 (dk_at dksX8_swap_0 14 rfl rfl)
theorem dX8_swap_15 : decode cX8_swap 15 = .ok (.aload_n 0, 1) := dk_42 (dk_at dksX8_swap_0 15 rfl rfl)
theorem dX8_swap_16 : decode cX8_swap 16 = .ok (.iload_n 1, 1) := dk_27 (dk_at dksX8_swap_0 16 rfl rfl)
theorem dX8_swap_17 : decode cX8_swap 17 = .ok (.iload_n 2, 1) := dk_28 (dk_at dksX8_swap_0 17 rfl rfl)
theorem dX8_swap_18 : decode cX8_swap 18 = .ok (.invokevirtual 297, 3) := dk_182 1 41 (dk_at dksX8_swap_0 18 rfl rfl)
theorem dX8_swap_21 : decode cX8_swap 21 = .ok (.iconst (-1), 1) := dk_2 (dk_at dksX8_swap_0 21 rfl rfl)
theorem dX8_swap_22 : decode cX8_swap 22 = .ok (.if_icmp .ne 7, 3) := dk_160 0 7 (dk_at dksX8_swap_1 0 rfl rfl)
theorem dX8_swap_25 : decode cX8_swap 25 = .ok (.iconst 1, 1) := dk_4 (dk_at dksX8_swap_1 3 rfl rfl)
theorem dX8_swap_26 : decode cX8_swap 26 = .ok (.goto 4, 3) := dk_167 0 4 (dk_at dksX8_swap_1 4 rfl rfl)
theorem dX8_swap_29 : decode cX8_swap 29 = .ok (.iconst 0, 1) := dk_3 (dk_at dksX8_swap_1 7 rfl rfl)
theorem dX8_swap_30 : decode cX8_swap 30 = .ok (.iconst 2, 1) := dk_5 (dk_at dksX8_swap_1 8 rfl rfl)
theorem dX8_swap_31 : decode cX8_swap 31 = .ok (.invokevirtual 174, 3) := dk_182 0 174 (dk_at dksX8_swap_1 9 rfl rfl)
theorem dX8_swap_34 : decode cX8_swap 34 = .ok (.ifCond .eq 5, 3) := dk_153 0 5 (dk_at dksX8_swap_1 12 rfl rfl)
theorem dX8_swap_37 : decode cX8_swap 37 = .ok (.iconst 0, 1) := dk_3 (dk_at dksX8_swap_1 15 rfl rfl)
theorem dX8_swap_38 : decode cX8_swap 38 = .ok (.ireturn, 1) := dk_172 (dk_at dksX8_swap_1 16 rfl rfl)
theorem dX8_swap_39 : decode cX8_swap 39 = .ok (.aload_n 0, 1) := dk_42 (dk_at dksX8_swap_1 17 rfl rfl)
theorem dX8_swap_40 : decode cX8_swap 40 = .ok (.invokevirtual 183, 3) := dk_182 0 183 (dk_at dksX8_swap_1 18 rfl rfl)
theorem dX8_swap_43 : decode cX8_swap 43 = .ok (.aload_n 0, 1) := dk_42 (dk_at dksX8_swap_1 21 rfl rfl)
theorem dX8_swap_44 : decode cX8_swap 44 = .ok (.iload_n 1, 1) := dk_27 (dk_at dksX8_swap_1 22 rfl rfl)
theorem dX8_swap_45 : decode cX8_swap 45 = .ok (.iload_n 2, 1) := dk_28 (dk_at dksX8_swap_1 23 rfl rfl)
theorem dX8_swap_46 : decode cX8_swap 46 = .ok (.invokevirtual 241, 3) := dk_182 0 241 (dk_at dksX8_swap_2 0 rfl rfl)
theorem dX8_swap_49 : decode cX8_swap 49 = .ok (.aload_n 0, 1) := dk_42 (dk_at dksX8_swap_2 3 rfl rfl)
theorem dX8_swap_50 : decode cX8_swap 50 = .ok (.invokevirtual 288, 3) := dk_182 1 32 (dk_at dksX8_swap_2 4 rfl rfl)
theorem dX8_swap_53 : decode cX8_swap 53 = .ok (.ireturn, 1) := dk_172 (dk_at dksX8_swap_2 7 rfl rfl)
abbrev cX8_improve : ByteArray := prog_15_method_84_code
def yX8_improve : MethodName := ⟨RX8, "improve", "(I)I"⟩
def dkwX8_improve_4 : List UInt8 := [112, 182, 0, 241, 132, 2, 1, 167, 255, 192, 27, 172]
abbrev dktX8_improve_4 : List UInt8 := dkwX8_improve_4 ++ []
def dkwX8_improve_3 : List UInt8 := [180, 1, 0, 29, 21, 4, 184, 1, 3, 154, 0, 5, 28, 172, 42, 21, 5, 16, 100, 108, 21, 5, 16, 100]
abbrev dktX8_improve_3 : List UInt8 := dkwX8_improve_3 ++ dktX8_improve_4
def dkwX8_improve_2 : List UInt8 := [42, 182, 0, 250, 54, 4, 42, 182, 1, 44, 54, 5, 21, 5, 2, 159, 0, 20, 42, 180, 0, 253, 42]
abbrev dktX8_improve_2 : List UInt8 := dkwX8_improve_2 ++ dktX8_improve_3
def dkwX8_improve_1 : List UInt8 := [182, 0, 174, 153, 0, 5, 3, 172, 42, 182, 0, 183, 3, 61, 28, 27, 162, 0, 65, 42, 182, 1, 32, 62]
abbrev dktX8_improve_1 : List UInt8 := dkwX8_improve_1 ++ dktX8_improve_2
def dkwX8_improve_0 : List UInt8 := [42, 3, 181, 0, 51, 42, 27, 4, 16, 20, 184, 0, 73, 154, 0, 7, 4, 167, 0, 4, 3, 4]
abbrev dktX8_improve_0 : List UInt8 := dkwX8_improve_0 ++ dktX8_improve_1
theorem dksX8_improve_0 : cX8_improve.data.toList.drop 0 = dktX8_improve_0 := by decide +kernel
theorem dksX8_improve_1 : cX8_improve.data.toList.drop 22 = dktX8_improve_1 := dk_seg dksX8_improve_0 22 rfl rfl
theorem dksX8_improve_2 : cX8_improve.data.toList.drop 46 = dktX8_improve_2 := dk_seg dksX8_improve_1 24 rfl rfl
theorem dksX8_improve_3 : cX8_improve.data.toList.drop 69 = dktX8_improve_3 := dk_seg dksX8_improve_2 23 rfl rfl
theorem dksX8_improve_4 : cX8_improve.data.toList.drop 93 = dktX8_improve_4 := dk_seg dksX8_improve_3 24 rfl rfl
theorem dX8_improve_0 : decode cX8_improve 0 = .ok (.aload_n 0, 1) := dk_42 (dk_at dksX8_improve_0 0 rfl rfl)
theorem dX8_improve_1 : decode cX8_improve 1 = .ok (.iconst 0, 1) := dk_3 (dk_at dksX8_improve_0 1 rfl rfl)
theorem dX8_improve_2 : decode cX8_improve 2 = .ok (.putfield 51, 3) := dk_181 0 51 (dk_at dksX8_improve_0 2 rfl rfl)
theorem dX8_improve_5 : decode cX8_improve 5 = .ok (.aload_n 0, 1) := dk_42 (dk_at dksX8_improve_0 5 rfl rfl)
theorem dX8_improve_6 : decode cX8_improve 6 = .ok (.iload_n 1, 1) := dk_27 (dk_at dksX8_improve_0 6 rfl rfl)
theorem dX8_improve_7 : decode cX8_improve 7 = .ok (.iconst 1, 1) := dk_4 (dk_at dksX8_improve_0 7 rfl rfl)
theorem dX8_improve_8 : decode cX8_improve 8 = .ok (.bipush 20, 2) := dk_16 20 (dk_at dksX8_improve_0 8 rfl rfl)
theorem dX8_improve_10 : decode cX8_improve 10 = .ok (.invokestatic 73, 3) := dk_184 0 73 (dk_at dksX8_improve_0 10 rfl rfl)
theorem dX8_improve_13 : decode cX8_improve 13 = .ok (.ifCond .ne 7, 3) := dk_154 0 7 (dk_at dksX8_improve_0 13 rfl rfl)
theorem dX8_improve_16 : decode cX8_improve 16 = .ok (.iconst 1, 1) := dk_4 (dk_at dksX8_improve_0 16 rfl rfl)
theorem dX8_improve_17 : decode cX8_improve 17 = .ok (.goto 4, 3) := dk_167 0 4 (dk_at dksX8_improve_0 17 rfl rfl)
theorem dX8_improve_20 : decode cX8_improve 20 = .ok (.iconst 0, 1) := dk_3 (dk_at dksX8_improve_0 20 rfl rfl)
theorem dX8_improve_21 : decode cX8_improve 21 = .ok (.iconst 1, 1) := dk_4 (dk_at dksX8_improve_0 21 rfl rfl)
theorem dX8_improve_22 : decode cX8_improve 22 = .ok (.invokevirtual 174, 3) := dk_182 0 174 (dk_at dksX8_improve_1 0 rfl rfl)
theorem dX8_improve_25 : decode cX8_improve 25 = .ok (.ifCond .eq 5, 3) := dk_153 0 5 (dk_at dksX8_improve_1 3 rfl rfl)
theorem dX8_improve_28 : decode cX8_improve 28 = .ok (.iconst 0, 1) := dk_3 (dk_at dksX8_improve_1 6 rfl rfl)
theorem dX8_improve_29 : decode cX8_improve 29 = .ok (.ireturn, 1) := dk_172 (dk_at dksX8_improve_1 7 rfl rfl)
theorem dX8_improve_30 : decode cX8_improve 30 = .ok (.aload_n 0, 1) := dk_42 (dk_at dksX8_improve_1 8 rfl rfl)
theorem dX8_improve_31 : decode cX8_improve 31 = .ok (.invokevirtual 183, 3) := dk_182 0 183 (dk_at dksX8_improve_1 9 rfl rfl)
theorem dX8_improve_34 : decode cX8_improve 34 = .ok (.iconst 0, 1) := dk_3 (dk_at dksX8_improve_1 12 rfl rfl)
theorem dX8_improve_35 : decode cX8_improve 35 = .ok (.istore_n 2, 1) := dk_61 (dk_at dksX8_improve_1 13 rfl rfl)
theorem dX8_improve_36 : decode cX8_improve 36 = .ok (.iload_n 2, 1) := dk_28 (dk_at dksX8_improve_1 14 rfl rfl)
theorem dX8_improve_37 : decode cX8_improve 37 = .ok (.iload_n 1, 1) := dk_27 (dk_at dksX8_improve_1 15 rfl rfl)
theorem dX8_improve_38 : decode cX8_improve 38 = .ok (.if_icmp .ge 65, 3) := dk_162 0 65 (dk_at dksX8_improve_1 16 rfl rfl)
theorem dX8_improve_41 : decode cX8_improve 41 = .ok (.aload_n 0, 1) := dk_42 (dk_at dksX8_improve_1 19 rfl rfl)
theorem dX8_improve_42 : decode cX8_improve 42 = .ok (.invokevirtual 288, 3) := dk_182 1 32 (dk_at dksX8_improve_1 20 rfl rfl)
theorem dX8_improve_45 : decode cX8_improve 45 = .ok (.istore_n 3, 1) := dk_62 (dk_at dksX8_improve_1 23 rfl rfl)
theorem dX8_improve_46 : decode cX8_improve 46 = .ok (.aload_n 0, 1) := dk_42 (dk_at dksX8_improve_2 0 rfl rfl)
theorem dX8_improve_47 : decode cX8_improve 47 = .ok (.invokevirtual 250, 3) := dk_182 0 250 (dk_at dksX8_improve_2 1 rfl rfl)
theorem dX8_improve_50 : decode cX8_improve 50 = .ok (.istore 4, 2) := dk_54 4 (dk_at dksX8_improve_2 4 rfl rfl)
theorem dX8_improve_52 : decode cX8_improve 52 = .ok (.aload_n 0, 1) := dk_42 (dk_at dksX8_improve_2 6 rfl rfl)
theorem dX8_improve_53 : decode cX8_improve 53 = .ok (.invokevirtual 300, 3) := dk_182 1 44 (dk_at dksX8_improve_2 7 rfl rfl)
theorem dX8_improve_56 : decode cX8_improve 56 = .ok (.istore 5, 2) := dk_54 5 (dk_at dksX8_improve_2 10 rfl rfl)
theorem dX8_improve_58 : decode cX8_improve 58 = .ok (.iload 5, 2) := dk_21 5 (dk_at dksX8_improve_2 12 rfl rfl)
theorem dX8_improve_60 : decode cX8_improve 60 = .ok (.iconst (-1), 1) := dk_2 (dk_at dksX8_improve_2 14 rfl rfl)
theorem dX8_improve_61 : decode cX8_improve 61 = .ok (.if_icmp .eq 20, 3) := dk_159 0 20 (dk_at dksX8_improve_2 15 rfl rfl)
theorem dX8_improve_64 : decode cX8_improve 64 = .ok (.aload_n 0, 1) := dk_42 (dk_at dksX8_improve_2 18 rfl rfl)
theorem dX8_improve_65 : decode cX8_improve 65 = .ok (.getfield 253, 3) := dk_180 0 253 (dk_at dksX8_improve_2 19 rfl rfl)
theorem dX8_improve_68 : decode cX8_improve 68 = .ok (.aload_n 0, 1) := dk_42 (dk_at dksX8_improve_2 22 rfl rfl)
theorem dX8_improve_69 : decode cX8_improve 69 = .ok (.getfield 256, 3) := dk_180 1 0 (dk_at dksX8_improve_3 0 rfl rfl)
theorem dX8_improve_72 : decode cX8_improve 72 = .ok (.iload_n 3, 1) := dk_29 (dk_at dksX8_improve_3 3 rfl rfl)
theorem dX8_improve_73 : decode cX8_improve 73 = .ok (.iload 4, 2) := dk_21 4 (dk_at dksX8_improve_3 4 rfl rfl)
theorem dX8_improve_75 : decode cX8_improve 75 = .ok (.invokestatic 259, 3) := dk_184 1 3 (dk_at dksX8_improve_3 6 rfl rfl)
theorem dX8_improve_78 : decode cX8_improve 78 = .ok (.ifCond .ne 5, 3) := dk_154 0 5 (dk_at dksX8_improve_3 9 rfl rfl)
theorem dX8_improve_81 : decode cX8_improve 81 = .ok (.iload_n 2, 1) := dk_28 (dk_at dksX8_improve_3 12 rfl rfl)
theorem dX8_improve_82 : decode cX8_improve 82 = .ok (.ireturn, 1) := dk_172 (dk_at dksX8_improve_3 13 rfl rfl)
theorem dX8_improve_83 : decode cX8_improve 83 = .ok (.aload_n 0, 1) := dk_42 (dk_at dksX8_improve_3 14 rfl rfl)
theorem dX8_improve_84 : decode cX8_improve 84 = .ok (.iload 5, 2) := dk_21 5 (dk_at dksX8_improve_3 15 rfl rfl)
theorem dX8_improve_86 : decode cX8_improve 86 = .ok (.bipush 100, 2) := dk_16 100 (dk_at dksX8_improve_3 17 rfl rfl)
theorem dX8_improve_88 : decode cX8_improve 88 = .ok (.idiv, 1) := dk_108 (dk_at dksX8_improve_3 19 rfl rfl)
theorem dX8_improve_89 : decode cX8_improve 89 = .ok (.iload 5, 2) := dk_21 5 (dk_at dksX8_improve_3 20 rfl rfl)
theorem dX8_improve_91 : decode cX8_improve 91 = .ok (.bipush 100, 2) := dk_16 100 (dk_at dksX8_improve_3 22 rfl rfl)
theorem dX8_improve_93 : decode cX8_improve 93 = .ok (.irem, 1) := dk_112 (dk_at dksX8_improve_4 0 rfl rfl)
theorem dX8_improve_94 : decode cX8_improve 94 = .ok (.invokevirtual 241, 3) := dk_182 0 241 (dk_at dksX8_improve_4 1 rfl rfl)
theorem dX8_improve_97 : decode cX8_improve 97 = .ok (.iinc 2 1, 3) := dk_132 2 1 (dk_at dksX8_improve_4 4 rfl rfl)
theorem dX8_improve_100 : decode cX8_improve 100 = .ok (.goto (-64), 3) := dk_167 255 192 (dk_at dksX8_improve_4 7 rfl rfl)
theorem dX8_improve_103 : decode cX8_improve 103 = .ok (.iload_n 1, 1) := dk_27 (dk_at dksX8_improve_4 10 rfl rfl)
theorem dX8_improve_104 : decode cX8_improve 104 = .ok (.ireturn, 1) := dk_172 (dk_at dksX8_improve_4 11 rfl rfl)
abbrev cX8_place : ByteArray := prog_15_method_86_code
def yX8_place : MethodName := ⟨RX8, "place", "(III)I"⟩
def dkwX8_place_5 : List UInt8 := [21, 4, 29, 182, 1, 50, 42, 182, 1, 32, 172]
abbrev dktX8_place_5 : List UInt8 := dkwX8_place_5 ++ []
def dkwX8_place_4 : List UInt8 := [180, 0, 17, 184, 0, 186, 42, 21, 5, 5, 182, 0, 174, 153, 0, 5, 3, 172, 42, 182, 0, 183, 42]
abbrev dktX8_place_4 : List UInt8 := dkwX8_place_4 ++ dktX8_place_5
def dkwX8_place_3 : List UInt8 := [180, 0, 23, 184, 0, 186, 42, 21, 4, 29, 182, 1, 50, 42, 182, 0, 244, 54, 5, 42, 180, 0, 23, 42]
abbrev dktX8_place_3 : List UInt8 := dkwX8_place_3 ++ dktX8_place_4
def dkwX8_place_2 : List UInt8 := [154, 0, 7, 4, 167, 0, 4, 3, 4, 182, 0, 174, 153, 0, 5, 3, 172, 42, 180, 0, 17, 42]
abbrev dktX8_place_2 : List UInt8 := dkwX8_place_2 ++ dktX8_place_3
def dkwX8_place_1 : List UInt8 := [42, 29, 3, 42, 180, 0, 17, 42, 21, 4, 182, 0, 193, 184, 0, 158, 5, 96, 46, 4, 100, 184, 0, 73]
abbrev dktX8_place_1 : List UInt8 := dkwX8_place_1 ++ dktX8_place_2
def dkwX8_place_0 : List UInt8 := [42, 3, 181, 0, 51, 42, 27, 28, 182, 1, 19, 153, 0, 5, 3, 172, 16, 6, 27, 104, 28, 96, 54, 4]
abbrev dktX8_place_0 : List UInt8 := dkwX8_place_0 ++ dktX8_place_1
theorem dksX8_place_0 : cX8_place.data.toList.drop 0 = dktX8_place_0 := by decide +kernel
theorem dksX8_place_1 : cX8_place.data.toList.drop 24 = dktX8_place_1 := dk_seg dksX8_place_0 24 rfl rfl
theorem dksX8_place_2 : cX8_place.data.toList.drop 48 = dktX8_place_2 := dk_seg dksX8_place_1 24 rfl rfl
theorem dksX8_place_3 : cX8_place.data.toList.drop 70 = dktX8_place_3 := dk_seg dksX8_place_2 22 rfl rfl
theorem dksX8_place_4 : cX8_place.data.toList.drop 94 = dktX8_place_4 := dk_seg dksX8_place_3 24 rfl rfl
theorem dksX8_place_5 : cX8_place.data.toList.drop 117 = dktX8_place_5 := dk_seg dksX8_place_4 23 rfl rfl
theorem dX8_place_0 : decode cX8_place 0 = .ok (.aload_n 0, 1) := dk_42 (dk_at dksX8_place_0 0 rfl rfl)
theorem dX8_place_1 : decode cX8_place 1 = .ok (.iconst 0, 1) := dk_3 (dk_at dksX8_place_0 1 rfl rfl)
theorem dX8_place_2 : decode cX8_place 2 = .ok (.putfield 51, 3) := dk_181 0 51 (dk_at dksX8_place_0 2 rfl rfl)
theorem dX8_place_5 : decode cX8_place 5 = .ok (.aload_n 0, 1) := dk_42 (dk_at dksX8_place_0 5 rfl rfl)
theorem dX8_place_6 : decode cX8_place 6 = .ok (.iload_n 1, 1) := dk_27 (dk_at dksX8_place_0 6 rfl rfl)
theorem dX8_place_7 : decode cX8_place 7 = .ok (.iload_n 2, 1) := dk_28 (dk_at dksX8_place_0 7 rfl rfl)
theorem dX8_place_8 : decode cX8_place 8 = .ok (.invokevirtual 275, 3) := dk_182 1 19 (dk_at dksX8_place_0 8 rfl rfl)
theorem dX8_place_11 : decode cX8_place 11 = .ok (.ifCond .eq 5, 3) := dk_153 0 5 (dk_at dksX8_place_0 11 rfl rfl)
theorem dX8_place_14 : decode cX8_place 14 = .ok (.iconst 0, 1) := dk_3 (dk_at dksX8_place_0 14 rfl rfl)
theorem dX8_place_15 : decode cX8_place 15 = .ok (.ireturn, 1) := dk_172 (dk_at dksX8_place_0 15 rfl rfl)
theorem dX8_place_16 : decode cX8_place 16 = .ok (.bipush 6, 2) := dk_16 6 (dk_at dksX8_place_0 16 rfl rfl)
theorem dX8_place_18 : decode cX8_place 18 = .ok (.iload_n 1, 1) := dk_27 (dk_at dksX8_place_0 18 rfl rfl)
theorem dX8_place_19 : decode cX8_place 19 = .ok (.imul, 1) := dk_104 (dk_at dksX8_place_0 19 rfl rfl)
theorem dX8_place_20 : decode cX8_place 20 = .ok (.iload_n 2, 1) := dk_28 (dk_at dksX8_place_0 20 rfl rfl)
theorem dX8_place_21 : decode cX8_place 21 = .ok (.iadd, 1) := dk_96 (dk_at dksX8_place_0 21 rfl rfl)
theorem dX8_place_22 : decode cX8_place 22 = .ok (.istore 4, 2) := dk_54 4 (dk_at dksX8_place_0 22 rfl rfl)
theorem dX8_place_24 : decode cX8_place 24 = .ok (.aload_n 0, 1) := dk_42 (dk_at dksX8_place_1 0 rfl rfl)
theorem dX8_place_25 : decode cX8_place 25 = .ok (.iload_n 3, 1) := dk_29 (dk_at dksX8_place_1 1 rfl rfl)
theorem dX8_place_26 : decode cX8_place 26 = .ok (.iconst 0, 1) := dk_3 (dk_at dksX8_place_1 2 rfl rfl)
theorem dX8_place_27 : decode cX8_place 27 = .ok (.aload_n 0, 1) := dk_42 (dk_at dksX8_place_1 3 rfl rfl)
theorem dX8_place_28 : decode cX8_place 28 = .ok (.getfield 17, 3) := dk_180 0 17 (dk_at dksX8_place_1 4 rfl rfl)
theorem dX8_place_31 : decode cX8_place 31 = .ok (.aload_n 0, 1) := dk_42 (dk_at dksX8_place_1 7 rfl rfl)
theorem dX8_place_32 : decode cX8_place 32 = .ok (.iload 4, 2) := dk_21 4 (dk_at dksX8_place_1 8 rfl rfl)
theorem dX8_place_34 : decode cX8_place 34 = .ok (.invokevirtual 193, 3) := dk_182 0 193 (dk_at dksX8_place_1 10 rfl rfl)
theorem dX8_place_37 : decode cX8_place 37 = .ok (.invokestatic 158, 3) := dk_184 0 158 (dk_at dksX8_place_1 13 rfl rfl)
theorem dX8_place_40 : decode cX8_place 40 = .ok (.iconst 2, 1) := dk_5 (dk_at dksX8_place_1 16 rfl rfl)
theorem dX8_place_41 : decode cX8_place 41 = .ok (.iadd, 1) := dk_96 (dk_at dksX8_place_1 17 rfl rfl)
theorem dX8_place_42 : decode cX8_place 42 = .ok (.iaload, 1) := dk_46 (dk_at dksX8_place_1 18 rfl rfl)
theorem dX8_place_43 : decode cX8_place 43 = .ok (.iconst 1, 1) := dk_4 (dk_at dksX8_place_1 19 rfl rfl)
theorem dX8_place_44 : decode cX8_place 44 = .ok (.isub, 1) := dk_100 (dk_at dksX8_place_1 20 rfl rfl)
theorem dX8_place_45 : decode cX8_place 45 = .ok (.invokestatic 73, 3) := dk_184 0 73 (dk_at dksX8_place_1 21 rfl rfl)
theorem dX8_place_48 : decode cX8_place 48 = .ok (.ifCond .ne 7, 3) := dk_154 0 7 (dk_at dksX8_place_2 0 rfl rfl)
theorem dX8_place_51 : decode cX8_place 51 = .ok (.iconst 1, 1) := dk_4 (dk_at dksX8_place_2 3 rfl rfl)
theorem dX8_place_52 : decode cX8_place 52 = .ok (.goto 4, 3) := dk_167 0 4 (dk_at dksX8_place_2 4 rfl rfl)
theorem dX8_place_55 : decode cX8_place 55 = .ok (.iconst 0, 1) := dk_3 (dk_at dksX8_place_2 7 rfl rfl)
theorem dX8_place_56 : decode cX8_place 56 = .ok (.iconst 1, 1) := dk_4 (dk_at dksX8_place_2 8 rfl rfl)
theorem dX8_place_57 : decode cX8_place 57 = .ok (.invokevirtual 174, 3) := dk_182 0 174 (dk_at dksX8_place_2 9 rfl rfl)
theorem dX8_place_60 : decode cX8_place 60 = .ok (.ifCond .eq 5, 3) := dk_153 0 5 (dk_at dksX8_place_2 12 rfl rfl)
theorem dX8_place_63 : decode cX8_place 63 = .ok (.iconst 0, 1) := dk_3 (dk_at dksX8_place_2 15 rfl rfl)
theorem dX8_place_64 : decode cX8_place 64 = .ok (.ireturn, 1) := dk_172 (dk_at dksX8_place_2 16 rfl rfl)
theorem dX8_place_65 : decode cX8_place 65 = .ok (.aload_n 0, 1) := dk_42 (dk_at dksX8_place_2 17 rfl rfl)
theorem dX8_place_66 : decode cX8_place 66 = .ok (.getfield 17, 3) := dk_180 0 17 (dk_at dksX8_place_2 18 rfl rfl)
theorem dX8_place_69 : decode cX8_place 69 = .ok (.aload_n 0, 1) := dk_42 (dk_at dksX8_place_2 21 rfl rfl)
theorem dX8_place_70 : decode cX8_place 70 = .ok (.getfield 23, 3) := dk_180 0 23 (dk_at dksX8_place_3 0 rfl rfl)
theorem dX8_place_73 : decode cX8_place 73 = .ok (.invokestatic 186, 3) := dk_184 0 186 (dk_at dksX8_place_3 3 rfl rfl)
theorem dX8_place_76 : decode cX8_place 76 = .ok (.aload_n 0, 1) := dk_42 (dk_at dksX8_place_3 6 rfl rfl)
theorem dX8_place_77 : decode cX8_place 77 = .ok (.iload 4, 2) := dk_21 4 (dk_at dksX8_place_3 7 rfl rfl)
theorem dX8_place_79 : decode cX8_place 79 = .ok (.iload_n 3, 1) := dk_29 (dk_at dksX8_place_3 9 rfl rfl)
theorem dX8_place_80 : decode cX8_place 80 = .ok (.invokevirtual 306, 3) := dk_182 1 50 (dk_at dksX8_place_3 10 rfl rfl)
theorem dX8_place_83 : decode cX8_place 83 = .ok (.aload_n 0, 1) := dk_42 (dk_at dksX8_place_3 13 rfl rfl)
theorem dX8_place_84 : decode cX8_place 84 = .ok (.invokevirtual 244, 3) := dk_182 0 244 (dk_at dksX8_place_3 14 rfl rfl)
theorem dX8_place_87 : decode cX8_place 87 = .ok (.istore 5, 2) := dk_54 5 (dk_at dksX8_place_3 17 rfl rfl)
theorem dX8_place_89 : decode cX8_place 89 = .ok (.aload_n 0, 1) := dk_42 (dk_at dksX8_place_3 19 rfl rfl)
theorem dX8_place_90 : decode cX8_place 90 = .ok (.getfield 23, 3) := dk_180 0 23 (dk_at dksX8_place_3 20 rfl rfl)
theorem dX8_place_93 : decode cX8_place 93 = .ok (.aload_n 0, 1) := dk_42 (dk_at dksX8_place_3 23 rfl rfl)
theorem dX8_place_94 : decode cX8_place 94 = .ok (.getfield 17, 3) := dk_180 0 17 (dk_at dksX8_place_4 0 rfl rfl)
theorem dX8_place_97 : decode cX8_place 97 = .ok (.invokestatic 186, 3) := dk_184 0 186 (dk_at dksX8_place_4 3 rfl rfl)
theorem dX8_place_100 : decode cX8_place 100 = .ok (.aload_n 0, 1) := dk_42 (dk_at dksX8_place_4 6 rfl rfl)
theorem dX8_place_101 : decode cX8_place 101 = .ok (.iload 5, 2) := dk_21 5 (dk_at dksX8_place_4 7 rfl rfl)
theorem dX8_place_103 : decode cX8_place 103 = .ok (.iconst 2, 1) := dk_5 (dk_at dksX8_place_4 9 rfl rfl)
theorem dX8_place_104 : decode cX8_place 104 = .ok (.invokevirtual 174, 3) := dk_182 0 174 (dk_at dksX8_place_4 10 rfl rfl)
theorem dX8_place_107 : decode cX8_place 107 = .ok (.ifCond .eq 5, 3) := dk_153 0 5 (dk_at dksX8_place_4 13 rfl rfl)
theorem dX8_place_110 : decode cX8_place 110 = .ok (.iconst 0, 1) := dk_3 (dk_at dksX8_place_4 16 rfl rfl)
theorem dX8_place_111 : decode cX8_place 111 = .ok (.ireturn, 1) := dk_172 (dk_at dksX8_place_4 17 rfl rfl)
theorem dX8_place_112 : decode cX8_place 112 = .ok (.aload_n 0, 1) := dk_42 (dk_at dksX8_place_4 18 rfl rfl)
theorem dX8_place_113 : decode cX8_place 113 = .ok (.invokevirtual 183, 3) := dk_182 0 183 (dk_at dksX8_place_4 19 rfl rfl)
theorem dX8_place_116 : decode cX8_place 116 = .ok (.aload_n 0, 1) := dk_42 (dk_at dksX8_place_4 22 rfl rfl)
theorem dX8_place_117 : decode cX8_place 117 = .ok (.iload 4, 2) := dk_21 4 (dk_at dksX8_place_5 0 rfl rfl)
theorem dX8_place_119 : decode cX8_place 119 = .ok (.iload_n 3, 1) := dk_29 (dk_at dksX8_place_5 2 rfl rfl)
theorem dX8_place_120 : decode cX8_place 120 = .ok (.invokevirtual 306, 3) := dk_182 1 50 (dk_at dksX8_place_5 3 rfl rfl)
theorem dX8_place_123 : decode cX8_place 123 = .ok (.aload_n 0, 1) := dk_42 (dk_at dksX8_place_5 6 rfl rfl)
theorem dX8_place_124 : decode cX8_place 124 = .ok (.invokevirtual 288, 3) := dk_182 1 32 (dk_at dksX8_place_5 7 rfl rfl)
theorem dX8_place_127 : decode cX8_place 127 = .ok (.ireturn, 1) := dk_172 (dk_at dksX8_place_5 10 rfl rfl)
abbrev cX8_bring : ByteArray := prog_15_method_85_code
def yX8_bring : MethodName := ⟨RX8, "bring", "(II)V"⟩
def dkwX8_bring_2 : List UInt8 := [132, 4, 255, 167, 255, 238, 177]
abbrev dktX8_bring_2 : List UInt8 := dkwX8_bring_2 ++ []
def dkwX8_bring_1 : List UInt8 := [182, 0, 241, 132, 4, 1, 167, 255, 240, 21, 4, 28, 164, 0, 18, 42, 29, 21, 4, 4, 100, 182, 0, 241]
abbrev dktX8_bring_1 : List UInt8 := dkwX8_bring_1 ++ dktX8_bring_2
def dkwX8_bring_0 : List UInt8 := [42, 27, 182, 0, 193, 62, 42, 27, 182, 1, 23, 54, 4, 21, 4, 28, 162, 0, 16, 42, 29, 21, 4]
abbrev dktX8_bring_0 : List UInt8 := dkwX8_bring_0 ++ dktX8_bring_1
theorem dksX8_bring_0 : cX8_bring.data.toList.drop 0 = dktX8_bring_0 := by decide +kernel
theorem dksX8_bring_1 : cX8_bring.data.toList.drop 23 = dktX8_bring_1 := dk_seg dksX8_bring_0 23 rfl rfl
theorem dksX8_bring_2 : cX8_bring.data.toList.drop 47 = dktX8_bring_2 := dk_seg dksX8_bring_1 24 rfl rfl
theorem dX8_bring_0 : decode cX8_bring 0 = .ok (.aload_n 0, 1) := dk_42 (dk_at dksX8_bring_0 0 rfl rfl)
theorem dX8_bring_1 : decode cX8_bring 1 = .ok (.iload_n 1, 1) := dk_27 (dk_at dksX8_bring_0 1 rfl rfl)
theorem dX8_bring_2 : decode cX8_bring 2 = .ok (.invokevirtual 193, 3) := dk_182 0 193 (dk_at dksX8_bring_0 2 rfl rfl)
theorem dX8_bring_5 : decode cX8_bring 5 = .ok (.istore_n 3, 1) := dk_62 (dk_at dksX8_bring_0 5 rfl rfl)
theorem dX8_bring_6 : decode cX8_bring 6 = .ok (.aload_n 0, 1) := dk_42 (dk_at dksX8_bring_0 6 rfl rfl)
theorem dX8_bring_7 : decode cX8_bring 7 = .ok (.iload_n 1, 1) := dk_27 (dk_at dksX8_bring_0 7 rfl rfl)
theorem dX8_bring_8 : decode cX8_bring 8 = .ok (.invokevirtual 279, 3) := dk_182 1 23 (dk_at dksX8_bring_0 8 rfl rfl)
theorem dX8_bring_11 : decode cX8_bring 11 = .ok (.istore 4, 2) := dk_54 4 (dk_at dksX8_bring_0 11 rfl rfl)
theorem dX8_bring_13 : decode cX8_bring 13 = .ok (.iload 4, 2) := dk_21 4 (dk_at dksX8_bring_0 13 rfl rfl)
theorem dX8_bring_15 : decode cX8_bring 15 = .ok (.iload_n 2, 1) := dk_28 (dk_at dksX8_bring_0 15 rfl rfl)
theorem dX8_bring_16 : decode cX8_bring 16 = .ok (.if_icmp .ge 16, 3) := dk_162 0 16 (dk_at dksX8_bring_0 16 rfl rfl)
theorem dX8_bring_19 : decode cX8_bring 19 = .ok (.aload_n 0, 1) := dk_42 (dk_at dksX8_bring_0 19 rfl rfl)
theorem dX8_bring_20 : decode cX8_bring 20 = .ok (.iload_n 3, 1) := dk_29 (dk_at dksX8_bring_0 20 rfl rfl)
theorem dX8_bring_21 : decode cX8_bring 21 = .ok (.iload 4, 2) := dk_21 4 (dk_at dksX8_bring_0 21 rfl rfl)
theorem dX8_bring_23 : decode cX8_bring 23 = .ok (.invokevirtual 241, 3) := dk_182 0 241 (dk_at dksX8_bring_1 0 rfl rfl)
theorem dX8_bring_26 : decode cX8_bring 26 = .ok (.iinc 4 1, 3) := dk_132 4 1 (dk_at dksX8_bring_1 3 rfl rfl)
theorem dX8_bring_29 : decode cX8_bring 29 = .ok (.goto (-16), 3) := dk_167 255 240 (dk_at dksX8_bring_1 6 rfl rfl)
theorem dX8_bring_32 : decode cX8_bring 32 = .ok (.iload 4, 2) := dk_21 4 (dk_at dksX8_bring_1 9 rfl rfl)
theorem dX8_bring_34 : decode cX8_bring 34 = .ok (.iload_n 2, 1) := dk_28 (dk_at dksX8_bring_1 11 rfl rfl)
theorem dX8_bring_35 : decode cX8_bring 35 = .ok (.if_icmp .le 18, 3) := dk_164 0 18 (dk_at dksX8_bring_1 12 rfl rfl)
theorem dX8_bring_38 : decode cX8_bring 38 = .ok (.aload_n 0, 1) := dk_42 (dk_at dksX8_bring_1 15 rfl rfl)
theorem dX8_bring_39 : decode cX8_bring 39 = .ok (.iload_n 3, 1) := dk_29 (dk_at dksX8_bring_1 16 rfl rfl)
theorem dX8_bring_40 : decode cX8_bring 40 = .ok (.iload 4, 2) := dk_21 4 (dk_at dksX8_bring_1 17 rfl rfl)
theorem dX8_bring_42 : decode cX8_bring 42 = .ok (.iconst 1, 1) := dk_4 (dk_at dksX8_bring_1 19 rfl rfl)
theorem dX8_bring_43 : decode cX8_bring 43 = .ok (.isub, 1) := dk_100 (dk_at dksX8_bring_1 20 rfl rfl)
theorem dX8_bring_44 : decode cX8_bring 44 = .ok (.invokevirtual 241, 3) := dk_182 0 241 (dk_at dksX8_bring_1 21 rfl rfl)
theorem dX8_bring_47 : decode cX8_bring 47 = .ok (.iinc 4 (-1), 3) := dk_132 4 255 (dk_at dksX8_bring_2 0 rfl rfl)
theorem dX8_bring_50 : decode cX8_bring 50 = .ok (.goto (-18), 3) := dk_167 255 238 (dk_at dksX8_bring_2 3 rfl rfl)
theorem dX8_bring_53 : decode cX8_bring 53 = .ok (.return_, 1) := dk_177 (dk_at dksX8_bring_2 6 rfl rfl)
abbrev cX8_setDuration : ByteArray := prog_15_method_87_code
def yX8_setDuration : MethodName := ⟨RX8, "setDuration", "(III)I"⟩
def dkwX8_setDuration_3 : List UInt8 := [21, 4, 29, 79, 21, 5, 172]
abbrev dktX8_setDuration_3 : List UInt8 := dkwX8_setDuration_3 ++ []
def dkwX8_setDuration_2 : List UInt8 := [104, 28, 96, 184, 0, 155, 4, 96, 54, 4, 42, 180, 0, 17, 21, 4, 46, 54, 5, 42, 180, 0, 17]
abbrev dktX8_setDuration_2 : List UInt8 := dkwX8_setDuration_2 ++ dktX8_setDuration_3
def dkwX8_setDuration_1 : List UInt8 := [154, 0, 7, 4, 167, 0, 4, 3, 5, 182, 0, 174, 153, 0, 5, 3, 172, 42, 182, 0, 183, 16, 6, 27]
abbrev dktX8_setDuration_1 : List UInt8 := dkwX8_setDuration_1 ++ dktX8_setDuration_2
def dkwX8_setDuration_0 : List UInt8 := [42, 3, 181, 0, 51, 42, 27, 28, 182, 1, 19, 154, 0, 26, 42, 29, 4, 16, 99, 184, 0, 73]
abbrev dktX8_setDuration_0 : List UInt8 := dkwX8_setDuration_0 ++ dktX8_setDuration_1
theorem dksX8_setDuration_0 : cX8_setDuration.data.toList.drop 0 = dktX8_setDuration_0 := by decide +kernel
theorem dksX8_setDuration_1 : cX8_setDuration.data.toList.drop 22 = dktX8_setDuration_1 := dk_seg dksX8_setDuration_0 22 rfl rfl
theorem dksX8_setDuration_2 : cX8_setDuration.data.toList.drop 46 = dktX8_setDuration_2 := dk_seg dksX8_setDuration_1 24 rfl rfl
theorem dksX8_setDuration_3 : cX8_setDuration.data.toList.drop 69 = dktX8_setDuration_3 := dk_seg dksX8_setDuration_2 23 rfl rfl
theorem dX8_setDuration_0 : decode cX8_setDuration 0 = .ok (.aload_n 0, 1) := dk_42 (dk_at dksX8_setDuration_0 0 rfl rfl)
theorem dX8_setDuration_1 : decode cX8_setDuration 1 = .ok (.iconst 0, 1) := dk_3 (dk_at dksX8_setDuration_0 1 rfl rfl)
theorem dX8_setDuration_2 : decode cX8_setDuration 2 = .ok (.putfield 51, 3) := dk_181 0 51 (dk_at dksX8_setDuration_0 2 rfl rfl)
theorem dX8_setDuration_5 : decode cX8_setDuration 5 = .ok (.aload_n 0, 1) := dk_42 (dk_at dksX8_setDuration_0 5 rfl rfl)
theorem dX8_setDuration_6 : decode cX8_setDuration 6 = .ok (.iload_n 1, 1) := dk_27 (dk_at dksX8_setDuration_0 6 rfl rfl)
theorem dX8_setDuration_7 : decode cX8_setDuration 7 = .ok (.iload_n 2, 1) := dk_28 (dk_at dksX8_setDuration_0 7 rfl rfl)
theorem dX8_setDuration_8 : decode cX8_setDuration 8 = .ok (.invokevirtual 275, 3) := dk_182 1 19 (dk_at dksX8_setDuration_0 8 rfl rfl)
theorem dX8_setDuration_11 : decode cX8_setDuration 11 = .ok (.ifCond .ne 26, 3) := dk_154 0 26 (dk_at dksX8_setDuration_0 11 rfl rfl)
theorem dX8_setDuration_14 : decode cX8_setDuration 14 = .ok (.aload_n 0, 1) := dk_42 (dk_at dksX8_setDuration_0 14 rfl rfl)
theorem dX8_setDuration_15 : decode cX8_setDuration 15 = .ok (.iload_n 3, 1) := dk_29 (dk_at dksX8_setDuration_0 15 rfl rfl)
theorem dX8_setDuration_16 : decode cX8_setDuration 16 = .ok (.iconst 1, 1) := dk_4 (dk_at dksX8_setDuration_0 16 rfl rfl)
theorem dX8_setDuration_17 : decode cX8_setDuration 17 = .ok (.bipush 99, 2) := dk_16 99 (dk_at dksX8_setDuration_0 17 rfl rfl)
theorem dX8_setDuration_19 : decode cX8_setDuration 19 = .ok (.invokestatic 73, 3) := dk_184 0 73 (dk_at dksX8_setDuration_0 19 rfl rfl)
theorem dX8_setDuration_22 : decode cX8_setDuration 22 = .ok (.ifCond .ne 7, 3) := dk_154 0 7 (dk_at dksX8_setDuration_1 0 rfl rfl)
theorem dX8_setDuration_25 : decode cX8_setDuration 25 = .ok (.iconst 1, 1) := dk_4 (dk_at dksX8_setDuration_1 3 rfl rfl)
theorem dX8_setDuration_26 : decode cX8_setDuration 26 = .ok (.goto 4, 3) := dk_167 0 4 (dk_at dksX8_setDuration_1 4 rfl rfl)
theorem dX8_setDuration_29 : decode cX8_setDuration 29 = .ok (.iconst 0, 1) := dk_3 (dk_at dksX8_setDuration_1 7 rfl rfl)
theorem dX8_setDuration_30 : decode cX8_setDuration 30 = .ok (.iconst 2, 1) := dk_5 (dk_at dksX8_setDuration_1 8 rfl rfl)
theorem dX8_setDuration_31 : decode cX8_setDuration 31 = .ok (.invokevirtual 174, 3) := dk_182 0 174 (dk_at dksX8_setDuration_1 9 rfl rfl)
theorem dX8_setDuration_34 : decode cX8_setDuration 34 = .ok (.ifCond .eq 5, 3) := dk_153 0 5 (dk_at dksX8_setDuration_1 12 rfl rfl)
theorem dX8_setDuration_37 : decode cX8_setDuration 37 = .ok (.iconst 0, 1) := dk_3 (dk_at dksX8_setDuration_1 15 rfl rfl)
theorem dX8_setDuration_38 : decode cX8_setDuration 38 = .ok (.ireturn, 1) := dk_172 (dk_at dksX8_setDuration_1 16 rfl rfl)
theorem dX8_setDuration_39 : decode cX8_setDuration 39 = .ok (.aload_n 0, 1) := dk_42 (dk_at dksX8_setDuration_1 17 rfl rfl)
theorem dX8_setDuration_40 : decode cX8_setDuration 40 = .ok (.invokevirtual 183, 3) := dk_182 0 183 (dk_at dksX8_setDuration_1 18 rfl rfl)
theorem dX8_setDuration_43 : decode cX8_setDuration 43 = .ok (.bipush 6, 2) := dk_16 6 (dk_at dksX8_setDuration_1 21 rfl rfl)
theorem dX8_setDuration_45 : decode cX8_setDuration 45 = .ok (.iload_n 1, 1) := dk_27 (dk_at dksX8_setDuration_1 23 rfl rfl)
theorem dX8_setDuration_46 : decode cX8_setDuration 46 = .ok (.imul, 1) := dk_104 (dk_at dksX8_setDuration_2 0 rfl rfl)
theorem dX8_setDuration_47 : decode cX8_setDuration 47 = .ok (.iload_n 2, 1) := dk_28 (dk_at dksX8_setDuration_2 1 rfl rfl)
theorem dX8_setDuration_48 : decode cX8_setDuration 48 = .ok (.iadd, 1) := dk_96 (dk_at dksX8_setDuration_2 2 rfl rfl)
theorem dX8_setDuration_49 : decode cX8_setDuration 49 = .ok (.invokestatic 155, 3) := dk_184 0 155 (dk_at dksX8_setDuration_2 3 rfl rfl)
theorem dX8_setDuration_52 : decode cX8_setDuration 52 = .ok (.iconst 1, 1) := dk_4 (dk_at dksX8_setDuration_2 6 rfl rfl)
theorem dX8_setDuration_53 : decode cX8_setDuration 53 = .ok (.iadd, 1) := dk_96 (dk_at dksX8_setDuration_2 7 rfl rfl)
theorem dX8_setDuration_54 : decode cX8_setDuration 54 = .ok (.istore 4, 2) := dk_54 4 (dk_at dksX8_setDuration_2 8 rfl rfl)
theorem dX8_setDuration_56 : decode cX8_setDuration 56 = .ok (.aload_n 0, 1) := dk_42 (dk_at dksX8_setDuration_2 10 rfl rfl)
theorem dX8_setDuration_57 : decode cX8_setDuration 57 = .ok (.getfield 17, 3) := dk_180 0 17 (dk_at dksX8_setDuration_2 11 rfl rfl)
theorem dX8_setDuration_60 : decode cX8_setDuration 60 = .ok (.iload 4, 2) := dk_21 4 (dk_at dksX8_setDuration_2 14 rfl rfl)
theorem dX8_setDuration_62 : decode cX8_setDuration 62 = .ok (.iaload, 1) := dk_46 (dk_at dksX8_setDuration_2 16 rfl rfl)
theorem dX8_setDuration_63 : decode cX8_setDuration 63 = .ok (.istore 5, 2) := dk_54 5 (dk_at dksX8_setDuration_2 17 rfl rfl)
theorem dX8_setDuration_65 : decode cX8_setDuration 65 = .ok (.aload_n 0, 1) := dk_42 (dk_at dksX8_setDuration_2 19 rfl rfl)
theorem dX8_setDuration_66 : decode cX8_setDuration 66 = .ok (.getfield 17, 3) := dk_180 0 17 (dk_at dksX8_setDuration_2 20 rfl rfl)
theorem dX8_setDuration_69 : decode cX8_setDuration 69 = .ok (.iload 4, 2) := dk_21 4 (dk_at dksX8_setDuration_3 0 rfl rfl)
theorem dX8_setDuration_71 : decode cX8_setDuration 71 = .ok (.iload_n 3, 1) := dk_29 (dk_at dksX8_setDuration_3 2 rfl rfl)
theorem dX8_setDuration_72 : decode cX8_setDuration 72 = .ok (.iastore, 1) := dk_79 (dk_at dksX8_setDuration_3 3 rfl rfl)
theorem dX8_setDuration_73 : decode cX8_setDuration 73 = .ok (.iload 5, 2) := dk_21 5 (dk_at dksX8_setDuration_3 4 rfl rfl)
theorem dX8_setDuration_75 : decode cX8_setDuration 75 = .ok (.ireturn, 1) := dk_172 (dk_at dksX8_setDuration_3 6 rfl rfl)
abbrev cX8_restart : ByteArray := prog_15_method_88_code
def yX8_restart : MethodName := ⟨RX8, "restart", "()I"⟩
def dkwX8_restart_0 : List UInt8 := [42, 3, 181, 0, 51, 42, 182, 0, 183, 42, 182, 0, 190, 42, 182, 1, 32, 172]
abbrev dktX8_restart_0 : List UInt8 := dkwX8_restart_0 ++ []
theorem dksX8_restart_0 : cX8_restart.data.toList.drop 0 = dktX8_restart_0 := by decide +kernel
theorem dX8_restart_0 : decode cX8_restart 0 = .ok (.aload_n 0, 1) := dk_42 (dk_at dksX8_restart_0 0 rfl rfl)
theorem dX8_restart_1 : decode cX8_restart 1 = .ok (.iconst 0, 1) := dk_3 (dk_at dksX8_restart_0 1 rfl rfl)
theorem dX8_restart_2 : decode cX8_restart 2 = .ok (.putfield 51, 3) := dk_181 0 51 (dk_at dksX8_restart_0 2 rfl rfl)
theorem dX8_restart_5 : decode cX8_restart 5 = .ok (.aload_n 0, 1) := dk_42 (dk_at dksX8_restart_0 5 rfl rfl)
theorem dX8_restart_6 : decode cX8_restart 6 = .ok (.invokevirtual 183, 3) := dk_182 0 183 (dk_at dksX8_restart_0 6 rfl rfl)
theorem dX8_restart_9 : decode cX8_restart 9 = .ok (.aload_n 0, 1) := dk_42 (dk_at dksX8_restart_0 9 rfl rfl)
theorem dX8_restart_10 : decode cX8_restart 10 = .ok (.invokevirtual 190, 3) := dk_182 0 190 (dk_at dksX8_restart_0 10 rfl rfl)
theorem dX8_restart_13 : decode cX8_restart 13 = .ok (.aload_n 0, 1) := dk_42 (dk_at dksX8_restart_0 13 rfl rfl)
theorem dX8_restart_14 : decode cX8_restart 14 = .ok (.invokevirtual 288, 3) := dk_182 1 32 (dk_at dksX8_restart_0 14 rfl rfl)
theorem dX8_restart_17 : decode cX8_restart 17 = .ok (.ireturn, 1) := dk_172 (dk_at dksX8_restart_0 17 rfl rfl)
abbrev cX8_undo : ByteArray := prog_15_method_89_code
def yX8_undo : MethodName := ⟨RX8, "undo", "()I"⟩
def dkwX8_undo_1 : List UInt8 := [42, 180, 0, 28, 42, 180, 1, 47, 50, 42, 180, 0, 17, 184, 0, 186, 42, 180, 1, 47, 172]
abbrev dktX8_undo_1 : List UInt8 := dkwX8_undo_1 ++ []
def dkwX8_undo_0 : List UInt8 := [42, 3, 181, 0, 51, 42, 180, 1, 47, 154, 0, 5, 2, 172, 42, 89, 180, 1, 47, 4, 100, 181, 1, 47]
abbrev dktX8_undo_0 : List UInt8 := dkwX8_undo_0 ++ dktX8_undo_1
theorem dksX8_undo_0 : cX8_undo.data.toList.drop 0 = dktX8_undo_0 := by decide +kernel
theorem dksX8_undo_1 : cX8_undo.data.toList.drop 24 = dktX8_undo_1 := dk_seg dksX8_undo_0 24 rfl rfl
theorem dX8_undo_0 : decode cX8_undo 0 = .ok (.aload_n 0, 1) := dk_42 (dk_at dksX8_undo_0 0 rfl rfl)
theorem dX8_undo_1 : decode cX8_undo 1 = .ok (.iconst 0, 1) := dk_3 (dk_at dksX8_undo_0 1 rfl rfl)
theorem dX8_undo_2 : decode cX8_undo 2 = .ok (.putfield 51, 3) := dk_181 0 51 (dk_at dksX8_undo_0 2 rfl rfl)
theorem dX8_undo_5 : decode cX8_undo 5 = .ok (.aload_n 0, 1) := dk_42 (dk_at dksX8_undo_0 5 rfl rfl)
theorem dX8_undo_6 : decode cX8_undo 6 = .ok (.getfield 303, 3) := dk_180 1 47 (dk_at dksX8_undo_0 6 rfl rfl)
theorem dX8_undo_9 : decode cX8_undo 9 = .ok (.ifCond .ne 5, 3) := dk_154 0 5 (dk_at dksX8_undo_0 9 rfl rfl)
theorem dX8_undo_12 : decode cX8_undo 12 = .ok (.iconst (-1), 1) := dk_2 (dk_at dksX8_undo_0 12 rfl rfl)
theorem dX8_undo_13 : decode cX8_undo 13 = .ok (.ireturn, 1) := dk_172 (dk_at dksX8_undo_0 13 rfl rfl)
theorem dX8_undo_14 : decode cX8_undo 14 = .ok (.aload_n 0, 1) := dk_42 (dk_at dksX8_undo_0 14 rfl rfl)
theorem dX8_undo_15 : decode cX8_undo 15 = .ok (.dup, 1) := dk_89 (dk_at dksX8_undo_0 15 rfl rfl)
theorem dX8_undo_16 : decode cX8_undo 16 = .ok (.getfield 303, 3) := dk_180 1 47 (dk_at dksX8_undo_0 16 rfl rfl)
theorem dX8_undo_19 : decode cX8_undo 19 = .ok (.iconst 1, 1) := dk_4 (dk_at dksX8_undo_0 19 rfl rfl)
theorem dX8_undo_20 : decode cX8_undo 20 = .ok (.isub, 1) := dk_100 (dk_at dksX8_undo_0 20 rfl rfl)
theorem dX8_undo_21 : decode cX8_undo 21 = .ok (.putfield 303, 3) := dk_181 1 47 (dk_at dksX8_undo_0 21 rfl rfl)
theorem dX8_undo_24 : decode cX8_undo 24 = .ok (.aload_n 0, 1) := dk_42 (dk_at dksX8_undo_1 0 rfl rfl)
theorem dX8_undo_25 : decode cX8_undo 25 = .ok (.getfield 28, 3) := dk_180 0 28 (dk_at dksX8_undo_1 1 rfl rfl)
theorem dX8_undo_28 : decode cX8_undo 28 = .ok (.aload_n 0, 1) := dk_42 (dk_at dksX8_undo_1 4 rfl rfl)
theorem dX8_undo_29 : decode cX8_undo 29 = .ok (.getfield 303, 3) := dk_180 1 47 (dk_at dksX8_undo_1 5 rfl rfl)
theorem dX8_undo_32 : decode cX8_undo 32 = .ok (.aaload, 1) := dk_50 (dk_at dksX8_undo_1 8 rfl rfl)
theorem dX8_undo_33 : decode cX8_undo 33 = .ok (.aload_n 0, 1) := dk_42 (dk_at dksX8_undo_1 9 rfl rfl)
theorem dX8_undo_34 : decode cX8_undo 34 = .ok (.getfield 17, 3) := dk_180 0 17 (dk_at dksX8_undo_1 10 rfl rfl)
theorem dX8_undo_37 : decode cX8_undo 37 = .ok (.invokestatic 186, 3) := dk_184 0 186 (dk_at dksX8_undo_1 13 rfl rfl)
theorem dX8_undo_40 : decode cX8_undo 40 = .ok (.aload_n 0, 1) := dk_42 (dk_at dksX8_undo_1 16 rfl rfl)
theorem dX8_undo_41 : decode cX8_undo 41 = .ok (.getfield 303, 3) := dk_180 1 47 (dk_at dksX8_undo_1 17 rfl rfl)
theorem dX8_undo_44 : decode cX8_undo 44 = .ok (.ireturn, 1) := dk_172 (dk_at dksX8_undo_1 20 rfl rfl)
abbrev cX8_checksum : ByteArray := prog_15_method_90_code
def yX8_checksum : MethodName := ⟨RX8, "checksum", "()J"⟩
def dkwX8_checksum_5 : List UInt8 := [64, 132, 3, 1, 167, 255, 225, 31, 173]
abbrev dktX8_checksum_5 : List UInt8 := dkwX8_checksum_5 ++ []
def dkwX8_checksum_4 : List UInt8 := [162, 0, 31, 42, 29, 182, 0, 211, 153, 0, 17, 20, 1, 53, 31, 105, 42, 180, 0, 37, 29, 46, 133, 97]
abbrev dktX8_checksum_4 : List UInt8 := dkwX8_checksum_4 ++ dktX8_checksum_5
def dkwX8_checksum_3 : List UInt8 := [46, 184, 1, 26, 133, 97, 64, 132, 4, 1, 167, 255, 212, 132, 3, 1, 167, 255, 193, 3, 62, 29, 16, 36]
abbrev dktX8_checksum_3 : List UInt8 := dkwX8_checksum_3 ++ dktX8_checksum_4
def dkwX8_checksum_2 : List UInt8 := [5, 96, 46, 162, 0, 34, 20, 1, 53, 31, 105, 42, 180, 0, 17, 29, 184, 0, 158, 6, 96, 21, 4, 96]
abbrev dktX8_checksum_2 : List UInt8 := dkwX8_checksum_2 ++ dktX8_checksum_3
def dkwX8_checksum_1 : List UInt8 := [62, 29, 42, 180, 0, 17, 3, 46, 162, 0, 59, 3, 54, 4, 21, 4, 42, 180, 0, 17, 29, 184, 0, 158]
abbrev dktX8_checksum_1 : List UInt8 := dkwX8_checksum_1 ++ dktX8_checksum_2
def dkwX8_checksum_0 : List UInt8 := [42, 3, 181, 0, 51, 42, 182, 1, 32, 133, 64, 20, 1, 53, 31, 105, 42, 182, 0, 250, 133, 97, 64, 3]
abbrev dktX8_checksum_0 : List UInt8 := dkwX8_checksum_0 ++ dktX8_checksum_1
theorem dksX8_checksum_0 : cX8_checksum.data.toList.drop 0 = dktX8_checksum_0 := by decide +kernel
theorem dksX8_checksum_1 : cX8_checksum.data.toList.drop 24 = dktX8_checksum_1 := dk_seg dksX8_checksum_0 24 rfl rfl
theorem dksX8_checksum_2 : cX8_checksum.data.toList.drop 48 = dktX8_checksum_2 := dk_seg dksX8_checksum_1 24 rfl rfl
theorem dksX8_checksum_3 : cX8_checksum.data.toList.drop 72 = dktX8_checksum_3 := dk_seg dksX8_checksum_2 24 rfl rfl
theorem dksX8_checksum_4 : cX8_checksum.data.toList.drop 96 = dktX8_checksum_4 := dk_seg dksX8_checksum_3 24 rfl rfl
theorem dksX8_checksum_5 : cX8_checksum.data.toList.drop 120 = dktX8_checksum_5 := dk_seg dksX8_checksum_4 24 rfl rfl
theorem dX8_checksum_0 : decode cX8_checksum 0 = .ok (.aload_n 0, 1) := dk_42 (dk_at dksX8_checksum_0 0 rfl rfl)
theorem dX8_checksum_1 : decode cX8_checksum 1 = .ok (.iconst 0, 1) := dk_3 (dk_at dksX8_checksum_0 1 rfl rfl)
theorem dX8_checksum_2 : decode cX8_checksum 2 = .ok (.putfield 51, 3) := dk_181 0 51 (dk_at dksX8_checksum_0 2 rfl rfl)
theorem dX8_checksum_5 : decode cX8_checksum 5 = .ok (.aload_n 0, 1) := dk_42 (dk_at dksX8_checksum_0 5 rfl rfl)
theorem dX8_checksum_6 : decode cX8_checksum 6 = .ok (.invokevirtual 288, 3) := dk_182 1 32 (dk_at dksX8_checksum_0 6 rfl rfl)
theorem dX8_checksum_9 : decode cX8_checksum 9 = .ok (.i2l, 1) := dk_133 (dk_at dksX8_checksum_0 9 rfl rfl)
theorem dX8_checksum_10 : decode cX8_checksum 10 = .ok (.lstore_n 1, 1) := dk_64 (dk_at dksX8_checksum_0 10 rfl rfl)
theorem dX8_checksum_11 : decode cX8_checksum 11 = .ok (.ldc2_w 309, 3) := dk_20 1 53 (dk_at dksX8_checksum_0 11 rfl rfl)
theorem dX8_checksum_14 : decode cX8_checksum 14 = .ok (.lload_n 1, 1) := dk_31 (dk_at dksX8_checksum_0 14 rfl rfl)
theorem dX8_checksum_15 : decode cX8_checksum 15 = .ok (.lmul, 1) := dk_105 (dk_at dksX8_checksum_0 15 rfl rfl)
theorem dX8_checksum_16 : decode cX8_checksum 16 = .ok (.aload_n 0, 1) := dk_42 (dk_at dksX8_checksum_0 16 rfl rfl)
theorem dX8_checksum_17 : decode cX8_checksum 17 = .ok (.invokevirtual 250, 3) := dk_182 0 250 (dk_at dksX8_checksum_0 17 rfl rfl)
theorem dX8_checksum_20 : decode cX8_checksum 20 = .ok (.i2l, 1) := dk_133 (dk_at dksX8_checksum_0 20 rfl rfl)
theorem dX8_checksum_21 : decode cX8_checksum 21 = .ok (.ladd, 1) := dk_97 (dk_at dksX8_checksum_0 21 rfl rfl)
theorem dX8_checksum_22 : decode cX8_checksum 22 = .ok (.lstore_n 1, 1) := dk_64 (dk_at dksX8_checksum_0 22 rfl rfl)
theorem dX8_checksum_23 : decode cX8_checksum 23 = .ok (.iconst 0, 1) := dk_3 (dk_at dksX8_checksum_0 23 rfl rfl)
theorem dX8_checksum_24 : decode cX8_checksum 24 = .ok (.istore_n 3, 1) := dk_62 (dk_at dksX8_checksum_1 0 rfl rfl)
theorem dX8_checksum_25 : decode cX8_checksum 25 = .ok (.iload_n 3, 1) := dk_29 (dk_at dksX8_checksum_1 1 rfl rfl)
theorem dX8_checksum_26 : decode cX8_checksum 26 = .ok (.aload_n 0, 1) := dk_42 (dk_at dksX8_checksum_1 2 rfl rfl)
theorem dX8_checksum_27 : decode cX8_checksum 27 = .ok (.getfield 17, 3) := dk_180 0 17 (dk_at dksX8_checksum_1 3 rfl rfl)
theorem dX8_checksum_30 : decode cX8_checksum 30 = .ok (.iconst 0, 1) := dk_3 (dk_at dksX8_checksum_1 6 rfl rfl)
theorem dX8_checksum_31 : decode cX8_checksum 31 = .ok (.iaload, 1) := dk_46 (dk_at dksX8_checksum_1 7 rfl rfl)
theorem dX8_checksum_32 : decode cX8_checksum 32 = .ok (.if_icmp .ge 59, 3) := dk_162 0 59 (dk_at dksX8_checksum_1 8 rfl rfl)
theorem dX8_checksum_35 : decode cX8_checksum 35 = .ok (.iconst 0, 1) := dk_3 (dk_at dksX8_checksum_1 11 rfl rfl)
theorem dX8_checksum_36 : decode cX8_checksum 36 = .ok (.istore 4, 2) := dk_54 4 (dk_at dksX8_checksum_1 12 rfl rfl)
theorem dX8_checksum_38 : decode cX8_checksum 38 = .ok (.iload 4, 2) := dk_21 4 (dk_at dksX8_checksum_1 14 rfl rfl)
theorem dX8_checksum_40 : decode cX8_checksum 40 = .ok (.aload_n 0, 1) := dk_42 (dk_at dksX8_checksum_1 16 rfl rfl)
theorem dX8_checksum_41 : decode cX8_checksum 41 = .ok (.getfield 17, 3) := dk_180 0 17 (dk_at dksX8_checksum_1 17 rfl rfl)
theorem dX8_checksum_44 : decode cX8_checksum 44 = .ok (.iload_n 3, 1) := dk_29 (dk_at dksX8_checksum_1 20 rfl rfl)
theorem dX8_checksum_45 : decode cX8_checksum 45 = .ok (.invokestatic 158, 3) := dk_184 0 158 (dk_at dksX8_checksum_1 21 rfl rfl)
theorem dX8_checksum_48 : decode cX8_checksum 48 = .ok (.iconst 2, 1) := dk_5 (dk_at dksX8_checksum_2 0 rfl rfl)
theorem dX8_checksum_49 : decode cX8_checksum 49 = .ok (.iadd, 1) := dk_96 (dk_at dksX8_checksum_2 1 rfl rfl)
theorem dX8_checksum_50 : decode cX8_checksum 50 = .ok (.iaload, 1) := dk_46 (dk_at dksX8_checksum_2 2 rfl rfl)
theorem dX8_checksum_51 : decode cX8_checksum 51 = .ok (.if_icmp .ge 34, 3) := dk_162 0 34 (dk_at dksX8_checksum_2 3 rfl rfl)
theorem dX8_checksum_54 : decode cX8_checksum 54 = .ok (.ldc2_w 309, 3) := dk_20 1 53 (dk_at dksX8_checksum_2 6 rfl rfl)
theorem dX8_checksum_57 : decode cX8_checksum 57 = .ok (.lload_n 1, 1) := dk_31 (dk_at dksX8_checksum_2 9 rfl rfl)
theorem dX8_checksum_58 : decode cX8_checksum 58 = .ok (.lmul, 1) := dk_105 (dk_at dksX8_checksum_2 10 rfl rfl)
theorem dX8_checksum_59 : decode cX8_checksum 59 = .ok (.aload_n 0, 1) := dk_42 (dk_at dksX8_checksum_2 11 rfl rfl)
theorem dX8_checksum_60 : decode cX8_checksum 60 = .ok (.getfield 17, 3) := dk_180 0 17 (dk_at dksX8_checksum_2 12 rfl rfl)
theorem dX8_checksum_63 : decode cX8_checksum 63 = .ok (.iload_n 3, 1) := dk_29 (dk_at dksX8_checksum_2 15 rfl rfl)
theorem dX8_checksum_64 : decode cX8_checksum 64 = .ok (.invokestatic 158, 3) := dk_184 0 158 (dk_at dksX8_checksum_2 16 rfl rfl)
theorem dX8_checksum_67 : decode cX8_checksum 67 = .ok (.iconst 3, 1) := dk_6 (dk_at dksX8_checksum_2 19 rfl rfl)
theorem dX8_checksum_68 : decode cX8_checksum 68 = .ok (.iadd, 1) := dk_96 (dk_at dksX8_checksum_2 20 rfl rfl)
theorem dX8_checksum_69 : decode cX8_checksum 69 = .ok (.iload 4, 2) := dk_21 4 (dk_at dksX8_checksum_2 21 rfl rfl)
theorem dX8_checksum_71 : decode cX8_checksum 71 = .ok (.iadd, 1) := dk_96 (dk_at dksX8_checksum_2 23 rfl rfl)
theorem dX8_checksum_72 : decode cX8_checksum 72 = .ok (.iaload, 1) := dk_46 (dk_at dksX8_checksum_3 0 rfl rfl)
theorem dX8_checksum_73 : decode cX8_checksum 73 = .ok (.invokestatic 282, 3) := dk_184 1 26 (dk_at dksX8_checksum_3 1 rfl rfl)
theorem dX8_checksum_76 : decode cX8_checksum 76 = .ok (.i2l, 1) := dk_133 (dk_at dksX8_checksum_3 4 rfl rfl)
theorem dX8_checksum_77 : decode cX8_checksum 77 = .ok (.ladd, 1) := dk_97 (dk_at dksX8_checksum_3 5 rfl rfl)
theorem dX8_checksum_78 : decode cX8_checksum 78 = .ok (.lstore_n 1, 1) := dk_64 (dk_at dksX8_checksum_3 6 rfl rfl)
theorem dX8_checksum_79 : decode cX8_checksum 79 = .ok (.iinc 4 1, 3) := dk_132 4 1 (dk_at dksX8_checksum_3 7 rfl rfl)
theorem dX8_checksum_82 : decode cX8_checksum 82 = .ok (.goto (-44), 3) := dk_167 255 212 (dk_at dksX8_checksum_3 10 rfl rfl)
theorem dX8_checksum_85 : decode cX8_checksum 85 = .ok (.iinc 3 1, 3) := dk_132 3 1 (dk_at dksX8_checksum_3 13 rfl rfl)
theorem dX8_checksum_88 : decode cX8_checksum 88 = .ok (.goto (-63), 3) := dk_167 255 193 (dk_at dksX8_checksum_3 16 rfl rfl)
theorem dX8_checksum_91 : decode cX8_checksum 91 = .ok (.iconst 0, 1) := dk_3 (dk_at dksX8_checksum_3 19 rfl rfl)
theorem dX8_checksum_92 : decode cX8_checksum 92 = .ok (.istore_n 3, 1) := dk_62 (dk_at dksX8_checksum_3 20 rfl rfl)
theorem dX8_checksum_93 : decode cX8_checksum 93 = .ok (.iload_n 3, 1) := dk_29 (dk_at dksX8_checksum_3 21 rfl rfl)
theorem dX8_checksum_94 : decode cX8_checksum 94 = .ok (.bipush 36, 2) := dk_16 36 (dk_at dksX8_checksum_3 22 rfl rfl)
theorem dX8_checksum_96 : decode cX8_checksum 96 = .ok (.if_icmp .ge 31, 3) := dk_162 0 31 (dk_at dksX8_checksum_4 0 rfl rfl)
theorem dX8_checksum_99 : decode cX8_checksum 99 = .ok (.aload_n 0, 1) := dk_42 (dk_at dksX8_checksum_4 3 rfl rfl)
theorem dX8_checksum_100 : decode cX8_checksum 100 = .ok (.iload_n 3, 1) := dk_29 (dk_at dksX8_checksum_4 4 rfl rfl)
theorem dX8_checksum_101 : decode cX8_checksum 101 = .ok (.invokevirtual 211, 3) := dk_182 0 211 (dk_at dksX8_checksum_4 5 rfl rfl)
theorem dX8_checksum_104 : decode cX8_checksum 104 = .ok (.ifCond .eq 17, 3) := dk_153 0 17 (dk_at dksX8_checksum_4 8 rfl rfl)
theorem dX8_checksum_107 : decode cX8_checksum 107 = .ok (.ldc2_w 309, 3) := dk_20 1 53 (dk_at dksX8_checksum_4 11 rfl rfl)
theorem dX8_checksum_110 : decode cX8_checksum 110 = .ok (.lload_n 1, 1) := dk_31 (dk_at dksX8_checksum_4 14 rfl rfl)
theorem dX8_checksum_111 : decode cX8_checksum 111 = .ok (.lmul, 1) := dk_105 (dk_at dksX8_checksum_4 15 rfl rfl)
theorem dX8_checksum_112 : decode cX8_checksum 112 = .ok (.aload_n 0, 1) := dk_42 (dk_at dksX8_checksum_4 16 rfl rfl)
theorem dX8_checksum_113 : decode cX8_checksum 113 = .ok (.getfield 37, 3) := dk_180 0 37 (dk_at dksX8_checksum_4 17 rfl rfl)
theorem dX8_checksum_116 : decode cX8_checksum 116 = .ok (.iload_n 3, 1) := dk_29 (dk_at dksX8_checksum_4 20 rfl rfl)
theorem dX8_checksum_117 : decode cX8_checksum 117 = .ok (.iaload, 1) := dk_46 (dk_at dksX8_checksum_4 21 rfl rfl)
theorem dX8_checksum_118 : decode cX8_checksum 118 = .ok (.i2l, 1) := dk_133 (dk_at dksX8_checksum_4 22 rfl rfl)
theorem dX8_checksum_119 : decode cX8_checksum 119 = .ok (.ladd, 1) := dk_97 (dk_at dksX8_checksum_4 23 rfl rfl)
theorem dX8_checksum_120 : decode cX8_checksum 120 = .ok (.lstore_n 1, 1) := dk_64 (dk_at dksX8_checksum_5 0 rfl rfl)
theorem dX8_checksum_121 : decode cX8_checksum 121 = .ok (.iinc 3 1, 3) := dk_132 3 1 (dk_at dksX8_checksum_5 1 rfl rfl)
theorem dX8_checksum_124 : decode cX8_checksum 124 = .ok (.goto (-31), 3) := dk_167 255 225 (dk_at dksX8_checksum_5 4 rfl rfl)
theorem dX8_checksum_127 : decode cX8_checksum 127 = .ok (.lload_n 1, 1) := dk_31 (dk_at dksX8_checksum_5 7 rfl rfl)
theorem dX8_checksum_128 : decode cX8_checksum 128 = .ok (.lreturn, 1) := dk_173 (dk_at dksX8_checksum_5 8 rfl rfl)
theorem q108 : (Jvm.Cond.initialized "BlockingShopModel") ∈ lw_all := lw_g (lw_at lw_m1 14 rfl) rfl
theorem q1493 : (Jvm.Cond.selects "BlockingShopModel" ({ cls := "java/lang/Object", name := "getClass", desc := "()Ljava/lang/Class;" } : Jvm.MethodName) ({ cls := "java/lang/Object", name := "getClass", desc := "()Ljava/lang/Class;" } : Jvm.MethodName)) ∈ lw_all := lw_g (lw_at lw_m6 199 rfl) rfl
theorem q2386 : (Jvm.Cond.selects "BlockingShopModel" ({ cls := "java/lang/Object", name := "equals", desc := "(Ljava/lang/Object;)Z" } : Jvm.MethodName) ({ cls := "java/lang/Object", name := "equals", desc := "(Ljava/lang/Object;)Z" } : Jvm.MethodName)) ∈ lw_all := lw_g (lw_at lw_m10 132 rfl) rfl
theorem q2667 : (Jvm.Cond.instantiable "BlockingShopModel" (25 : Nat)) ∈ lw_all := lw_g (lw_at lw_m11 173 rfl) rfl
theorem q2669 : (Jvm.Cond.instanceMethod ({ cls := "BlockingShopModel", name := "<init>", desc := "()V" } : Jvm.MethodName)) ∈ lw_all := lw_g (lw_at lw_m11 175 rfl) rfl
theorem q2670 : (Jvm.Cond.code ({ cls := "BlockingShopModel", name := "<init>", desc := "()V" } : Jvm.MethodName) prog_15_method_1_code (1 : Nat) (Option.none : Option Jvm.ClassFile.FieldType)) ∈ lw_all := lw_g (lw_at lw_m11 176 rfl) rfl
theorem q2671 : (Jvm.Cond.methodLink "BlockingShopModel" (3 : Nat) ({ cls := "java/lang/Object", name := "<init>", desc := "()V" } : Jvm.MethodName)) ∈ lw_all := lw_g (lw_at lw_m11 177 rfl) rfl
theorem q2672 : (Jvm.Cond.classLink "BlockingShopModel" (26 : Nat) "[[I") ∈ lw_all := lw_g (lw_at lw_m11 178 rfl) rfl
theorem q2673 : (Jvm.Cond.fieldLink "BlockingShopModel" (51 : Nat) "BlockingShopModel" "thrown" "I") ∈ lw_all := lw_g (lw_at lw_m11 179 rfl) rfl
theorem q2674 : (Jvm.Cond.fieldLink "BlockingShopModel" (9 : Nat) "BlockingShopModel" "buffer" "[I") ∈ lw_all := lw_g (lw_at lw_m11 180 rfl) rfl
theorem q2675 : (Jvm.Cond.fieldLink "BlockingShopModel" (54 : Nat) "BlockingShopModel" "bufferLength" "I") ∈ lw_all := lw_g (lw_at lw_m11 181 rfl) rfl
theorem q2676 : (Jvm.Cond.fieldLink "BlockingShopModel" (57 : Nat) "BlockingShopModel" "textLength" "I") ∈ lw_all := lw_g (lw_at lw_m11 182 rfl) rfl
theorem q2677 : (Jvm.Cond.fieldLink "BlockingShopModel" (60 : Nat) "BlockingShopModel" "position" "I") ∈ lw_all := lw_g (lw_at lw_m11 183 rfl) rfl
theorem q2678 : (Jvm.Cond.fieldLink "BlockingShopModel" (67 : Nat) "BlockingShopModel" "error" "I") ∈ lw_all := lw_g (lw_at lw_m11 184 rfl) rfl
theorem q2679 : (Jvm.Cond.fieldLink "BlockingShopModel" (70 : Nat) "BlockingShopModel" "errorAt" "I") ∈ lw_all := lw_g (lw_at lw_m11 185 rfl) rfl
theorem q2680 : (Jvm.Cond.fieldLink "BlockingShopModel" (13 : Nat) "BlockingShopModel" "errorOffset" "I") ∈ lw_all := lw_g (lw_at lw_m11 186 rfl) rfl
theorem q2681 : (Jvm.Cond.fieldLink "BlockingShopModel" (17 : Nat) "BlockingShopModel" "data" "[I") ∈ lw_all := lw_g (lw_at lw_m11 187 rfl) rfl
theorem q2682 : (Jvm.Cond.fieldLink "BlockingShopModel" (20 : Nat) "BlockingShopModel" "draft" "[I") ∈ lw_all := lw_g (lw_at lw_m11 188 rfl) rfl
theorem q2683 : (Jvm.Cond.fieldLink "BlockingShopModel" (23 : Nat) "BlockingShopModel" "kept" "[I") ∈ lw_all := lw_g (lw_at lw_m11 189 rfl) rfl
theorem q2684 : (Jvm.Cond.fieldLink "BlockingShopModel" (28 : Nat) "BlockingShopModel" "history" "[[I") ∈ lw_all := lw_g (lw_at lw_m11 190 rfl) rfl
theorem q2685 : (Jvm.Cond.fieldLink "BlockingShopModel" (303 : Nat) "BlockingShopModel" "undoDepth" "I") ∈ lw_all := lw_g (lw_at lw_m11 191 rfl) rfl
theorem q2686 : (Jvm.Cond.fieldLink "BlockingShopModel" (102 : Nat) "BlockingShopModel" "numberStart" "I") ∈ lw_all := lw_g (lw_at lw_m11 192 rfl) rfl
theorem q2687 : (Jvm.Cond.fieldLink "BlockingShopModel" (110 : Nat) "BlockingShopModel" "nesting" "I") ∈ lw_all := lw_g (lw_at lw_m11 193 rfl) rfl
theorem q2688 : (Jvm.Cond.fieldLink "BlockingShopModel" (144 : Nat) "BlockingShopModel" "seen" "I") ∈ lw_all := lw_g (lw_at lw_m11 194 rfl) rfl
theorem q2689 : (Jvm.Cond.fieldLink "BlockingShopModel" (31 : Nat) "BlockingShopModel" "sources" "[I") ∈ lw_all := lw_g (lw_at lw_m11 195 rfl) rfl
theorem q2690 : (Jvm.Cond.fieldLink "BlockingShopModel" (34 : Nat) "BlockingShopModel" "lengths" "[I") ∈ lw_all := lw_g (lw_at lw_m11 196 rfl) rfl
theorem q2691 : (Jvm.Cond.fieldLink "BlockingShopModel" (37 : Nat) "BlockingShopModel" "starts" "[I") ∈ lw_all := lw_g (lw_at lw_m11 197 rfl) rfl
theorem q2692 : (Jvm.Cond.fieldLink "BlockingShopModel" (40 : Nat) "BlockingShopModel" "isFree" "[Z") ∈ lw_all := lw_g (lw_at lw_m11 198 rfl) rfl
theorem q2693 : (Jvm.Cond.fieldLink "BlockingShopModel" (44 : Nat) "BlockingShopModel" "stack" "[J") ∈ lw_all := lw_g (lw_at lw_m11 199 rfl) rfl
theorem q2694 : (Jvm.Cond.fieldLink "BlockingShopModel" (253 : Nat) "BlockingShopModel" "bestSpan" "I") ∈ lw_all := lw_g (lw_at lw_m11 200 rfl) rfl
theorem q2695 : (Jvm.Cond.fieldLink "BlockingShopModel" (256 : Nat) "BlockingShopModel" "bestCost" "I") ∈ lw_all := lw_g (lw_at lw_m11 201 rfl) rfl
theorem q2696 : (Jvm.Cond.fieldLink "BlockingShopModel" (48 : Nat) "BlockingShopModel" "path" "[I") ∈ lw_all := lw_g (lw_at lw_m11 202 rfl) rfl
theorem q2697 : (Jvm.Cond.fieldLink "BlockingShopModel" (263 : Nat) "BlockingShopModel" "pathLength" "I") ∈ lw_all := lw_g (lw_at lw_m11 203 rfl) rfl
theorem q2698 : (Jvm.Cond.lays "BlockingShopModel" "BlockingShopModel" "thrown" "I") ∈ lw_all := lw_g (lw_at lw_m11 204 rfl) rfl
theorem q2699 : (Jvm.Cond.soleField "BlockingShopModel" "thrown") ∈ lw_all := lw_g (lw_at lw_m11 205 rfl) rfl
theorem q2700 : (Jvm.Cond.laysFinal "BlockingShopModel" "BlockingShopModel" "buffer" "[I") ∈ lw_all := lw_g (lw_at lw_m11 206 rfl) rfl
theorem q2701 : (Jvm.Cond.soleField "BlockingShopModel" "buffer") ∈ lw_all := lw_g (lw_at lw_m11 207 rfl) rfl
theorem q2702 : (Jvm.Cond.lays "BlockingShopModel" "BlockingShopModel" "bufferLength" "I") ∈ lw_all := lw_g (lw_at lw_m11 208 rfl) rfl
theorem q2703 : (Jvm.Cond.soleField "BlockingShopModel" "bufferLength") ∈ lw_all := lw_g (lw_at lw_m11 209 rfl) rfl
theorem q2704 : (Jvm.Cond.lays "BlockingShopModel" "BlockingShopModel" "textLength" "I") ∈ lw_all := lw_g (lw_at lw_m11 210 rfl) rfl
theorem q2705 : (Jvm.Cond.soleField "BlockingShopModel" "textLength") ∈ lw_all := lw_g (lw_at lw_m11 211 rfl) rfl
theorem q2706 : (Jvm.Cond.lays "BlockingShopModel" "BlockingShopModel" "position" "I") ∈ lw_all := lw_g (lw_at lw_m11 212 rfl) rfl
theorem q2707 : (Jvm.Cond.soleField "BlockingShopModel" "position") ∈ lw_all := lw_g (lw_at lw_m11 213 rfl) rfl
theorem q2708 : (Jvm.Cond.lays "BlockingShopModel" "BlockingShopModel" "error" "I") ∈ lw_all := lw_g (lw_at lw_m11 214 rfl) rfl
theorem q2709 : (Jvm.Cond.soleField "BlockingShopModel" "error") ∈ lw_all := lw_g (lw_at lw_m11 215 rfl) rfl
theorem q2710 : (Jvm.Cond.lays "BlockingShopModel" "BlockingShopModel" "errorAt" "I") ∈ lw_all := lw_g (lw_at lw_m11 216 rfl) rfl
theorem q2711 : (Jvm.Cond.soleField "BlockingShopModel" "errorAt") ∈ lw_all := lw_g (lw_at lw_m11 217 rfl) rfl
theorem q2712 : (Jvm.Cond.lays "BlockingShopModel" "BlockingShopModel" "errorOffset" "I") ∈ lw_all := lw_g (lw_at lw_m11 218 rfl) rfl
theorem q2713 : (Jvm.Cond.soleField "BlockingShopModel" "errorOffset") ∈ lw_all := lw_g (lw_at lw_m11 219 rfl) rfl
theorem q2714 : (Jvm.Cond.laysFinal "BlockingShopModel" "BlockingShopModel" "data" "[I") ∈ lw_all := lw_g (lw_at lw_m11 220 rfl) rfl
theorem q2715 : (Jvm.Cond.soleField "BlockingShopModel" "data") ∈ lw_all := lw_g (lw_at lw_m11 221 rfl) rfl
theorem q2716 : (Jvm.Cond.laysFinal "BlockingShopModel" "BlockingShopModel" "draft" "[I") ∈ lw_all := lw_g (lw_at lw_m11 222 rfl) rfl
theorem q2717 : (Jvm.Cond.soleField "BlockingShopModel" "draft") ∈ lw_all := lw_g (lw_at lw_m11 223 rfl) rfl
theorem q2718 : (Jvm.Cond.laysFinal "BlockingShopModel" "BlockingShopModel" "kept" "[I") ∈ lw_all := lw_g (lw_at lw_m11 224 rfl) rfl
theorem q2719 : (Jvm.Cond.soleField "BlockingShopModel" "kept") ∈ lw_all := lw_g (lw_at lw_m11 225 rfl) rfl
theorem q2720 : (Jvm.Cond.laysFinal "BlockingShopModel" "BlockingShopModel" "history" "[[I") ∈ lw_all := lw_g (lw_at lw_m11 226 rfl) rfl
theorem q2721 : (Jvm.Cond.soleField "BlockingShopModel" "history") ∈ lw_all := lw_g (lw_at lw_m11 227 rfl) rfl
theorem q2722 : (Jvm.Cond.lays "BlockingShopModel" "BlockingShopModel" "undoDepth" "I") ∈ lw_all := lw_g (lw_at lw_m11 228 rfl) rfl
theorem q2723 : (Jvm.Cond.soleField "BlockingShopModel" "undoDepth") ∈ lw_all := lw_g (lw_at lw_m11 229 rfl) rfl
theorem q2724 : (Jvm.Cond.lays "BlockingShopModel" "BlockingShopModel" "numberStart" "I") ∈ lw_all := lw_g (lw_at lw_m11 230 rfl) rfl
theorem q2725 : (Jvm.Cond.soleField "BlockingShopModel" "numberStart") ∈ lw_all := lw_g (lw_at lw_m11 231 rfl) rfl
theorem q2726 : (Jvm.Cond.lays "BlockingShopModel" "BlockingShopModel" "nesting" "I") ∈ lw_all := lw_g (lw_at lw_m11 232 rfl) rfl
theorem q2727 : (Jvm.Cond.soleField "BlockingShopModel" "nesting") ∈ lw_all := lw_g (lw_at lw_m11 233 rfl) rfl
theorem q2728 : (Jvm.Cond.lays "BlockingShopModel" "BlockingShopModel" "seen" "I") ∈ lw_all := lw_g (lw_at lw_m11 234 rfl) rfl
theorem q2729 : (Jvm.Cond.soleField "BlockingShopModel" "seen") ∈ lw_all := lw_g (lw_at lw_m11 235 rfl) rfl
theorem q2730 : (Jvm.Cond.laysFinal "BlockingShopModel" "BlockingShopModel" "sources" "[I") ∈ lw_all := lw_g (lw_at lw_m11 236 rfl) rfl
theorem q2731 : (Jvm.Cond.soleField "BlockingShopModel" "sources") ∈ lw_all := lw_g (lw_at lw_m11 237 rfl) rfl
theorem q2732 : (Jvm.Cond.laysFinal "BlockingShopModel" "BlockingShopModel" "lengths" "[I") ∈ lw_all := lw_g (lw_at lw_m11 238 rfl) rfl
theorem q2733 : (Jvm.Cond.soleField "BlockingShopModel" "lengths") ∈ lw_all := lw_g (lw_at lw_m11 239 rfl) rfl
theorem q2734 : (Jvm.Cond.laysFinal "BlockingShopModel" "BlockingShopModel" "starts" "[I") ∈ lw_all := lw_g (lw_at lw_m12 0 rfl) rfl
theorem q2735 : (Jvm.Cond.soleField "BlockingShopModel" "starts") ∈ lw_all := lw_g (lw_at lw_m12 1 rfl) rfl
theorem q2736 : (Jvm.Cond.laysFinal "BlockingShopModel" "BlockingShopModel" "isFree" "[Z") ∈ lw_all := lw_g (lw_at lw_m12 2 rfl) rfl
theorem q2737 : (Jvm.Cond.soleField "BlockingShopModel" "isFree") ∈ lw_all := lw_g (lw_at lw_m12 3 rfl) rfl
theorem q2738 : (Jvm.Cond.laysFinal "BlockingShopModel" "BlockingShopModel" "stack" "[J") ∈ lw_all := lw_g (lw_at lw_m12 4 rfl) rfl
theorem q2739 : (Jvm.Cond.soleField "BlockingShopModel" "stack") ∈ lw_all := lw_g (lw_at lw_m12 5 rfl) rfl
theorem q2740 : (Jvm.Cond.lays "BlockingShopModel" "BlockingShopModel" "bestSpan" "I") ∈ lw_all := lw_g (lw_at lw_m12 6 rfl) rfl
theorem q2741 : (Jvm.Cond.soleField "BlockingShopModel" "bestSpan") ∈ lw_all := lw_g (lw_at lw_m12 7 rfl) rfl
theorem q2742 : (Jvm.Cond.lays "BlockingShopModel" "BlockingShopModel" "bestCost" "I") ∈ lw_all := lw_g (lw_at lw_m12 8 rfl) rfl
theorem q2743 : (Jvm.Cond.soleField "BlockingShopModel" "bestCost") ∈ lw_all := lw_g (lw_at lw_m12 9 rfl) rfl
theorem q2744 : (Jvm.Cond.laysFinal "BlockingShopModel" "BlockingShopModel" "path" "[I") ∈ lw_all := lw_g (lw_at lw_m12 10 rfl) rfl
theorem q2745 : (Jvm.Cond.soleField "BlockingShopModel" "path") ∈ lw_all := lw_g (lw_at lw_m12 11 rfl) rfl
theorem q2746 : (Jvm.Cond.lays "BlockingShopModel" "BlockingShopModel" "pathLength" "I") ∈ lw_all := lw_g (lw_at lw_m12 12 rfl) rfl
theorem q2747 : (Jvm.Cond.soleField "BlockingShopModel" "pathLength") ∈ lw_all := lw_g (lw_at lw_m12 13 rfl) rfl
theorem q2748 : (Jvm.Cond.superclass "BlockingShopModel" "java/lang/Object") ∈ lw_all := lw_g (lw_at lw_m12 14 rfl) rfl
theorem q2751 : (Jvm.Cond.instanceMethod ({ cls := "BlockingShopModel", name := "thrown", desc := "()I" } : Jvm.MethodName)) ∈ lw_all := lw_g (lw_at lw_m12 17 rfl) rfl
theorem q2752 : (Jvm.Cond.selects "BlockingShopModel" ({ cls := "BlockingShopModel", name := "thrown", desc := "()I" } : Jvm.MethodName) ({ cls := "BlockingShopModel", name := "thrown", desc := "()I" } : Jvm.MethodName)) ∈ lw_all := lw_g (lw_at lw_m12 18 rfl) rfl
theorem q2753 : (Jvm.Cond.code ({ cls := "BlockingShopModel", name := "thrown", desc := "()I" } : Jvm.MethodName) prog_15_method_2_code (1 : Nat) (Option.some Jvm.ClassFile.FieldType.int)) ∈ lw_all := lw_g (lw_at lw_m12 19 rfl) rfl
theorem q2755 : (Jvm.Cond.instanceMethod ({ cls := "BlockingShopModel", name := "append", desc := "(IIIII)I" } : Jvm.MethodName)) ∈ lw_all := lw_g (lw_at lw_m12 21 rfl) rfl
theorem q2756 : (Jvm.Cond.selects "BlockingShopModel" ({ cls := "BlockingShopModel", name := "append", desc := "(IIIII)I" } : Jvm.MethodName) ({ cls := "BlockingShopModel", name := "append", desc := "(IIIII)I" } : Jvm.MethodName)) ∈ lw_all := lw_g (lw_at lw_m12 22 rfl) rfl
theorem q2757 : (Jvm.Cond.code ({ cls := "BlockingShopModel", name := "append", desc := "(IIIII)I" } : Jvm.MethodName) prog_15_method_11_code (8 : Nat) (Option.some Jvm.ClassFile.FieldType.int)) ∈ lw_all := lw_g (lw_at lw_m12 23 rfl) rfl
theorem q2759 : (Jvm.Cond.instanceMethod ({ cls := "BlockingShopModel", name := "load", desc := "(I)I" } : Jvm.MethodName)) ∈ lw_all := lw_g (lw_at lw_m12 25 rfl) rfl
theorem q2760 : (Jvm.Cond.selects "BlockingShopModel" ({ cls := "BlockingShopModel", name := "load", desc := "(I)I" } : Jvm.MethodName) ({ cls := "BlockingShopModel", name := "load", desc := "(I)I" } : Jvm.MethodName)) ∈ lw_all := lw_g (lw_at lw_m12 26 rfl) rfl
theorem q2761 : (Jvm.Cond.code ({ cls := "BlockingShopModel", name := "load", desc := "(I)I" } : Jvm.MethodName) prog_15_method_29_code (3 : Nat) (Option.some Jvm.ClassFile.FieldType.int)) ∈ lw_all := lw_g (lw_at lw_m12 27 rfl) rfl
theorem q2762 : (Jvm.Cond.methodLink "BlockingShopModel" (73 : Nat) ({ cls := "BlockingShopModel", name := "in", desc := "(III)Z" } : Jvm.MethodName)) ∈ lw_all := lw_g (lw_at lw_m12 28 rfl) rfl
theorem q2763 : (Jvm.Cond.static ({ cls := "BlockingShopModel", name := "in", desc := "(III)Z" } : Jvm.MethodName)) ∈ lw_all := lw_g (lw_at lw_m12 29 rfl) rfl
theorem q2764 : (Jvm.Cond.code ({ cls := "BlockingShopModel", name := "in", desc := "(III)Z" } : Jvm.MethodName) prog_15_method_4_code (3 : Nat) (Option.some Jvm.ClassFile.FieldType.boolean)) ∈ lw_all := lw_g (lw_at lw_m12 30 rfl) rfl
theorem q2765 : (Jvm.Cond.methodLink "BlockingShopModel" (174 : Nat) ({ cls := "BlockingShopModel", name := "fails", desc := "(ZI)Z" } : Jvm.MethodName)) ∈ lw_all := lw_g (lw_at lw_m12 31 rfl) rfl
theorem q2766 : (Jvm.Cond.privateMethod ({ cls := "BlockingShopModel", name := "fails", desc := "(ZI)Z" } : Jvm.MethodName)) ∈ lw_tbl := lw_at lw_m12 32 rfl
theorem q2767 : (Jvm.Cond.instanceMethod ({ cls := "BlockingShopModel", name := "fails", desc := "(ZI)Z" } : Jvm.MethodName)) ∈ lw_all := lw_g (lw_at lw_m12 33 rfl) rfl
theorem q2768 : (Jvm.Cond.code ({ cls := "BlockingShopModel", name := "fails", desc := "(ZI)Z" } : Jvm.MethodName) prog_15_method_3_code (3 : Nat) (Option.some Jvm.ClassFile.FieldType.boolean)) ∈ lw_all := lw_g (lw_at lw_m12 34 rfl) rfl
theorem q2769 : (Jvm.Cond.stringRef "BlockingShopModel" (178 : Nat) "shop") ∈ lw_tbl := lw_at lw_m12 35 rfl
theorem q2770 : (Jvm.Cond.methodLink "BlockingShopModel" (122 : Nat) ({ cls := "BlockingShopModel", name := "takeWord", desc := "(Ljava/lang/String;)Z" } : Jvm.MethodName)) ∈ lw_all := lw_g (lw_at lw_m12 36 rfl) rfl
theorem q2771 : (Jvm.Cond.privateMethod ({ cls := "BlockingShopModel", name := "takeWord", desc := "(Ljava/lang/String;)Z" } : Jvm.MethodName)) ∈ lw_tbl := lw_at lw_m12 37 rfl
theorem q2772 : (Jvm.Cond.instanceMethod ({ cls := "BlockingShopModel", name := "takeWord", desc := "(Ljava/lang/String;)Z" } : Jvm.MethodName)) ∈ lw_all := lw_g (lw_at lw_m12 38 rfl) rfl
theorem q2773 : (Jvm.Cond.code ({ cls := "BlockingShopModel", name := "takeWord", desc := "(Ljava/lang/String;)Z" } : Jvm.MethodName) prog_15_method_17_code (3 : Nat) (Option.some Jvm.ClassFile.FieldType.boolean)) ∈ lw_all := lw_g (lw_at lw_m12 39 rfl) rfl
theorem q2774 : (Jvm.Cond.methodLink "BlockingShopModel" (77 : Nat) ({ cls := "BlockingShopModel", name := "isGood", desc := "()Z" } : Jvm.MethodName)) ∈ lw_all := lw_g (lw_at lw_m12 40 rfl) rfl
theorem q2775 : (Jvm.Cond.privateMethod ({ cls := "BlockingShopModel", name := "isGood", desc := "()Z" } : Jvm.MethodName)) ∈ lw_tbl := lw_at lw_m12 41 rfl
theorem q2776 : (Jvm.Cond.instanceMethod ({ cls := "BlockingShopModel", name := "isGood", desc := "()Z" } : Jvm.MethodName)) ∈ lw_all := lw_g (lw_at lw_m12 42 rfl) rfl
theorem q2777 : (Jvm.Cond.code ({ cls := "BlockingShopModel", name := "isGood", desc := "()Z" } : Jvm.MethodName) prog_15_method_14_code (1 : Nat) (Option.some Jvm.ClassFile.FieldType.boolean)) ∈ lw_all := lw_g (lw_at lw_m12 43 rfl) rfl
theorem q2778 : (Jvm.Cond.methodLink "BlockingShopModel" (81 : Nat) ({ cls := "BlockingShopModel", name := "next", desc := "()I" } : Jvm.MethodName)) ∈ lw_all := lw_g (lw_at lw_m12 44 rfl) rfl
theorem q2779 : (Jvm.Cond.privateMethod ({ cls := "BlockingShopModel", name := "next", desc := "()I" } : Jvm.MethodName)) ∈ lw_tbl := lw_at lw_m12 45 rfl
theorem q2780 : (Jvm.Cond.instanceMethod ({ cls := "BlockingShopModel", name := "next", desc := "()I" } : Jvm.MethodName)) ∈ lw_all := lw_g (lw_at lw_m12 46 rfl) rfl
theorem q2781 : (Jvm.Cond.code ({ cls := "BlockingShopModel", name := "next", desc := "()I" } : Jvm.MethodName) prog_15_method_13_code (1 : Nat) (Option.some Jvm.ClassFile.FieldType.int)) ∈ lw_all := lw_g (lw_at lw_m12 47 rfl) rfl
theorem q2782 : (Jvm.Cond.methodLink "BlockingShopModel" (63 : Nat) ({ cls := "BlockingShopModel", name := "byteAt", desc := "(I)I" } : Jvm.MethodName)) ∈ lw_all := lw_g (lw_at lw_m12 48 rfl) rfl
theorem q2783 : (Jvm.Cond.privateMethod ({ cls := "BlockingShopModel", name := "byteAt", desc := "(I)I" } : Jvm.MethodName)) ∈ lw_tbl := lw_at lw_m12 49 rfl
theorem q2784 : (Jvm.Cond.instanceMethod ({ cls := "BlockingShopModel", name := "byteAt", desc := "(I)I" } : Jvm.MethodName)) ∈ lw_all := lw_g (lw_at lw_m12 50 rfl) rfl
theorem q2785 : (Jvm.Cond.code ({ cls := "BlockingShopModel", name := "byteAt", desc := "(I)I" } : Jvm.MethodName) prog_15_method_12_code (2 : Nat) (Option.some Jvm.ClassFile.FieldType.int)) ∈ lw_all := lw_g (lw_at lw_m12 51 rfl) rfl
theorem q2786 : (Jvm.Cond.methodLink "BlockingShopModel" (85 : Nat) ({ cls := "java/lang/String", name := "length", desc := "()I" } : Jvm.MethodName)) ∈ lw_all := lw_g (lw_at lw_m12 52 rfl) rfl
theorem q2787 : (Jvm.Cond.methodLink "BlockingShopModel" (90 : Nat) ({ cls := "java/lang/String", name := "charAt", desc := "(I)C" } : Jvm.MethodName)) ∈ lw_all := lw_g (lw_at lw_m12 53 rfl) rfl
theorem q2798 : (Jvm.Cond.methodLink "BlockingShopModel" (94 : Nat) ({ cls := "BlockingShopModel", name := "report", desc := "(II)V" } : Jvm.MethodName)) ∈ lw_all := lw_g (lw_at lw_m12 64 rfl) rfl
theorem q2799 : (Jvm.Cond.privateMethod ({ cls := "BlockingShopModel", name := "report", desc := "(II)V" } : Jvm.MethodName)) ∈ lw_tbl := lw_at lw_m12 65 rfl
theorem q2800 : (Jvm.Cond.instanceMethod ({ cls := "BlockingShopModel", name := "report", desc := "(II)V" } : Jvm.MethodName)) ∈ lw_all := lw_g (lw_at lw_m12 66 rfl) rfl
theorem q2801 : (Jvm.Cond.code ({ cls := "BlockingShopModel", name := "report", desc := "(II)V" } : Jvm.MethodName) prog_15_method_15_code (3 : Nat) (Option.none : Option Jvm.ClassFile.FieldType)) ∈ lw_all := lw_g (lw_at lw_m12 67 rfl) rfl
theorem q2802 : (Jvm.Cond.methodLink "BlockingShopModel" (132 : Nat) ({ cls := "BlockingShopModel", name := "number", desc := "(II)I" } : Jvm.MethodName)) ∈ lw_all := lw_g (lw_at lw_m12 68 rfl) rfl
theorem q2803 : (Jvm.Cond.privateMethod ({ cls := "BlockingShopModel", name := "number", desc := "(II)I" } : Jvm.MethodName)) ∈ lw_tbl := lw_at lw_m12 69 rfl
theorem q2804 : (Jvm.Cond.instanceMethod ({ cls := "BlockingShopModel", name := "number", desc := "(II)I" } : Jvm.MethodName)) ∈ lw_all := lw_g (lw_at lw_m12 70 rfl) rfl
theorem q2805 : (Jvm.Cond.code ({ cls := "BlockingShopModel", name := "number", desc := "(II)I" } : Jvm.MethodName) prog_15_method_19_code (4 : Nat) (Option.some Jvm.ClassFile.FieldType.int)) ∈ lw_all := lw_g (lw_at lw_m12 71 rfl) rfl
theorem q2806 : (Jvm.Cond.methodLink "BlockingShopModel" (98 : Nat) ({ cls := "BlockingShopModel", name := "isDigit", desc := "(I)Z" } : Jvm.MethodName)) ∈ lw_all := lw_g (lw_at lw_m12 72 rfl) rfl
theorem q2807 : (Jvm.Cond.static ({ cls := "BlockingShopModel", name := "isDigit", desc := "(I)Z" } : Jvm.MethodName)) ∈ lw_all := lw_g (lw_at lw_m12 73 rfl) rfl
theorem q2808 : (Jvm.Cond.code ({ cls := "BlockingShopModel", name := "isDigit", desc := "(I)Z" } : Jvm.MethodName) prog_15_method_16_code (1 : Nat) (Option.some Jvm.ClassFile.FieldType.boolean)) ∈ lw_all := lw_g (lw_at lw_m12 74 rfl) rfl
theorem q2809 : (Jvm.Cond.constant "BlockingShopModel" (105 : Nat) (1000000 : Int32)) ∈ lw_all := lw_g (lw_at lw_m12 75 rfl) rfl
theorem q2810 : (Jvm.Cond.methodLink "BlockingShopModel" (106 : Nat) ({ cls := "BlockingShopModel", name := "min", desc := "(II)I" } : Jvm.MethodName)) ∈ lw_all := lw_g (lw_at lw_m12 76 rfl) rfl
theorem q2811 : (Jvm.Cond.static ({ cls := "BlockingShopModel", name := "min", desc := "(II)I" } : Jvm.MethodName)) ∈ lw_all := lw_g (lw_at lw_m12 77 rfl) rfl
theorem q2812 : (Jvm.Cond.code ({ cls := "BlockingShopModel", name := "min", desc := "(II)I" } : Jvm.MethodName) prog_15_method_5_code (2 : Nat) (Option.some Jvm.ClassFile.FieldType.int)) ∈ lw_all := lw_g (lw_at lw_m12 78 rfl) rfl
theorem q2813 : (Jvm.Cond.methodLink "BlockingShopModel" (116 : Nat) ({ cls := "BlockingShopModel", name := "expect", desc := "(I)V" } : Jvm.MethodName)) ∈ lw_all := lw_g (lw_at lw_m12 79 rfl) rfl
theorem q2814 : (Jvm.Cond.privateMethod ({ cls := "BlockingShopModel", name := "expect", desc := "(I)V" } : Jvm.MethodName)) ∈ lw_tbl := lw_at lw_m12 80 rfl
theorem q2815 : (Jvm.Cond.instanceMethod ({ cls := "BlockingShopModel", name := "expect", desc := "(I)V" } : Jvm.MethodName)) ∈ lw_all := lw_g (lw_at lw_m12 81 rfl) rfl
theorem q2816 : (Jvm.Cond.code ({ cls := "BlockingShopModel", name := "expect", desc := "(I)V" } : Jvm.MethodName) prog_15_method_18_code (2 : Nat) (Option.none : Option Jvm.ClassFile.FieldType)) ∈ lw_all := lw_g (lw_at lw_m12 82 rfl) rfl
theorem q2817 : (Jvm.Cond.methodLink "BlockingShopModel" (180 : Nat) ({ cls := "BlockingShopModel", name := "statement", desc := "()V" } : Jvm.MethodName)) ∈ lw_all := lw_g (lw_at lw_m12 83 rfl) rfl
theorem q2818 : (Jvm.Cond.privateMethod ({ cls := "BlockingShopModel", name := "statement", desc := "()V" } : Jvm.MethodName)) ∈ lw_tbl := lw_at lw_m12 84 rfl
theorem q2819 : (Jvm.Cond.instanceMethod ({ cls := "BlockingShopModel", name := "statement", desc := "()V" } : Jvm.MethodName)) ∈ lw_all := lw_g (lw_at lw_m12 85 rfl) rfl
theorem q2820 : (Jvm.Cond.code ({ cls := "BlockingShopModel", name := "statement", desc := "()V" } : Jvm.MethodName) prog_15_method_28_code (2 : Nat) (Option.none : Option Jvm.ClassFile.FieldType)) ∈ lw_all := lw_g (lw_at lw_m12 86 rfl) rfl
theorem q2821 : (Jvm.Cond.stringRef "BlockingShopModel" (161 : Nat) "job") ∈ lw_tbl := lw_at lw_m12 87 rfl
theorem q2822 : (Jvm.Cond.methodLink "BlockingShopModel" (162 : Nat) ({ cls := "BlockingShopModel", name := "readJob", desc := "(I)V" } : Jvm.MethodName)) ∈ lw_all := lw_g (lw_at lw_m12 88 rfl) rfl
theorem q2823 : (Jvm.Cond.privateMethod ({ cls := "BlockingShopModel", name := "readJob", desc := "(I)V" } : Jvm.MethodName)) ∈ lw_tbl := lw_at lw_m12 89 rfl
theorem q2824 : (Jvm.Cond.instanceMethod ({ cls := "BlockingShopModel", name := "readJob", desc := "(I)V" } : Jvm.MethodName)) ∈ lw_all := lw_g (lw_at lw_m12 90 rfl) rfl
theorem q2825 : (Jvm.Cond.code ({ cls := "BlockingShopModel", name := "readJob", desc := "(I)V" } : Jvm.MethodName) prog_15_method_25_code (9 : Nat) (Option.none : Option Jvm.ClassFile.FieldType)) ∈ lw_all := lw_g (lw_at lw_m12 91 rfl) rfl
theorem q2826 : (Jvm.Cond.methodLink "BlockingShopModel" (147 : Nat) ({ cls := "BlockingShopModel", name := "job", desc := "(I)I" } : Jvm.MethodName)) ∈ lw_all := lw_g (lw_at lw_m12 92 rfl) rfl
theorem q2827 : (Jvm.Cond.static ({ cls := "BlockingShopModel", name := "job", desc := "(I)I" } : Jvm.MethodName)) ∈ lw_all := lw_g (lw_at lw_m12 93 rfl) rfl
theorem q2828 : (Jvm.Cond.code ({ cls := "BlockingShopModel", name := "job", desc := "(I)I" } : Jvm.MethodName) prog_15_method_9_code (1 : Nat) (Option.some Jvm.ClassFile.FieldType.int)) ∈ lw_all := lw_g (lw_at lw_m12 94 rfl) rfl
theorem q2829 : (Jvm.Cond.stringRef "BlockingShopModel" (150 : Nat) "op") ∈ lw_tbl := lw_at lw_m12 95 rfl
theorem q2830 : (Jvm.Cond.methodLink "BlockingShopModel" (152 : Nat) ({ cls := "BlockingShopModel", name := "readOperation", desc := "(II)V" } : Jvm.MethodName)) ∈ lw_all := lw_g (lw_at lw_m12 96 rfl) rfl
theorem q2831 : (Jvm.Cond.privateMethod ({ cls := "BlockingShopModel", name := "readOperation", desc := "(II)V" } : Jvm.MethodName)) ∈ lw_tbl := lw_at lw_m12 97 rfl
theorem q2832 : (Jvm.Cond.instanceMethod ({ cls := "BlockingShopModel", name := "readOperation", desc := "(II)V" } : Jvm.MethodName)) ∈ lw_all := lw_g (lw_at lw_m12 98 rfl) rfl
theorem q2833 : (Jvm.Cond.code ({ cls := "BlockingShopModel", name := "readOperation", desc := "(II)V" } : Jvm.MethodName) prog_15_method_26_code (6 : Nat) (Option.none : Option Jvm.ClassFile.FieldType)) ∈ lw_all := lw_g (lw_at lw_m12 99 rfl) rfl
theorem q2834 : (Jvm.Cond.methodLink "BlockingShopModel" (155 : Nat) ({ cls := "BlockingShopModel", name := "operationAt", desc := "(I)I" } : Jvm.MethodName)) ∈ lw_all := lw_g (lw_at lw_m12 100 rfl) rfl
theorem q2835 : (Jvm.Cond.static ({ cls := "BlockingShopModel", name := "operationAt", desc := "(I)I" } : Jvm.MethodName)) ∈ lw_all := lw_g (lw_at lw_m12 101 rfl) rfl
theorem q2836 : (Jvm.Cond.code ({ cls := "BlockingShopModel", name := "operationAt", desc := "(I)I" } : Jvm.MethodName) prog_15_method_10_code (1 : Nat) (Option.some Jvm.ClassFile.FieldType.int)) ∈ lw_all := lw_g (lw_at lw_m12 102 rfl) rfl
theorem q2837 : (Jvm.Cond.stringRef "BlockingShopModel" (165 : Nat) "machine") ∈ lw_tbl := lw_at lw_m12 103 rfl
theorem q2838 : (Jvm.Cond.methodLink "BlockingShopModel" (166 : Nat) ({ cls := "BlockingShopModel", name := "readMachine", desc := "()V" } : Jvm.MethodName)) ∈ lw_all := lw_g (lw_at lw_m12 104 rfl) rfl
theorem q2839 : (Jvm.Cond.privateMethod ({ cls := "BlockingShopModel", name := "readMachine", desc := "()V" } : Jvm.MethodName)) ∈ lw_tbl := lw_at lw_m12 105 rfl
theorem q2840 : (Jvm.Cond.instanceMethod ({ cls := "BlockingShopModel", name := "readMachine", desc := "()V" } : Jvm.MethodName)) ∈ lw_all := lw_g (lw_at lw_m12 106 rfl) rfl
theorem q2841 : (Jvm.Cond.code ({ cls := "BlockingShopModel", name := "readMachine", desc := "()V" } : Jvm.MethodName) prog_15_method_27_code (4 : Nat) (Option.none : Option Jvm.ClassFile.FieldType)) ∈ lw_all := lw_g (lw_at lw_m12 107 rfl) rfl
theorem q2842 : (Jvm.Cond.methodLink "BlockingShopModel" (158 : Nat) ({ cls := "BlockingShopModel", name := "machine", desc := "(I)I" } : Jvm.MethodName)) ∈ lw_all := lw_g (lw_at lw_m12 108 rfl) rfl
theorem q2843 : (Jvm.Cond.static ({ cls := "BlockingShopModel", name := "machine", desc := "(I)I" } : Jvm.MethodName)) ∈ lw_all := lw_g (lw_at lw_m12 109 rfl) rfl
theorem q2844 : (Jvm.Cond.code ({ cls := "BlockingShopModel", name := "machine", desc := "(I)I" } : Jvm.MethodName) prog_15_method_8_code (1 : Nat) (Option.some Jvm.ClassFile.FieldType.int)) ∈ lw_all := lw_g (lw_at lw_m12 110 rfl) rfl
theorem q2845 : (Jvm.Cond.stringRef "BlockingShopModel" (169 : Nat) "cost") ∈ lw_tbl := lw_at lw_m12 111 rfl
theorem q2846 : (Jvm.Cond.methodLink "BlockingShopModel" (171 : Nat) ({ cls := "BlockingShopModel", name := "once", desc := "(II)V" } : Jvm.MethodName)) ∈ lw_all := lw_g (lw_at lw_m12 112 rfl) rfl
theorem q2847 : (Jvm.Cond.privateMethod ({ cls := "BlockingShopModel", name := "once", desc := "(II)V" } : Jvm.MethodName)) ∈ lw_tbl := lw_at lw_m12 113 rfl
theorem q2848 : (Jvm.Cond.instanceMethod ({ cls := "BlockingShopModel", name := "once", desc := "(II)V" } : Jvm.MethodName)) ∈ lw_all := lw_g (lw_at lw_m12 114 rfl) rfl
theorem q2849 : (Jvm.Cond.code ({ cls := "BlockingShopModel", name := "once", desc := "(II)V" } : Jvm.MethodName) prog_15_method_24_code (3 : Nat) (Option.none : Option Jvm.ClassFile.FieldType)) ∈ lw_all := lw_g (lw_at lw_m12 115 rfl) rfl
theorem q2850 : (Jvm.Cond.methodLink "BlockingShopModel" (113 : Nat) ({ cls := "BlockingShopModel", name := "sum", desc := "()V" } : Jvm.MethodName)) ∈ lw_all := lw_g (lw_at lw_m12 116 rfl) rfl
theorem q2851 : (Jvm.Cond.privateMethod ({ cls := "BlockingShopModel", name := "sum", desc := "()V" } : Jvm.MethodName)) ∈ lw_tbl := lw_at lw_m12 117 rfl
theorem q2852 : (Jvm.Cond.instanceMethod ({ cls := "BlockingShopModel", name := "sum", desc := "()V" } : Jvm.MethodName)) ∈ lw_all := lw_g (lw_at lw_m12 118 rfl) rfl
theorem q2853 : (Jvm.Cond.code ({ cls := "BlockingShopModel", name := "sum", desc := "()V" } : Jvm.MethodName) prog_15_method_23_code (2 : Nat) (Option.none : Option Jvm.ClassFile.FieldType)) ∈ lw_all := lw_g (lw_at lw_m12 119 rfl) rfl
theorem q2854 : (Jvm.Cond.methodLink "BlockingShopModel" (141 : Nat) ({ cls := "BlockingShopModel", name := "term", desc := "()V" } : Jvm.MethodName)) ∈ lw_all := lw_g (lw_at lw_m12 120 rfl) rfl
theorem q2855 : (Jvm.Cond.privateMethod ({ cls := "BlockingShopModel", name := "term", desc := "()V" } : Jvm.MethodName)) ∈ lw_tbl := lw_at lw_m12 121 rfl
theorem q2856 : (Jvm.Cond.instanceMethod ({ cls := "BlockingShopModel", name := "term", desc := "()V" } : Jvm.MethodName)) ∈ lw_all := lw_g (lw_at lw_m12 122 rfl) rfl
theorem q2857 : (Jvm.Cond.code ({ cls := "BlockingShopModel", name := "term", desc := "()V" } : Jvm.MethodName) prog_15_method_22_code (2 : Nat) (Option.none : Option Jvm.ClassFile.FieldType)) ∈ lw_all := lw_g (lw_at lw_m12 123 rfl) rfl
theorem q2858 : (Jvm.Cond.methodLink "BlockingShopModel" (138 : Nat) ({ cls := "BlockingShopModel", name := "factor", desc := "()V" } : Jvm.MethodName)) ∈ lw_all := lw_g (lw_at lw_m12 124 rfl) rfl
theorem q2859 : (Jvm.Cond.privateMethod ({ cls := "BlockingShopModel", name := "factor", desc := "()V" } : Jvm.MethodName)) ∈ lw_tbl := lw_at lw_m12 125 rfl
theorem q2860 : (Jvm.Cond.instanceMethod ({ cls := "BlockingShopModel", name := "factor", desc := "()V" } : Jvm.MethodName)) ∈ lw_all := lw_g (lw_at lw_m12 126 rfl) rfl
theorem q2861 : (Jvm.Cond.code ({ cls := "BlockingShopModel", name := "factor", desc := "()V" } : Jvm.MethodName) prog_15_method_21_code (4 : Nat) (Option.none : Option Jvm.ClassFile.FieldType)) ∈ lw_all := lw_g (lw_at lw_m12 127 rfl) rfl
theorem q2862 : (Jvm.Cond.stringRef "BlockingShopModel" (120 : Nat) "completion") ∈ lw_tbl := lw_at lw_m12 128 rfl
theorem q2863 : (Jvm.Cond.stringRef "BlockingShopModel" (126 : Nat) "due") ∈ lw_tbl := lw_at lw_m12 129 rfl
theorem q2864 : (Jvm.Cond.stringRef "BlockingShopModel" (128 : Nat) "weight") ∈ lw_tbl := lw_at lw_m12 130 rfl
theorem q2865 : (Jvm.Cond.stringRef "BlockingShopModel" (130 : Nat) "release") ∈ lw_tbl := lw_at lw_m12 131 rfl
theorem q2866 : (Jvm.Cond.methodLink "BlockingShopModel" (135 : Nat) ({ cls := "BlockingShopModel", name := "emit", desc := "(I)V" } : Jvm.MethodName)) ∈ lw_all := lw_g (lw_at lw_m12 132 rfl) rfl
theorem q2867 : (Jvm.Cond.privateMethod ({ cls := "BlockingShopModel", name := "emit", desc := "(I)V" } : Jvm.MethodName)) ∈ lw_tbl := lw_at lw_m12 133 rfl
theorem q2868 : (Jvm.Cond.instanceMethod ({ cls := "BlockingShopModel", name := "emit", desc := "(I)V" } : Jvm.MethodName)) ∈ lw_all := lw_g (lw_at lw_m12 134 rfl) rfl
theorem q2869 : (Jvm.Cond.code ({ cls := "BlockingShopModel", name := "emit", desc := "(I)V" } : Jvm.MethodName) prog_15_method_20_code (2 : Nat) (Option.none : Option Jvm.ClassFile.FieldType)) ∈ lw_all := lw_g (lw_at lw_m12 135 rfl) rfl
theorem q2870 : (Jvm.Cond.methodLink "BlockingShopModel" (183 : Nat) ({ cls := "BlockingShopModel", name := "remember", desc := "()V" } : Jvm.MethodName)) ∈ lw_all := lw_g (lw_at lw_m12 136 rfl) rfl
theorem q2871 : (Jvm.Cond.privateMethod ({ cls := "BlockingShopModel", name := "remember", desc := "()V" } : Jvm.MethodName)) ∈ lw_tbl := lw_at lw_m12 137 rfl
theorem q2872 : (Jvm.Cond.instanceMethod ({ cls := "BlockingShopModel", name := "remember", desc := "()V" } : Jvm.MethodName)) ∈ lw_all := lw_g (lw_at lw_m12 138 rfl) rfl
theorem q2873 : (Jvm.Cond.code ({ cls := "BlockingShopModel", name := "remember", desc := "()V" } : Jvm.MethodName) prog_15_method_82_code (2 : Nat) (Option.none : Option Jvm.ClassFile.FieldType)) ∈ lw_all := lw_g (lw_at lw_m12 139 rfl) rfl
theorem q2874 : (Jvm.Cond.methodLink "BlockingShopModel" (186 : Nat) ({ cls := "BlockingShopModel", name := "copy", desc := "([I[I)V" } : Jvm.MethodName)) ∈ lw_all := lw_g (lw_at lw_m12 140 rfl) rfl
theorem q2875 : (Jvm.Cond.static ({ cls := "BlockingShopModel", name := "copy", desc := "([I[I)V" } : Jvm.MethodName)) ∈ lw_all := lw_g (lw_at lw_m12 141 rfl) rfl
theorem q2876 : (Jvm.Cond.code ({ cls := "BlockingShopModel", name := "copy", desc := "([I[I)V" } : Jvm.MethodName) prog_15_method_7_code (3 : Nat) (Option.none : Option Jvm.ClassFile.FieldType)) ∈ lw_all := lw_g (lw_at lw_m12 142 rfl) rfl
theorem q2877 : (Jvm.Cond.methodLink "BlockingShopModel" (190 : Nat) ({ cls := "BlockingShopModel", name := "layFirst", desc := "()V" } : Jvm.MethodName)) ∈ lw_all := lw_g (lw_at lw_m12 143 rfl) rfl
theorem q2878 : (Jvm.Cond.privateMethod ({ cls := "BlockingShopModel", name := "layFirst", desc := "()V" } : Jvm.MethodName)) ∈ lw_tbl := lw_at lw_m12 144 rfl
theorem q2879 : (Jvm.Cond.instanceMethod ({ cls := "BlockingShopModel", name := "layFirst", desc := "()V" } : Jvm.MethodName)) ∈ lw_all := lw_g (lw_at lw_m12 145 rfl) rfl
theorem q2880 : (Jvm.Cond.code ({ cls := "BlockingShopModel", name := "layFirst", desc := "()V" } : Jvm.MethodName) prog_15_method_31_code (4 : Nat) (Option.none : Option Jvm.ClassFile.FieldType)) ∈ lw_all := lw_g (lw_at lw_m12 146 rfl) rfl
theorem q2882 : (Jvm.Cond.instanceMethod ({ cls := "BlockingShopModel", name := "errorOffset", desc := "()I" } : Jvm.MethodName)) ∈ lw_all := lw_g (lw_at lw_m12 148 rfl) rfl
theorem q2883 : (Jvm.Cond.selects "BlockingShopModel" ({ cls := "BlockingShopModel", name := "errorOffset", desc := "()I" } : Jvm.MethodName) ({ cls := "BlockingShopModel", name := "errorOffset", desc := "()I" } : Jvm.MethodName)) ∈ lw_all := lw_g (lw_at lw_m12 149 rfl) rfl
theorem q2884 : (Jvm.Cond.code ({ cls := "BlockingShopModel", name := "errorOffset", desc := "()I" } : Jvm.MethodName) prog_15_method_30_code (1 : Nat) (Option.some Jvm.ClassFile.FieldType.int)) ∈ lw_all := lw_g (lw_at lw_m12 150 rfl) rfl
theorem q2886 : (Jvm.Cond.instanceMethod ({ cls := "BlockingShopModel", name := "machineCount", desc := "()I" } : Jvm.MethodName)) ∈ lw_all := lw_g (lw_at lw_m12 152 rfl) rfl
theorem q2887 : (Jvm.Cond.selects "BlockingShopModel" ({ cls := "BlockingShopModel", name := "machineCount", desc := "()I" } : Jvm.MethodName) ({ cls := "BlockingShopModel", name := "machineCount", desc := "()I" } : Jvm.MethodName)) ∈ lw_all := lw_g (lw_at lw_m12 153 rfl) rfl
theorem q2888 : (Jvm.Cond.code ({ cls := "BlockingShopModel", name := "machineCount", desc := "()I" } : Jvm.MethodName) prog_15_method_60_code (1 : Nat) (Option.some Jvm.ClassFile.FieldType.int)) ∈ lw_all := lw_g (lw_at lw_m12 154 rfl) rfl
theorem q2890 : (Jvm.Cond.instanceMethod ({ cls := "BlockingShopModel", name := "jobCount", desc := "()I" } : Jvm.MethodName)) ∈ lw_all := lw_g (lw_at lw_m12 156 rfl) rfl
theorem q2891 : (Jvm.Cond.selects "BlockingShopModel" ({ cls := "BlockingShopModel", name := "jobCount", desc := "()I" } : Jvm.MethodName) ({ cls := "BlockingShopModel", name := "jobCount", desc := "()I" } : Jvm.MethodName)) ∈ lw_all := lw_g (lw_at lw_m12 157 rfl) rfl
theorem q2892 : (Jvm.Cond.code ({ cls := "BlockingShopModel", name := "jobCount", desc := "()I" } : Jvm.MethodName) prog_15_method_61_code (1 : Nat) (Option.some Jvm.ClassFile.FieldType.int)) ∈ lw_all := lw_g (lw_at lw_m12 158 rfl) rfl
theorem q2894 : (Jvm.Cond.instanceMethod ({ cls := "BlockingShopModel", name := "operationCount", desc := "(I)I" } : Jvm.MethodName)) ∈ lw_all := lw_g (lw_at lw_m12 160 rfl) rfl
theorem q2895 : (Jvm.Cond.selects "BlockingShopModel" ({ cls := "BlockingShopModel", name := "operationCount", desc := "(I)I" } : Jvm.MethodName) ({ cls := "BlockingShopModel", name := "operationCount", desc := "(I)I" } : Jvm.MethodName)) ∈ lw_all := lw_g (lw_at lw_m12 161 rfl) rfl
theorem q2896 : (Jvm.Cond.code ({ cls := "BlockingShopModel", name := "operationCount", desc := "(I)I" } : Jvm.MethodName) prog_15_method_62_code (2 : Nat) (Option.some Jvm.ClassFile.FieldType.int)) ∈ lw_all := lw_g (lw_at lw_m12 162 rfl) rfl
theorem q2897 : (Jvm.Cond.methodLink "BlockingShopModel" (269 : Nat) ({ cls := "BlockingShopModel", name := "noJob", desc := "(I)Z" } : Jvm.MethodName)) ∈ lw_all := lw_g (lw_at lw_m12 163 rfl) rfl
theorem q2898 : (Jvm.Cond.privateMethod ({ cls := "BlockingShopModel", name := "noJob", desc := "(I)Z" } : Jvm.MethodName)) ∈ lw_tbl := lw_at lw_m12 164 rfl
theorem q2899 : (Jvm.Cond.instanceMethod ({ cls := "BlockingShopModel", name := "noJob", desc := "(I)Z" } : Jvm.MethodName)) ∈ lw_all := lw_g (lw_at lw_m12 165 rfl) rfl
theorem q2900 : (Jvm.Cond.code ({ cls := "BlockingShopModel", name := "noJob", desc := "(I)Z" } : Jvm.MethodName) prog_15_method_57_code (2 : Nat) (Option.some Jvm.ClassFile.FieldType.boolean)) ∈ lw_all := lw_g (lw_at lw_m12 166 rfl) rfl
theorem q2902 : (Jvm.Cond.instanceMethod ({ cls := "BlockingShopModel", name := "operation", desc := "(III)I" } : Jvm.MethodName)) ∈ lw_all := lw_g (lw_at lw_m12 168 rfl) rfl
theorem q2903 : (Jvm.Cond.selects "BlockingShopModel" ({ cls := "BlockingShopModel", name := "operation", desc := "(III)I" } : Jvm.MethodName) ({ cls := "BlockingShopModel", name := "operation", desc := "(III)I" } : Jvm.MethodName)) ∈ lw_all := lw_g (lw_at lw_m12 169 rfl) rfl
theorem q2904 : (Jvm.Cond.code ({ cls := "BlockingShopModel", name := "operation", desc := "(III)I" } : Jvm.MethodName) prog_15_method_63_code (5 : Nat) (Option.some Jvm.ClassFile.FieldType.int)) ∈ lw_all := lw_g (lw_at lw_m12 170 rfl) rfl
theorem q2905 : (Jvm.Cond.methodLink "BlockingShopModel" (275 : Nat) ({ cls := "BlockingShopModel", name := "noOperation", desc := "(II)Z" } : Jvm.MethodName)) ∈ lw_all := lw_g (lw_at lw_m12 171 rfl) rfl
theorem q2906 : (Jvm.Cond.privateMethod ({ cls := "BlockingShopModel", name := "noOperation", desc := "(II)Z" } : Jvm.MethodName)) ∈ lw_tbl := lw_at lw_m12 172 rfl
theorem q2907 : (Jvm.Cond.instanceMethod ({ cls := "BlockingShopModel", name := "noOperation", desc := "(II)Z" } : Jvm.MethodName)) ∈ lw_all := lw_g (lw_at lw_m12 173 rfl) rfl
theorem q2908 : (Jvm.Cond.code ({ cls := "BlockingShopModel", name := "noOperation", desc := "(II)Z" } : Jvm.MethodName) prog_15_method_58_code (3 : Nat) (Option.some Jvm.ClassFile.FieldType.boolean)) ∈ lw_all := lw_g (lw_at lw_m12 174 rfl) rfl
theorem q2909 : (Jvm.Cond.methodLink "BlockingShopModel" (279 : Nat) ({ cls := "BlockingShopModel", name := "placeOf", desc := "(I)I" } : Jvm.MethodName)) ∈ lw_all := lw_g (lw_at lw_m12 175 rfl) rfl
theorem q2910 : (Jvm.Cond.privateMethod ({ cls := "BlockingShopModel", name := "placeOf", desc := "(I)I" } : Jvm.MethodName)) ∈ lw_tbl := lw_at lw_m12 176 rfl
theorem q2911 : (Jvm.Cond.instanceMethod ({ cls := "BlockingShopModel", name := "placeOf", desc := "(I)I" } : Jvm.MethodName)) ∈ lw_all := lw_g (lw_at lw_m12 177 rfl) rfl
theorem q2912 : (Jvm.Cond.code ({ cls := "BlockingShopModel", name := "placeOf", desc := "(I)I" } : Jvm.MethodName) prog_15_method_36_code (4 : Nat) (Option.some Jvm.ClassFile.FieldType.int)) ∈ lw_all := lw_g (lw_at lw_m12 178 rfl) rfl
theorem q2913 : (Jvm.Cond.methodLink "BlockingShopModel" (193 : Nat) ({ cls := "BlockingShopModel", name := "machineOf", desc := "(I)I" } : Jvm.MethodName)) ∈ lw_all := lw_g (lw_at lw_m12 179 rfl) rfl
theorem q2914 : (Jvm.Cond.privateMethod ({ cls := "BlockingShopModel", name := "machineOf", desc := "(I)I" } : Jvm.MethodName)) ∈ lw_tbl := lw_at lw_m12 180 rfl
theorem q2915 : (Jvm.Cond.instanceMethod ({ cls := "BlockingShopModel", name := "machineOf", desc := "(I)I" } : Jvm.MethodName)) ∈ lw_all := lw_g (lw_at lw_m12 181 rfl) rfl
theorem q2916 : (Jvm.Cond.code ({ cls := "BlockingShopModel", name := "machineOf", desc := "(I)I" } : Jvm.MethodName) prog_15_method_34_code (2 : Nat) (Option.some Jvm.ClassFile.FieldType.int)) ∈ lw_all := lw_g (lw_at lw_m12 182 rfl) rfl
theorem q2918 : (Jvm.Cond.instanceMethod ({ cls := "BlockingShopModel", name := "orderLength", desc := "(I)I" } : Jvm.MethodName)) ∈ lw_all := lw_g (lw_at lw_m12 184 rfl) rfl
theorem q2919 : (Jvm.Cond.selects "BlockingShopModel" ({ cls := "BlockingShopModel", name := "orderLength", desc := "(I)I" } : Jvm.MethodName) ({ cls := "BlockingShopModel", name := "orderLength", desc := "(I)I" } : Jvm.MethodName)) ∈ lw_all := lw_g (lw_at lw_m12 185 rfl) rfl
theorem q2920 : (Jvm.Cond.code ({ cls := "BlockingShopModel", name := "orderLength", desc := "(I)I" } : Jvm.MethodName) prog_15_method_64_code (2 : Nat) (Option.some Jvm.ClassFile.FieldType.int)) ∈ lw_all := lw_g (lw_at lw_m12 186 rfl) rfl
theorem q2921 : (Jvm.Cond.methodLink "BlockingShopModel" (272 : Nat) ({ cls := "BlockingShopModel", name := "noMachine", desc := "(I)Z" } : Jvm.MethodName)) ∈ lw_all := lw_g (lw_at lw_m12 187 rfl) rfl
theorem q2922 : (Jvm.Cond.privateMethod ({ cls := "BlockingShopModel", name := "noMachine", desc := "(I)Z" } : Jvm.MethodName)) ∈ lw_tbl := lw_at lw_m12 188 rfl
theorem q2923 : (Jvm.Cond.instanceMethod ({ cls := "BlockingShopModel", name := "noMachine", desc := "(I)Z" } : Jvm.MethodName)) ∈ lw_all := lw_g (lw_at lw_m12 189 rfl) rfl
theorem q2924 : (Jvm.Cond.code ({ cls := "BlockingShopModel", name := "noMachine", desc := "(I)Z" } : Jvm.MethodName) prog_15_method_56_code (2 : Nat) (Option.some Jvm.ClassFile.FieldType.boolean)) ∈ lw_all := lw_g (lw_at lw_m12 190 rfl) rfl
theorem q2926 : (Jvm.Cond.instanceMethod ({ cls := "BlockingShopModel", name := "orderAt", desc := "(II)I" } : Jvm.MethodName)) ∈ lw_all := lw_g (lw_at lw_m12 192 rfl) rfl
theorem q2927 : (Jvm.Cond.selects "BlockingShopModel" ({ cls := "BlockingShopModel", name := "orderAt", desc := "(II)I" } : Jvm.MethodName) ({ cls := "BlockingShopModel", name := "orderAt", desc := "(II)I" } : Jvm.MethodName)) ∈ lw_all := lw_g (lw_at lw_m12 193 rfl) rfl
theorem q2928 : (Jvm.Cond.code ({ cls := "BlockingShopModel", name := "orderAt", desc := "(II)I" } : Jvm.MethodName) prog_15_method_65_code (3 : Nat) (Option.some Jvm.ClassFile.FieldType.int)) ∈ lw_all := lw_g (lw_at lw_m12 194 rfl) rfl
theorem q2929 : (Jvm.Cond.methodLink "BlockingShopModel" (282 : Nat) ({ cls := "BlockingShopModel", name := "told", desc := "(I)I" } : Jvm.MethodName)) ∈ lw_all := lw_g (lw_at lw_m12 195 rfl) rfl
theorem q2930 : (Jvm.Cond.static ({ cls := "BlockingShopModel", name := "told", desc := "(I)I" } : Jvm.MethodName)) ∈ lw_all := lw_g (lw_at lw_m12 196 rfl) rfl
theorem q2931 : (Jvm.Cond.code ({ cls := "BlockingShopModel", name := "told", desc := "(I)I" } : Jvm.MethodName) prog_15_method_55_code (1 : Nat) (Option.some Jvm.ClassFile.FieldType.int)) ∈ lw_all := lw_g (lw_at lw_m12 197 rfl) rfl
theorem q2933 : (Jvm.Cond.instanceMethod ({ cls := "BlockingShopModel", name := "start", desc := "(II)I" } : Jvm.MethodName)) ∈ lw_all := lw_g (lw_at lw_m12 199 rfl) rfl
theorem q2934 : (Jvm.Cond.selects "BlockingShopModel" ({ cls := "BlockingShopModel", name := "start", desc := "(II)I" } : Jvm.MethodName) ({ cls := "BlockingShopModel", name := "start", desc := "(II)I" } : Jvm.MethodName)) ∈ lw_all := lw_g (lw_at lw_m12 200 rfl) rfl
theorem q2935 : (Jvm.Cond.code ({ cls := "BlockingShopModel", name := "start", desc := "(II)I" } : Jvm.MethodName) prog_15_method_66_code (3 : Nat) (Option.some Jvm.ClassFile.FieldType.int)) ∈ lw_all := lw_g (lw_at lw_m12 201 rfl) rfl
theorem q2936 : (Jvm.Cond.methodLink "BlockingShopModel" (217 : Nat) ({ cls := "BlockingShopModel", name := "findStarts", desc := "()Z" } : Jvm.MethodName)) ∈ lw_all := lw_g (lw_at lw_m12 202 rfl) rfl
theorem q2937 : (Jvm.Cond.privateMethod ({ cls := "BlockingShopModel", name := "findStarts", desc := "()Z" } : Jvm.MethodName)) ∈ lw_tbl := lw_at lw_m12 203 rfl
theorem q2938 : (Jvm.Cond.instanceMethod ({ cls := "BlockingShopModel", name := "findStarts", desc := "()Z" } : Jvm.MethodName)) ∈ lw_all := lw_g (lw_at lw_m12 204 rfl) rfl
theorem q2939 : (Jvm.Cond.code ({ cls := "BlockingShopModel", name := "findStarts", desc := "()Z" } : Jvm.MethodName) prog_15_method_40_code (4 : Nat) (Option.some Jvm.ClassFile.FieldType.boolean)) ∈ lw_all := lw_g (lw_at lw_m12 205 rfl) rfl
theorem q2940 : (Jvm.Cond.methodLink "BlockingShopModel" (208 : Nat) ({ cls := "BlockingShopModel", name := "layArcs", desc := "()V" } : Jvm.MethodName)) ∈ lw_all := lw_g (lw_at lw_m12 206 rfl) rfl
theorem q2941 : (Jvm.Cond.privateMethod ({ cls := "BlockingShopModel", name := "layArcs", desc := "()V" } : Jvm.MethodName)) ∈ lw_tbl := lw_at lw_m12 207 rfl
theorem q2942 : (Jvm.Cond.instanceMethod ({ cls := "BlockingShopModel", name := "layArcs", desc := "()V" } : Jvm.MethodName)) ∈ lw_all := lw_g (lw_at lw_m12 208 rfl) rfl
theorem q2943 : (Jvm.Cond.code ({ cls := "BlockingShopModel", name := "layArcs", desc := "()V" } : Jvm.MethodName) prog_15_method_38_code (6 : Nat) (Option.none : Option Jvm.ClassFile.FieldType)) ∈ lw_all := lw_g (lw_at lw_m12 209 rfl) rfl
theorem q2944 : (Jvm.Cond.methodLink "BlockingShopModel" (199 : Nat) ({ cls := "BlockingShopModel", name := "isBlocking", desc := "(I)Z" } : Jvm.MethodName)) ∈ lw_all := lw_g (lw_at lw_m12 210 rfl) rfl
theorem q2945 : (Jvm.Cond.privateMethod ({ cls := "BlockingShopModel", name := "isBlocking", desc := "(I)Z" } : Jvm.MethodName)) ∈ lw_tbl := lw_at lw_m12 211 rfl
theorem q2946 : (Jvm.Cond.instanceMethod ({ cls := "BlockingShopModel", name := "isBlocking", desc := "(I)Z" } : Jvm.MethodName)) ∈ lw_all := lw_g (lw_at lw_m12 212 rfl) rfl
theorem q2947 : (Jvm.Cond.code ({ cls := "BlockingShopModel", name := "isBlocking", desc := "(I)Z" } : Jvm.MethodName) prog_15_method_37_code (2 : Nat) (Option.some Jvm.ClassFile.FieldType.boolean)) ∈ lw_all := lw_g (lw_at lw_m12 213 rfl) rfl
theorem q2948 : (Jvm.Cond.methodLink "BlockingShopModel" (196 : Nat) ({ cls := "BlockingShopModel", name := "isLast", desc := "(I)Z" } : Jvm.MethodName)) ∈ lw_all := lw_g (lw_at lw_m12 214 rfl) rfl
theorem q2949 : (Jvm.Cond.privateMethod ({ cls := "BlockingShopModel", name := "isLast", desc := "(I)Z" } : Jvm.MethodName)) ∈ lw_tbl := lw_at lw_m12 215 rfl
theorem q2950 : (Jvm.Cond.instanceMethod ({ cls := "BlockingShopModel", name := "isLast", desc := "(I)Z" } : Jvm.MethodName)) ∈ lw_all := lw_g (lw_at lw_m12 216 rfl) rfl
theorem q2951 : (Jvm.Cond.code ({ cls := "BlockingShopModel", name := "isLast", desc := "(I)Z" } : Jvm.MethodName) prog_15_method_33_code (2 : Nat) (Option.some Jvm.ClassFile.FieldType.boolean)) ∈ lw_all := lw_g (lw_at lw_m12 217 rfl) rfl
theorem q2952 : (Jvm.Cond.methodLink "BlockingShopModel" (202 : Nat) ({ cls := "BlockingShopModel", name := "durationOf", desc := "(I)I" } : Jvm.MethodName)) ∈ lw_all := lw_g (lw_at lw_m12 218 rfl) rfl
theorem q2953 : (Jvm.Cond.privateMethod ({ cls := "BlockingShopModel", name := "durationOf", desc := "(I)I" } : Jvm.MethodName)) ∈ lw_tbl := lw_at lw_m12 219 rfl
theorem q2954 : (Jvm.Cond.instanceMethod ({ cls := "BlockingShopModel", name := "durationOf", desc := "(I)I" } : Jvm.MethodName)) ∈ lw_all := lw_g (lw_at lw_m12 220 rfl) rfl
theorem q2955 : (Jvm.Cond.code ({ cls := "BlockingShopModel", name := "durationOf", desc := "(I)I" } : Jvm.MethodName) prog_15_method_35_code (2 : Nat) (Option.some Jvm.ClassFile.FieldType.int)) ∈ lw_all := lw_g (lw_at lw_m12 221 rfl) rfl
theorem q2956 : (Jvm.Cond.methodLink "BlockingShopModel" (211 : Nat) ({ cls := "BlockingShopModel", name := "isThere", desc := "(I)Z" } : Jvm.MethodName)) ∈ lw_all := lw_g (lw_at lw_m12 222 rfl) rfl
theorem q2957 : (Jvm.Cond.privateMethod ({ cls := "BlockingShopModel", name := "isThere", desc := "(I)Z" } : Jvm.MethodName)) ∈ lw_tbl := lw_at lw_m12 223 rfl
theorem q2958 : (Jvm.Cond.instanceMethod ({ cls := "BlockingShopModel", name := "isThere", desc := "(I)Z" } : Jvm.MethodName)) ∈ lw_all := lw_g (lw_at lw_m12 224 rfl) rfl
theorem q2959 : (Jvm.Cond.code ({ cls := "BlockingShopModel", name := "isThere", desc := "(I)Z" } : Jvm.MethodName) prog_15_method_32_code (2 : Nat) (Option.some Jvm.ClassFile.FieldType.boolean)) ∈ lw_all := lw_g (lw_at lw_m12 225 rfl) rfl
theorem q2960 : (Jvm.Cond.methodLink "BlockingShopModel" (214 : Nat) ({ cls := "BlockingShopModel", name := "raises", desc := "(I)Z" } : Jvm.MethodName)) ∈ lw_all := lw_g (lw_at lw_m12 226 rfl) rfl
theorem q2961 : (Jvm.Cond.privateMethod ({ cls := "BlockingShopModel", name := "raises", desc := "(I)Z" } : Jvm.MethodName)) ∈ lw_tbl := lw_at lw_m12 227 rfl
theorem q2962 : (Jvm.Cond.instanceMethod ({ cls := "BlockingShopModel", name := "raises", desc := "(I)Z" } : Jvm.MethodName)) ∈ lw_all := lw_g (lw_at lw_m12 228 rfl) rfl
theorem q2963 : (Jvm.Cond.code ({ cls := "BlockingShopModel", name := "raises", desc := "(I)Z" } : Jvm.MethodName) prog_15_method_39_code (3 : Nat) (Option.some Jvm.ClassFile.FieldType.boolean)) ∈ lw_all := lw_g (lw_at lw_m12 229 rfl) rfl
theorem q2964 : (Jvm.Cond.methodLink "BlockingShopModel" (205 : Nat) ({ cls := "BlockingShopModel", name := "max", desc := "(II)I" } : Jvm.MethodName)) ∈ lw_all := lw_g (lw_at lw_m12 230 rfl) rfl
theorem q2965 : (Jvm.Cond.static ({ cls := "BlockingShopModel", name := "max", desc := "(II)I" } : Jvm.MethodName)) ∈ lw_all := lw_g (lw_at lw_m12 231 rfl) rfl
theorem q2966 : (Jvm.Cond.code ({ cls := "BlockingShopModel", name := "max", desc := "(II)I" } : Jvm.MethodName) prog_15_method_6_code (2 : Nat) (Option.some Jvm.ClassFile.FieldType.int)) ∈ lw_all := lw_g (lw_at lw_m12 232 rfl) rfl
theorem q2968 : (Jvm.Cond.instanceMethod ({ cls := "BlockingShopModel", name := "leave", desc := "(II)I" } : Jvm.MethodName)) ∈ lw_all := lw_g (lw_at lw_m12 234 rfl) rfl
theorem q2969 : (Jvm.Cond.selects "BlockingShopModel" ({ cls := "BlockingShopModel", name := "leave", desc := "(II)I" } : Jvm.MethodName) ({ cls := "BlockingShopModel", name := "leave", desc := "(II)I" } : Jvm.MethodName)) ∈ lw_all := lw_g (lw_at lw_m12 235 rfl) rfl
theorem q2970 : (Jvm.Cond.code ({ cls := "BlockingShopModel", name := "leave", desc := "(II)I" } : Jvm.MethodName) prog_15_method_67_code (3 : Nat) (Option.some Jvm.ClassFile.FieldType.int)) ∈ lw_all := lw_g (lw_at lw_m12 236 rfl) rfl
theorem q2971 : (Jvm.Cond.methodLink "BlockingShopModel" (285 : Nat) ({ cls := "BlockingShopModel", name := "leaveOf", desc := "(I)I" } : Jvm.MethodName)) ∈ lw_all := lw_g (lw_at lw_m12 237 rfl) rfl
theorem q2972 : (Jvm.Cond.privateMethod ({ cls := "BlockingShopModel", name := "leaveOf", desc := "(I)I" } : Jvm.MethodName)) ∈ lw_tbl := lw_at lw_m12 238 rfl
theorem q2973 : (Jvm.Cond.instanceMethod ({ cls := "BlockingShopModel", name := "leaveOf", desc := "(I)I" } : Jvm.MethodName)) ∈ lw_all := lw_g (lw_at lw_m12 239 rfl) rfl
theorem q2974 : (Jvm.Cond.code ({ cls := "BlockingShopModel", name := "leaveOf", desc := "(I)I" } : Jvm.MethodName) prog_15_method_49_code (2 : Nat) (Option.some Jvm.ClassFile.FieldType.int)) ∈ lw_all := lw_g (lw_at lw_m13 0 rfl) rfl
theorem q2976 : (Jvm.Cond.instanceMethod ({ cls := "BlockingShopModel", name := "completion", desc := "(I)I" } : Jvm.MethodName)) ∈ lw_all := lw_g (lw_at lw_m13 2 rfl) rfl
theorem q2977 : (Jvm.Cond.selects "BlockingShopModel" ({ cls := "BlockingShopModel", name := "completion", desc := "(I)I" } : Jvm.MethodName) ({ cls := "BlockingShopModel", name := "completion", desc := "(I)I" } : Jvm.MethodName)) ∈ lw_all := lw_g (lw_at lw_m13 3 rfl) rfl
theorem q2978 : (Jvm.Cond.code ({ cls := "BlockingShopModel", name := "completion", desc := "(I)I" } : Jvm.MethodName) prog_15_method_68_code (2 : Nat) (Option.some Jvm.ClassFile.FieldType.int)) ∈ lw_all := lw_g (lw_at lw_m13 4 rfl) rfl
theorem q2979 : (Jvm.Cond.methodLink "BlockingShopModel" (223 : Nat) ({ cls := "BlockingShopModel", name := "completionOf", desc := "(I)I" } : Jvm.MethodName)) ∈ lw_all := lw_g (lw_at lw_m13 5 rfl) rfl
theorem q2980 : (Jvm.Cond.privateMethod ({ cls := "BlockingShopModel", name := "completionOf", desc := "(I)I" } : Jvm.MethodName)) ∈ lw_tbl := lw_at lw_m13 6 rfl
theorem q2981 : (Jvm.Cond.instanceMethod ({ cls := "BlockingShopModel", name := "completionOf", desc := "(I)I" } : Jvm.MethodName)) ∈ lw_all := lw_g (lw_at lw_m13 7 rfl) rfl
theorem q2982 : (Jvm.Cond.code ({ cls := "BlockingShopModel", name := "completionOf", desc := "(I)I" } : Jvm.MethodName) prog_15_method_43_code (3 : Nat) (Option.some Jvm.ClassFile.FieldType.int)) ∈ lw_all := lw_g (lw_at lw_m13 8 rfl) rfl
theorem q2984 : (Jvm.Cond.instanceMethod ({ cls := "BlockingShopModel", name := "makespan", desc := "()I" } : Jvm.MethodName)) ∈ lw_all := lw_g (lw_at lw_m13 10 rfl) rfl
theorem q2985 : (Jvm.Cond.selects "BlockingShopModel" ({ cls := "BlockingShopModel", name := "makespan", desc := "()I" } : Jvm.MethodName) ({ cls := "BlockingShopModel", name := "makespan", desc := "()I" } : Jvm.MethodName)) ∈ lw_all := lw_g (lw_at lw_m13 11 rfl) rfl
theorem q2986 : (Jvm.Cond.code ({ cls := "BlockingShopModel", name := "makespan", desc := "()I" } : Jvm.MethodName) prog_15_method_70_code (1 : Nat) (Option.some Jvm.ClassFile.FieldType.int)) ∈ lw_all := lw_g (lw_at lw_m13 12 rfl) rfl
theorem q2987 : (Jvm.Cond.methodLink "BlockingShopModel" (288 : Nat) ({ cls := "BlockingShopModel", name := "spanNow", desc := "()I" } : Jvm.MethodName)) ∈ lw_all := lw_g (lw_at lw_m13 13 rfl) rfl
theorem q2988 : (Jvm.Cond.privateMethod ({ cls := "BlockingShopModel", name := "spanNow", desc := "()I" } : Jvm.MethodName)) ∈ lw_tbl := lw_at lw_m13 14 rfl
theorem q2989 : (Jvm.Cond.instanceMethod ({ cls := "BlockingShopModel", name := "spanNow", desc := "()I" } : Jvm.MethodName)) ∈ lw_all := lw_g (lw_at lw_m13 15 rfl) rfl
theorem q2990 : (Jvm.Cond.code ({ cls := "BlockingShopModel", name := "spanNow", desc := "()I" } : Jvm.MethodName) prog_15_method_69_code (1 : Nat) (Option.some Jvm.ClassFile.FieldType.int)) ∈ lw_all := lw_g (lw_at lw_m13 16 rfl) rfl
theorem q2991 : (Jvm.Cond.methodLink "BlockingShopModel" (247 : Nat) ({ cls := "BlockingShopModel", name := "makespanOf", desc := "()I" } : Jvm.MethodName)) ∈ lw_all := lw_g (lw_at lw_m13 17 rfl) rfl
theorem q2992 : (Jvm.Cond.privateMethod ({ cls := "BlockingShopModel", name := "makespanOf", desc := "()I" } : Jvm.MethodName)) ∈ lw_tbl := lw_at lw_m13 18 rfl
theorem q2993 : (Jvm.Cond.instanceMethod ({ cls := "BlockingShopModel", name := "makespanOf", desc := "()I" } : Jvm.MethodName)) ∈ lw_all := lw_g (lw_at lw_m13 19 rfl) rfl
theorem q2994 : (Jvm.Cond.code ({ cls := "BlockingShopModel", name := "makespanOf", desc := "()I" } : Jvm.MethodName) prog_15_method_44_code (3 : Nat) (Option.some Jvm.ClassFile.FieldType.int)) ∈ lw_all := lw_g (lw_at lw_m13 20 rfl) rfl
theorem q2996 : (Jvm.Cond.instanceMethod ({ cls := "BlockingShopModel", name := "jobCost", desc := "(I)I" } : Jvm.MethodName)) ∈ lw_all := lw_g (lw_at lw_m13 22 rfl) rfl
theorem q2997 : (Jvm.Cond.selects "BlockingShopModel" ({ cls := "BlockingShopModel", name := "jobCost", desc := "(I)I" } : Jvm.MethodName) ({ cls := "BlockingShopModel", name := "jobCost", desc := "(I)I" } : Jvm.MethodName)) ∈ lw_all := lw_g (lw_at lw_m13 23 rfl) rfl
theorem q2998 : (Jvm.Cond.code ({ cls := "BlockingShopModel", name := "jobCost", desc := "(I)I" } : Jvm.MethodName) prog_15_method_71_code (2 : Nat) (Option.some Jvm.ClassFile.FieldType.int)) ∈ lw_all := lw_g (lw_at lw_m13 24 rfl) rfl
theorem q2999 : (Jvm.Cond.methodLink "BlockingShopModel" (238 : Nat) ({ cls := "BlockingShopModel", name := "costOf", desc := "(I)I" } : Jvm.MethodName)) ∈ lw_all := lw_g (lw_at lw_m13 25 rfl) rfl
theorem q3000 : (Jvm.Cond.privateMethod ({ cls := "BlockingShopModel", name := "costOf", desc := "(I)I" } : Jvm.MethodName)) ∈ lw_tbl := lw_at lw_m13 26 rfl
theorem q3001 : (Jvm.Cond.instanceMethod ({ cls := "BlockingShopModel", name := "costOf", desc := "(I)I" } : Jvm.MethodName)) ∈ lw_all := lw_g (lw_at lw_m13 27 rfl) rfl
theorem q3002 : (Jvm.Cond.code ({ cls := "BlockingShopModel", name := "costOf", desc := "(I)I" } : Jvm.MethodName) prog_15_method_47_code (7 : Nat) (Option.some Jvm.ClassFile.FieldType.int)) ∈ lw_all := lw_g (lw_at lw_m13 28 rfl) rfl
theorem q3003 : (Jvm.Cond.methodLink "BlockingShopModel" (234 : Nat) ({ cls := "BlockingShopModel", name := "operate", desc := "(IJJ)J" } : Jvm.MethodName)) ∈ lw_all := lw_g (lw_at lw_m13 29 rfl) rfl
theorem q3004 : (Jvm.Cond.static ({ cls := "BlockingShopModel", name := "operate", desc := "(IJJ)J" } : Jvm.MethodName)) ∈ lw_all := lw_g (lw_at lw_m13 30 rfl) rfl
theorem q3005 : (Jvm.Cond.code ({ cls := "BlockingShopModel", name := "operate", desc := "(IJJ)J" } : Jvm.MethodName) prog_15_method_46_code (5 : Nat) (Option.some Jvm.ClassFile.FieldType.long)) ∈ lw_all := lw_g (lw_at lw_m13 31 rfl) rfl
theorem q3006 : (Jvm.Cond.methodLink "BlockingShopModel" (230 : Nat) ({ cls := "BlockingShopModel", name := "limited", desc := "(J)J" } : Jvm.MethodName)) ∈ lw_all := lw_g (lw_at lw_m13 32 rfl) rfl
theorem q3007 : (Jvm.Cond.static ({ cls := "BlockingShopModel", name := "limited", desc := "(J)J" } : Jvm.MethodName)) ∈ lw_all := lw_g (lw_at lw_m13 33 rfl) rfl
theorem q3008 : (Jvm.Cond.code ({ cls := "BlockingShopModel", name := "limited", desc := "(J)J" } : Jvm.MethodName) prog_15_method_45_code (2 : Nat) (Option.some Jvm.ClassFile.FieldType.long)) ∈ lw_all := lw_g (lw_at lw_m13 34 rfl) rfl
theorem q3009 : (Jvm.Cond.constantLong "BlockingShopModel" (226 : Nat) (1000000 : Int64)) ∈ lw_all := lw_g (lw_at lw_m13 35 rfl) rfl
theorem q3010 : (Jvm.Cond.constantLong "BlockingShopModel" (228 : Nat) (-1000000 : Int64)) ∈ lw_all := lw_g (lw_at lw_m13 36 rfl) rfl
theorem q3012 : (Jvm.Cond.instanceMethod ({ cls := "BlockingShopModel", name := "planCost", desc := "()I" } : Jvm.MethodName)) ∈ lw_all := lw_g (lw_at lw_m13 38 rfl) rfl
theorem q3013 : (Jvm.Cond.selects "BlockingShopModel" ({ cls := "BlockingShopModel", name := "planCost", desc := "()I" } : Jvm.MethodName) ({ cls := "BlockingShopModel", name := "planCost", desc := "()I" } : Jvm.MethodName)) ∈ lw_all := lw_g (lw_at lw_m13 39 rfl) rfl
theorem q3014 : (Jvm.Cond.code ({ cls := "BlockingShopModel", name := "planCost", desc := "()I" } : Jvm.MethodName) prog_15_method_72_code (1 : Nat) (Option.some Jvm.ClassFile.FieldType.int)) ∈ lw_all := lw_g (lw_at lw_m13 40 rfl) rfl
theorem q3015 : (Jvm.Cond.methodLink "BlockingShopModel" (250 : Nat) ({ cls := "BlockingShopModel", name := "costOfPlan", desc := "()I" } : Jvm.MethodName)) ∈ lw_all := lw_g (lw_at lw_m13 41 rfl) rfl
theorem q3016 : (Jvm.Cond.privateMethod ({ cls := "BlockingShopModel", name := "costOfPlan", desc := "()I" } : Jvm.MethodName)) ∈ lw_tbl := lw_at lw_m13 42 rfl
theorem q3017 : (Jvm.Cond.instanceMethod ({ cls := "BlockingShopModel", name := "costOfPlan", desc := "()I" } : Jvm.MethodName)) ∈ lw_all := lw_g (lw_at lw_m13 43 rfl) rfl
theorem q3018 : (Jvm.Cond.code ({ cls := "BlockingShopModel", name := "costOfPlan", desc := "()I" } : Jvm.MethodName) prog_15_method_48_code (3 : Nat) (Option.some Jvm.ClassFile.FieldType.int)) ∈ lw_all := lw_g (lw_at lw_m13 44 rfl) rfl
theorem q3020 : (Jvm.Cond.instanceMethod ({ cls := "BlockingShopModel", name := "blockedTime", desc := "(I)I" } : Jvm.MethodName)) ∈ lw_all := lw_g (lw_at lw_m13 46 rfl) rfl
theorem q3021 : (Jvm.Cond.selects "BlockingShopModel" ({ cls := "BlockingShopModel", name := "blockedTime", desc := "(I)I" } : Jvm.MethodName) ({ cls := "BlockingShopModel", name := "blockedTime", desc := "(I)I" } : Jvm.MethodName)) ∈ lw_all := lw_g (lw_at lw_m13 47 rfl) rfl
theorem q3022 : (Jvm.Cond.code ({ cls := "BlockingShopModel", name := "blockedTime", desc := "(I)I" } : Jvm.MethodName) prog_15_method_73_code (5 : Nat) (Option.some Jvm.ClassFile.FieldType.int)) ∈ lw_all := lw_g (lw_at lw_m13 48 rfl) rfl
theorem q3024 : (Jvm.Cond.instanceMethod ({ cls := "BlockingShopModel", name := "criticalLength", desc := "()I" } : Jvm.MethodName)) ∈ lw_all := lw_g (lw_at lw_m13 50 rfl) rfl
theorem q3025 : (Jvm.Cond.selects "BlockingShopModel" ({ cls := "BlockingShopModel", name := "criticalLength", desc := "()I" } : Jvm.MethodName) ({ cls := "BlockingShopModel", name := "criticalLength", desc := "()I" } : Jvm.MethodName)) ∈ lw_all := lw_g (lw_at lw_m13 51 rfl) rfl
theorem q3026 : (Jvm.Cond.code ({ cls := "BlockingShopModel", name := "criticalLength", desc := "()I" } : Jvm.MethodName) prog_15_method_74_code (1 : Nat) (Option.some Jvm.ClassFile.FieldType.int)) ∈ lw_all := lw_g (lw_at lw_m13 52 rfl) rfl
theorem q3027 : (Jvm.Cond.methodLink "BlockingShopModel" (291 : Nat) ({ cls := "BlockingShopModel", name := "findPath", desc := "()V" } : Jvm.MethodName)) ∈ lw_all := lw_g (lw_at lw_m13 53 rfl) rfl
theorem q3028 : (Jvm.Cond.privateMethod ({ cls := "BlockingShopModel", name := "findPath", desc := "()V" } : Jvm.MethodName)) ∈ lw_tbl := lw_at lw_m13 54 rfl
theorem q3029 : (Jvm.Cond.instanceMethod ({ cls := "BlockingShopModel", name := "findPath", desc := "()V" } : Jvm.MethodName)) ∈ lw_all := lw_g (lw_at lw_m13 55 rfl) rfl
theorem q3030 : (Jvm.Cond.code ({ cls := "BlockingShopModel", name := "findPath", desc := "()V" } : Jvm.MethodName) prog_15_method_53_code (4 : Nat) (Option.none : Option Jvm.ClassFile.FieldType)) ∈ lw_all := lw_g (lw_at lw_m13 56 rfl) rfl
theorem q3031 : (Jvm.Cond.methodLink "BlockingShopModel" (266 : Nat) ({ cls := "BlockingShopModel", name := "isOnPath", desc := "(I)Z" } : Jvm.MethodName)) ∈ lw_all := lw_g (lw_at lw_m13 57 rfl) rfl
theorem q3032 : (Jvm.Cond.privateMethod ({ cls := "BlockingShopModel", name := "isOnPath", desc := "(I)Z" } : Jvm.MethodName)) ∈ lw_tbl := lw_at lw_m13 58 rfl
theorem q3033 : (Jvm.Cond.instanceMethod ({ cls := "BlockingShopModel", name := "isOnPath", desc := "(I)Z" } : Jvm.MethodName)) ∈ lw_all := lw_g (lw_at lw_m13 59 rfl) rfl
theorem q3034 : (Jvm.Cond.code ({ cls := "BlockingShopModel", name := "isOnPath", desc := "(I)Z" } : Jvm.MethodName) prog_15_method_54_code (3 : Nat) (Option.some Jvm.ClassFile.FieldType.boolean)) ∈ lw_all := lw_g (lw_at lw_m13 60 rfl) rfl
theorem q3036 : (Jvm.Cond.instanceMethod ({ cls := "BlockingShopModel", name := "critical", desc := "(I)I" } : Jvm.MethodName)) ∈ lw_all := lw_g (lw_at lw_m13 62 rfl) rfl
theorem q3037 : (Jvm.Cond.selects "BlockingShopModel" ({ cls := "BlockingShopModel", name := "critical", desc := "(I)I" } : Jvm.MethodName) ({ cls := "BlockingShopModel", name := "critical", desc := "(I)I" } : Jvm.MethodName)) ∈ lw_all := lw_g (lw_at lw_m13 63 rfl) rfl
theorem q3038 : (Jvm.Cond.code ({ cls := "BlockingShopModel", name := "critical", desc := "(I)I" } : Jvm.MethodName) prog_15_method_75_code (2 : Nat) (Option.some Jvm.ClassFile.FieldType.int)) ∈ lw_all := lw_g (lw_at lw_m13 64 rfl) rfl
theorem q3040 : (Jvm.Cond.instanceMethod ({ cls := "BlockingShopModel", name := "blockCount", desc := "()I" } : Jvm.MethodName)) ∈ lw_all := lw_g (lw_at lw_m13 66 rfl) rfl
theorem q3041 : (Jvm.Cond.selects "BlockingShopModel" ({ cls := "BlockingShopModel", name := "blockCount", desc := "()I" } : Jvm.MethodName) ({ cls := "BlockingShopModel", name := "blockCount", desc := "()I" } : Jvm.MethodName)) ∈ lw_all := lw_g (lw_at lw_m13 67 rfl) rfl
theorem q3042 : (Jvm.Cond.code ({ cls := "BlockingShopModel", name := "blockCount", desc := "()I" } : Jvm.MethodName) prog_15_method_76_code (3 : Nat) (Option.some Jvm.ClassFile.FieldType.int)) ∈ lw_all := lw_g (lw_at lw_m13 68 rfl) rfl
theorem q3044 : (Jvm.Cond.instanceMethod ({ cls := "BlockingShopModel", name := "longestBlock", desc := "()I" } : Jvm.MethodName)) ∈ lw_all := lw_g (lw_at lw_m13 70 rfl) rfl
theorem q3045 : (Jvm.Cond.selects "BlockingShopModel" ({ cls := "BlockingShopModel", name := "longestBlock", desc := "()I" } : Jvm.MethodName) ({ cls := "BlockingShopModel", name := "longestBlock", desc := "()I" } : Jvm.MethodName)) ∈ lw_all := lw_g (lw_at lw_m13 71 rfl) rfl
theorem q3046 : (Jvm.Cond.code ({ cls := "BlockingShopModel", name := "longestBlock", desc := "()I" } : Jvm.MethodName) prog_15_method_77_code (4 : Nat) (Option.some Jvm.ClassFile.FieldType.int)) ∈ lw_all := lw_g (lw_at lw_m13 72 rfl) rfl
theorem q3048 : (Jvm.Cond.instanceMethod ({ cls := "BlockingShopModel", name := "deadlocks", desc := "(II)Z" } : Jvm.MethodName)) ∈ lw_all := lw_g (lw_at lw_m13 74 rfl) rfl
theorem q3049 : (Jvm.Cond.selects "BlockingShopModel" ({ cls := "BlockingShopModel", name := "deadlocks", desc := "(II)Z" } : Jvm.MethodName) ({ cls := "BlockingShopModel", name := "deadlocks", desc := "(II)Z" } : Jvm.MethodName)) ∈ lw_all := lw_g (lw_at lw_m13 75 rfl) rfl
theorem q3050 : (Jvm.Cond.code ({ cls := "BlockingShopModel", name := "deadlocks", desc := "(II)Z" } : Jvm.MethodName) prog_15_method_79_code (3 : Nat) (Option.some Jvm.ClassFile.FieldType.boolean)) ∈ lw_all := lw_g (lw_at lw_m13 76 rfl) rfl
theorem q3051 : (Jvm.Cond.methodLink "BlockingShopModel" (294 : Nat) ({ cls := "BlockingShopModel", name := "noSwap", desc := "(II)Z" } : Jvm.MethodName)) ∈ lw_all := lw_g (lw_at lw_m13 77 rfl) rfl
theorem q3052 : (Jvm.Cond.privateMethod ({ cls := "BlockingShopModel", name := "noSwap", desc := "(II)Z" } : Jvm.MethodName)) ∈ lw_tbl := lw_at lw_m13 78 rfl
theorem q3053 : (Jvm.Cond.instanceMethod ({ cls := "BlockingShopModel", name := "noSwap", desc := "(II)Z" } : Jvm.MethodName)) ∈ lw_all := lw_g (lw_at lw_m13 79 rfl) rfl
theorem q3054 : (Jvm.Cond.code ({ cls := "BlockingShopModel", name := "noSwap", desc := "(II)Z" } : Jvm.MethodName) prog_15_method_59_code (3 : Nat) (Option.some Jvm.ClassFile.FieldType.boolean)) ∈ lw_all := lw_g (lw_at lw_m13 80 rfl) rfl
theorem q3055 : (Jvm.Cond.methodLink "BlockingShopModel" (297 : Nat) ({ cls := "BlockingShopModel", name := "spanAfter", desc := "(II)I" } : Jvm.MethodName)) ∈ lw_all := lw_g (lw_at lw_m13 81 rfl) rfl
theorem q3056 : (Jvm.Cond.privateMethod ({ cls := "BlockingShopModel", name := "spanAfter", desc := "(II)I" } : Jvm.MethodName)) ∈ lw_tbl := lw_at lw_m13 82 rfl
theorem q3057 : (Jvm.Cond.instanceMethod ({ cls := "BlockingShopModel", name := "spanAfter", desc := "(II)I" } : Jvm.MethodName)) ∈ lw_all := lw_g (lw_at lw_m13 83 rfl) rfl
theorem q3058 : (Jvm.Cond.code ({ cls := "BlockingShopModel", name := "spanAfter", desc := "(II)I" } : Jvm.MethodName) prog_15_method_78_code (4 : Nat) (Option.some Jvm.ClassFile.FieldType.int)) ∈ lw_all := lw_g (lw_at lw_m13 84 rfl) rfl
theorem q3059 : (Jvm.Cond.methodLink "BlockingShopModel" (241 : Nat) ({ cls := "BlockingShopModel", name := "exchange", desc := "(II)V" } : Jvm.MethodName)) ∈ lw_all := lw_g (lw_at lw_m13 85 rfl) rfl
theorem q3060 : (Jvm.Cond.privateMethod ({ cls := "BlockingShopModel", name := "exchange", desc := "(II)V" } : Jvm.MethodName)) ∈ lw_tbl := lw_at lw_m13 86 rfl
theorem q3061 : (Jvm.Cond.instanceMethod ({ cls := "BlockingShopModel", name := "exchange", desc := "(II)V" } : Jvm.MethodName)) ∈ lw_all := lw_g (lw_at lw_m13 87 rfl) rfl
theorem q3062 : (Jvm.Cond.code ({ cls := "BlockingShopModel", name := "exchange", desc := "(II)V" } : Jvm.MethodName) prog_15_method_50_code (5 : Nat) (Option.none : Option Jvm.ClassFile.FieldType)) ∈ lw_all := lw_g (lw_at lw_m13 88 rfl) rfl
theorem q3063 : (Jvm.Cond.methodLink "BlockingShopModel" (244 : Nat) ({ cls := "BlockingShopModel", name := "isDeadlocked", desc := "()Z" } : Jvm.MethodName)) ∈ lw_all := lw_g (lw_at lw_m13 89 rfl) rfl
theorem q3064 : (Jvm.Cond.privateMethod ({ cls := "BlockingShopModel", name := "isDeadlocked", desc := "()Z" } : Jvm.MethodName)) ∈ lw_tbl := lw_at lw_m13 90 rfl
theorem q3065 : (Jvm.Cond.instanceMethod ({ cls := "BlockingShopModel", name := "isDeadlocked", desc := "()Z" } : Jvm.MethodName)) ∈ lw_all := lw_g (lw_at lw_m13 91 rfl) rfl
theorem q3066 : (Jvm.Cond.code ({ cls := "BlockingShopModel", name := "isDeadlocked", desc := "()Z" } : Jvm.MethodName) prog_15_method_42_code (1 : Nat) (Option.some Jvm.ClassFile.FieldType.boolean)) ∈ lw_all := lw_g (lw_at lw_m13 92 rfl) rfl
theorem q3067 : (Jvm.Cond.methodLink "BlockingShopModel" (220 : Nat) ({ cls := "BlockingShopModel", name := "hasCycle", desc := "()Z" } : Jvm.MethodName)) ∈ lw_all := lw_g (lw_at lw_m13 93 rfl) rfl
theorem q3068 : (Jvm.Cond.privateMethod ({ cls := "BlockingShopModel", name := "hasCycle", desc := "()Z" } : Jvm.MethodName)) ∈ lw_tbl := lw_at lw_m13 94 rfl
theorem q3069 : (Jvm.Cond.instanceMethod ({ cls := "BlockingShopModel", name := "hasCycle", desc := "()Z" } : Jvm.MethodName)) ∈ lw_all := lw_g (lw_at lw_m13 95 rfl) rfl
theorem q3070 : (Jvm.Cond.code ({ cls := "BlockingShopModel", name := "hasCycle", desc := "()Z" } : Jvm.MethodName) prog_15_method_41_code (4 : Nat) (Option.some Jvm.ClassFile.FieldType.boolean)) ∈ lw_all := lw_g (lw_at lw_m13 96 rfl) rfl
theorem q3072 : (Jvm.Cond.instanceMethod ({ cls := "BlockingShopModel", name := "makespanAfter", desc := "(II)I" } : Jvm.MethodName)) ∈ lw_all := lw_g (lw_at lw_m13 98 rfl) rfl
theorem q3073 : (Jvm.Cond.selects "BlockingShopModel" ({ cls := "BlockingShopModel", name := "makespanAfter", desc := "(II)I" } : Jvm.MethodName) ({ cls := "BlockingShopModel", name := "makespanAfter", desc := "(II)I" } : Jvm.MethodName)) ∈ lw_all := lw_g (lw_at lw_m13 99 rfl) rfl
theorem q3074 : (Jvm.Cond.code ({ cls := "BlockingShopModel", name := "makespanAfter", desc := "(II)I" } : Jvm.MethodName) prog_15_method_80_code (3 : Nat) (Option.some Jvm.ClassFile.FieldType.int)) ∈ lw_all := lw_g (lw_at lw_m13 100 rfl) rfl
theorem q3076 : (Jvm.Cond.instanceMethod ({ cls := "BlockingShopModel", name := "bestSwap", desc := "()I" } : Jvm.MethodName)) ∈ lw_all := lw_g (lw_at lw_m13 102 rfl) rfl
theorem q3077 : (Jvm.Cond.selects "BlockingShopModel" ({ cls := "BlockingShopModel", name := "bestSwap", desc := "()I" } : Jvm.MethodName) ({ cls := "BlockingShopModel", name := "bestSwap", desc := "()I" } : Jvm.MethodName)) ∈ lw_all := lw_g (lw_at lw_m13 103 rfl) rfl
theorem q3078 : (Jvm.Cond.code ({ cls := "BlockingShopModel", name := "bestSwap", desc := "()I" } : Jvm.MethodName) prog_15_method_81_code (1 : Nat) (Option.some Jvm.ClassFile.FieldType.int)) ∈ lw_all := lw_g (lw_at lw_m13 104 rfl) rfl
theorem q3079 : (Jvm.Cond.methodLink "BlockingShopModel" (300 : Nat) ({ cls := "BlockingShopModel", name := "findBest", desc := "()I" } : Jvm.MethodName)) ∈ lw_all := lw_g (lw_at lw_m13 105 rfl) rfl
theorem q3080 : (Jvm.Cond.privateMethod ({ cls := "BlockingShopModel", name := "findBest", desc := "()I" } : Jvm.MethodName)) ∈ lw_tbl := lw_at lw_m13 106 rfl
theorem q3081 : (Jvm.Cond.instanceMethod ({ cls := "BlockingShopModel", name := "findBest", desc := "()I" } : Jvm.MethodName)) ∈ lw_all := lw_g (lw_at lw_m13 107 rfl) rfl
theorem q3082 : (Jvm.Cond.code ({ cls := "BlockingShopModel", name := "findBest", desc := "()I" } : Jvm.MethodName) prog_15_method_51_code (6 : Nat) (Option.some Jvm.ClassFile.FieldType.int)) ∈ lw_all := lw_g (lw_at lw_m13 108 rfl) rfl
theorem q3083 : (Jvm.Cond.methodLink "BlockingShopModel" (259 : Nat) ({ cls := "BlockingShopModel", name := "isBetter", desc := "(IIII)Z" } : Jvm.MethodName)) ∈ lw_all := lw_g (lw_at lw_m13 109 rfl) rfl
theorem q3084 : (Jvm.Cond.static ({ cls := "BlockingShopModel", name := "isBetter", desc := "(IIII)Z" } : Jvm.MethodName)) ∈ lw_all := lw_g (lw_at lw_m13 110 rfl) rfl
theorem q3085 : (Jvm.Cond.code ({ cls := "BlockingShopModel", name := "isBetter", desc := "(IIII)Z" } : Jvm.MethodName) prog_15_method_52_code (4 : Nat) (Option.some Jvm.ClassFile.FieldType.boolean)) ∈ lw_all := lw_g (lw_at lw_m13 111 rfl) rfl
theorem q3087 : (Jvm.Cond.instanceMethod ({ cls := "BlockingShopModel", name := "swap", desc := "(II)I" } : Jvm.MethodName)) ∈ lw_all := lw_g (lw_at lw_m13 113 rfl) rfl
theorem q3088 : (Jvm.Cond.selects "BlockingShopModel" ({ cls := "BlockingShopModel", name := "swap", desc := "(II)I" } : Jvm.MethodName) ({ cls := "BlockingShopModel", name := "swap", desc := "(II)I" } : Jvm.MethodName)) ∈ lw_all := lw_g (lw_at lw_m13 114 rfl) rfl
theorem q3089 : (Jvm.Cond.code ({ cls := "BlockingShopModel", name := "swap", desc := "(II)I" } : Jvm.MethodName) prog_15_method_83_code (3 : Nat) (Option.some Jvm.ClassFile.FieldType.int)) ∈ lw_all := lw_g (lw_at lw_m13 115 rfl) rfl
theorem q3091 : (Jvm.Cond.instanceMethod ({ cls := "BlockingShopModel", name := "improve", desc := "(I)I" } : Jvm.MethodName)) ∈ lw_all := lw_g (lw_at lw_m13 117 rfl) rfl
theorem q3092 : (Jvm.Cond.selects "BlockingShopModel" ({ cls := "BlockingShopModel", name := "improve", desc := "(I)I" } : Jvm.MethodName) ({ cls := "BlockingShopModel", name := "improve", desc := "(I)I" } : Jvm.MethodName)) ∈ lw_all := lw_g (lw_at lw_m13 118 rfl) rfl
theorem q3093 : (Jvm.Cond.code ({ cls := "BlockingShopModel", name := "improve", desc := "(I)I" } : Jvm.MethodName) prog_15_method_84_code (6 : Nat) (Option.some Jvm.ClassFile.FieldType.int)) ∈ lw_all := lw_g (lw_at lw_m13 119 rfl) rfl
theorem q3095 : (Jvm.Cond.instanceMethod ({ cls := "BlockingShopModel", name := "place", desc := "(III)I" } : Jvm.MethodName)) ∈ lw_all := lw_g (lw_at lw_m13 121 rfl) rfl
theorem q3096 : (Jvm.Cond.selects "BlockingShopModel" ({ cls := "BlockingShopModel", name := "place", desc := "(III)I" } : Jvm.MethodName) ({ cls := "BlockingShopModel", name := "place", desc := "(III)I" } : Jvm.MethodName)) ∈ lw_all := lw_g (lw_at lw_m13 122 rfl) rfl
theorem q3097 : (Jvm.Cond.code ({ cls := "BlockingShopModel", name := "place", desc := "(III)I" } : Jvm.MethodName) prog_15_method_86_code (6 : Nat) (Option.some Jvm.ClassFile.FieldType.int)) ∈ lw_all := lw_g (lw_at lw_m13 123 rfl) rfl
theorem q3098 : (Jvm.Cond.methodLink "BlockingShopModel" (306 : Nat) ({ cls := "BlockingShopModel", name := "bring", desc := "(II)V" } : Jvm.MethodName)) ∈ lw_all := lw_g (lw_at lw_m13 124 rfl) rfl
theorem q3099 : (Jvm.Cond.privateMethod ({ cls := "BlockingShopModel", name := "bring", desc := "(II)V" } : Jvm.MethodName)) ∈ lw_tbl := lw_at lw_m13 125 rfl
theorem q3100 : (Jvm.Cond.instanceMethod ({ cls := "BlockingShopModel", name := "bring", desc := "(II)V" } : Jvm.MethodName)) ∈ lw_all := lw_g (lw_at lw_m13 126 rfl) rfl
theorem q3101 : (Jvm.Cond.code ({ cls := "BlockingShopModel", name := "bring", desc := "(II)V" } : Jvm.MethodName) prog_15_method_85_code (5 : Nat) (Option.none : Option Jvm.ClassFile.FieldType)) ∈ lw_all := lw_g (lw_at lw_m13 127 rfl) rfl
theorem q3103 : (Jvm.Cond.instanceMethod ({ cls := "BlockingShopModel", name := "setDuration", desc := "(III)I" } : Jvm.MethodName)) ∈ lw_all := lw_g (lw_at lw_m13 129 rfl) rfl
theorem q3104 : (Jvm.Cond.selects "BlockingShopModel" ({ cls := "BlockingShopModel", name := "setDuration", desc := "(III)I" } : Jvm.MethodName) ({ cls := "BlockingShopModel", name := "setDuration", desc := "(III)I" } : Jvm.MethodName)) ∈ lw_all := lw_g (lw_at lw_m13 130 rfl) rfl
theorem q3105 : (Jvm.Cond.code ({ cls := "BlockingShopModel", name := "setDuration", desc := "(III)I" } : Jvm.MethodName) prog_15_method_87_code (6 : Nat) (Option.some Jvm.ClassFile.FieldType.int)) ∈ lw_all := lw_g (lw_at lw_m13 131 rfl) rfl
theorem q3107 : (Jvm.Cond.instanceMethod ({ cls := "BlockingShopModel", name := "restart", desc := "()I" } : Jvm.MethodName)) ∈ lw_all := lw_g (lw_at lw_m13 133 rfl) rfl
theorem q3108 : (Jvm.Cond.selects "BlockingShopModel" ({ cls := "BlockingShopModel", name := "restart", desc := "()I" } : Jvm.MethodName) ({ cls := "BlockingShopModel", name := "restart", desc := "()I" } : Jvm.MethodName)) ∈ lw_all := lw_g (lw_at lw_m13 134 rfl) rfl
theorem q3109 : (Jvm.Cond.code ({ cls := "BlockingShopModel", name := "restart", desc := "()I" } : Jvm.MethodName) prog_15_method_88_code (1 : Nat) (Option.some Jvm.ClassFile.FieldType.int)) ∈ lw_all := lw_g (lw_at lw_m13 135 rfl) rfl
theorem q3111 : (Jvm.Cond.instanceMethod ({ cls := "BlockingShopModel", name := "undo", desc := "()I" } : Jvm.MethodName)) ∈ lw_all := lw_g (lw_at lw_m13 137 rfl) rfl
theorem q3112 : (Jvm.Cond.selects "BlockingShopModel" ({ cls := "BlockingShopModel", name := "undo", desc := "()I" } : Jvm.MethodName) ({ cls := "BlockingShopModel", name := "undo", desc := "()I" } : Jvm.MethodName)) ∈ lw_all := lw_g (lw_at lw_m13 138 rfl) rfl
theorem q3113 : (Jvm.Cond.code ({ cls := "BlockingShopModel", name := "undo", desc := "()I" } : Jvm.MethodName) prog_15_method_89_code (1 : Nat) (Option.some Jvm.ClassFile.FieldType.int)) ∈ lw_all := lw_g (lw_at lw_m13 139 rfl) rfl
theorem q3115 : (Jvm.Cond.instanceMethod ({ cls := "BlockingShopModel", name := "checksum", desc := "()J" } : Jvm.MethodName)) ∈ lw_all := lw_g (lw_at lw_m13 141 rfl) rfl
theorem q3116 : (Jvm.Cond.selects "BlockingShopModel" ({ cls := "BlockingShopModel", name := "checksum", desc := "()J" } : Jvm.MethodName) ({ cls := "BlockingShopModel", name := "checksum", desc := "()J" } : Jvm.MethodName)) ∈ lw_all := lw_g (lw_at lw_m13 142 rfl) rfl
theorem q3117 : (Jvm.Cond.code ({ cls := "BlockingShopModel", name := "checksum", desc := "()J" } : Jvm.MethodName) prog_15_method_90_code (5 : Nat) (Option.some Jvm.ClassFile.FieldType.long)) ∈ lw_all := lw_g (lw_at lw_m13 143 rfl) rfl
theorem q3118 : (Jvm.Cond.constantLong "BlockingShopModel" (309 : Nat) (31 : Int64)) ∈ lw_all := lw_g (lw_at lw_m13 144 rfl) rfl
theorem q3152 : (Jvm.Cond.castable "BlockingShopModel" "java/lang/Object") ∈ lw_tbl := lw_at lw_m13 178 rfl
theorem in_X8 : ∀ w ∈ wsX80, w ∈ lw_all := lw_in wsX80 [2698, 2700, 2702, 2704, 2706, 2708, 2710, 2712, 2714, 2716, 2718, 2720, 2722, 2724, 2726, 2728, 2730, 2732, 2734, 2736, 2738, 2740, 2742, 2744, 2746] (by decide +kernel) (by decide +kernel)

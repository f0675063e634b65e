/-! java/util/AbstractCollection -/
set_option maxRecDepth 100000
def RJ0 : String := "java/util/AbstractCollection"
abbrev cJ0_init : ByteArray := prog_43_method_1_code
def yJ0_init : MethodName := ⟨RJ0, "<init>", "()V"⟩
theorem dJ0_init_0 : decode cJ0_init 0 = .ok (.aload_n 0, 1) := by decide +kernel
theorem dJ0_init_1 : decode cJ0_init 1 = .ok (.invokespecial 1, 3) := by decide +kernel
theorem dJ0_init_4 : decode cJ0_init 4 = .ok (.return_, 1) := by decide +kernel
abbrev cJ0_isEmpty : ByteArray := prog_43_method_4_code
def yJ0_isEmpty : MethodName := ⟨RJ0, "isEmpty", "()Z"⟩
def dkwJ0_isEmpty_0 : List UInt8 := [42, 182, 0, 7, 154, 0, 7, 4, 167, 0, 4, 3, 172]
abbrev dktJ0_isEmpty_0 : List UInt8 := dkwJ0_isEmpty_0 ++ []
theorem dksJ0_isEmpty_0 : cJ0_isEmpty.data.toList.drop 0 = dktJ0_isEmpty_0 := by decide +kernel
theorem dJ0_isEmpty_0 : decode cJ0_isEmpty 0 = .ok (.aload_n 0, 1) := dk_42 (dk_at dksJ0_isEmpty_0 0 rfl rfl)
theorem dJ0_isEmpty_1 : decode cJ0_isEmpty 1 = .ok (.invokevirtual 7, 3) := dk_182 0 7 (dk_at dksJ0_isEmpty_0 1 rfl rfl)
theorem dJ0_isEmpty_4 : decode cJ0_isEmpty 4 = .ok (.ifCond .ne 7, 3) := dk_154 0 7 (dk_at dksJ0_isEmpty_0 4 rfl rfl)
theorem dJ0_isEmpty_7 : decode cJ0_isEmpty 7 = .ok (.iconst 1, 1) := dk_4 (dk_at dksJ0_isEmpty_0 7 rfl rfl)
theorem dJ0_isEmpty_8 : decode cJ0_isEmpty 8 = .ok (.goto 4, 3) := dk_167 0 4 (dk_at dksJ0_isEmpty_0 8 rfl rfl)
theorem dJ0_isEmpty_11 : decode cJ0_isEmpty 11 = .ok (.iconst 0, 1) := dk_3 (dk_at dksJ0_isEmpty_0 11 rfl rfl)
theorem dJ0_isEmpty_12 : decode cJ0_isEmpty 12 = .ok (.ireturn, 1) := dk_172 (dk_at dksJ0_isEmpty_0 12 rfl rfl)
theorem q96 : (Jvm.Cond.initialized "java/util/AbstractCollection") ∈ lw_all := lw_g (lw_at lw_m1 2 rfl) rfl
theorem q171 : (Jvm.Cond.instanceMethod ({ cls := "java/util/AbstractCollection", name := "<init>", desc := "()V" } : Jvm.MethodName)) ∈ lw_all := lw_g (lw_at lw_m1 77 rfl) rfl
theorem q172 : (Jvm.Cond.code ({ cls := "java/util/AbstractCollection", name := "<init>", desc := "()V" } : Jvm.MethodName) prog_43_method_1_code (1 : Nat) (Option.none : Option Jvm.ClassFile.FieldType)) ∈ lw_all := lw_g (lw_at lw_m1 78 rfl) rfl
theorem q173 : (Jvm.Cond.methodLink "java/util/AbstractCollection" (1 : Nat) ({ cls := "java/lang/Object", name := "<init>", desc := "()V" } : Jvm.MethodName)) ∈ lw_all := lw_g (lw_at lw_m1 79 rfl) rfl
theorem q728 : (Jvm.Cond.declares ({ cls := "java/util/AbstractCollection", name := "size", desc := "()I" } : Jvm.MethodName)) ∈ lw_tbl := lw_at lw_m3 154 rfl
theorem q2469 : (Jvm.Cond.instanceMethod ({ cls := "java/util/AbstractCollection", name := "isEmpty", desc := "()Z" } : Jvm.MethodName)) ∈ lw_all := lw_g (lw_at lw_m10 215 rfl) rfl
theorem q2470 : (Jvm.Cond.publicMethod ({ cls := "java/util/AbstractCollection", name := "isEmpty", desc := "()Z" } : Jvm.MethodName)) ∈ lw_tbl := lw_at lw_m10 216 rfl
theorem q2471 : (Jvm.Cond.code ({ cls := "java/util/AbstractCollection", name := "isEmpty", desc := "()Z" } : Jvm.MethodName) prog_43_method_4_code (1 : Nat) (Option.some Jvm.ClassFile.FieldType.boolean)) ∈ lw_all := lw_g (lw_at lw_m10 217 rfl) rfl
theorem q2472 : (Jvm.Cond.methodLink "java/util/AbstractCollection" (7 : Nat) ({ cls := "java/util/AbstractCollection", name := "size", desc := "()I" } : Jvm.MethodName)) ∈ lw_all := lw_g (lw_at lw_m10 218 rfl) rfl
theorem q3133 : (Jvm.Cond.sameMethod "java/util/AbstractCollection" "java/util/AbstractCollection" "size" "()I") ∈ lw_all := lw_g (lw_at lw_m13 159 rfl) rfl

/-! java/util/ArrayDeque -/
set_option maxRecDepth 100000
def RJ1 : String := "java/util/ArrayDeque"
def TJ1 : u_T := fun k => match k with
  | 0 => ("java/util/ArrayDeque", "elements", "[Ljava/lang/Object;", false)
  | 1 => ("java/util/ArrayDeque", "head", "I", false)
  | _ => ("java/util/ArrayDeque", "tail", "I", false)
def tyJ1 : Nat → FieldType := fun k => match k with
  | 0 => .array (.object "java/lang/Object")
  | 1 => .int
  | _ => .int
abbrev wsJ10 : List Cond := u_ws RJ1 TJ1 3
theorem nmJ1 : ∀ a, a < 3 → ∀ b, b < 3 → a ≠ b → (TJ1 a).2.1 ≠ (TJ1 b).2.1 := by decide +kernel
theorem tyJ1_ok : ∀ k, k < 3 → parseFieldDescriptor (TJ1 k).2.2.1 = some (tyJ1 k) := by decide +kernel
abbrev cJ1_init : ByteArray := prog_49_method_3_code
def yJ1_init : MethodName := ⟨RJ1, "<init>", "()V"⟩
def dkwJ1_init_0 : List UInt8 := [42, 183, 0, 42, 42, 16, 17, 189, 0, 47, 181, 0, 3, 177]
abbrev dktJ1_init_0 : List UInt8 := dkwJ1_init_0 ++ []
theorem dksJ1_init_0 : cJ1_init.data.toList.drop 0 = dktJ1_init_0 := by decide +kernel
theorem dJ1_init_0 : decode cJ1_init 0 = .ok (.aload_n 0, 1) := dk_42 (dk_at dksJ1_init_0 0 rfl rfl)
theorem dJ1_init_1 : decode cJ1_init 1 = .ok (.invokespecial 42, 3) := dk_183 0 42 (dk_at dksJ1_init_0 1 rfl rfl)
theorem dJ1_init_4 : decode cJ1_init 4 = .ok (.aload_n 0, 1) := dk_42 (dk_at dksJ1_init_0 4 rfl rfl)
theorem dJ1_init_5 : decode cJ1_init 5 = .ok (.bipush 17, 2) := dk_16 17 (dk_at dksJ1_init_0 5 rfl rfl)
theorem dJ1_init_7 : decode cJ1_init 7 = .ok (.anewarray 47, 3) := dk_189 0 47 (dk_at dksJ1_init_0 7 rfl rfl)
theorem dJ1_init_10 : decode cJ1_init 10 = .ok (.putfield 3, 3) := dk_181 0 3 (dk_at dksJ1_init_0 10 rfl rfl)
theorem dJ1_init_13 : decode cJ1_init 13 = .ok (.return_, 1) := dk_177 (dk_at dksJ1_init_0 13 rfl rfl)
abbrev cJ1_size : ByteArray := prog_49_method_37_code
def yJ1_size : MethodName := ⟨RJ1, "size", "()I"⟩
def dkwJ1_size_0 : List UInt8 := [42, 180, 0, 20, 42, 180, 0, 24, 42, 180, 0, 3, 190, 184, 0, 127, 172]
abbrev dktJ1_size_0 : List UInt8 := dkwJ1_size_0 ++ []
theorem dksJ1_size_0 : cJ1_size.data.toList.drop 0 = dktJ1_size_0 := by decide +kernel
theorem dJ1_size_0 : decode cJ1_size 0 = .ok (.aload_n 0, 1) := dk_42 (dk_at dksJ1_size_0 0 rfl rfl)
theorem dJ1_size_1 : decode cJ1_size 1 = .ok (.getfield 20, 3) := dk_180 0 20 (dk_at dksJ1_size_0 1 rfl rfl)
theorem dJ1_size_4 : decode cJ1_size 4 = .ok (.aload_n 0, 1) := dk_42 (dk_at dksJ1_size_0 4 rfl rfl)
theorem dJ1_size_5 : decode cJ1_size 5 = .ok (.getfield 24, 3) := dk_180 0 24 (dk_at dksJ1_size_0 5 rfl rfl)
theorem dJ1_size_8 : decode cJ1_size 8 = .ok (.aload_n 0, 1) := dk_42 (dk_at dksJ1_size_0 8 rfl rfl)
theorem dJ1_size_9 : decode cJ1_size 9 = .ok (.getfield 3, 3) := dk_180 0 3 (dk_at dksJ1_size_0 9 rfl rfl)
theorem dJ1_size_12 : decode cJ1_size 12 = .ok (.arraylength, 1) := dk_190 (dk_at dksJ1_size_0 12 rfl rfl)
theorem dJ1_size_13 : decode cJ1_size 13 = .ok (.invokestatic 127, 3) := dk_184 0 127 (dk_at dksJ1_size_0 13 rfl rfl)
theorem dJ1_size_16 : decode cJ1_size 16 = .ok (.ireturn, 1) := dk_172 (dk_at dksJ1_size_0 16 rfl rfl)
abbrev cJ1_sub : ByteArray := prog_49_method_9_code
def yJ1_sub : MethodName := ⟨RJ1, "sub", "(III)I"⟩
def dkwJ1_sub_0 : List UInt8 := [26, 27, 100, 89, 59, 156, 0, 7, 26, 28, 96, 59, 26, 172]
abbrev dktJ1_sub_0 : List UInt8 := dkwJ1_sub_0 ++ []
theorem dksJ1_sub_0 : cJ1_sub.data.toList.drop 0 = dktJ1_sub_0 := by decide +kernel
theorem dJ1_sub_0 : decode cJ1_sub 0 = .ok (.iload_n 0, 1) := dk_26 (dk_at dksJ1_sub_0 0 rfl rfl)
theorem dJ1_sub_1 : decode cJ1_sub 1 = .ok (.iload_n 1, 1) := dk_27 (dk_at dksJ1_sub_0 1 rfl rfl)
theorem dJ1_sub_2 : decode cJ1_sub 2 = .ok (.isub, 1) := dk_100 (dk_at dksJ1_sub_0 2 rfl rfl)
theorem dJ1_sub_3 : decode cJ1_sub 3 = .ok (.dup, 1) := dk_89 (dk_at dksJ1_sub_0 3 rfl rfl)
theorem dJ1_sub_4 : decode cJ1_sub 4 = .ok (.istore_n 0, 1) := dk_59 (dk_at dksJ1_sub_0 4 rfl rfl)
theorem dJ1_sub_5 : decode cJ1_sub 5 = .ok (.ifCond .ge 7, 3) := dk_156 0 7 (dk_at dksJ1_sub_0 5 rfl rfl)
theorem dJ1_sub_8 : decode cJ1_sub 8 = .ok (.iload_n 0, 1) := dk_26 (dk_at dksJ1_sub_0 8 rfl rfl)
theorem dJ1_sub_9 : decode cJ1_sub 9 = .ok (.iload_n 2, 1) := dk_28 (dk_at dksJ1_sub_0 9 rfl rfl)
theorem dJ1_sub_10 : decode cJ1_sub 10 = .ok (.iadd, 1) := dk_96 (dk_at dksJ1_sub_0 10 rfl rfl)
theorem dJ1_sub_11 : decode cJ1_sub 11 = .ok (.istore_n 0, 1) := dk_59 (dk_at dksJ1_sub_0 11 rfl rfl)
theorem dJ1_sub_12 : decode cJ1_sub 12 = .ok (.iload_n 0, 1) := dk_26 (dk_at dksJ1_sub_0 12 rfl rfl)
theorem dJ1_sub_13 : decode cJ1_sub 13 = .ok (.ireturn, 1) := dk_172 (dk_at dksJ1_sub_0 13 rfl rfl)
abbrev cJ1_removeFirst : ByteArray := prog_49_method_18_code
def yJ1_removeFirst : MethodName := ⟨RJ1, "removeFirst", "()Ljava/lang/Object;"⟩
def dkwJ1_removeFirst_0 : List UInt8 := [42, 182, 0, 93, 76, 43, 199, 0, 11, 187, 0, 97, 89, 183, 0, 99, 191, 43, 176]
abbrev dktJ1_removeFirst_0 : List UInt8 := dkwJ1_removeFirst_0 ++ []
theorem dksJ1_removeFirst_0 : cJ1_removeFirst.data.toList.drop 0 = dktJ1_removeFirst_0 := by decide +kernel
theorem dJ1_removeFirst_0 : decode cJ1_removeFirst 0 = .ok (.aload_n 0, 1) := dk_42 (dk_at dksJ1_removeFirst_0 0 rfl rfl)
theorem dJ1_removeFirst_1 : decode cJ1_removeFirst 1 = .ok (.invokevirtual 93, 3) := dk_182 0 93 (dk_at dksJ1_removeFirst_0 1 rfl rfl)
theorem dJ1_removeFirst_4 : decode cJ1_removeFirst 4 = .ok (.astore_n 1, 1) := dk_76 (dk_at dksJ1_removeFirst_0 4 rfl rfl)
theorem dJ1_removeFirst_5 : decode cJ1_removeFirst 5 = .ok (.aload_n 1, 1) := dk_43 (dk_at dksJ1_removeFirst_0 5 rfl rfl)
theorem dJ1_removeFirst_6 : decode cJ1_removeFirst 6 = .ok (.ifnonnull 11, 3) := dk_199 0 11 (dk_at dksJ1_removeFirst_0 6 rfl rfl)
theorem dJ1_removeFirst_9 : decode cJ1_removeFirst 9 = .ok (.new 97, 3) := dk_187 0 97 (dk_at dksJ1_removeFirst_0 9 rfl rfl)
theorem dJ1_removeFirst_12 : decode cJ1_removeFirst 12 = .ok (.dup, 1) := dk_89 (dk_at dksJ1_removeFirst_0 12 rfl rfl)
theorem dJ1_removeFirst_13 : decode cJ1_removeFirst 13 = .ok (.invokespecial 99, 3) := dk_183 0 99 (dk_at dksJ1_removeFirst_0 13 rfl rfl)
theorem dJ1_removeFirst_16 : decode cJ1_removeFirst 16 = .ok (.athrow, 1) := dk_191 (dk_at dksJ1_removeFirst_0 16 rfl rfl)
theorem dJ1_removeFirst_17 : decode cJ1_removeFirst 17 = .ok (.aload_n 1, 1) := dk_43 (dk_at dksJ1_removeFirst_0 17 rfl rfl)
theorem dJ1_removeFirst_18 : decode cJ1_removeFirst 18 = .ok (.areturn, 1) := dk_176 (dk_at dksJ1_removeFirst_0 18 rfl rfl)
abbrev cJ1_pollFirst : ByteArray := prog_49_method_20_code
def yJ1_pollFirst : MethodName := ⟨RJ1, "pollFirst", "()Ljava/lang/Object;"⟩
def dkwJ1_pollFirst_1 : List UInt8 := [42, 28, 43, 190, 184, 0, 74, 181, 0, 24, 45, 176]
abbrev dktJ1_pollFirst_1 : List UInt8 := dkwJ1_pollFirst_1 ++ []
def dkwJ1_pollFirst_0 : List UInt8 := [42, 180, 0, 3, 89, 76, 42, 180, 0, 24, 89, 61, 184, 0, 103, 78, 45, 198, 0, 17, 43, 28, 1, 83]
abbrev dktJ1_pollFirst_0 : List UInt8 := dkwJ1_pollFirst_0 ++ dktJ1_pollFirst_1
theorem dksJ1_pollFirst_0 : cJ1_pollFirst.data.toList.drop 0 = dktJ1_pollFirst_0 := by decide +kernel
theorem dksJ1_pollFirst_1 : cJ1_pollFirst.data.toList.drop 24 = dktJ1_pollFirst_1 := dk_seg dksJ1_pollFirst_0 24 rfl rfl
theorem dJ1_pollFirst_0 : decode cJ1_pollFirst 0 = .ok (.aload_n 0, 1) := dk_42 (dk_at dksJ1_pollFirst_0 0 rfl rfl)
theorem dJ1_pollFirst_1 : decode cJ1_pollFirst 1 = .ok (.getfield 3, 3) := dk_180 0 3 (dk_at dksJ1_pollFirst_0 1 rfl rfl)
theorem dJ1_pollFirst_4 : decode cJ1_pollFirst 4 = .ok (.dup, 1) := dk_89 (dk_at dksJ1_pollFirst_0 4 rfl rfl)
theorem dJ1_pollFirst_5 : decode cJ1_pollFirst 5 = .ok (.astore_n 1, 1) := dk_76 (dk_at dksJ1_pollFirst_0 5 rfl rfl)
theorem dJ1_pollFirst_6 : decode cJ1_pollFirst 6 = .ok (.aload_n 0, 1) := dk_42 (dk_at dksJ1_pollFirst_0 6 rfl rfl)
theorem dJ1_pollFirst_7 : decode cJ1_pollFirst 7 = .ok (.getfield 24, 3) := dk_180 0 24 (dk_at dksJ1_pollFirst_0 7 rfl rfl)
theorem dJ1_pollFirst_10 : decode cJ1_pollFirst 10 = .ok (.dup, 1) := dk_89 (dk_at dksJ1_pollFirst_0 10 rfl rfl)
theorem dJ1_pollFirst_11 : decode cJ1_pollFirst 11 = .ok (.istore_n 2, 1) := dk_61 (dk_at dksJ1_pollFirst_0 11 rfl rfl)
theorem dJ1_pollFirst_12 : decode cJ1_pollFirst 12 = .ok (.invokestatic 103, 3) := dk_184 0 103 (dk_at dksJ1_pollFirst_0 12 rfl rfl)
theorem dJ1_pollFirst_15 : decode cJ1_pollFirst 15 = .ok (.astore_n 3, 1) := dk_78 (dk_at dksJ1_pollFirst_0 15 rfl rfl)
theorem dJ1_pollFirst_16 : decode cJ1_pollFirst 16 = .ok (.aload_n 3, 1) := dk_45 (dk_at dksJ1_pollFirst_0 16 rfl rfl)
theorem dJ1_pollFirst_17 : decode cJ1_pollFirst 17 = .ok (.ifnull 17, 3) := dk_198 0 17 (dk_at dksJ1_pollFirst_0 17 rfl rfl)
theorem dJ1_pollFirst_20 : decode cJ1_pollFirst 20 = .ok (.aload_n 1, 1) := dk_43 (dk_at dksJ1_pollFirst_0 20 rfl rfl)
theorem dJ1_pollFirst_21 : decode cJ1_pollFirst 21 = .ok (.iload_n 2, 1) := dk_28 (dk_at dksJ1_pollFirst_0 21 rfl rfl)
theorem dJ1_pollFirst_22 : decode cJ1_pollFirst 22 = .ok (.aconst_null, 1) := dk_1 (dk_at dksJ1_pollFirst_0 22 rfl rfl)
theorem dJ1_pollFirst_23 : decode cJ1_pollFirst 23 = .ok (.aastore, 1) := dk_83 (dk_at dksJ1_pollFirst_0 23 rfl rfl)
theorem dJ1_pollFirst_24 : decode cJ1_pollFirst 24 = .ok (.aload_n 0, 1) := dk_42 (dk_at dksJ1_pollFirst_1 0 rfl rfl)
theorem dJ1_pollFirst_25 : decode cJ1_pollFirst 25 = .ok (.iload_n 2, 1) := dk_28 (dk_at dksJ1_pollFirst_1 1 rfl rfl)
theorem dJ1_pollFirst_26 : decode cJ1_pollFirst 26 = .ok (.aload_n 1, 1) := dk_43 (dk_at dksJ1_pollFirst_1 2 rfl rfl)
theorem dJ1_pollFirst_27 : decode cJ1_pollFirst 27 = .ok (.arraylength, 1) := dk_190 (dk_at dksJ1_pollFirst_1 3 rfl rfl)
theorem dJ1_pollFirst_28 : decode cJ1_pollFirst 28 = .ok (.invokestatic 74, 3) := dk_184 0 74 (dk_at dksJ1_pollFirst_1 4 rfl rfl)
theorem dJ1_pollFirst_31 : decode cJ1_pollFirst 31 = .ok (.putfield 24, 3) := dk_181 0 24 (dk_at dksJ1_pollFirst_1 7 rfl rfl)
theorem dJ1_pollFirst_34 : decode cJ1_pollFirst 34 = .ok (.aload_n 3, 1) := dk_45 (dk_at dksJ1_pollFirst_1 10 rfl rfl)
theorem dJ1_pollFirst_35 : decode cJ1_pollFirst 35 = .ok (.areturn, 1) := dk_176 (dk_at dksJ1_pollFirst_1 11 rfl rfl)
abbrev cJ1_elementAt : ByteArray := prog_49_method_10_code
def yJ1_elementAt : MethodName := ⟨RJ1, "elementAt", "([Ljava/lang/Object;I)Ljava/lang/Object;"⟩
def dkwJ1_elementAt_0 : List UInt8 := [42, 27, 50, 176]
abbrev dktJ1_elementAt_0 : List UInt8 := dkwJ1_elementAt_0 ++ []
theorem dksJ1_elementAt_0 : cJ1_elementAt.data.toList.drop 0 = dktJ1_elementAt_0 := by decide +kernel
theorem dJ1_elementAt_0 : decode cJ1_elementAt 0 = .ok (.aload_n 0, 1) := dk_42 (dk_at dksJ1_elementAt_0 0 rfl rfl)
theorem dJ1_elementAt_1 : decode cJ1_elementAt 1 = .ok (.iload_n 1, 1) := dk_27 (dk_at dksJ1_elementAt_0 1 rfl rfl)
theorem dJ1_elementAt_2 : decode cJ1_elementAt 2 = .ok (.aaload, 1) := dk_50 (dk_at dksJ1_elementAt_0 2 rfl rfl)
theorem dJ1_elementAt_3 : decode cJ1_elementAt 3 = .ok (.areturn, 1) := dk_176 (dk_at dksJ1_elementAt_0 3 rfl rfl)
abbrev cJ1_inc : ByteArray := prog_49_method_6_code
def yJ1_inc : MethodName := ⟨RJ1, "inc", "(II)I"⟩
def dkwJ1_inc_0 : List UInt8 := [132, 0, 1, 26, 27, 161, 0, 5, 3, 59, 26, 172]
abbrev dktJ1_inc_0 : List UInt8 := dkwJ1_inc_0 ++ []
theorem dksJ1_inc_0 : cJ1_inc.data.toList.drop 0 = dktJ1_inc_0 := by decide +kernel
theorem dJ1_inc_0 : decode cJ1_inc 0 = .ok (.iinc 0 1, 3) := dk_132 0 1 (dk_at dksJ1_inc_0 0 rfl rfl)
theorem dJ1_inc_3 : decode cJ1_inc 3 = .ok (.iload_n 0, 1) := dk_26 (dk_at dksJ1_inc_0 3 rfl rfl)
theorem dJ1_inc_4 : decode cJ1_inc 4 = .ok (.iload_n 1, 1) := dk_27 (dk_at dksJ1_inc_0 4 rfl rfl)
theorem dJ1_inc_5 : decode cJ1_inc 5 = .ok (.if_icmp .lt 5, 3) := dk_161 0 5 (dk_at dksJ1_inc_0 5 rfl rfl)
theorem dJ1_inc_8 : decode cJ1_inc 8 = .ok (.iconst 0, 1) := dk_3 (dk_at dksJ1_inc_0 8 rfl rfl)
theorem dJ1_inc_9 : decode cJ1_inc 9 = .ok (.istore_n 0, 1) := dk_59 (dk_at dksJ1_inc_0 9 rfl rfl)
theorem dJ1_inc_10 : decode cJ1_inc 10 = .ok (.iload_n 0, 1) := dk_26 (dk_at dksJ1_inc_0 10 rfl rfl)
theorem dJ1_inc_11 : decode cJ1_inc 11 = .ok (.ireturn, 1) := dk_172 (dk_at dksJ1_inc_0 11 rfl rfl)
abbrev cJ1_addLast : ByteArray := prog_49_method_13_code
def yJ1_addLast : MethodName := ⟨RJ1, "addLast", "(Ljava/lang/Object;)V"⟩
def dkwJ1_addLast_2 : List UInt8 := [182, 0, 71, 177]
abbrev dktJ1_addLast_2 : List UInt8 := dkwJ1_addLast_2 ++ []
def dkwJ1_addLast_1 : List UInt8 := [42, 180, 0, 24, 42, 42, 180, 0, 20, 44, 190, 184, 0, 74, 90, 181, 0, 20, 160, 0, 8, 42, 4]
abbrev dktJ1_addLast_1 : List UInt8 := dkwJ1_addLast_1 ++ dktJ1_addLast_2
def dkwJ1_addLast_0 : List UInt8 := [43, 199, 0, 11, 187, 0, 65, 89, 183, 0, 67, 191, 42, 180, 0, 3, 77, 44, 42, 180, 0, 20, 43, 83]
abbrev dktJ1_addLast_0 : List UInt8 := dkwJ1_addLast_0 ++ dktJ1_addLast_1
theorem dksJ1_addLast_0 : cJ1_addLast.data.toList.drop 0 = dktJ1_addLast_0 := by decide +kernel
theorem dksJ1_addLast_1 : cJ1_addLast.data.toList.drop 24 = dktJ1_addLast_1 := dk_seg dksJ1_addLast_0 24 rfl rfl
theorem dksJ1_addLast_2 : cJ1_addLast.data.toList.drop 47 = dktJ1_addLast_2 := dk_seg dksJ1_addLast_1 23 rfl rfl
theorem dJ1_addLast_0 : decode cJ1_addLast 0 = .ok (.aload_n 1, 1) := dk_43 (dk_at dksJ1_addLast_0 0 rfl rfl)
theorem dJ1_addLast_1 : decode cJ1_addLast 1 = .ok (.ifnonnull 11, 3) := dk_199 0 11 (dk_at dksJ1_addLast_0 1 rfl rfl)
theorem dJ1_addLast_4 : decode cJ1_addLast 4 = .ok (.new 65, 3) := dk_187 0 65 (dk_at dksJ1_addLast_0 4 rfl rfl)
theorem dJ1_addLast_7 : decode cJ1_addLast 7 = .ok (.dup, 1) := dk_89 (dk_at dksJ1_addLast_0 7 rfl rfl)
theorem dJ1_addLast_8 : decode cJ1_addLast 8 = .ok (.invokespecial 67, 3) := dk_183 0 67 (dk_at dksJ1_addLast_0 8 rfl rfl)
theorem dJ1_addLast_11 : decode cJ1_addLast 11 = .ok (.athrow, 1) := dk_191 (dk_at dksJ1_addLast_0 11 rfl rfl)
theorem dJ1_addLast_12 : decode cJ1_addLast 12 = .ok (.aload_n 0, 1) := dk_42 (dk_at dksJ1_addLast_0 12 rfl rfl)
theorem dJ1_addLast_13 : decode cJ1_addLast 13 = .ok (.getfield 3, 3) := dk_180 0 3 (dk_at dksJ1_addLast_0 13 rfl rfl)
theorem dJ1_addLast_16 : decode cJ1_addLast 16 = .ok (.astore_n 2, 1) := dk_77 (dk_at dksJ1_addLast_0 16 rfl rfl)
theorem dJ1_addLast_17 : decode cJ1_addLast 17 = .ok (.aload_n 2, 1) := dk_44 (dk_at dksJ1_addLast_0 17 rfl rfl)
theorem dJ1_addLast_18 : decode cJ1_addLast 18 = .ok (.aload_n 0, 1) := dk_42 (dk_at dksJ1_addLast_0 18 rfl rfl)
theorem dJ1_addLast_19 : decode cJ1_addLast 19 = .ok (.getfield 20, 3) := dk_180 0 20 (dk_at dksJ1_addLast_0 19 rfl rfl)
theorem dJ1_addLast_22 : decode cJ1_addLast 22 = .ok (.aload_n 1, 1) := dk_43 (dk_at dksJ1_addLast_0 22 rfl rfl)
theorem dJ1_addLast_23 : decode cJ1_addLast 23 = .ok (.aastore, 1) := dk_83 (dk_at dksJ1_addLast_0 23 rfl rfl)
theorem dJ1_addLast_24 : decode cJ1_addLast 24 = .ok (.aload_n 0, 1) := dk_42 (dk_at dksJ1_addLast_1 0 rfl rfl)
theorem dJ1_addLast_25 : decode cJ1_addLast 25 = .ok (.getfield 24, 3) := dk_180 0 24 (dk_at dksJ1_addLast_1 1 rfl rfl)
theorem dJ1_addLast_28 : decode cJ1_addLast 28 = .ok (.aload_n 0, 1) := dk_42 (dk_at dksJ1_addLast_1 4 rfl rfl)
theorem dJ1_addLast_29 : decode cJ1_addLast 29 = .ok (.aload_n 0, 1) := dk_42 (dk_at dksJ1_addLast_1 5 rfl rfl)
theorem dJ1_addLast_30 : decode cJ1_addLast 30 = .ok (.getfield 20, 3) := dk_180 0 20 (dk_at dksJ1_addLast_1 6 rfl rfl)
theorem dJ1_addLast_33 : decode cJ1_addLast 33 = .ok (.aload_n 2, 1) := dk_44 (dk_at dksJ1_addLast_1 9 rfl rfl)
theorem dJ1_addLast_34 : decode cJ1_addLast 34 = .ok (.arraylength, 1) := dk_190 (dk_at dksJ1_addLast_1 10 rfl rfl)
theorem dJ1_addLast_35 : decode cJ1_addLast 35 = .ok (.invokestatic 74, 3) := dk_184 0 74 (dk_at dksJ1_addLast_1 11 rfl rfl)
theorem dJ1_addLast_38 : decode cJ1_addLast 38 = .ok (.dup_x1, 1) := dk_90 (dk_at dksJ1_addLast_1 14 rfl rfl)
theorem dJ1_addLast_39 : decode cJ1_addLast 39 = .ok (.putfield 20, 3) := dk_181 0 20 (dk_at dksJ1_addLast_1 15 rfl rfl)
theorem dJ1_addLast_42 : decode cJ1_addLast 42 = .ok (.if_icmp .ne 8, 3) := dk_160 0 8 (dk_at dksJ1_addLast_1 18 rfl rfl)
theorem dJ1_addLast_45 : decode cJ1_addLast 45 = .ok (.aload_n 0, 1) := dk_42 (dk_at dksJ1_addLast_1 21 rfl rfl)
theorem dJ1_addLast_46 : decode cJ1_addLast 46 = .ok (.iconst 1, 1) := dk_4 (dk_at dksJ1_addLast_1 22 rfl rfl)
theorem dJ1_addLast_47 : decode cJ1_addLast 47 = .ok (.invokevirtual 71, 3) := dk_182 0 71 (dk_at dksJ1_addLast_2 0 rfl rfl)
theorem dJ1_addLast_50 : decode cJ1_addLast 50 = .ok (.return_, 1) := dk_177 (dk_at dksJ1_addLast_2 3 rfl rfl)
abbrev cJ1_grow : ByteArray := prog_49_method_1_code
def yJ1_grow : MethodName := ⟨RJ1, "grow", "(I)V"⟩
def dkwJ1_grow_7 : List UInt8 := [177]
abbrev dktJ1_grow_7 : List UInt8 := dkwJ1_grow_7 ++ []
def dkwJ1_grow_6 : List UInt8 := [181, 0, 24, 54, 8, 21, 7, 21, 8, 162, 0, 15, 25, 5, 21, 7, 1, 83, 132, 7, 1, 167, 255, 240]
abbrev dktJ1_grow_6 : List UInt8 := dkwJ1_grow_6 ++ dktJ1_grow_7
def dkwJ1_grow_5 : List UInt8 := [42, 180, 0, 24, 100, 184, 0, 27, 42, 180, 0, 24, 54, 7, 42, 89, 180, 0, 24, 21, 6, 96, 90]
abbrev dktJ1_grow_5 : List UInt8 := dkwJ1_grow_5 ++ dktJ1_grow_6
def dkwJ1_grow_4 : List UInt8 := [198, 0, 71, 29, 28, 100, 54, 6, 25, 5, 42, 180, 0, 24, 25, 5, 42, 180, 0, 24, 21, 6, 96, 28]
abbrev dktJ1_grow_4 : List UInt8 := dkwJ1_grow_4 ++ dktJ1_grow_5
def dkwJ1_grow_3 : List UInt8 := [180, 0, 24, 161, 0, 24, 42, 180, 0, 20, 42, 180, 0, 24, 160, 0, 81, 25, 5, 42, 180, 0, 24, 50]
abbrev dktJ1_grow_3 : List UInt8 := dkwJ1_grow_3 ++ dktJ1_grow_4
def dkwJ1_grow_2 : List UInt8 := [182, 0, 10, 62, 42, 42, 180, 0, 3, 29, 184, 0, 14, 90, 181, 0, 3, 58, 5, 42, 180, 0, 20, 42]
abbrev dktJ1_grow_2 : List UInt8 := dkwJ1_grow_2 ++ dktJ1_grow_3
def dkwJ1_grow_1 : List UInt8 := [21, 4, 27, 161, 0, 15, 28, 21, 4, 96, 89, 62, 18, 9, 100, 158, 0, 11, 42, 27, 21, 4]
abbrev dktJ1_grow_1 : List UInt8 := dkwJ1_grow_1 ++ dktJ1_grow_2
def dkwJ1_grow_0 : List UInt8 := [42, 180, 0, 3, 190, 61, 28, 16, 64, 162, 0, 9, 28, 5, 96, 167, 0, 6, 28, 4, 122, 54, 4]
abbrev dktJ1_grow_0 : List UInt8 := dkwJ1_grow_0 ++ dktJ1_grow_1
theorem dksJ1_grow_0 : cJ1_grow.data.toList.drop 0 = dktJ1_grow_0 := by decide +kernel
theorem dksJ1_grow_1 : cJ1_grow.data.toList.drop 23 = dktJ1_grow_1 := dk_seg dksJ1_grow_0 23 rfl rfl
theorem dksJ1_grow_2 : cJ1_grow.data.toList.drop 45 = dktJ1_grow_2 := dk_seg dksJ1_grow_1 22 rfl rfl
theorem dksJ1_grow_3 : cJ1_grow.data.toList.drop 69 = dktJ1_grow_3 := dk_seg dksJ1_grow_2 24 rfl rfl
theorem dksJ1_grow_4 : cJ1_grow.data.toList.drop 93 = dktJ1_grow_4 := dk_seg dksJ1_grow_3 24 rfl rfl
theorem dksJ1_grow_5 : cJ1_grow.data.toList.drop 117 = dktJ1_grow_5 := dk_seg dksJ1_grow_4 24 rfl rfl
theorem dksJ1_grow_6 : cJ1_grow.data.toList.drop 140 = dktJ1_grow_6 := dk_seg dksJ1_grow_5 23 rfl rfl
theorem dksJ1_grow_7 : cJ1_grow.data.toList.drop 164 = dktJ1_grow_7 := dk_seg dksJ1_grow_6 24 rfl rfl
theorem dJ1_grow_0 : decode cJ1_grow 0 = .ok (.aload_n 0, 1) := dk_42 (dk_at dksJ1_grow_0 0 rfl rfl)
theorem dJ1_grow_1 : decode cJ1_grow 1 = .ok (.getfield 3, 3) := dk_180 0 3 (dk_at dksJ1_grow_0 1 rfl rfl)
theorem dJ1_grow_4 : decode cJ1_grow 4 = .ok (.arraylength, 1) := dk_190 (dk_at dksJ1_grow_0 4 rfl rfl)
theorem dJ1_grow_5 : decode cJ1_grow 5 = .ok (.istore_n 2, 1) := dk_61 (dk_at dksJ1_grow_0 5 rfl rfl)
theorem dJ1_grow_6 : decode cJ1_grow 6 = .ok (.iload_n 2, 1) := dk_28 (dk_at dksJ1_grow_0 6 rfl rfl)
theorem dJ1_grow_7 : decode cJ1_grow 7 = .ok (.bipush 64, 2) := dk_16 64 (dk_at dksJ1_grow_0 7 rfl rfl)
theorem dJ1_grow_9 : decode cJ1_grow 9 = .ok (.if_icmp .ge 9, 3) := dk_162 0 9 (dk_at dksJ1_grow_0 9 rfl rfl)
theorem dJ1_grow_12 : decode cJ1_grow 12 = .ok (.iload_n 2, 1) := dk_28 (dk_at dksJ1_grow_0 12 rfl rfl)
theorem dJ1_grow_13 : decode cJ1_grow 13 = .ok (.iconst 2, 1) := dk_5 (dk_at dksJ1_grow_0 13 rfl rfl)
theorem dJ1_grow_14 : decode cJ1_grow 14 = .ok (.iadd, 1) := dk_96 (dk_at dksJ1_grow_0 14 rfl rfl)
theorem dJ1_grow_15 : decode cJ1_grow 15 = .ok (.goto 6, 3) := dk_167 0 6 (dk_at dksJ1_grow_0 15 rfl rfl)
theorem dJ1_grow_18 : decode cJ1_grow 18 = .ok (.iload_n 2, 1) := dk_28 (dk_at dksJ1_grow_0 18 rfl rfl)
theorem dJ1_grow_19 : decode cJ1_grow 19 = .ok (.iconst 1, 1) := dk_4 (dk_at dksJ1_grow_0 19 rfl rfl)
theorem dJ1_grow_20 : decode cJ1_grow 20 = .ok (.ishr, 1) := dk_122 (dk_at dksJ1_grow_0 20 rfl rfl)
theorem dJ1_grow_21 : decode cJ1_grow 21 = .ok (.istore 4, 2) := dk_54 4 (dk_at dksJ1_grow_0 21 rfl rfl)
theorem dJ1_grow_23 : decode cJ1_grow 23 = .ok (.iload 4, 2) := dk_21 4 (dk_at dksJ1_grow_1 0 rfl rfl)
theorem dJ1_grow_25 : decode cJ1_grow 25 = .ok (.iload_n 1, 1) := dk_27 (dk_at dksJ1_grow_1 2 rfl rfl)
theorem dJ1_grow_26 : decode cJ1_grow 26 = .ok (.if_icmp .lt 15, 3) := dk_161 0 15 (dk_at dksJ1_grow_1 3 rfl rfl)
theorem dJ1_grow_29 : decode cJ1_grow 29 = .ok (.iload_n 2, 1) := dk_28 (dk_at dksJ1_grow_1 6 rfl rfl)
theorem dJ1_grow_30 : decode cJ1_grow 30 = .ok (.iload 4, 2) := dk_21 4 (dk_at dksJ1_grow_1 7 rfl rfl)
theorem dJ1_grow_32 : decode cJ1_grow 32 = .ok (.iadd, 1) := dk_96 (dk_at dksJ1_grow_1 9 rfl rfl)
theorem dJ1_grow_33 : decode cJ1_grow 33 = .ok (.dup, 1) := dk_89 (dk_at dksJ1_grow_1 10 rfl rfl)
theorem dJ1_grow_34 : decode cJ1_grow 34 = .ok (.istore_n 3, 1) := dk_62 (dk_at dksJ1_grow_1 11 rfl rfl)
theorem dJ1_grow_35 : decode cJ1_grow 35 = .ok (.ldc 9, 2) := dk_18 9 (dk_at dksJ1_grow_1 12 rfl rfl)
theorem dJ1_grow_37 : decode cJ1_grow 37 = .ok (.isub, 1) := dk_100 (dk_at dksJ1_grow_1 14 rfl rfl)
theorem dJ1_grow_38 : decode cJ1_grow 38 = .ok (.ifCond .le 11, 3) := dk_158 0 11 (dk_at dksJ1_grow_1 15 rfl rfl)
theorem dJ1_grow_41 : decode cJ1_grow 41 = .ok (.aload_n 0, 1) := dk_42 (dk_at dksJ1_grow_1 18 rfl rfl)
theorem dJ1_grow_42 : decode cJ1_grow 42 = .ok (.iload_n 1, 1) := dk_27 (dk_at dksJ1_grow_1 19 rfl rfl)
theorem dJ1_grow_43 : decode cJ1_grow 43 = .ok (.iload 4, 2) := dk_21 4 (dk_at dksJ1_grow_1 20 rfl rfl)
theorem dJ1_grow_45 : decode cJ1_grow 45 = .ok (.invokevirtual 10, 3) := dk_182 0 10 (dk_at dksJ1_grow_2 0 rfl rfl)
theorem dJ1_grow_48 : decode cJ1_grow 48 = .ok (.istore_n 3, 1) := dk_62 (dk_at dksJ1_grow_2 3 rfl rfl)
theorem dJ1_grow_49 : decode cJ1_grow 49 = .ok (.aload_n 0, 1) := dk_42 (dk_at dksJ1_grow_2 4 rfl rfl)
theorem dJ1_grow_50 : decode cJ1_grow 50 = .ok (.aload_n 0, 1) := dk_42 (dk_at dksJ1_grow_2 5 rfl rfl)
theorem dJ1_grow_51 : decode cJ1_grow 51 = .ok (.getfield 3, 3) := dk_180 0 3 (dk_at dksJ1_grow_2 6 rfl rfl)
theorem dJ1_grow_54 : decode cJ1_grow 54 = .ok (.iload_n 3, 1) := dk_29 (dk_at dksJ1_grow_2 9 rfl rfl)
theorem dJ1_grow_55 : decode cJ1_grow 55 = .ok (.invokestatic 14, 3) := dk_184 0 14 (dk_at dksJ1_grow_2 10 rfl rfl)
theorem dJ1_grow_58 : decode cJ1_grow 58 = .ok (.dup_x1, 1) := dk_90 (dk_at dksJ1_grow_2 13 rfl rfl)
theorem dJ1_grow_59 : decode cJ1_grow 59 = .ok (.putfield 3, 3) := dk_181 0 3 (dk_at dksJ1_grow_2 14 rfl rfl)
theorem dJ1_grow_62 : decode cJ1_grow 62 = .ok (.astore 5, 2) := dk_58 5 (dk_at dksJ1_grow_2 17 rfl rfl)
theorem dJ1_grow_64 : decode cJ1_grow 64 = .ok (.aload_n 0, 1) := dk_42 (dk_at dksJ1_grow_2 19 rfl rfl)
theorem dJ1_grow_65 : decode cJ1_grow 65 = .ok (.getfield 20, 3) := dk_180 0 20 (dk_at dksJ1_grow_2 20 rfl rfl)
theorem dJ1_grow_68 : decode cJ1_grow 68 = .ok (.aload_n 0, 1) := dk_42 (dk_at dksJ1_grow_2 23 rfl rfl)
theorem dJ1_grow_69 : decode cJ1_grow 69 = .ok (.getfield 24, 3) := dk_180 0 24 (dk_at dksJ1_grow_3 0 rfl rfl)
theorem dJ1_grow_72 : decode cJ1_grow 72 = .ok (.if_icmp .lt 24, 3) := dk_161 0 24 (dk_at dksJ1_grow_3 3 rfl rfl)
theorem dJ1_grow_75 : decode cJ1_grow 75 = .ok (.aload_n 0, 1) := dk_42 (dk_at dksJ1_grow_3 6 rfl rfl)
theorem dJ1_grow_76 : decode cJ1_grow 76 = .ok (.getfield 20, 3) := dk_180 0 20 (dk_at dksJ1_grow_3 7 rfl rfl)
theorem dJ1_grow_79 : decode cJ1_grow 79 = .ok (.aload_n 0, 1) := dk_42 (dk_at dksJ1_grow_3 10 rfl rfl)
theorem dJ1_grow_80 : decode cJ1_grow 80 = .ok (.getfield 24, 3) := dk_180 0 24 (dk_at dksJ1_grow_3 11 rfl rfl)
theorem dJ1_grow_83 : decode cJ1_grow 83 = .ok (.if_icmp .ne 81, 3) := dk_160 0 81 (dk_at dksJ1_grow_3 14 rfl rfl)
theorem dJ1_grow_86 : decode cJ1_grow 86 = .ok (.aload 5, 2) := dk_25 5 (dk_at dksJ1_grow_3 17 rfl rfl)
theorem dJ1_grow_88 : decode cJ1_grow 88 = .ok (.aload_n 0, 1) := dk_42 (dk_at dksJ1_grow_3 19 rfl rfl)
theorem dJ1_grow_89 : decode cJ1_grow 89 = .ok (.getfield 24, 3) := dk_180 0 24 (dk_at dksJ1_grow_3 20 rfl rfl)
theorem dJ1_grow_92 : decode cJ1_grow 92 = .ok (.aaload, 1) := dk_50 (dk_at dksJ1_grow_3 23 rfl rfl)
theorem dJ1_grow_93 : decode cJ1_grow 93 = .ok (.ifnull 71, 3) := dk_198 0 71 (dk_at dksJ1_grow_4 0 rfl rfl)
theorem dJ1_grow_96 : decode cJ1_grow 96 = .ok (.iload_n 3, 1) := dk_29 (dk_at dksJ1_grow_4 3 rfl rfl)
theorem dJ1_grow_97 : decode cJ1_grow 97 = .ok (.iload_n 2, 1) := dk_28 (dk_at dksJ1_grow_4 4 rfl rfl)
theorem dJ1_grow_98 : decode cJ1_grow 98 = .ok (.isub, 1) := dk_100 (dk_at dksJ1_grow_4 5 rfl rfl)
theorem dJ1_grow_99 : decode cJ1_grow 99 = .ok (.istore 6, 2) := dk_54 6 (dk_at dksJ1_grow_4 6 rfl rfl)
theorem dJ1_grow_101 : decode cJ1_grow 101 = .ok (.aload 5, 2) := dk_25 5 (dk_at dksJ1_grow_4 8 rfl rfl)
theorem dJ1_grow_103 : decode cJ1_grow 103 = .ok (.aload_n 0, 1) := dk_42 (dk_at dksJ1_grow_4 10 rfl rfl)
theorem dJ1_grow_104 : decode cJ1_grow 104 = .ok (.getfield 24, 3) := dk_180 0 24 (dk_at dksJ1_grow_4 11 rfl rfl)
theorem dJ1_grow_107 : decode cJ1_grow 107 = .ok (.aload 5, 2) := dk_25 5 (dk_at dksJ1_grow_4 14 rfl rfl)
theorem dJ1_grow_109 : decode cJ1_grow 109 = .ok (.aload_n 0, 1) := dk_42 (dk_at dksJ1_grow_4 16 rfl rfl)
theorem dJ1_grow_110 : decode cJ1_grow 110 = .ok (.getfield 24, 3) := dk_180 0 24 (dk_at dksJ1_grow_4 17 rfl rfl)
theorem dJ1_grow_113 : decode cJ1_grow 113 = .ok (.iload 6, 2) := dk_21 6 (dk_at dksJ1_grow_4 20 rfl rfl)
theorem dJ1_grow_115 : decode cJ1_grow 115 = .ok (.iadd, 1) := dk_96 (dk_at dksJ1_grow_4 22 rfl rfl)
theorem dJ1_grow_116 : decode cJ1_grow 116 = .ok (.iload_n 2, 1) := dk_28 (dk_at dksJ1_grow_4 23 rfl rfl)
theorem dJ1_grow_117 : decode cJ1_grow 117 = .ok (.aload_n 0, 1) := dk_42 (dk_at dksJ1_grow_5 0 rfl rfl)
theorem dJ1_grow_118 : decode cJ1_grow 118 = .ok (.getfield 24, 3) := dk_180 0 24 (dk_at dksJ1_grow_5 1 rfl rfl)
theorem dJ1_grow_121 : decode cJ1_grow 121 = .ok (.isub, 1) := dk_100 (dk_at dksJ1_grow_5 4 rfl rfl)
theorem dJ1_grow_122 : decode cJ1_grow 122 = .ok (.invokestatic 27, 3) := dk_184 0 27 (dk_at dksJ1_grow_5 5 rfl rfl)
theorem dJ1_grow_125 : decode cJ1_grow 125 = .ok (.aload_n 0, 1) := dk_42 (dk_at dksJ1_grow_5 8 rfl rfl)
theorem dJ1_grow_126 : decode cJ1_grow 126 = .ok (.getfield 24, 3) := dk_180 0 24 (dk_at dksJ1_grow_5 9 rfl rfl)
theorem dJ1_grow_129 : decode cJ1_grow 129 = .ok (.istore 7, 2) := dk_54 7 (dk_at dksJ1_grow_5 12 rfl rfl)
theorem dJ1_grow_131 : decode cJ1_grow 131 = .ok (.aload_n 0, 1) := dk_42 (dk_at dksJ1_grow_5 14 rfl rfl)
theorem dJ1_grow_132 : decode cJ1_grow 132 = .ok (.dup, 1) := dk_89 (dk_at dksJ1_grow_5 15 rfl rfl)
theorem dJ1_grow_133 : decode cJ1_grow 133 = .ok (.getfield 24, 3) := dk_180 0 24 (dk_at dksJ1_grow_5 16 rfl rfl)
theorem dJ1_grow_136 : decode cJ1_grow 136 = .ok (.iload 6, 2) := dk_21 6 (dk_at dksJ1_grow_5 19 rfl rfl)
theorem dJ1_grow_138 : decode cJ1_grow 138 = .ok (.iadd, 1) := dk_96 (dk_at dksJ1_grow_5 21 rfl rfl)
theorem dJ1_grow_139 : decode cJ1_grow 139 = .ok (.dup_x1, 1) := dk_90 (dk_at dksJ1_grow_5 22 rfl rfl)
theorem dJ1_grow_140 : decode cJ1_grow 140 = .ok (.putfield 24, 3) := dk_181 0 24 (dk_at dksJ1_grow_6 0 rfl rfl)
theorem dJ1_grow_143 : decode cJ1_grow 143 = .ok (.istore 8, 2) := dk_54 8 (dk_at dksJ1_grow_6 3 rfl rfl)
theorem dJ1_grow_145 : decode cJ1_grow 145 = .ok (.iload 7, 2) := dk_21 7 (dk_at dksJ1_grow_6 5 rfl rfl)
theorem dJ1_grow_147 : decode cJ1_grow 147 = .ok (.iload 8, 2) := dk_21 8 (dk_at dksJ1_grow_6 7 rfl rfl)
theorem dJ1_grow_149 : decode cJ1_grow 149 = .ok (.if_icmp .ge 15, 3) := dk_162 0 15 (dk_at dksJ1_grow_6 9 rfl rfl)
theorem dJ1_grow_152 : decode cJ1_grow 152 = .ok (.aload 5, 2) := dk_25 5 (dk_at dksJ1_grow_6 12 rfl rfl)
theorem dJ1_grow_154 : decode cJ1_grow 154 = .ok (.iload 7, 2) := dk_21 7 (dk_at dksJ1_grow_6 14 rfl rfl)
theorem dJ1_grow_156 : decode cJ1_grow 156 = .ok (.aconst_null, 1) := dk_1 (dk_at dksJ1_grow_6 16 rfl rfl)
theorem dJ1_grow_157 : decode cJ1_grow 157 = .ok (.aastore, 1) := dk_83 (dk_at dksJ1_grow_6 17 rfl rfl)
theorem dJ1_grow_158 : decode cJ1_grow 158 = .ok (.iinc 7 1, 3) := dk_132 7 1 (dk_at dksJ1_grow_6 18 rfl rfl)
theorem dJ1_grow_161 : decode cJ1_grow 161 = .ok (.goto (-16), 3) := dk_167 255 240 (dk_at dksJ1_grow_6 21 rfl rfl)
theorem dJ1_grow_164 : decode cJ1_grow 164 = .ok (.return_, 1) := dk_177 (dk_at dksJ1_grow_7 0 rfl rfl)
abbrev cJ1_newCapacity : ByteArray := prog_49_method_2_code
def yJ1_newCapacity : MethodName := ⟨RJ1, "newCapacity", "(II)I"⟩
def dkwJ1_newCapacity_2 : List UInt8 := [18, 9, 100, 156, 0, 9, 29, 28, 96, 167, 0, 5, 18, 9, 172]
abbrev dktJ1_newCapacity_2 : List UInt8 := dkwJ1_newCapacity_2 ++ []
def dkwJ1_newCapacity_1 : List UInt8 := [187, 0, 33, 89, 18, 35, 183, 0, 37, 191, 18, 41, 172, 27, 28, 164, 0, 6, 21, 4, 172, 29, 28, 96]
abbrev dktJ1_newCapacity_1 : List UInt8 := dkwJ1_newCapacity_1 ++ dktJ1_newCapacity_2
def dkwJ1_newCapacity_0 : List UInt8 := [42, 180, 0, 3, 190, 62, 29, 27, 96, 89, 54, 4, 18, 9, 100, 158, 0, 21, 21, 4, 156, 0, 13]
abbrev dktJ1_newCapacity_0 : List UInt8 := dkwJ1_newCapacity_0 ++ dktJ1_newCapacity_1
theorem dksJ1_newCapacity_0 : cJ1_newCapacity.data.toList.drop 0 = dktJ1_newCapacity_0 := by decide +kernel
theorem dksJ1_newCapacity_1 : cJ1_newCapacity.data.toList.drop 23 = dktJ1_newCapacity_1 := dk_seg dksJ1_newCapacity_0 23 rfl rfl
theorem dksJ1_newCapacity_2 : cJ1_newCapacity.data.toList.drop 47 = dktJ1_newCapacity_2 := dk_seg dksJ1_newCapacity_1 24 rfl rfl
theorem dJ1_newCapacity_0 : decode cJ1_newCapacity 0 = .ok (.aload_n 0, 1) := dk_42 (dk_at dksJ1_newCapacity_0 0 rfl rfl)
theorem dJ1_newCapacity_1 : decode cJ1_newCapacity 1 = .ok (.getfield 3, 3) := dk_180 0 3 (dk_at dksJ1_newCapacity_0 1 rfl rfl)
theorem dJ1_newCapacity_4 : decode cJ1_newCapacity 4 = .ok (.arraylength, 1) := dk_190 (dk_at dksJ1_newCapacity_0 4 rfl rfl)
theorem dJ1_newCapacity_5 : decode cJ1_newCapacity 5 = .ok (.istore_n 3, 1) := dk_62 (dk_at dksJ1_newCapacity_0 5 rfl rfl)
theorem dJ1_newCapacity_6 : decode cJ1_newCapacity 6 = .ok (.iload_n 3, 1) := dk_29 (dk_at dksJ1_newCapacity_0 6 rfl rfl)
theorem dJ1_newCapacity_7 : decode cJ1_newCapacity 7 = .ok (.iload_n 1, 1) := dk_27 (dk_at dksJ1_newCapacity_0 7 rfl rfl)
theorem dJ1_newCapacity_8 : decode cJ1_newCapacity 8 = .ok (.iadd, 1) := dk_96 (dk_at dksJ1_newCapacity_0 8 rfl rfl)
theorem dJ1_newCapacity_9 : decode cJ1_newCapacity 9 = .ok (.dup, 1) := dk_89 (dk_at dksJ1_newCapacity_0 9 rfl rfl)
theorem dJ1_newCapacity_10 : decode cJ1_newCapacity 10 = .ok (.istore 4, 2) := dk_54 4 (dk_at dksJ1_newCapacity_0 10 rfl rfl)
theorem dJ1_newCapacity_12 : decode cJ1_newCapacity 12 = .ok (.ldc 9, 2) := dk_18 9 (dk_at dksJ1_newCapacity_0 12 rfl rfl)
theorem dJ1_newCapacity_14 : decode cJ1_newCapacity 14 = .ok (.isub, 1) := dk_100 (dk_at dksJ1_newCapacity_0 14 rfl rfl)
theorem dJ1_newCapacity_15 : decode cJ1_newCapacity 15 = .ok (.ifCond .le 21, 3) := dk_158 0 21 (dk_at dksJ1_newCapacity_0 15 rfl rfl)
theorem dJ1_newCapacity_18 : decode cJ1_newCapacity 18 = .ok (.iload 4, 2) := dk_21 4 (dk_at dksJ1_newCapacity_0 18 rfl rfl)
theorem dJ1_newCapacity_20 : decode cJ1_newCapacity 20 = .ok (.ifCond .ge 13, 3) := dk_156 0 13 (dk_at dksJ1_newCapacity_0 20 rfl rfl)
theorem dJ1_newCapacity_23 : decode cJ1_newCapacity 23 = .ok (.new 33, 3) := dk_187 0 33 (dk_at dksJ1_newCapacity_1 0 rfl rfl)
theorem dJ1_newCapacity_26 : decode cJ1_newCapacity 26 = .ok (.dup, 1) := dk_89 (dk_at dksJ1_newCapacity_1 3 rfl rfl)
theorem dJ1_newCapacity_27 : decode cJ1_newCapacity 27 = .ok (.ldc 35, 2) := dk_18 35 (dk_at dksJ1_newCapacity_1 4 rfl rfl)
theorem dJ1_newCapacity_29 : decode cJ1_newCapacity 29 = .ok (.invokespecial 37, 3) := dk_183 0 37 (dk_at dksJ1_newCapacity_1 6 rfl rfl)
theorem dJ1_newCapacity_32 : decode cJ1_newCapacity 32 = .ok (.athrow, 1) := dk_191 (dk_at dksJ1_newCapacity_1 9 rfl rfl)
theorem dJ1_newCapacity_33 : decode cJ1_newCapacity 33 = .ok (.ldc 41, 2) := dk_18 41 (dk_at dksJ1_newCapacity_1 10 rfl rfl)
theorem dJ1_newCapacity_35 : decode cJ1_newCapacity 35 = .ok (.ireturn, 1) := dk_172 (dk_at dksJ1_newCapacity_1 12 rfl rfl)
theorem dJ1_newCapacity_36 : decode cJ1_newCapacity 36 = .ok (.iload_n 1, 1) := dk_27 (dk_at dksJ1_newCapacity_1 13 rfl rfl)
theorem dJ1_newCapacity_37 : decode cJ1_newCapacity 37 = .ok (.iload_n 2, 1) := dk_28 (dk_at dksJ1_newCapacity_1 14 rfl rfl)
theorem dJ1_newCapacity_38 : decode cJ1_newCapacity 38 = .ok (.if_icmp .le 6, 3) := dk_164 0 6 (dk_at dksJ1_newCapacity_1 15 rfl rfl)
theorem dJ1_newCapacity_41 : decode cJ1_newCapacity 41 = .ok (.iload 4, 2) := dk_21 4 (dk_at dksJ1_newCapacity_1 18 rfl rfl)
theorem dJ1_newCapacity_43 : decode cJ1_newCapacity 43 = .ok (.ireturn, 1) := dk_172 (dk_at dksJ1_newCapacity_1 20 rfl rfl)
theorem dJ1_newCapacity_44 : decode cJ1_newCapacity 44 = .ok (.iload_n 3, 1) := dk_29 (dk_at dksJ1_newCapacity_1 21 rfl rfl)
theorem dJ1_newCapacity_45 : decode cJ1_newCapacity 45 = .ok (.iload_n 2, 1) := dk_28 (dk_at dksJ1_newCapacity_1 22 rfl rfl)
theorem dJ1_newCapacity_46 : decode cJ1_newCapacity 46 = .ok (.iadd, 1) := dk_96 (dk_at dksJ1_newCapacity_1 23 rfl rfl)
theorem dJ1_newCapacity_47 : decode cJ1_newCapacity 47 = .ok (.ldc 9, 2) := dk_18 9 (dk_at dksJ1_newCapacity_2 0 rfl rfl)
theorem dJ1_newCapacity_49 : decode cJ1_newCapacity 49 = .ok (.isub, 1) := dk_100 (dk_at dksJ1_newCapacity_2 2 rfl rfl)
theorem dJ1_newCapacity_50 : decode cJ1_newCapacity 50 = .ok (.ifCond .ge 9, 3) := dk_156 0 9 (dk_at dksJ1_newCapacity_2 3 rfl rfl)
theorem dJ1_newCapacity_53 : decode cJ1_newCapacity 53 = .ok (.iload_n 3, 1) := dk_29 (dk_at dksJ1_newCapacity_2 6 rfl rfl)
theorem dJ1_newCapacity_54 : decode cJ1_newCapacity 54 = .ok (.iload_n 2, 1) := dk_28 (dk_at dksJ1_newCapacity_2 7 rfl rfl)
theorem dJ1_newCapacity_55 : decode cJ1_newCapacity 55 = .ok (.iadd, 1) := dk_96 (dk_at dksJ1_newCapacity_2 8 rfl rfl)
theorem dJ1_newCapacity_56 : decode cJ1_newCapacity 56 = .ok (.goto 5, 3) := dk_167 0 5 (dk_at dksJ1_newCapacity_2 9 rfl rfl)
theorem dJ1_newCapacity_59 : decode cJ1_newCapacity 59 = .ok (.ldc 9, 2) := dk_18 9 (dk_at dksJ1_newCapacity_2 12 rfl rfl)
theorem dJ1_newCapacity_61 : decode cJ1_newCapacity 61 = .ok (.ireturn, 1) := dk_172 (dk_at dksJ1_newCapacity_2 14 rfl rfl)
abbrev cJ1_isEmpty : ByteArray := prog_49_method_38_code
def yJ1_isEmpty : MethodName := ⟨RJ1, "isEmpty", "()Z"⟩
def dkwJ1_isEmpty_0 : List UInt8 := [42, 180, 0, 24, 42, 180, 0, 20, 160, 0, 7, 4, 167, 0, 4, 3, 172]
abbrev dktJ1_isEmpty_0 : List UInt8 := dkwJ1_isEmpty_0 ++ []
theorem dksJ1_isEmpty_0 : cJ1_isEmpty.data.toList.drop 0 = dktJ1_isEmpty_0 := by decide +kernel
theorem dJ1_isEmpty_0 : decode cJ1_isEmpty 0 = .ok (.aload_n 0, 1) := dk_42 (dk_at dksJ1_isEmpty_0 0 rfl rfl)
theorem dJ1_isEmpty_1 : decode cJ1_isEmpty 1 = .ok (.getfield 24, 3) := dk_180 0 24 (dk_at dksJ1_isEmpty_0 1 rfl rfl)
theorem dJ1_isEmpty_4 : decode cJ1_isEmpty 4 = .ok (.aload_n 0, 1) := dk_42 (dk_at dksJ1_isEmpty_0 4 rfl rfl)
theorem dJ1_isEmpty_5 : decode cJ1_isEmpty 5 = .ok (.getfield 20, 3) := dk_180 0 20 (dk_at dksJ1_isEmpty_0 5 rfl rfl)
theorem dJ1_isEmpty_8 : decode cJ1_isEmpty 8 = .ok (.if_icmp .ne 7, 3) := dk_160 0 7 (dk_at dksJ1_isEmpty_0 8 rfl rfl)
theorem dJ1_isEmpty_11 : decode cJ1_isEmpty 11 = .ok (.iconst 1, 1) := dk_4 (dk_at dksJ1_isEmpty_0 11 rfl rfl)
theorem dJ1_isEmpty_12 : decode cJ1_isEmpty 12 = .ok (.goto 4, 3) := dk_167 0 4 (dk_at dksJ1_isEmpty_0 12 rfl rfl)
theorem dJ1_isEmpty_15 : decode cJ1_isEmpty 15 = .ok (.iconst 0, 1) := dk_3 (dk_at dksJ1_isEmpty_0 15 rfl rfl)
theorem dJ1_isEmpty_16 : decode cJ1_isEmpty 16 = .ok (.ireturn, 1) := dk_172 (dk_at dksJ1_isEmpty_0 16 rfl rfl)
abbrev cJ1_removeLast : ByteArray := prog_49_method_19_code
def yJ1_removeLast : MethodName := ⟨RJ1, "removeLast", "()Ljava/lang/Object;"⟩
def dkwJ1_removeLast_0 : List UInt8 := [42, 182, 0, 100, 76, 43, 199, 0, 11, 187, 0, 97, 89, 183, 0, 99, 191, 43, 176]
abbrev dktJ1_removeLast_0 : List UInt8 := dkwJ1_removeLast_0 ++ []
theorem dksJ1_removeLast_0 : cJ1_removeLast.data.toList.drop 0 = dktJ1_removeLast_0 := by decide +kernel
theorem dJ1_removeLast_0 : decode cJ1_removeLast 0 = .ok (.aload_n 0, 1) := dk_42 (dk_at dksJ1_removeLast_0 0 rfl rfl)
theorem dJ1_removeLast_1 : decode cJ1_removeLast 1 = .ok (.invokevirtual 100, 3) := dk_182 0 100 (dk_at dksJ1_removeLast_0 1 rfl rfl)
theorem dJ1_removeLast_4 : decode cJ1_removeLast 4 = .ok (.astore_n 1, 1) := dk_76 (dk_at dksJ1_removeLast_0 4 rfl rfl)
theorem dJ1_removeLast_5 : decode cJ1_removeLast 5 = .ok (.aload_n 1, 1) := dk_43 (dk_at dksJ1_removeLast_0 5 rfl rfl)
theorem dJ1_removeLast_6 : decode cJ1_removeLast 6 = .ok (.ifnonnull 11, 3) := dk_199 0 11 (dk_at dksJ1_removeLast_0 6 rfl rfl)
theorem dJ1_removeLast_9 : decode cJ1_removeLast 9 = .ok (.new 97, 3) := dk_187 0 97 (dk_at dksJ1_removeLast_0 9 rfl rfl)
theorem dJ1_removeLast_12 : decode cJ1_removeLast 12 = .ok (.dup, 1) := dk_89 (dk_at dksJ1_removeLast_0 12 rfl rfl)
theorem dJ1_removeLast_13 : decode cJ1_removeLast 13 = .ok (.invokespecial 99, 3) := dk_183 0 99 (dk_at dksJ1_removeLast_0 13 rfl rfl)
theorem dJ1_removeLast_16 : decode cJ1_removeLast 16 = .ok (.athrow, 1) := dk_191 (dk_at dksJ1_removeLast_0 16 rfl rfl)
theorem dJ1_removeLast_17 : decode cJ1_removeLast 17 = .ok (.aload_n 1, 1) := dk_43 (dk_at dksJ1_removeLast_0 17 rfl rfl)
theorem dJ1_removeLast_18 : decode cJ1_removeLast 18 = .ok (.areturn, 1) := dk_176 (dk_at dksJ1_removeLast_0 18 rfl rfl)
abbrev cJ1_pollLast : ByteArray := prog_49_method_21_code
def yJ1_pollLast : MethodName := ⟨RJ1, "pollLast", "()Ljava/lang/Object;"⟩
def dkwJ1_pollLast_1 : List UInt8 := [198, 0, 12, 43, 42, 28, 90, 181, 0, 20, 1, 83, 45, 176]
abbrev dktJ1_pollLast_1 : List UInt8 := dkwJ1_pollLast_1 ++ []
def dkwJ1_pollLast_0 : List UInt8 := [42, 180, 0, 3, 89, 76, 42, 180, 0, 20, 43, 190, 184, 0, 68, 89, 61, 184, 0, 103, 78, 45]
abbrev dktJ1_pollLast_0 : List UInt8 := dkwJ1_pollLast_0 ++ dktJ1_pollLast_1
theorem dksJ1_pollLast_0 : cJ1_pollLast.data.toList.drop 0 = dktJ1_pollLast_0 := by decide +kernel
theorem dksJ1_pollLast_1 : cJ1_pollLast.data.toList.drop 22 = dktJ1_pollLast_1 := dk_seg dksJ1_pollLast_0 22 rfl rfl
theorem dJ1_pollLast_0 : decode cJ1_pollLast 0 = .ok (.aload_n 0, 1) := dk_42 (dk_at dksJ1_pollLast_0 0 rfl rfl)
theorem dJ1_pollLast_1 : decode cJ1_pollLast 1 = .ok (.getfield 3, 3) := dk_180 0 3 (dk_at dksJ1_pollLast_0 1 rfl rfl)
theorem dJ1_pollLast_4 : decode cJ1_pollLast 4 = .ok (.dup, 1) := dk_89 (dk_at dksJ1_pollLast_0 4 rfl rfl)
theorem dJ1_pollLast_5 : decode cJ1_pollLast 5 = .ok (.astore_n 1, 1) := dk_76 (dk_at dksJ1_pollLast_0 5 rfl rfl)
theorem dJ1_pollLast_6 : decode cJ1_pollLast 6 = .ok (.aload_n 0, 1) := dk_42 (dk_at dksJ1_pollLast_0 6 rfl rfl)
theorem dJ1_pollLast_7 : decode cJ1_pollLast 7 = .ok (.getfield 20, 3) := dk_180 0 20 (dk_at dksJ1_pollLast_0 7 rfl rfl)
theorem dJ1_pollLast_10 : decode cJ1_pollLast 10 = .ok (.aload_n 1, 1) := dk_43 (dk_at dksJ1_pollLast_0 10 rfl rfl)
theorem dJ1_pollLast_11 : decode cJ1_pollLast 11 = .ok (.arraylength, 1) := dk_190 (dk_at dksJ1_pollLast_0 11 rfl rfl)
theorem dJ1_pollLast_12 : decode cJ1_pollLast 12 = .ok (.invokestatic 68, 3) := dk_184 0 68 (dk_at dksJ1_pollLast_0 12 rfl rfl)
theorem dJ1_pollLast_15 : decode cJ1_pollLast 15 = .ok (.dup, 1) := dk_89 (dk_at dksJ1_pollLast_0 15 rfl rfl)
theorem dJ1_pollLast_16 : decode cJ1_pollLast 16 = .ok (.istore_n 2, 1) := dk_61 (dk_at dksJ1_pollLast_0 16 rfl rfl)
theorem dJ1_pollLast_17 : decode cJ1_pollLast 17 = .ok (.invokestatic 103, 3) := dk_184 0 103 (dk_at dksJ1_pollLast_0 17 rfl rfl)
theorem dJ1_pollLast_20 : decode cJ1_pollLast 20 = .ok (.astore_n 3, 1) := dk_78 (dk_at dksJ1_pollLast_0 20 rfl rfl)
theorem dJ1_pollLast_21 : decode cJ1_pollLast 21 = .ok (.aload_n 3, 1) := dk_45 (dk_at dksJ1_pollLast_0 21 rfl rfl)
theorem dJ1_pollLast_22 : decode cJ1_pollLast 22 = .ok (.ifnull 12, 3) := dk_198 0 12 (dk_at dksJ1_pollLast_1 0 rfl rfl)
theorem dJ1_pollLast_25 : decode cJ1_pollLast 25 = .ok (.aload_n 1, 1) := dk_43 (dk_at dksJ1_pollLast_1 3 rfl rfl)
theorem dJ1_pollLast_26 : decode cJ1_pollLast 26 = .ok (.aload_n 0, 1) := dk_42 (dk_at dksJ1_pollLast_1 4 rfl rfl)
theorem dJ1_pollLast_27 : decode cJ1_pollLast 27 = .ok (.iload_n 2, 1) := dk_28 (dk_at dksJ1_pollLast_1 5 rfl rfl)
theorem dJ1_pollLast_28 : decode cJ1_pollLast 28 = .ok (.dup_x1, 1) := dk_90 (dk_at dksJ1_pollLast_1 6 rfl rfl)
theorem dJ1_pollLast_29 : decode cJ1_pollLast 29 = .ok (.putfield 20, 3) := dk_181 0 20 (dk_at dksJ1_pollLast_1 7 rfl rfl)
theorem dJ1_pollLast_32 : decode cJ1_pollLast 32 = .ok (.aconst_null, 1) := dk_1 (dk_at dksJ1_pollLast_1 10 rfl rfl)
theorem dJ1_pollLast_33 : decode cJ1_pollLast 33 = .ok (.aastore, 1) := dk_83 (dk_at dksJ1_pollLast_1 11 rfl rfl)
theorem dJ1_pollLast_34 : decode cJ1_pollLast 34 = .ok (.aload_n 3, 1) := dk_45 (dk_at dksJ1_pollLast_1 12 rfl rfl)
theorem dJ1_pollLast_35 : decode cJ1_pollLast 35 = .ok (.areturn, 1) := dk_176 (dk_at dksJ1_pollLast_1 13 rfl rfl)
abbrev cJ1_dec : ByteArray := prog_49_method_7_code
def yJ1_dec : MethodName := ⟨RJ1, "dec", "(II)I"⟩
def dkwJ1_dec_0 : List UInt8 := [132, 0, 255, 26, 156, 0, 7, 27, 4, 100, 59, 26, 172]
abbrev dktJ1_dec_0 : List UInt8 := dkwJ1_dec_0 ++ []
theorem dksJ1_dec_0 : cJ1_dec.data.toList.drop 0 = dktJ1_dec_0 := by decide +kernel
theorem dJ1_dec_0 : decode cJ1_dec 0 = .ok (.iinc 0 (-1), 3) := dk_132 0 255 (dk_at dksJ1_dec_0 0 rfl rfl)
theorem dJ1_dec_3 : decode cJ1_dec 3 = .ok (.iload_n 0, 1) := dk_26 (dk_at dksJ1_dec_0 3 rfl rfl)
theorem dJ1_dec_4 : decode cJ1_dec 4 = .ok (.ifCond .ge 7, 3) := dk_156 0 7 (dk_at dksJ1_dec_0 4 rfl rfl)
theorem dJ1_dec_7 : decode cJ1_dec 7 = .ok (.iload_n 1, 1) := dk_27 (dk_at dksJ1_dec_0 7 rfl rfl)
theorem dJ1_dec_8 : decode cJ1_dec 8 = .ok (.iconst 1, 1) := dk_4 (dk_at dksJ1_dec_0 8 rfl rfl)
theorem dJ1_dec_9 : decode cJ1_dec 9 = .ok (.isub, 1) := dk_100 (dk_at dksJ1_dec_0 9 rfl rfl)
theorem dJ1_dec_10 : decode cJ1_dec 10 = .ok (.istore_n 0, 1) := dk_59 (dk_at dksJ1_dec_0 10 rfl rfl)
theorem dJ1_dec_11 : decode cJ1_dec 11 = .ok (.iload_n 0, 1) := dk_26 (dk_at dksJ1_dec_0 11 rfl rfl)
theorem dJ1_dec_12 : decode cJ1_dec 12 = .ok (.ireturn, 1) := dk_172 (dk_at dksJ1_dec_0 12 rfl rfl)
theorem q97 : (Jvm.Cond.initialized "java/util/ArrayDeque") ∈ lw_all := lw_g (lw_at lw_m1 3 rfl) rfl
theorem q166 : (Jvm.Cond.instantiable "java/util/ArrayDeque" (3 : Nat)) ∈ lw_all := lw_g (lw_at lw_m1 72 rfl) rfl
theorem q168 : (Jvm.Cond.instanceMethod ({ cls := "java/util/ArrayDeque", name := "<init>", desc := "()V" } : Jvm.MethodName)) ∈ lw_all := lw_g (lw_at lw_m1 74 rfl) rfl
theorem q169 : (Jvm.Cond.code ({ cls := "java/util/ArrayDeque", name := "<init>", desc := "()V" } : Jvm.MethodName) prog_49_method_3_code (1 : Nat) (Option.none : Option Jvm.ClassFile.FieldType)) ∈ lw_all := lw_g (lw_at lw_m1 75 rfl) rfl
theorem q170 : (Jvm.Cond.methodLink "java/util/ArrayDeque" (42 : Nat) ({ cls := "java/util/AbstractCollection", name := "<init>", desc := "()V" } : Jvm.MethodName)) ∈ lw_all := lw_g (lw_at lw_m1 76 rfl) rfl
theorem q174 : (Jvm.Cond.classLink "java/util/ArrayDeque" (47 : Nat) "java/lang/Object") ∈ lw_all := lw_g (lw_at lw_m1 80 rfl) rfl
theorem q176 : (Jvm.Cond.fieldLink "java/util/ArrayDeque" (3 : Nat) "java/util/ArrayDeque" "elements" "[Ljava/lang/Object;") ∈ lw_all := lw_g (lw_at lw_m1 82 rfl) rfl
theorem q177 : (Jvm.Cond.fieldLink "java/util/ArrayDeque" (24 : Nat) "java/util/ArrayDeque" "head" "I") ∈ lw_all := lw_g (lw_at lw_m1 83 rfl) rfl
theorem q178 : (Jvm.Cond.fieldLink "java/util/ArrayDeque" (20 : Nat) "java/util/ArrayDeque" "tail" "I") ∈ lw_all := lw_g (lw_at lw_m1 84 rfl) rfl
theorem q179 : (Jvm.Cond.lays "java/util/ArrayDeque" "java/util/ArrayDeque" "elements" "[Ljava/lang/Object;") ∈ lw_all := lw_g (lw_at lw_m1 85 rfl) rfl
theorem q180 : (Jvm.Cond.soleField "java/util/ArrayDeque" "elements") ∈ lw_all := lw_g (lw_at lw_m1 86 rfl) rfl
theorem q181 : (Jvm.Cond.lays "java/util/ArrayDeque" "java/util/ArrayDeque" "head" "I") ∈ lw_all := lw_g (lw_at lw_m1 87 rfl) rfl
theorem q182 : (Jvm.Cond.soleField "java/util/ArrayDeque" "head") ∈ lw_all := lw_g (lw_at lw_m1 88 rfl) rfl
theorem q183 : (Jvm.Cond.lays "java/util/ArrayDeque" "java/util/ArrayDeque" "tail" "I") ∈ lw_all := lw_g (lw_at lw_m1 89 rfl) rfl
theorem q184 : (Jvm.Cond.soleField "java/util/ArrayDeque" "tail") ∈ lw_all := lw_g (lw_at lw_m1 90 rfl) rfl
theorem q185 : (Jvm.Cond.superclass "java/util/ArrayDeque" "java/util/AbstractCollection") ∈ lw_all := lw_g (lw_at lw_m1 91 rfl) rfl
theorem q1503 : (Jvm.Cond.selects "java/util/ArrayDeque" ({ cls := "java/lang/Object", name := "getClass", desc := "()Ljava/lang/Class;" } : Jvm.MethodName) ({ cls := "java/lang/Object", name := "getClass", desc := "()Ljava/lang/Class;" } : Jvm.MethodName)) ∈ lw_all := lw_g (lw_at lw_m6 209 rfl) rfl
theorem q1919 : (Jvm.Cond.instanceMethod ({ cls := "java/util/ArrayDeque", name := "size", desc := "()I" } : Jvm.MethodName)) ∈ lw_all := lw_g (lw_at lw_m8 145 rfl) rfl
theorem q1920 : (Jvm.Cond.selects "java/util/ArrayDeque" ({ cls := "java/util/ArrayDeque", name := "size", desc := "()I" } : Jvm.MethodName) ({ cls := "java/util/ArrayDeque", name := "size", desc := "()I" } : Jvm.MethodName)) ∈ lw_all := lw_g (lw_at lw_m8 146 rfl) rfl
theorem q1921 : (Jvm.Cond.code ({ cls := "java/util/ArrayDeque", name := "size", desc := "()I" } : Jvm.MethodName) prog_49_method_37_code (1 : Nat) (Option.some Jvm.ClassFile.FieldType.int)) ∈ lw_all := lw_g (lw_at lw_m8 147 rfl) rfl
theorem q1922 : (Jvm.Cond.methodLink "java/util/ArrayDeque" (127 : Nat) ({ cls := "java/util/ArrayDeque", name := "sub", desc := "(III)I" } : Jvm.MethodName)) ∈ lw_all := lw_g (lw_at lw_m8 148 rfl) rfl
theorem q1923 : (Jvm.Cond.static ({ cls := "java/util/ArrayDeque", name := "sub", desc := "(III)I" } : Jvm.MethodName)) ∈ lw_all := lw_g (lw_at lw_m8 149 rfl) rfl
theorem q1924 : (Jvm.Cond.code ({ cls := "java/util/ArrayDeque", name := "sub", desc := "(III)I" } : Jvm.MethodName) prog_49_method_9_code (3 : Nat) (Option.some Jvm.ClassFile.FieldType.int)) ∈ lw_all := lw_g (lw_at lw_m8 150 rfl) rfl
theorem q1926 : (Jvm.Cond.instanceMethod ({ cls := "java/util/ArrayDeque", name := "removeFirst", desc := "()Ljava/lang/Object;" } : Jvm.MethodName)) ∈ lw_all := lw_g (lw_at lw_m8 152 rfl) rfl
theorem q1927 : (Jvm.Cond.selects "java/util/ArrayDeque" ({ cls := "java/util/ArrayDeque", name := "removeFirst", desc := "()Ljava/lang/Object;" } : Jvm.MethodName) ({ cls := "java/util/ArrayDeque", name := "removeFirst", desc := "()Ljava/lang/Object;" } : Jvm.MethodName)) ∈ lw_all := lw_g (lw_at lw_m8 153 rfl) rfl
theorem q1928 : (Jvm.Cond.code ({ cls := "java/util/ArrayDeque", name := "removeFirst", desc := "()Ljava/lang/Object;" } : Jvm.MethodName) prog_49_method_18_code (2 : Nat) (Option.some (Jvm.ClassFile.FieldType.object "java/lang/Object"))) ∈ lw_all := lw_g (lw_at lw_m8 154 rfl) rfl
theorem q1929 : (Jvm.Cond.methodLink "java/util/ArrayDeque" (93 : Nat) ({ cls := "java/util/ArrayDeque", name := "pollFirst", desc := "()Ljava/lang/Object;" } : Jvm.MethodName)) ∈ lw_all := lw_g (lw_at lw_m8 155 rfl) rfl
theorem q1930 : (Jvm.Cond.instanceMethod ({ cls := "java/util/ArrayDeque", name := "pollFirst", desc := "()Ljava/lang/Object;" } : Jvm.MethodName)) ∈ lw_all := lw_g (lw_at lw_m8 156 rfl) rfl
theorem q1931 : (Jvm.Cond.selects "java/util/ArrayDeque" ({ cls := "java/util/ArrayDeque", name := "pollFirst", desc := "()Ljava/lang/Object;" } : Jvm.MethodName) ({ cls := "java/util/ArrayDeque", name := "pollFirst", desc := "()Ljava/lang/Object;" } : Jvm.MethodName)) ∈ lw_all := lw_g (lw_at lw_m8 157 rfl) rfl
theorem q1932 : (Jvm.Cond.code ({ cls := "java/util/ArrayDeque", name := "pollFirst", desc := "()Ljava/lang/Object;" } : Jvm.MethodName) prog_49_method_20_code (4 : Nat) (Option.some (Jvm.ClassFile.FieldType.object "java/lang/Object"))) ∈ lw_all := lw_g (lw_at lw_m8 158 rfl) rfl
theorem q1933 : (Jvm.Cond.methodLink "java/util/ArrayDeque" (103 : Nat) ({ cls := "java/util/ArrayDeque", name := "elementAt", desc := "([Ljava/lang/Object;I)Ljava/lang/Object;" } : Jvm.MethodName)) ∈ lw_all := lw_g (lw_at lw_m8 159 rfl) rfl
theorem q1934 : (Jvm.Cond.static ({ cls := "java/util/ArrayDeque", name := "elementAt", desc := "([Ljava/lang/Object;I)Ljava/lang/Object;" } : Jvm.MethodName)) ∈ lw_all := lw_g (lw_at lw_m8 160 rfl) rfl
theorem q1935 : (Jvm.Cond.code ({ cls := "java/util/ArrayDeque", name := "elementAt", desc := "([Ljava/lang/Object;I)Ljava/lang/Object;" } : Jvm.MethodName) prog_49_method_10_code (2 : Nat) (Option.some (Jvm.ClassFile.FieldType.object "java/lang/Object"))) ∈ lw_all := lw_g (lw_at lw_m8 161 rfl) rfl
theorem q1936 : (Jvm.Cond.methodLink "java/util/ArrayDeque" (74 : Nat) ({ cls := "java/util/ArrayDeque", name := "inc", desc := "(II)I" } : Jvm.MethodName)) ∈ lw_all := lw_g (lw_at lw_m8 162 rfl) rfl
theorem q1937 : (Jvm.Cond.static ({ cls := "java/util/ArrayDeque", name := "inc", desc := "(II)I" } : Jvm.MethodName)) ∈ lw_all := lw_g (lw_at lw_m8 163 rfl) rfl
theorem q1938 : (Jvm.Cond.code ({ cls := "java/util/ArrayDeque", name := "inc", desc := "(II)I" } : Jvm.MethodName) prog_49_method_6_code (2 : Nat) (Option.some Jvm.ClassFile.FieldType.int)) ∈ lw_all := lw_g (lw_at lw_m8 164 rfl) rfl
theorem q1939 : (Jvm.Cond.classLink "java/util/ArrayDeque" (97 : Nat) "java/util/NoSuchElementException") ∈ lw_all := lw_g (lw_at lw_m8 165 rfl) rfl
theorem q1940 : (Jvm.Cond.methodLink "java/util/ArrayDeque" (99 : Nat) ({ cls := "java/util/NoSuchElementException", name := "<init>", desc := "()V" } : Jvm.MethodName)) ∈ lw_all := lw_g (lw_at lw_m8 166 rfl) rfl
theorem q1942 : (Jvm.Cond.instanceMethod ({ cls := "java/util/ArrayDeque", name := "addLast", desc := "(Ljava/lang/Object;)V" } : Jvm.MethodName)) ∈ lw_all := lw_g (lw_at lw_m8 168 rfl) rfl
theorem q1943 : (Jvm.Cond.selects "java/util/ArrayDeque" ({ cls := "java/util/ArrayDeque", name := "addLast", desc := "(Ljava/lang/Object;)V" } : Jvm.MethodName) ({ cls := "java/util/ArrayDeque", name := "addLast", desc := "(Ljava/lang/Object;)V" } : Jvm.MethodName)) ∈ lw_all := lw_g (lw_at lw_m8 169 rfl) rfl
theorem q1944 : (Jvm.Cond.code ({ cls := "java/util/ArrayDeque", name := "addLast", desc := "(Ljava/lang/Object;)V" } : Jvm.MethodName) prog_49_method_13_code (3 : Nat) (Option.none : Option Jvm.ClassFile.FieldType)) ∈ lw_all := lw_g (lw_at lw_m8 170 rfl) rfl
theorem q1945 : (Jvm.Cond.methodLink "java/util/ArrayDeque" (71 : Nat) ({ cls := "java/util/ArrayDeque", name := "grow", desc := "(I)V" } : Jvm.MethodName)) ∈ lw_all := lw_g (lw_at lw_m8 171 rfl) rfl
theorem q1946 : (Jvm.Cond.privateMethod ({ cls := "java/util/ArrayDeque", name := "grow", desc := "(I)V" } : Jvm.MethodName)) ∈ lw_tbl := lw_at lw_m8 172 rfl
theorem q1947 : (Jvm.Cond.instanceMethod ({ cls := "java/util/ArrayDeque", name := "grow", desc := "(I)V" } : Jvm.MethodName)) ∈ lw_all := lw_g (lw_at lw_m8 173 rfl) rfl
theorem q1948 : (Jvm.Cond.code ({ cls := "java/util/ArrayDeque", name := "grow", desc := "(I)V" } : Jvm.MethodName) prog_49_method_1_code (9 : Nat) (Option.none : Option Jvm.ClassFile.FieldType)) ∈ lw_all := lw_g (lw_at lw_m8 174 rfl) rfl
theorem q1949 : (Jvm.Cond.constant "java/util/ArrayDeque" (9 : Nat) (2147483639 : Int32)) ∈ lw_all := lw_g (lw_at lw_m8 175 rfl) rfl
theorem q1950 : (Jvm.Cond.methodLink "java/util/ArrayDeque" (10 : Nat) ({ cls := "java/util/ArrayDeque", name := "newCapacity", desc := "(II)I" } : Jvm.MethodName)) ∈ lw_all := lw_g (lw_at lw_m8 176 rfl) rfl
theorem q1951 : (Jvm.Cond.privateMethod ({ cls := "java/util/ArrayDeque", name := "newCapacity", desc := "(II)I" } : Jvm.MethodName)) ∈ lw_tbl := lw_at lw_m8 177 rfl
theorem q1952 : (Jvm.Cond.instanceMethod ({ cls := "java/util/ArrayDeque", name := "newCapacity", desc := "(II)I" } : Jvm.MethodName)) ∈ lw_all := lw_g (lw_at lw_m8 178 rfl) rfl
theorem q1953 : (Jvm.Cond.code ({ cls := "java/util/ArrayDeque", name := "newCapacity", desc := "(II)I" } : Jvm.MethodName) prog_49_method_2_code (5 : Nat) (Option.some Jvm.ClassFile.FieldType.int)) ∈ lw_all := lw_g (lw_at lw_m8 179 rfl) rfl
theorem q1954 : (Jvm.Cond.classLink "java/util/ArrayDeque" (33 : Nat) "java/lang/IllegalStateException") ∈ lw_all := lw_g (lw_at lw_m8 180 rfl) rfl
theorem q1963 : (Jvm.Cond.stringRef "java/util/ArrayDeque" (35 : Nat) "Sorry, deque too big") ∈ lw_tbl := lw_at lw_m8 189 rfl
theorem q1964 : (Jvm.Cond.methodLink "java/util/ArrayDeque" (37 : Nat) ({ cls := "java/lang/IllegalStateException", name := "<init>", desc := "(Ljava/lang/String;)V" } : Jvm.MethodName)) ∈ lw_all := lw_g (lw_at lw_m8 190 rfl) rfl
theorem q1970 : (Jvm.Cond.constant "java/util/ArrayDeque" (41 : Nat) (2147483647 : Int32)) ∈ lw_all := lw_g (lw_at lw_m8 196 rfl) rfl
theorem q1971 : (Jvm.Cond.methodLink "java/util/ArrayDeque" (14 : Nat) ({ cls := "java/util/Arrays", name := "copyOf", desc := "([Ljava/lang/Object;I)[Ljava/lang/Object;" } : Jvm.MethodName)) ∈ lw_all := lw_g (lw_at lw_m8 197 rfl) rfl
theorem q1972 : (Jvm.Cond.methodLink "java/util/ArrayDeque" (27 : Nat) ({ cls := "java/lang/System", name := "arraycopy", desc := "(Ljava/lang/Object;ILjava/lang/Object;II)V" } : Jvm.MethodName)) ∈ lw_all := lw_g (lw_at lw_m8 198 rfl) rfl
theorem q1978 : (Jvm.Cond.instanceMethod ({ cls := "java/util/ArrayDeque", name := "isEmpty", desc := "()Z" } : Jvm.MethodName)) ∈ lw_all := lw_g (lw_at lw_m8 204 rfl) rfl
theorem q1979 : (Jvm.Cond.selects "java/util/ArrayDeque" ({ cls := "java/util/ArrayDeque", name := "isEmpty", desc := "()Z" } : Jvm.MethodName) ({ cls := "java/util/ArrayDeque", name := "isEmpty", desc := "()Z" } : Jvm.MethodName)) ∈ lw_all := lw_g (lw_at lw_m8 205 rfl) rfl
theorem q1980 : (Jvm.Cond.code ({ cls := "java/util/ArrayDeque", name := "isEmpty", desc := "()Z" } : Jvm.MethodName) prog_49_method_38_code (1 : Nat) (Option.some Jvm.ClassFile.FieldType.boolean)) ∈ lw_all := lw_g (lw_at lw_m8 206 rfl) rfl
theorem q1982 : (Jvm.Cond.instanceMethod ({ cls := "java/util/ArrayDeque", name := "removeLast", desc := "()Ljava/lang/Object;" } : Jvm.MethodName)) ∈ lw_all := lw_g (lw_at lw_m8 208 rfl) rfl
theorem q1983 : (Jvm.Cond.selects "java/util/ArrayDeque" ({ cls := "java/util/ArrayDeque", name := "removeLast", desc := "()Ljava/lang/Object;" } : Jvm.MethodName) ({ cls := "java/util/ArrayDeque", name := "removeLast", desc := "()Ljava/lang/Object;" } : Jvm.MethodName)) ∈ lw_all := lw_g (lw_at lw_m8 209 rfl) rfl
theorem q1984 : (Jvm.Cond.code ({ cls := "java/util/ArrayDeque", name := "removeLast", desc := "()Ljava/lang/Object;" } : Jvm.MethodName) prog_49_method_19_code (2 : Nat) (Option.some (Jvm.ClassFile.FieldType.object "java/lang/Object"))) ∈ lw_all := lw_g (lw_at lw_m8 210 rfl) rfl
theorem q1985 : (Jvm.Cond.methodLink "java/util/ArrayDeque" (100 : Nat) ({ cls := "java/util/ArrayDeque", name := "pollLast", desc := "()Ljava/lang/Object;" } : Jvm.MethodName)) ∈ lw_all := lw_g (lw_at lw_m8 211 rfl) rfl
theorem q1986 : (Jvm.Cond.instanceMethod ({ cls := "java/util/ArrayDeque", name := "pollLast", desc := "()Ljava/lang/Object;" } : Jvm.MethodName)) ∈ lw_all := lw_g (lw_at lw_m8 212 rfl) rfl
theorem q1987 : (Jvm.Cond.selects "java/util/ArrayDeque" ({ cls := "java/util/ArrayDeque", name := "pollLast", desc := "()Ljava/lang/Object;" } : Jvm.MethodName) ({ cls := "java/util/ArrayDeque", name := "pollLast", desc := "()Ljava/lang/Object;" } : Jvm.MethodName)) ∈ lw_all := lw_g (lw_at lw_m8 213 rfl) rfl
theorem q1988 : (Jvm.Cond.code ({ cls := "java/util/ArrayDeque", name := "pollLast", desc := "()Ljava/lang/Object;" } : Jvm.MethodName) prog_49_method_21_code (4 : Nat) (Option.some (Jvm.ClassFile.FieldType.object "java/lang/Object"))) ∈ lw_all := lw_g (lw_at lw_m8 214 rfl) rfl
theorem q1989 : (Jvm.Cond.methodLink "java/util/ArrayDeque" (68 : Nat) ({ cls := "java/util/ArrayDeque", name := "dec", desc := "(II)I" } : Jvm.MethodName)) ∈ lw_all := lw_g (lw_at lw_m8 215 rfl) rfl
theorem q1990 : (Jvm.Cond.static ({ cls := "java/util/ArrayDeque", name := "dec", desc := "(II)I" } : Jvm.MethodName)) ∈ lw_all := lw_g (lw_at lw_m8 216 rfl) rfl
theorem q1991 : (Jvm.Cond.code ({ cls := "java/util/ArrayDeque", name := "dec", desc := "(II)I" } : Jvm.MethodName) prog_49_method_7_code (2 : Nat) (Option.some Jvm.ClassFile.FieldType.int)) ∈ lw_all := lw_g (lw_at lw_m8 217 rfl) rfl
theorem q3134 : (Jvm.Cond.selects "java/util/ArrayDeque" ({ cls := "java/util/AbstractCollection", name := "size", desc := "()I" } : Jvm.MethodName) ({ cls := "java/util/ArrayDeque", name := "size", desc := "()I" } : Jvm.MethodName)) ∈ lw_all := lw_g (lw_at lw_m13 160 rfl) rfl
theorem q3144 : (Jvm.Cond.castable "java/util/ArrayDeque" "java/lang/Object") ∈ lw_tbl := lw_at lw_m13 170 rfl
theorem in_J1 : ∀ w ∈ wsJ10, w ∈ lw_all := lw_in wsJ10 [179, 181, 183] (by decide +kernel) (by decide +kernel)

/-! java/lang/AbstractStringBuilder -/
set_option maxRecDepth 100000
def RJ10 : String := "java/lang/AbstractStringBuilder"
abbrev cJ10_init : ByteArray := prog_17_method_2_code
def yJ10_init : MethodName := ⟨RJ10, "<init>", "(I)V"⟩
def dkwJ10_init_1 : List UInt8 := [167, 0, 16, 42, 27, 184, 0, 26, 181, 0, 15, 42, 4, 181, 0, 22, 177]
abbrev dktJ10_init_1 : List UInt8 := dkwJ10_init_1 ++ []
def dkwJ10_init_0 : List UInt8 := [42, 183, 0, 3, 178, 0, 18, 153, 0, 18, 42, 27, 188, 8, 181, 0, 15, 42, 3, 181, 0, 22]
abbrev dktJ10_init_0 : List UInt8 := dkwJ10_init_0 ++ dktJ10_init_1
theorem dksJ10_init_0 : cJ10_init.data.toList.drop 0 = dktJ10_init_0 := by decide +kernel
theorem dksJ10_init_1 : cJ10_init.data.toList.drop 22 = dktJ10_init_1 := dk_seg dksJ10_init_0 22 rfl rfl
theorem dJ10_init_0 : decode cJ10_init 0 = .ok (.aload_n 0, 1) := dk_42 (dk_at dksJ10_init_0 0 rfl rfl)
theorem dJ10_init_1 : decode cJ10_init 1 = .ok (.invokespecial 3, 3) := dk_183 0 3 (dk_at dksJ10_init_0 1 rfl rfl)
theorem dJ10_init_4 : decode cJ10_init 4 = .ok (.getstatic 18, 3) := dk_178 0 18 (dk_at dksJ10_init_0 4 rfl rfl)
theorem dJ10_init_7 : decode cJ10_init 7 = .ok (.ifCond .eq 18, 3) := dk_153 0 18 (dk_at dksJ10_init_0 7 rfl rfl)
theorem dJ10_init_10 : decode cJ10_init 10 = .ok (.aload_n 0, 1) := dk_42 (dk_at dksJ10_init_0 10 rfl rfl)
theorem dJ10_init_11 : decode cJ10_init 11 = .ok (.iload_n 1, 1) := dk_27 (dk_at dksJ10_init_0 11 rfl rfl)
theorem dJ10_init_12 : decode cJ10_init 12 = .ok (.newarray .byte, 2) := dk_188_8 (dk_at dksJ10_init_0 12 rfl rfl)
theorem dJ10_init_14 : decode cJ10_init 14 = .ok (.putfield 15, 3) := dk_181 0 15 (dk_at dksJ10_init_0 14 rfl rfl)
theorem dJ10_init_17 : decode cJ10_init 17 = .ok (.aload_n 0, 1) := dk_42 (dk_at dksJ10_init_0 17 rfl rfl)
theorem dJ10_init_18 : decode cJ10_init 18 = .ok (.iconst 0, 1) := dk_3 (dk_at dksJ10_init_0 18 rfl rfl)
theorem dJ10_init_19 : decode cJ10_init 19 = .ok (.putfield 22, 3) := dk_181 0 22 (dk_at dksJ10_init_0 19 rfl rfl)
theorem dJ10_init_22 : decode cJ10_init 22 = .ok (.goto 16, 3) := dk_167 0 16 (dk_at dksJ10_init_1 0 rfl rfl)
theorem dJ10_init_25 : decode cJ10_init 25 = .ok (.aload_n 0, 1) := dk_42 (dk_at dksJ10_init_1 3 rfl rfl)
theorem dJ10_init_26 : decode cJ10_init 26 = .ok (.iload_n 1, 1) := dk_27 (dk_at dksJ10_init_1 4 rfl rfl)
theorem dJ10_init_27 : decode cJ10_init 27 = .ok (.invokestatic 26, 3) := dk_184 0 26 (dk_at dksJ10_init_1 5 rfl rfl)
theorem dJ10_init_30 : decode cJ10_init 30 = .ok (.putfield 15, 3) := dk_181 0 15 (dk_at dksJ10_init_1 8 rfl rfl)
theorem dJ10_init_33 : decode cJ10_init 33 = .ok (.aload_n 0, 1) := dk_42 (dk_at dksJ10_init_1 11 rfl rfl)
theorem dJ10_init_34 : decode cJ10_init 34 = .ok (.iconst 1, 1) := dk_4 (dk_at dksJ10_init_1 12 rfl rfl)
theorem dJ10_init_35 : decode cJ10_init 35 = .ok (.putfield 22, 3) := dk_181 0 22 (dk_at dksJ10_init_1 13 rfl rfl)
theorem dJ10_init_38 : decode cJ10_init 38 = .ok (.return_, 1) := dk_177 (dk_at dksJ10_init_1 16 rfl rfl)
abbrev cJ10_append : ByteArray := prog_17_method_22_code
def yJ10_append : MethodName := ⟨RJ10, "append", "(Ljava/lang/String;)Ljava/lang/AbstractStringBuilder;"⟩
def dkwJ10_append_1 : List UInt8 := [42, 42, 180, 0, 79, 43, 182, 0, 208, 42, 89, 180, 0, 79, 28, 96, 181, 0, 79, 42, 176]
abbrev dktJ10_append_1 : List UInt8 := dkwJ10_append_1 ++ []
def dkwJ10_append_0 : List UInt8 := [43, 199, 0, 8, 42, 182, 0, 204, 176, 43, 182, 0, 32, 61, 42, 42, 180, 0, 79, 28, 96, 182, 0, 100]
abbrev dktJ10_append_0 : List UInt8 := dkwJ10_append_0 ++ dktJ10_append_1
theorem dksJ10_append_0 : cJ10_append.data.toList.drop 0 = dktJ10_append_0 := by decide +kernel
theorem dksJ10_append_1 : cJ10_append.data.toList.drop 24 = dktJ10_append_1 := dk_seg dksJ10_append_0 24 rfl rfl
theorem dJ10_append_0 : decode cJ10_append 0 = .ok (.aload_n 1, 1) := dk_43 (dk_at dksJ10_append_0 0 rfl rfl)
theorem dJ10_append_1 : decode cJ10_append 1 = .ok (.ifnonnull 8, 3) := dk_199 0 8 (dk_at dksJ10_append_0 1 rfl rfl)
theorem dJ10_append_4 : decode cJ10_append 4 = .ok (.aload_n 0, 1) := dk_42 (dk_at dksJ10_append_0 4 rfl rfl)
theorem dJ10_append_5 : decode cJ10_append 5 = .ok (.invokevirtual 204, 3) := dk_182 0 204 (dk_at dksJ10_append_0 5 rfl rfl)
theorem dJ10_append_8 : decode cJ10_append 8 = .ok (.areturn, 1) := dk_176 (dk_at dksJ10_append_0 8 rfl rfl)
theorem dJ10_append_9 : decode cJ10_append 9 = .ok (.aload_n 1, 1) := dk_43 (dk_at dksJ10_append_0 9 rfl rfl)
theorem dJ10_append_10 : decode cJ10_append 10 = .ok (.invokevirtual 32, 3) := dk_182 0 32 (dk_at dksJ10_append_0 10 rfl rfl)
theorem dJ10_append_13 : decode cJ10_append 13 = .ok (.istore_n 2, 1) := dk_61 (dk_at dksJ10_append_0 13 rfl rfl)
theorem dJ10_append_14 : decode cJ10_append 14 = .ok (.aload_n 0, 1) := dk_42 (dk_at dksJ10_append_0 14 rfl rfl)
theorem dJ10_append_15 : decode cJ10_append 15 = .ok (.aload_n 0, 1) := dk_42 (dk_at dksJ10_append_0 15 rfl rfl)
theorem dJ10_append_16 : decode cJ10_append 16 = .ok (.getfield 79, 3) := dk_180 0 79 (dk_at dksJ10_append_0 16 rfl rfl)
theorem dJ10_append_19 : decode cJ10_append 19 = .ok (.iload_n 2, 1) := dk_28 (dk_at dksJ10_append_0 19 rfl rfl)
theorem dJ10_append_20 : decode cJ10_append 20 = .ok (.iadd, 1) := dk_96 (dk_at dksJ10_append_0 20 rfl rfl)
theorem dJ10_append_21 : decode cJ10_append 21 = .ok (.invokevirtual 100, 3) := dk_182 0 100 (dk_at dksJ10_append_0 21 rfl rfl)
theorem dJ10_append_24 : decode cJ10_append 24 = .ok (.aload_n 0, 1) := dk_42 (dk_at dksJ10_append_1 0 rfl rfl)
theorem dJ10_append_25 : decode cJ10_append 25 = .ok (.aload_n 0, 1) := dk_42 (dk_at dksJ10_append_1 1 rfl rfl)
theorem dJ10_append_26 : decode cJ10_append 26 = .ok (.getfield 79, 3) := dk_180 0 79 (dk_at dksJ10_append_1 2 rfl rfl)
theorem dJ10_append_29 : decode cJ10_append 29 = .ok (.aload_n 1, 1) := dk_43 (dk_at dksJ10_append_1 5 rfl rfl)
theorem dJ10_append_30 : decode cJ10_append 30 = .ok (.invokevirtual 208, 3) := dk_182 0 208 (dk_at dksJ10_append_1 6 rfl rfl)
theorem dJ10_append_33 : decode cJ10_append 33 = .ok (.aload_n 0, 1) := dk_42 (dk_at dksJ10_append_1 9 rfl rfl)
theorem dJ10_append_34 : decode cJ10_append 34 = .ok (.dup, 1) := dk_89 (dk_at dksJ10_append_1 10 rfl rfl)
theorem dJ10_append_35 : decode cJ10_append 35 = .ok (.getfield 79, 3) := dk_180 0 79 (dk_at dksJ10_append_1 11 rfl rfl)
theorem dJ10_append_38 : decode cJ10_append 38 = .ok (.iload_n 2, 1) := dk_28 (dk_at dksJ10_append_1 14 rfl rfl)
theorem dJ10_append_39 : decode cJ10_append 39 = .ok (.iadd, 1) := dk_96 (dk_at dksJ10_append_1 15 rfl rfl)
theorem dJ10_append_40 : decode cJ10_append 40 = .ok (.putfield 79, 3) := dk_181 0 79 (dk_at dksJ10_append_1 16 rfl rfl)
theorem dJ10_append_43 : decode cJ10_append 43 = .ok (.aload_n 0, 1) := dk_42 (dk_at dksJ10_append_1 19 rfl rfl)
theorem dJ10_append_44 : decode cJ10_append 44 = .ok (.areturn, 1) := dk_176 (dk_at dksJ10_append_1 20 rfl rfl)
abbrev cJ10_appendNull : ByteArray := prog_17_method_26_code
def yJ10_appendNull : MethodName := ⟨RJ10, "appendNull", "()Ljava/lang/AbstractStringBuilder;"⟩
def dkwJ10_appendNull_3 : List UInt8 := [184, 0, 226, 60, 42, 27, 181, 0, 79, 42, 176]
abbrev dktJ10_appendNull_3 : List UInt8 := dkwJ10_appendNull_3 ++ []
def dkwJ10_appendNull_2 : List UInt8 := [16, 108, 84, 44, 27, 132, 1, 1, 16, 108, 84, 167, 0, 17, 44, 27, 16, 110, 16, 117, 16, 108, 16, 108]
abbrev dktJ10_appendNull_2 : List UInt8 := dkwJ10_appendNull_2 ++ dktJ10_appendNull_3
def dkwJ10_appendNull_1 : List UInt8 := [153, 0, 38, 44, 27, 132, 1, 1, 16, 110, 84, 44, 27, 132, 1, 1, 16, 117, 84, 44, 27, 132, 1, 1]
abbrev dktJ10_appendNull_1 : List UInt8 := dkwJ10_appendNull_1 ++ dktJ10_appendNull_2
def dkwJ10_appendNull_0 : List UInt8 := [42, 42, 180, 0, 79, 7, 96, 182, 0, 100, 42, 180, 0, 79, 60, 42, 180, 0, 15, 77, 42, 182, 0, 83]
abbrev dktJ10_appendNull_0 : List UInt8 := dkwJ10_appendNull_0 ++ dktJ10_appendNull_1
theorem dksJ10_appendNull_0 : cJ10_appendNull.data.toList.drop 0 = dktJ10_appendNull_0 := by decide +kernel
theorem dksJ10_appendNull_1 : cJ10_appendNull.data.toList.drop 24 = dktJ10_appendNull_1 := dk_seg dksJ10_appendNull_0 24 rfl rfl
theorem dksJ10_appendNull_2 : cJ10_appendNull.data.toList.drop 48 = dktJ10_appendNull_2 := dk_seg dksJ10_appendNull_1 24 rfl rfl
theorem dksJ10_appendNull_3 : cJ10_appendNull.data.toList.drop 72 = dktJ10_appendNull_3 := dk_seg dksJ10_appendNull_2 24 rfl rfl
theorem dJ10_appendNull_0 : decode cJ10_appendNull 0 = .ok (.aload_n 0, 1) := dk_42 (dk_at dksJ10_appendNull_0 0 rfl rfl)
theorem dJ10_appendNull_1 : decode cJ10_appendNull 1 = .ok (.aload_n 0, 1) := dk_42 (dk_at dksJ10_appendNull_0 1 rfl rfl)
theorem dJ10_appendNull_2 : decode cJ10_appendNull 2 = .ok (.getfield 79, 3) := dk_180 0 79 (dk_at dksJ10_appendNull_0 2 rfl rfl)
theorem dJ10_appendNull_5 : decode cJ10_appendNull 5 = .ok (.iconst 4, 1) := dk_7 (dk_at dksJ10_appendNull_0 5 rfl rfl)
theorem dJ10_appendNull_6 : decode cJ10_appendNull 6 = .ok (.iadd, 1) := dk_96 (dk_at dksJ10_appendNull_0 6 rfl rfl)
theorem dJ10_appendNull_7 : decode cJ10_appendNull 7 = .ok (.invokevirtual 100, 3) := dk_182 0 100 (dk_at dksJ10_appendNull_0 7 rfl rfl)
theorem dJ10_appendNull_10 : decode cJ10_appendNull 10 = .ok (.aload_n 0, 1) := dk_42 (dk_at dksJ10_appendNull_0 10 rfl rfl)
theorem dJ10_appendNull_11 : decode cJ10_appendNull 11 = .ok (.getfield 79, 3) := dk_180 0 79 (dk_at dksJ10_appendNull_0 11 rfl rfl)
theorem dJ10_appendNull_14 : decode cJ10_appendNull 14 = .ok (.istore_n 1, 1) := dk_60 (dk_at dksJ10_appendNull_0 14 rfl rfl)
theorem dJ10_appendNull_15 : decode cJ10_appendNull 15 = .ok (.aload_n 0, 1) := dk_42 (dk_at dksJ10_appendNull_0 15 rfl rfl)
theorem dJ10_appendNull_16 : decode cJ10_appendNull 16 = .ok (.getfield 15, 3) := dk_180 0 15 (dk_at dksJ10_appendNull_0 16 rfl rfl)
theorem dJ10_appendNull_19 : decode cJ10_appendNull 19 = .ok (.astore_n 2, 1) := dk_77 (dk_at dksJ10_appendNull_0 19 rfl rfl)
theorem dJ10_appendNull_20 : decode cJ10_appendNull 20 = .ok (.aload_n 0, 1) := dk_42 (dk_at dksJ10_appendNull_0 20 rfl rfl)
theorem dJ10_appendNull_21 : decode cJ10_appendNull 21 = .ok (.invokevirtual 83, 3) := dk_182 0 83 (dk_at dksJ10_appendNull_0 21 rfl rfl)
theorem dJ10_appendNull_24 : decode cJ10_appendNull 24 = .ok (.ifCond .eq 38, 3) := dk_153 0 38 (dk_at dksJ10_appendNull_1 0 rfl rfl)
theorem dJ10_appendNull_27 : decode cJ10_appendNull 27 = .ok (.aload_n 2, 1) := dk_44 (dk_at dksJ10_appendNull_1 3 rfl rfl)
theorem dJ10_appendNull_28 : decode cJ10_appendNull 28 = .ok (.iload_n 1, 1) := dk_27 (dk_at dksJ10_appendNull_1 4 rfl rfl)
theorem dJ10_appendNull_29 : decode cJ10_appendNull 29 = .ok (.iinc 1 1, 3) := dk_132 1 1 (dk_at dksJ10_appendNull_1 5 rfl rfl)
theorem dJ10_appendNull_32 : decode cJ10_appendNull 32 = .ok (.bipush 110, 2) := dk_16 110 (dk_at dksJ10_appendNull_1 8 rfl rfl)
theorem dJ10_appendNull_34 : decode cJ10_appendNull 34 = .ok (.bastore, 1) := dk_84 (dk_at dksJ10_appendNull_1 10 rfl rfl)
theorem dJ10_appendNull_35 : decode cJ10_appendNull 35 = .ok (.aload_n 2, 1) := dk_44 (dk_at dksJ10_appendNull_1 11 rfl rfl)
theorem dJ10_appendNull_36 : decode cJ10_appendNull 36 = .ok (.iload_n 1, 1) := dk_27 (dk_at dksJ10_appendNull_1 12 rfl rfl)
theorem dJ10_appendNull_37 : decode cJ10_appendNull 37 = .ok (.iinc 1 1, 3) := dk_132 1 1 (dk_at dksJ10_appendNull_1 13 rfl rfl)
theorem dJ10_appendNull_40 : decode cJ10_appendNull 40 = .ok (.bipush 117, 2) := dk_16 117 (dk_at dksJ10_appendNull_1 16 rfl rfl)
theorem dJ10_appendNull_42 : decode cJ10_appendNull 42 = .ok (.bastore, 1) := dk_84 (dk_at dksJ10_appendNull_1 18 rfl rfl)
theorem dJ10_appendNull_43 : decode cJ10_appendNull 43 = .ok (.aload_n 2, 1) := dk_44 (dk_at dksJ10_appendNull_1 19 rfl rfl)
theorem dJ10_appendNull_44 : decode cJ10_appendNull 44 = .ok (.iload_n 1, 1) := dk_27 (dk_at dksJ10_appendNull_1 20 rfl rfl)
theorem dJ10_appendNull_45 : decode cJ10_appendNull 45 = .ok (.iinc 1 1, 3) := dk_132 1 1 (dk_at dksJ10_appendNull_1 21 rfl rfl)
theorem dJ10_appendNull_48 : decode cJ10_appendNull 48 = .ok (.bipush 108, 2) := dk_16 108 (dk_at dksJ10_appendNull_2 0 rfl rfl)
theorem dJ10_appendNull_50 : decode cJ10_appendNull 50 = .ok (.bastore, 1) := dk_84 (dk_at dksJ10_appendNull_2 2 rfl rfl)
theorem dJ10_appendNull_51 : decode cJ10_appendNull 51 = .ok (.aload_n 2, 1) := dk_44 (dk_at dksJ10_appendNull_2 3 rfl rfl)
theorem dJ10_appendNull_52 : decode cJ10_appendNull 52 = .ok (.iload_n 1, 1) := dk_27 (dk_at dksJ10_appendNull_2 4 rfl rfl)
theorem dJ10_appendNull_53 : decode cJ10_appendNull 53 = .ok (.iinc 1 1, 3) := dk_132 1 1 (dk_at dksJ10_appendNull_2 5 rfl rfl)
theorem dJ10_appendNull_56 : decode cJ10_appendNull 56 = .ok (.bipush 108, 2) := dk_16 108 (dk_at dksJ10_appendNull_2 8 rfl rfl)
theorem dJ10_appendNull_58 : decode cJ10_appendNull 58 = .ok (.bastore, 1) := dk_84 (dk_at dksJ10_appendNull_2 10 rfl rfl)
theorem dJ10_appendNull_59 : decode cJ10_appendNull 59 = .ok (.goto 17, 3) := dk_167 0 17 (dk_at dksJ10_appendNull_2 11 rfl rfl)
theorem dJ10_appendNull_62 : decode cJ10_appendNull 62 = .ok (.aload_n 2, 1) := dk_44 (dk_at dksJ10_appendNull_2 14 rfl rfl)
theorem dJ10_appendNull_63 : decode cJ10_appendNull 63 = .ok (.iload_n 1, 1) := dk_27 (dk_at dksJ10_appendNull_2 15 rfl rfl)
theorem dJ10_appendNull_64 : decode cJ10_appendNull 64 = .ok (.bipush 110, 2) := dk_16 110 (dk_at dksJ10_appendNull_2 16 rfl rfl)
theorem dJ10_appendNull_66 : decode cJ10_appendNull 66 = .ok (.bipush 117, 2) := dk_16 117 (dk_at dksJ10_appendNull_2 18 rfl rfl)
theorem dJ10_appendNull_68 : decode cJ10_appendNull 68 = .ok (.bipush 108, 2) := dk_16 108 (dk_at dksJ10_appendNull_2 20 rfl rfl)
theorem dJ10_appendNull_70 : decode cJ10_appendNull 70 = .ok (.bipush 108, 2) := dk_16 108 (dk_at dksJ10_appendNull_2 22 rfl rfl)
theorem dJ10_appendNull_72 : decode cJ10_appendNull 72 = .ok (.invokestatic 226, 3) := dk_184 0 226 (dk_at dksJ10_appendNull_3 0 rfl rfl)
theorem dJ10_appendNull_75 : decode cJ10_appendNull 75 = .ok (.istore_n 1, 1) := dk_60 (dk_at dksJ10_appendNull_3 3 rfl rfl)
theorem dJ10_appendNull_76 : decode cJ10_appendNull 76 = .ok (.aload_n 0, 1) := dk_42 (dk_at dksJ10_appendNull_3 4 rfl rfl)
theorem dJ10_appendNull_77 : decode cJ10_appendNull 77 = .ok (.iload_n 1, 1) := dk_27 (dk_at dksJ10_appendNull_3 5 rfl rfl)
theorem dJ10_appendNull_78 : decode cJ10_appendNull 78 = .ok (.putfield 79, 3) := dk_181 0 79 (dk_at dksJ10_appendNull_3 6 rfl rfl)
theorem dJ10_appendNull_81 : decode cJ10_appendNull 81 = .ok (.aload_n 0, 1) := dk_42 (dk_at dksJ10_appendNull_3 9 rfl rfl)
theorem dJ10_appendNull_82 : decode cJ10_appendNull 82 = .ok (.areturn, 1) := dk_176 (dk_at dksJ10_appendNull_3 10 rfl rfl)
abbrev cJ10_ensureCapacityInternal : ByteArray := prog_17_method_9_code
def yJ10_ensureCapacityInternal : MethodName := ⟨RJ10, "ensureCapacityInternal", "(I)V"⟩
def dkwJ10_ensureCapacityInternal_1 : List UInt8 := [182, 0, 104, 42, 180, 0, 22, 120, 184, 0, 108, 181, 0, 15, 177]
abbrev dktJ10_ensureCapacityInternal_1 : List UInt8 := dkwJ10_ensureCapacityInternal_1 ++ []
def dkwJ10_ensureCapacityInternal_0 : List UInt8 := [42, 180, 0, 15, 190, 42, 180, 0, 22, 122, 61, 27, 28, 100, 158, 0, 24, 42, 42, 180, 0, 15, 42, 27]
abbrev dktJ10_ensureCapacityInternal_0 : List UInt8 := dkwJ10_ensureCapacityInternal_0 ++ dktJ10_ensureCapacityInternal_1
theorem dksJ10_ensureCapacityInternal_0 : cJ10_ensureCapacityInternal.data.toList.drop 0 = dktJ10_ensureCapacityInternal_0 := by decide +kernel
theorem dksJ10_ensureCapacityInternal_1 : cJ10_ensureCapacityInternal.data.toList.drop 24 = dktJ10_ensureCapacityInternal_1 := dk_seg dksJ10_ensureCapacityInternal_0 24 rfl rfl
theorem dJ10_ensureCapacityInternal_0 : decode cJ10_ensureCapacityInternal 0 = .ok (.aload_n 0, 1) := dk_42 (dk_at dksJ10_ensureCapacityInternal_0 0 rfl rfl)
theorem dJ10_ensureCapacityInternal_1 : decode cJ10_ensureCapacityInternal 1 = .ok (.getfield 15, 3) := dk_180 0 15 (dk_at dksJ10_ensureCapacityInternal_0 1 rfl rfl)
theorem dJ10_ensureCapacityInternal_4 : decode cJ10_ensureCapacityInternal 4 = .ok (.arraylength, 1) := dk_190 (dk_at dksJ10_ensureCapacityInternal_0 4 rfl rfl)
theorem dJ10_ensureCapacityInternal_5 : decode cJ10_ensureCapacityInternal 5 = .ok (.aload_n 0, 1) := dk_42 (dk_at dksJ10_ensureCapacityInternal_0 5 rfl rfl)
theorem dJ10_ensureCapacityInternal_6 : decode cJ10_ensureCapacityInternal 6 = .ok (.getfield 22, 3) := dk_180 0 22 (dk_at dksJ10_ensureCapacityInternal_0 6 rfl rfl)
theorem dJ10_ensureCapacityInternal_9 : decode cJ10_ensureCapacityInternal 9 = .ok (.ishr, 1) := dk_122 (dk_at dksJ10_ensureCapacityInternal_0 9 rfl rfl)
theorem dJ10_ensureCapacityInternal_10 : decode cJ10_ensureCapacityInternal 10 = .ok (.istore_n 2, 1) := dk_61 (dk_at dksJ10_ensureCapacityInternal_0 10 rfl rfl)
theorem dJ10_ensureCapacityInternal_11 : decode cJ10_ensureCapacityInternal 11 = .ok (.iload_n 1, 1) := dk_27 (dk_at dksJ10_ensureCapacityInternal_0 11 rfl rfl)
theorem dJ10_ensureCapacityInternal_12 : decode cJ10_ensureCapacityInternal 12 = .ok (.iload_n 2, 1) := dk_28 (dk_at dksJ10_ensureCapacityInternal_0 12 rfl rfl)
theorem dJ10_ensureCapacityInternal_13 : decode cJ10_ensureCapacityInternal 13 = .ok (.isub, 1) := dk_100 (dk_at dksJ10_ensureCapacityInternal_0 13 rfl rfl)
theorem dJ10_ensureCapacityInternal_14 : decode cJ10_ensureCapacityInternal 14 = .ok (.ifCond .le 24, 3) := dk_158 0 24 (dk_at dksJ10_ensureCapacityInternal_0 14 rfl rfl)
theorem dJ10_ensureCapacityInternal_17 : decode cJ10_ensureCapacityInternal 17 = .ok (.aload_n 0, 1) := dk_42 (dk_at dksJ10_ensureCapacityInternal_0 17 rfl rfl)
theorem dJ10_ensureCapacityInternal_18 : decode cJ10_ensureCapacityInternal 18 = .ok (.aload_n 0, 1) := dk_42 (dk_at dksJ10_ensureCapacityInternal_0 18 rfl rfl)
theorem dJ10_ensureCapacityInternal_19 : decode cJ10_ensureCapacityInternal 19 = .ok (.getfield 15, 3) := dk_180 0 15 (dk_at dksJ10_ensureCapacityInternal_0 19 rfl rfl)
theorem dJ10_ensureCapacityInternal_22 : decode cJ10_ensureCapacityInternal 22 = .ok (.aload_n 0, 1) := dk_42 (dk_at dksJ10_ensureCapacityInternal_0 22 rfl rfl)
theorem dJ10_ensureCapacityInternal_23 : decode cJ10_ensureCapacityInternal 23 = .ok (.iload_n 1, 1) := dk_27 (dk_at dksJ10_ensureCapacityInternal_0 23 rfl rfl)
theorem dJ10_ensureCapacityInternal_24 : decode cJ10_ensureCapacityInternal 24 = .ok (.invokevirtual 104, 3) := dk_182 0 104 (dk_at dksJ10_ensureCapacityInternal_1 0 rfl rfl)
theorem dJ10_ensureCapacityInternal_27 : decode cJ10_ensureCapacityInternal 27 = .ok (.aload_n 0, 1) := dk_42 (dk_at dksJ10_ensureCapacityInternal_1 3 rfl rfl)
theorem dJ10_ensureCapacityInternal_28 : decode cJ10_ensureCapacityInternal 28 = .ok (.getfield 22, 3) := dk_180 0 22 (dk_at dksJ10_ensureCapacityInternal_1 4 rfl rfl)
theorem dJ10_ensureCapacityInternal_31 : decode cJ10_ensureCapacityInternal 31 = .ok (.ishl, 1) := dk_120 (dk_at dksJ10_ensureCapacityInternal_1 7 rfl rfl)
theorem dJ10_ensureCapacityInternal_32 : decode cJ10_ensureCapacityInternal 32 = .ok (.invokestatic 108, 3) := dk_184 0 108 (dk_at dksJ10_ensureCapacityInternal_1 8 rfl rfl)
theorem dJ10_ensureCapacityInternal_35 : decode cJ10_ensureCapacityInternal 35 = .ok (.putfield 15, 3) := dk_181 0 15 (dk_at dksJ10_ensureCapacityInternal_1 11 rfl rfl)
theorem dJ10_ensureCapacityInternal_38 : decode cJ10_ensureCapacityInternal 38 = .ok (.return_, 1) := dk_177 (dk_at dksJ10_ensureCapacityInternal_1 14 rfl rfl)
abbrev cJ10_newCapacity : ByteArray := prog_17_method_10_code
def yJ10_newCapacity : MethodName := ⟨RJ10, "newCapacity", "(I)I"⟩
def dkwJ10_newCapacity_2 : List UInt8 := [183, 0, 124, 191, 21, 5, 42, 180, 0, 22, 122, 172]
abbrev dktJ10_newCapacity_2 : List UInt8 := dkwJ10_newCapacity_2 ++ []
def dkwJ10_newCapacity_1 : List UInt8 := [180, 0, 22, 120, 96, 184, 0, 114, 54, 5, 21, 5, 18, 39, 160, 0, 13, 187, 0, 120, 89, 18, 122]
abbrev dktJ10_newCapacity_1 : List UInt8 := dkwJ10_newCapacity_1 ++ dktJ10_newCapacity_2
def dkwJ10_newCapacity_0 : List UInt8 := [42, 180, 0, 15, 190, 61, 27, 42, 180, 0, 22, 120, 62, 29, 28, 100, 54, 4, 28, 21, 4, 28, 5, 42]
abbrev dktJ10_newCapacity_0 : List UInt8 := dkwJ10_newCapacity_0 ++ dktJ10_newCapacity_1
theorem dksJ10_newCapacity_0 : cJ10_newCapacity.data.toList.drop 0 = dktJ10_newCapacity_0 := by decide +kernel
theorem dksJ10_newCapacity_1 : cJ10_newCapacity.data.toList.drop 24 = dktJ10_newCapacity_1 := dk_seg dksJ10_newCapacity_0 24 rfl rfl
theorem dksJ10_newCapacity_2 : cJ10_newCapacity.data.toList.drop 47 = dktJ10_newCapacity_2 := dk_seg dksJ10_newCapacity_1 23 rfl rfl
theorem dJ10_newCapacity_0 : decode cJ10_newCapacity 0 = .ok (.aload_n 0, 1) := dk_42 (dk_at dksJ10_newCapacity_0 0 rfl rfl)
theorem dJ10_newCapacity_1 : decode cJ10_newCapacity 1 = .ok (.getfield 15, 3) := dk_180 0 15 (dk_at dksJ10_newCapacity_0 1 rfl rfl)
theorem dJ10_newCapacity_4 : decode cJ10_newCapacity 4 = .ok (.arraylength, 1) := dk_190 (dk_at dksJ10_newCapacity_0 4 rfl rfl)
theorem dJ10_newCapacity_5 : decode cJ10_newCapacity 5 = .ok (.istore_n 2, 1) := dk_61 (dk_at dksJ10_newCapacity_0 5 rfl rfl)
theorem dJ10_newCapacity_6 : decode cJ10_newCapacity 6 = .ok (.iload_n 1, 1) := dk_27 (dk_at dksJ10_newCapacity_0 6 rfl rfl)
theorem dJ10_newCapacity_7 : decode cJ10_newCapacity 7 = .ok (.aload_n 0, 1) := dk_42 (dk_at dksJ10_newCapacity_0 7 rfl rfl)
theorem dJ10_newCapacity_8 : decode cJ10_newCapacity 8 = .ok (.getfield 22, 3) := dk_180 0 22 (dk_at dksJ10_newCapacity_0 8 rfl rfl)
theorem dJ10_newCapacity_11 : decode cJ10_newCapacity 11 = .ok (.ishl, 1) := dk_120 (dk_at dksJ10_newCapacity_0 11 rfl rfl)
theorem dJ10_newCapacity_12 : decode cJ10_newCapacity 12 = .ok (.istore_n 3, 1) := dk_62 (dk_at dksJ10_newCapacity_0 12 rfl rfl)
theorem dJ10_newCapacity_13 : decode cJ10_newCapacity 13 = .ok (.iload_n 3, 1) := dk_29 (dk_at dksJ10_newCapacity_0 13 rfl rfl)
theorem dJ10_newCapacity_14 : decode cJ10_newCapacity 14 = .ok (.iload_n 2, 1) := dk_28 (dk_at dksJ10_newCapacity_0 14 rfl rfl)
theorem dJ10_newCapacity_15 : decode cJ10_newCapacity 15 = .ok (.isub, 1) := dk_100 (dk_at dksJ10_newCapacity_0 15 rfl rfl)
theorem dJ10_newCapacity_16 : decode cJ10_newCapacity 16 = .ok (.istore 4, 2) := dk_54 4 (dk_at dksJ10_newCapacity_0 16 rfl rfl)
theorem dJ10_newCapacity_18 : decode cJ10_newCapacity 18 = .ok (.iload_n 2, 1) := dk_28 (dk_at dksJ10_newCapacity_0 18 rfl rfl)
theorem dJ10_newCapacity_19 : decode cJ10_newCapacity 19 = .ok (.iload 4, 2) := dk_21 4 (dk_at dksJ10_newCapacity_0 19 rfl rfl)
theorem dJ10_newCapacity_21 : decode cJ10_newCapacity 21 = .ok (.iload_n 2, 1) := dk_28 (dk_at dksJ10_newCapacity_0 21 rfl rfl)
theorem dJ10_newCapacity_22 : decode cJ10_newCapacity 22 = .ok (.iconst 2, 1) := dk_5 (dk_at dksJ10_newCapacity_0 22 rfl rfl)
theorem dJ10_newCapacity_23 : decode cJ10_newCapacity 23 = .ok (.aload_n 0, 1) := dk_42 (dk_at dksJ10_newCapacity_0 23 rfl rfl)
theorem dJ10_newCapacity_24 : decode cJ10_newCapacity 24 = .ok (.getfield 22, 3) := dk_180 0 22 (dk_at dksJ10_newCapacity_1 0 rfl rfl)
theorem dJ10_newCapacity_27 : decode cJ10_newCapacity 27 = .ok (.ishl, 1) := dk_120 (dk_at dksJ10_newCapacity_1 3 rfl rfl)
theorem dJ10_newCapacity_28 : decode cJ10_newCapacity 28 = .ok (.iadd, 1) := dk_96 (dk_at dksJ10_newCapacity_1 4 rfl rfl)
theorem dJ10_newCapacity_29 : decode cJ10_newCapacity 29 = .ok (.invokestatic 114, 3) := dk_184 0 114 (dk_at dksJ10_newCapacity_1 5 rfl rfl)
theorem dJ10_newCapacity_32 : decode cJ10_newCapacity 32 = .ok (.istore 5, 2) := dk_54 5 (dk_at dksJ10_newCapacity_1 8 rfl rfl)
theorem dJ10_newCapacity_34 : decode cJ10_newCapacity 34 = .ok (.iload 5, 2) := dk_21 5 (dk_at dksJ10_newCapacity_1 10 rfl rfl)
theorem dJ10_newCapacity_36 : decode cJ10_newCapacity 36 = .ok (.ldc 39, 2) := dk_18 39 (dk_at dksJ10_newCapacity_1 12 rfl rfl)
theorem dJ10_newCapacity_38 : decode cJ10_newCapacity 38 = .ok (.if_icmp .ne 13, 3) := dk_160 0 13 (dk_at dksJ10_newCapacity_1 14 rfl rfl)
theorem dJ10_newCapacity_41 : decode cJ10_newCapacity 41 = .ok (.new 120, 3) := dk_187 0 120 (dk_at dksJ10_newCapacity_1 17 rfl rfl)
theorem dJ10_newCapacity_44 : decode cJ10_newCapacity 44 = .ok (.dup, 1) := dk_89 (dk_at dksJ10_newCapacity_1 20 rfl rfl)
theorem dJ10_newCapacity_45 : decode cJ10_newCapacity 45 = .ok (.ldc 122, 2) := dk_18 122 (dk_at dksJ10_newCapacity_1 21 rfl rfl)
theorem dJ10_newCapacity_47 : decode cJ10_newCapacity 47 = .ok (.invokespecial 124, 3) := dk_183 0 124 (dk_at dksJ10_newCapacity_2 0 rfl rfl)
theorem dJ10_newCapacity_50 : decode cJ10_newCapacity 50 = .ok (.athrow, 1) := dk_191 (dk_at dksJ10_newCapacity_2 3 rfl rfl)
theorem dJ10_newCapacity_51 : decode cJ10_newCapacity 51 = .ok (.iload 5, 2) := dk_21 5 (dk_at dksJ10_newCapacity_2 4 rfl rfl)
theorem dJ10_newCapacity_53 : decode cJ10_newCapacity 53 = .ok (.aload_n 0, 1) := dk_42 (dk_at dksJ10_newCapacity_2 6 rfl rfl)
theorem dJ10_newCapacity_54 : decode cJ10_newCapacity 54 = .ok (.getfield 22, 3) := dk_180 0 22 (dk_at dksJ10_newCapacity_2 7 rfl rfl)
theorem dJ10_newCapacity_57 : decode cJ10_newCapacity 57 = .ok (.ishr, 1) := dk_122 (dk_at dksJ10_newCapacity_2 10 rfl rfl)
theorem dJ10_newCapacity_58 : decode cJ10_newCapacity 58 = .ok (.ireturn, 1) := dk_172 (dk_at dksJ10_newCapacity_2 11 rfl rfl)
abbrev cJ10_isLatin1 : ByteArray := prog_17_method_68_code
def yJ10_isLatin1 : MethodName := ⟨RJ10, "isLatin1", "()Z"⟩
def dkwJ10_isLatin1_0 : List UInt8 := [178, 0, 18, 153, 0, 14, 42, 180, 0, 22, 154, 0, 7, 4, 167, 0, 4, 3, 172]
abbrev dktJ10_isLatin1_0 : List UInt8 := dkwJ10_isLatin1_0 ++ []
theorem dksJ10_isLatin1_0 : cJ10_isLatin1.data.toList.drop 0 = dktJ10_isLatin1_0 := by decide +kernel
theorem dJ10_isLatin1_0 : decode cJ10_isLatin1 0 = .ok (.getstatic 18, 3) := dk_178 0 18 (dk_at dksJ10_isLatin1_0 0 rfl rfl)
theorem dJ10_isLatin1_3 : decode cJ10_isLatin1 3 = .ok (.ifCond .eq 14, 3) := dk_153 0 14 (dk_at dksJ10_isLatin1_0 3 rfl rfl)
theorem dJ10_isLatin1_6 : decode cJ10_isLatin1 6 = .ok (.aload_n 0, 1) := dk_42 (dk_at dksJ10_isLatin1_0 6 rfl rfl)
theorem dJ10_isLatin1_7 : decode cJ10_isLatin1 7 = .ok (.getfield 22, 3) := dk_180 0 22 (dk_at dksJ10_isLatin1_0 7 rfl rfl)
theorem dJ10_isLatin1_10 : decode cJ10_isLatin1 10 = .ok (.ifCond .ne 7, 3) := dk_154 0 7 (dk_at dksJ10_isLatin1_0 10 rfl rfl)
theorem dJ10_isLatin1_13 : decode cJ10_isLatin1 13 = .ok (.iconst 1, 1) := dk_4 (dk_at dksJ10_isLatin1_0 13 rfl rfl)
theorem dJ10_isLatin1_14 : decode cJ10_isLatin1 14 = .ok (.goto 4, 3) := dk_167 0 4 (dk_at dksJ10_isLatin1_0 14 rfl rfl)
theorem dJ10_isLatin1_17 : decode cJ10_isLatin1 17 = .ok (.iconst 0, 1) := dk_3 (dk_at dksJ10_isLatin1_0 17 rfl rfl)
theorem dJ10_isLatin1_18 : decode cJ10_isLatin1 18 = .ok (.ireturn, 1) := dk_172 (dk_at dksJ10_isLatin1_0 18 rfl rfl)
abbrev cJ10_putStringAt : ByteArray := prog_17_method_73_code
def yJ10_putStringAt : MethodName := ⟨RJ10, "putStringAt", "(ILjava/lang/String;)V"⟩
def dkwJ10_putStringAt_0 : List UInt8 := [42, 44, 182, 1, 141, 44, 42, 180, 0, 15, 27, 42, 180, 0, 22, 182, 1, 143, 177]
abbrev dktJ10_putStringAt_0 : List UInt8 := dkwJ10_putStringAt_0 ++ []
theorem dksJ10_putStringAt_0 : cJ10_putStringAt.data.toList.drop 0 = dktJ10_putStringAt_0 := by decide +kernel
theorem dJ10_putStringAt_0 : decode cJ10_putStringAt 0 = .ok (.aload_n 0, 1) := dk_42 (dk_at dksJ10_putStringAt_0 0 rfl rfl)
theorem dJ10_putStringAt_1 : decode cJ10_putStringAt 1 = .ok (.aload_n 2, 1) := dk_44 (dk_at dksJ10_putStringAt_0 1 rfl rfl)
theorem dJ10_putStringAt_2 : decode cJ10_putStringAt 2 = .ok (.invokevirtual 397, 3) := dk_182 1 141 (dk_at dksJ10_putStringAt_0 2 rfl rfl)
theorem dJ10_putStringAt_5 : decode cJ10_putStringAt 5 = .ok (.aload_n 2, 1) := dk_44 (dk_at dksJ10_putStringAt_0 5 rfl rfl)
theorem dJ10_putStringAt_6 : decode cJ10_putStringAt 6 = .ok (.aload_n 0, 1) := dk_42 (dk_at dksJ10_putStringAt_0 6 rfl rfl)
theorem dJ10_putStringAt_7 : decode cJ10_putStringAt 7 = .ok (.getfield 15, 3) := dk_180 0 15 (dk_at dksJ10_putStringAt_0 7 rfl rfl)
theorem dJ10_putStringAt_10 : decode cJ10_putStringAt 10 = .ok (.iload_n 1, 1) := dk_27 (dk_at dksJ10_putStringAt_0 10 rfl rfl)
theorem dJ10_putStringAt_11 : decode cJ10_putStringAt 11 = .ok (.aload_n 0, 1) := dk_42 (dk_at dksJ10_putStringAt_0 11 rfl rfl)
theorem dJ10_putStringAt_12 : decode cJ10_putStringAt 12 = .ok (.getfield 22, 3) := dk_180 0 22 (dk_at dksJ10_putStringAt_0 12 rfl rfl)
theorem dJ10_putStringAt_15 : decode cJ10_putStringAt 15 = .ok (.invokevirtual 399, 3) := dk_182 1 143 (dk_at dksJ10_putStringAt_0 15 rfl rfl)
theorem dJ10_putStringAt_18 : decode cJ10_putStringAt 18 = .ok (.return_, 1) := dk_177 (dk_at dksJ10_putStringAt_0 18 rfl rfl)
abbrev cJ10_inflateIfNeededFor : ByteArray := prog_17_method_71_code
def yJ10_inflateIfNeededFor : MethodName := ⟨RJ10, "inflateIfNeededFor", "(Ljava/lang/String;)V"⟩
def dkwJ10_inflateIfNeededFor_0 : List UInt8 := [178, 0, 18, 153, 0, 18, 42, 180, 0, 22, 43, 182, 0, 40, 159, 0, 7, 42, 182, 0, 195, 177]
abbrev dktJ10_inflateIfNeededFor_0 : List UInt8 := dkwJ10_inflateIfNeededFor_0 ++ []
theorem dksJ10_inflateIfNeededFor_0 : cJ10_inflateIfNeededFor.data.toList.drop 0 = dktJ10_inflateIfNeededFor_0 := by decide +kernel
theorem dJ10_inflateIfNeededFor_0 : decode cJ10_inflateIfNeededFor 0 = .ok (.getstatic 18, 3) := dk_178 0 18 (dk_at dksJ10_inflateIfNeededFor_0 0 rfl rfl)
theorem dJ10_inflateIfNeededFor_3 : decode cJ10_inflateIfNeededFor 3 = .ok (.ifCond .eq 18, 3) := dk_153 0 18 (dk_at dksJ10_inflateIfNeededFor_0 3 rfl rfl)
theorem dJ10_inflateIfNeededFor_6 : decode cJ10_inflateIfNeededFor 6 = .ok (.aload_n 0, 1) := dk_42 (dk_at dksJ10_inflateIfNeededFor_0 6 rfl rfl)
theorem dJ10_inflateIfNeededFor_7 : decode cJ10_inflateIfNeededFor 7 = .ok (.getfield 22, 3) := dk_180 0 22 (dk_at dksJ10_inflateIfNeededFor_0 7 rfl rfl)
theorem dJ10_inflateIfNeededFor_10 : decode cJ10_inflateIfNeededFor 10 = .ok (.aload_n 1, 1) := dk_43 (dk_at dksJ10_inflateIfNeededFor_0 10 rfl rfl)
theorem dJ10_inflateIfNeededFor_11 : decode cJ10_inflateIfNeededFor 11 = .ok (.invokevirtual 40, 3) := dk_182 0 40 (dk_at dksJ10_inflateIfNeededFor_0 11 rfl rfl)
theorem dJ10_inflateIfNeededFor_14 : decode cJ10_inflateIfNeededFor 14 = .ok (.if_icmp .eq 7, 3) := dk_159 0 7 (dk_at dksJ10_inflateIfNeededFor_0 14 rfl rfl)
theorem dJ10_inflateIfNeededFor_17 : decode cJ10_inflateIfNeededFor 17 = .ok (.aload_n 0, 1) := dk_42 (dk_at dksJ10_inflateIfNeededFor_0 17 rfl rfl)
theorem dJ10_inflateIfNeededFor_18 : decode cJ10_inflateIfNeededFor 18 = .ok (.invokevirtual 195, 3) := dk_182 0 195 (dk_at dksJ10_inflateIfNeededFor_0 18 rfl rfl)
theorem dJ10_inflateIfNeededFor_21 : decode cJ10_inflateIfNeededFor 21 = .ok (.return_, 1) := dk_177 (dk_at dksJ10_inflateIfNeededFor_0 21 rfl rfl)
abbrev cJ10_inflate : ByteArray := prog_17_method_11_code
def yJ10_inflate : MethodName := ⟨RJ10, "inflate", "()V"⟩
def dkwJ10_inflate_1 : List UInt8 := [42, 180, 0, 79, 184, 0, 125, 42, 43, 181, 0, 15, 42, 4, 181, 0, 22, 177]
abbrev dktJ10_inflate_1 : List UInt8 := dkwJ10_inflate_1 ++ []
def dkwJ10_inflate_0 : List UInt8 := [42, 182, 0, 83, 154, 0, 4, 177, 42, 180, 0, 15, 190, 184, 0, 26, 76, 42, 180, 0, 15, 3, 43, 3]
abbrev dktJ10_inflate_0 : List UInt8 := dkwJ10_inflate_0 ++ dktJ10_inflate_1
theorem dksJ10_inflate_0 : cJ10_inflate.data.toList.drop 0 = dktJ10_inflate_0 := by decide +kernel
theorem dksJ10_inflate_1 : cJ10_inflate.data.toList.drop 24 = dktJ10_inflate_1 := dk_seg dksJ10_inflate_0 24 rfl rfl
theorem dJ10_inflate_0 : decode cJ10_inflate 0 = .ok (.aload_n 0, 1) := dk_42 (dk_at dksJ10_inflate_0 0 rfl rfl)
theorem dJ10_inflate_1 : decode cJ10_inflate 1 = .ok (.invokevirtual 83, 3) := dk_182 0 83 (dk_at dksJ10_inflate_0 1 rfl rfl)
theorem dJ10_inflate_4 : decode cJ10_inflate 4 = .ok (.ifCond .ne 4, 3) := dk_154 0 4 (dk_at dksJ10_inflate_0 4 rfl rfl)
theorem dJ10_inflate_7 : decode cJ10_inflate 7 = .ok (.return_, 1) := dk_177 (dk_at dksJ10_inflate_0 7 rfl rfl)
theorem dJ10_inflate_8 : decode cJ10_inflate 8 = .ok (.aload_n 0, 1) := dk_42 (dk_at dksJ10_inflate_0 8 rfl rfl)
theorem dJ10_inflate_9 : decode cJ10_inflate 9 = .ok (.getfield 15, 3) := dk_180 0 15 (dk_at dksJ10_inflate_0 9 rfl rfl)
theorem dJ10_inflate_12 : decode cJ10_inflate 12 = .ok (.arraylength, 1) := dk_190 (dk_at dksJ10_inflate_0 12 rfl rfl)
theorem dJ10_inflate_13 : decode cJ10_inflate 13 = .ok (.invokestatic 26, 3) := dk_184 0 26 (dk_at dksJ10_inflate_0 13 rfl rfl)
theorem dJ10_inflate_16 : decode cJ10_inflate 16 = .ok (.astore_n 1, 1) := dk_76 (dk_at dksJ10_inflate_0 16 rfl rfl)
theorem dJ10_inflate_17 : decode cJ10_inflate 17 = .ok (.aload_n 0, 1) := dk_42 (dk_at dksJ10_inflate_0 17 rfl rfl)
theorem dJ10_inflate_18 : decode cJ10_inflate 18 = .ok (.getfield 15, 3) := dk_180 0 15 (dk_at dksJ10_inflate_0 18 rfl rfl)
theorem dJ10_inflate_21 : decode cJ10_inflate 21 = .ok (.iconst 0, 1) := dk_3 (dk_at dksJ10_inflate_0 21 rfl rfl)
theorem dJ10_inflate_22 : decode cJ10_inflate 22 = .ok (.aload_n 1, 1) := dk_43 (dk_at dksJ10_inflate_0 22 rfl rfl)
theorem dJ10_inflate_23 : decode cJ10_inflate 23 = .ok (.iconst 0, 1) := dk_3 (dk_at dksJ10_inflate_0 23 rfl rfl)
theorem dJ10_inflate_24 : decode cJ10_inflate 24 = .ok (.aload_n 0, 1) := dk_42 (dk_at dksJ10_inflate_1 0 rfl rfl)
theorem dJ10_inflate_25 : decode cJ10_inflate 25 = .ok (.getfield 79, 3) := dk_180 0 79 (dk_at dksJ10_inflate_1 1 rfl rfl)
theorem dJ10_inflate_28 : decode cJ10_inflate 28 = .ok (.invokestatic 125, 3) := dk_184 0 125 (dk_at dksJ10_inflate_1 4 rfl rfl)
theorem dJ10_inflate_31 : decode cJ10_inflate 31 = .ok (.aload_n 0, 1) := dk_42 (dk_at dksJ10_inflate_1 7 rfl rfl)
theorem dJ10_inflate_32 : decode cJ10_inflate 32 = .ok (.aload_n 1, 1) := dk_43 (dk_at dksJ10_inflate_1 8 rfl rfl)
theorem dJ10_inflate_33 : decode cJ10_inflate 33 = .ok (.putfield 15, 3) := dk_181 0 15 (dk_at dksJ10_inflate_1 9 rfl rfl)
theorem dJ10_inflate_36 : decode cJ10_inflate 36 = .ok (.aload_n 0, 1) := dk_42 (dk_at dksJ10_inflate_1 12 rfl rfl)
theorem dJ10_inflate_37 : decode cJ10_inflate 37 = .ok (.iconst 1, 1) := dk_4 (dk_at dksJ10_inflate_1 13 rfl rfl)
theorem dJ10_inflate_38 : decode cJ10_inflate 38 = .ok (.putfield 22, 3) := dk_181 0 22 (dk_at dksJ10_inflate_1 14 rfl rfl)
theorem dJ10_inflate_41 : decode cJ10_inflate 41 = .ok (.return_, 1) := dk_177 (dk_at dksJ10_inflate_1 17 rfl rfl)
abbrev cJ10_append_2 : ByteArray := prog_17_method_32_code
def yJ10_append_2 : MethodName := ⟨RJ10, "append", "(I)Ljava/lang/AbstractStringBuilder;"⟩
def dkwJ10_append_2_2 : List UInt8 := [42, 29, 181, 0, 79, 42, 176]
abbrev dktJ10_append_2_2 : List UInt8 := dkwJ10_append_2_2 ++ []
def dkwJ10_append_2_1 : List UInt8 := [27, 29, 42, 180, 0, 15, 184, 0, 248, 87, 167, 0, 14, 27, 28, 29, 42, 180, 0, 15, 184, 0, 251, 87]
abbrev dktJ10_append_2_1 : List UInt8 := dkwJ10_append_2_1 ++ dktJ10_append_2_2
def dkwJ10_append_2_0 : List UInt8 := [42, 180, 0, 79, 61, 28, 27, 184, 0, 245, 96, 62, 42, 29, 182, 0, 100, 42, 182, 0, 83, 153, 0, 16]
abbrev dktJ10_append_2_0 : List UInt8 := dkwJ10_append_2_0 ++ dktJ10_append_2_1
theorem dksJ10_append_2_0 : cJ10_append_2.data.toList.drop 0 = dktJ10_append_2_0 := by decide +kernel
theorem dksJ10_append_2_1 : cJ10_append_2.data.toList.drop 24 = dktJ10_append_2_1 := dk_seg dksJ10_append_2_0 24 rfl rfl
theorem dksJ10_append_2_2 : cJ10_append_2.data.toList.drop 48 = dktJ10_append_2_2 := dk_seg dksJ10_append_2_1 24 rfl rfl
theorem dJ10_append_2_0 : decode cJ10_append_2 0 = .ok (.aload_n 0, 1) := dk_42 (dk_at dksJ10_append_2_0 0 rfl rfl)
theorem dJ10_append_2_1 : decode cJ10_append_2 1 = .ok (.getfield 79, 3) := dk_180 0 79 (dk_at dksJ10_append_2_0 1 rfl rfl)
theorem dJ10_append_2_4 : decode cJ10_append_2 4 = .ok (.istore_n 2, 1) := dk_61 (dk_at dksJ10_append_2_0 4 rfl rfl)
theorem dJ10_append_2_5 : decode cJ10_append_2 5 = .ok (.iload_n 2, 1) := dk_28 (dk_at dksJ10_append_2_0 5 rfl rfl)
theorem dJ10_append_2_6 : decode cJ10_append_2 6 = .ok (.iload_n 1, 1) := dk_27 (dk_at dksJ10_append_2_0 6 rfl rfl)
theorem dJ10_append_2_7 : decode cJ10_append_2 7 = .ok (.invokestatic 245, 3) := dk_184 0 245 (dk_at dksJ10_append_2_0 7 rfl rfl)
theorem dJ10_append_2_10 : decode cJ10_append_2 10 = .ok (.iadd, 1) := dk_96 (dk_at dksJ10_append_2_0 10 rfl rfl)
theorem dJ10_append_2_11 : decode cJ10_append_2 11 = .ok (.istore_n 3, 1) := dk_62 (dk_at dksJ10_append_2_0 11 rfl rfl)
theorem dJ10_append_2_12 : decode cJ10_append_2 12 = .ok (.aload_n 0, 1) := dk_42 (dk_at dksJ10_append_2_0 12 rfl rfl)
theorem dJ10_append_2_13 : decode cJ10_append_2 13 = .ok (.iload_n 3, 1) := dk_29 (dk_at dksJ10_append_2_0 13 rfl rfl)
theorem dJ10_append_2_14 : decode cJ10_append_2 14 = .ok (.invokevirtual 100, 3) := dk_182 0 100 (dk_at dksJ10_append_2_0 14 rfl rfl)
theorem dJ10_append_2_17 : decode cJ10_append_2 17 = .ok (.aload_n 0, 1) := dk_42 (dk_at dksJ10_append_2_0 17 rfl rfl)
theorem dJ10_append_2_18 : decode cJ10_append_2 18 = .ok (.invokevirtual 83, 3) := dk_182 0 83 (dk_at dksJ10_append_2_0 18 rfl rfl)
theorem dJ10_append_2_21 : decode cJ10_append_2 21 = .ok (.ifCond .eq 16, 3) := dk_153 0 16 (dk_at dksJ10_append_2_0 21 rfl rfl)
theorem dJ10_append_2_24 : decode cJ10_append_2 24 = .ok (.iload_n 1, 1) := dk_27 (dk_at dksJ10_append_2_1 0 rfl rfl)
theorem dJ10_append_2_25 : decode cJ10_append_2 25 = .ok (.iload_n 3, 1) := dk_29 (dk_at dksJ10_append_2_1 1 rfl rfl)
theorem dJ10_append_2_26 : decode cJ10_append_2 26 = .ok (.aload_n 0, 1) := dk_42 (dk_at dksJ10_append_2_1 2 rfl rfl)
theorem dJ10_append_2_27 : decode cJ10_append_2 27 = .ok (.getfield 15, 3) := dk_180 0 15 (dk_at dksJ10_append_2_1 3 rfl rfl)
theorem dJ10_append_2_30 : decode cJ10_append_2 30 = .ok (.invokestatic 248, 3) := dk_184 0 248 (dk_at dksJ10_append_2_1 6 rfl rfl)
theorem dJ10_append_2_33 : decode cJ10_append_2 33 = .ok (.pop, 1) := dk_87 (dk_at dksJ10_append_2_1 9 rfl rfl)
theorem dJ10_append_2_34 : decode cJ10_append_2 34 = .ok (.goto 14, 3) := dk_167 0 14 (dk_at dksJ10_append_2_1 10 rfl rfl)
theorem dJ10_append_2_37 : decode cJ10_append_2 37 = .ok (.iload_n 1, 1) := dk_27 (dk_at dksJ10_append_2_1 13 rfl rfl)
theorem dJ10_append_2_38 : decode cJ10_append_2 38 = .ok (.iload_n 2, 1) := dk_28 (dk_at dksJ10_append_2_1 14 rfl rfl)
theorem dJ10_append_2_39 : decode cJ10_append_2 39 = .ok (.iload_n 3, 1) := dk_29 (dk_at dksJ10_append_2_1 15 rfl rfl)
theorem dJ10_append_2_40 : decode cJ10_append_2 40 = .ok (.aload_n 0, 1) := dk_42 (dk_at dksJ10_append_2_1 16 rfl rfl)
theorem dJ10_append_2_41 : decode cJ10_append_2 41 = .ok (.getfield 15, 3) := dk_180 0 15 (dk_at dksJ10_append_2_1 17 rfl rfl)
theorem dJ10_append_2_44 : decode cJ10_append_2 44 = .ok (.invokestatic 251, 3) := dk_184 0 251 (dk_at dksJ10_append_2_1 20 rfl rfl)
theorem dJ10_append_2_47 : decode cJ10_append_2 47 = .ok (.pop, 1) := dk_87 (dk_at dksJ10_append_2_1 23 rfl rfl)
theorem dJ10_append_2_48 : decode cJ10_append_2 48 = .ok (.aload_n 0, 1) := dk_42 (dk_at dksJ10_append_2_2 0 rfl rfl)
theorem dJ10_append_2_49 : decode cJ10_append_2 49 = .ok (.iload_n 3, 1) := dk_29 (dk_at dksJ10_append_2_2 1 rfl rfl)
theorem dJ10_append_2_50 : decode cJ10_append_2 50 = .ok (.putfield 79, 3) := dk_181 0 79 (dk_at dksJ10_append_2_2 2 rfl rfl)
theorem dJ10_append_2_53 : decode cJ10_append_2 53 = .ok (.aload_n 0, 1) := dk_42 (dk_at dksJ10_append_2_2 5 rfl rfl)
theorem dJ10_append_2_54 : decode cJ10_append_2 54 = .ok (.areturn, 1) := dk_176 (dk_at dksJ10_append_2_2 6 rfl rfl)
abbrev cJ10_getValue : ByteArray := prog_17_method_64_code
def yJ10_getValue : MethodName := ⟨RJ10, "getValue", "()[B"⟩
theorem dJ10_getValue_0 : decode cJ10_getValue 0 = .ok (.aload_n 0, 1) := by decide +kernel
theorem dJ10_getValue_1 : decode cJ10_getValue 1 = .ok (.getfield 15, 3) := by decide +kernel
theorem dJ10_getValue_4 : decode cJ10_getValue 4 = .ok (.areturn, 1) := by decide +kernel
abbrev cJ10_length : ByteArray := prog_17_method_6_code
def yJ10_length : MethodName := ⟨RJ10, "length", "()I"⟩
theorem dJ10_length_0 : decode cJ10_length 0 = .ok (.aload_n 0, 1) := by decide +kernel
theorem dJ10_length_1 : decode cJ10_length 1 = .ok (.getfield 79, 3) := by decide +kernel
theorem dJ10_length_4 : decode cJ10_length 4 = .ok (.ireturn, 1) := by decide +kernel
abbrev cJ10_compareTo : ByteArray := prog_17_method_5_code
def yJ10_compareTo : MethodName := ⟨RJ10, "compareTo", "(Ljava/lang/AbstractStringBuilder;)I"⟩
def dkwJ10_compareTo_4 : List UInt8 := [184, 0, 97, 172]
abbrev dktJ10_compareTo_4 : List UInt8 := dkwJ10_compareTo_4 ++ []
def dkwJ10_compareTo_3 : List UInt8 := [182, 0, 83, 153, 0, 15, 44, 45, 21, 4, 21, 5, 184, 0, 94, 167, 0, 12, 44, 45, 21, 4, 21, 5]
abbrev dktJ10_compareTo_3 : List UInt8 := dkwJ10_compareTo_3 ++ dktJ10_compareTo_4
def dkwJ10_compareTo_2 : List UInt8 := [45, 21, 4, 21, 5, 184, 0, 87, 167, 0, 12, 44, 45, 21, 4, 21, 5, 184, 0, 93, 172, 42]
abbrev dktJ10_compareTo_2 : List UInt8 := dkwJ10_compareTo_2 ++ dktJ10_compareTo_3
def dkwJ10_compareTo_1 : List UInt8 := [180, 0, 79, 54, 5, 42, 180, 0, 22, 43, 180, 0, 22, 160, 0, 32, 42, 182, 0, 83, 153, 0, 15, 44]
abbrev dktJ10_compareTo_1 : List UInt8 := dkwJ10_compareTo_1 ++ dktJ10_compareTo_2
def dkwJ10_compareTo_0 : List UInt8 := [42, 43, 166, 0, 5, 3, 172, 42, 180, 0, 15, 77, 43, 180, 0, 15, 78, 42, 180, 0, 79, 54, 4, 43]
abbrev dktJ10_compareTo_0 : List UInt8 := dkwJ10_compareTo_0 ++ dktJ10_compareTo_1
theorem dksJ10_compareTo_0 : cJ10_compareTo.data.toList.drop 0 = dktJ10_compareTo_0 := by decide +kernel
theorem dksJ10_compareTo_1 : cJ10_compareTo.data.toList.drop 24 = dktJ10_compareTo_1 := dk_seg dksJ10_compareTo_0 24 rfl rfl
theorem dksJ10_compareTo_2 : cJ10_compareTo.data.toList.drop 48 = dktJ10_compareTo_2 := dk_seg dksJ10_compareTo_1 24 rfl rfl
theorem dksJ10_compareTo_3 : cJ10_compareTo.data.toList.drop 70 = dktJ10_compareTo_3 := dk_seg dksJ10_compareTo_2 22 rfl rfl
theorem dksJ10_compareTo_4 : cJ10_compareTo.data.toList.drop 94 = dktJ10_compareTo_4 := dk_seg dksJ10_compareTo_3 24 rfl rfl
theorem dJ10_compareTo_0 : decode cJ10_compareTo 0 = .ok (.aload_n 0, 1) := dk_42 (dk_at dksJ10_compareTo_0 0 rfl rfl)
theorem dJ10_compareTo_1 : decode cJ10_compareTo 1 = .ok (.aload_n 1, 1) := dk_43 (dk_at dksJ10_compareTo_0 1 rfl rfl)
theorem dJ10_compareTo_2 : decode cJ10_compareTo 2 = .ok (.if_acmp .ne 5, 3) := dk_166 0 5 (dk_at dksJ10_compareTo_0 2 rfl rfl)
theorem dJ10_compareTo_5 : decode cJ10_compareTo 5 = .ok (.iconst 0, 1) := dk_3 (dk_at dksJ10_compareTo_0 5 rfl rfl)
theorem dJ10_compareTo_6 : decode cJ10_compareTo 6 = .ok (.ireturn, 1) := dk_172 (dk_at dksJ10_compareTo_0 6 rfl rfl)
theorem dJ10_compareTo_7 : decode cJ10_compareTo 7 = .ok (.aload_n 0, 1) := dk_42 (dk_at dksJ10_compareTo_0 7 rfl rfl)
theorem dJ10_compareTo_8 : decode cJ10_compareTo 8 = .ok (.getfield 15, 3) := dk_180 0 15 (dk_at dksJ10_compareTo_0 8 rfl rfl)
theorem dJ10_compareTo_11 : decode cJ10_compareTo 11 = .ok (.astore_n 2, 1) := dk_77 (dk_at dksJ10_compareTo_0 11 rfl rfl)
theorem dJ10_compareTo_12 : decode cJ10_compareTo 12 = .ok (.aload_n 1, 1) := dk_43 (dk_at dksJ10_compareTo_0 12 rfl rfl)
theorem dJ10_compareTo_13 : decode cJ10_compareTo 13 = .ok (.getfield 15, 3) := dk_180 0 15 (dk_at dksJ10_compareTo_0 13 rfl rfl)
theorem dJ10_compareTo_16 : decode cJ10_compareTo 16 = .ok (.astore_n 3, 1) := dk_78 (dk_at dksJ10_compareTo_0 16 rfl rfl)
theorem dJ10_compareTo_17 : decode cJ10_compareTo 17 = .ok (.aload_n 0, 1) := dk_42 (dk_at dksJ10_compareTo_0 17 rfl rfl)
theorem dJ10_compareTo_18 : decode cJ10_compareTo 18 = .ok (.getfield 79, 3) := dk_180 0 79 (dk_at dksJ10_compareTo_0 18 rfl rfl)
theorem dJ10_compareTo_21 : decode cJ10_compareTo 21 = .ok (.istore 4, 2) := dk_54 4 (dk_at dksJ10_compareTo_0 21 rfl rfl)
theorem dJ10_compareTo_23 : decode cJ10_compareTo 23 = .ok (.aload_n 1, 1) := dk_43 (dk_at dksJ10_compareTo_0 23 rfl rfl)
theorem dJ10_compareTo_24 : decode cJ10_compareTo 24 = .ok (.getfield 79, 3) := dk_180 0 79 (dk_at dksJ10_compareTo_1 0 rfl rfl)
theorem dJ10_compareTo_27 : decode cJ10_compareTo 27 = .ok (.istore 5, 2) := dk_54 5 (dk_at dksJ10_compareTo_1 3 rfl rfl)
theorem dJ10_compareTo_29 : decode cJ10_compareTo 29 = .ok (.aload_n 0, 1) := dk_42 (dk_at dksJ10_compareTo_1 5 rfl rfl)
theorem dJ10_compareTo_30 : decode cJ10_compareTo 30 = .ok (.getfield 22, 3) := dk_180 0 22 (dk_at dksJ10_compareTo_1 6 rfl rfl)
theorem dJ10_compareTo_33 : decode cJ10_compareTo 33 = .ok (.aload_n 1, 1) := dk_43 (dk_at dksJ10_compareTo_1 9 rfl rfl)
theorem dJ10_compareTo_34 : decode cJ10_compareTo 34 = .ok (.getfield 22, 3) := dk_180 0 22 (dk_at dksJ10_compareTo_1 10 rfl rfl)
theorem dJ10_compareTo_37 : decode cJ10_compareTo 37 = .ok (.if_icmp .ne 32, 3) := dk_160 0 32 (dk_at dksJ10_compareTo_1 13 rfl rfl)
theorem dJ10_compareTo_40 : decode cJ10_compareTo 40 = .ok (.aload_n 0, 1) := dk_42 (dk_at dksJ10_compareTo_1 16 rfl rfl)
theorem dJ10_compareTo_41 : decode cJ10_compareTo 41 = .ok (.invokevirtual 83, 3) := dk_182 0 83 (dk_at dksJ10_compareTo_1 17 rfl rfl)
theorem dJ10_compareTo_44 : decode cJ10_compareTo 44 = .ok (.ifCond .eq 15, 3) := dk_153 0 15 (dk_at dksJ10_compareTo_1 20 rfl rfl)
theorem dJ10_compareTo_47 : decode cJ10_compareTo 47 = .ok (.aload_n 2, 1) := dk_44 (dk_at dksJ10_compareTo_1 23 rfl rfl)
theorem dJ10_compareTo_48 : decode cJ10_compareTo 48 = .ok (.aload_n 3, 1) := dk_45 (dk_at dksJ10_compareTo_2 0 rfl rfl)
theorem dJ10_compareTo_49 : decode cJ10_compareTo 49 = .ok (.iload 4, 2) := dk_21 4 (dk_at dksJ10_compareTo_2 1 rfl rfl)
theorem dJ10_compareTo_51 : decode cJ10_compareTo 51 = .ok (.iload 5, 2) := dk_21 5 (dk_at dksJ10_compareTo_2 3 rfl rfl)
theorem dJ10_compareTo_53 : decode cJ10_compareTo 53 = .ok (.invokestatic 87, 3) := dk_184 0 87 (dk_at dksJ10_compareTo_2 5 rfl rfl)
theorem dJ10_compareTo_56 : decode cJ10_compareTo 56 = .ok (.goto 12, 3) := dk_167 0 12 (dk_at dksJ10_compareTo_2 8 rfl rfl)
theorem dJ10_compareTo_59 : decode cJ10_compareTo 59 = .ok (.aload_n 2, 1) := dk_44 (dk_at dksJ10_compareTo_2 11 rfl rfl)
theorem dJ10_compareTo_60 : decode cJ10_compareTo 60 = .ok (.aload_n 3, 1) := dk_45 (dk_at dksJ10_compareTo_2 12 rfl rfl)
theorem dJ10_compareTo_61 : decode cJ10_compareTo 61 = .ok (.iload 4, 2) := dk_21 4 (dk_at dksJ10_compareTo_2 13 rfl rfl)
theorem dJ10_compareTo_63 : decode cJ10_compareTo 63 = .ok (.iload 5, 2) := dk_21 5 (dk_at dksJ10_compareTo_2 15 rfl rfl)
theorem dJ10_compareTo_65 : decode cJ10_compareTo 65 = .ok (.invokestatic 93, 3) := dk_184 0 93 (dk_at dksJ10_compareTo_2 17 rfl rfl)
theorem dJ10_compareTo_68 : decode cJ10_compareTo 68 = .ok (.ireturn, 1) := dk_172 (dk_at dksJ10_compareTo_2 20 rfl rfl)
theorem dJ10_compareTo_69 : decode cJ10_compareTo 69 = .ok (.aload_n 0, 1) := dk_42 (dk_at dksJ10_compareTo_2 21 rfl rfl)
theorem dJ10_compareTo_70 : decode cJ10_compareTo 70 = .ok (.invokevirtual 83, 3) := dk_182 0 83 (dk_at dksJ10_compareTo_3 0 rfl rfl)
theorem dJ10_compareTo_73 : decode cJ10_compareTo 73 = .ok (.ifCond .eq 15, 3) := dk_153 0 15 (dk_at dksJ10_compareTo_3 3 rfl rfl)
theorem dJ10_compareTo_76 : decode cJ10_compareTo 76 = .ok (.aload_n 2, 1) := dk_44 (dk_at dksJ10_compareTo_3 6 rfl rfl)
theorem dJ10_compareTo_77 : decode cJ10_compareTo 77 = .ok (.aload_n 3, 1) := dk_45 (dk_at dksJ10_compareTo_3 7 rfl rfl)
theorem dJ10_compareTo_78 : decode cJ10_compareTo 78 = .ok (.iload 4, 2) := dk_21 4 (dk_at dksJ10_compareTo_3 8 rfl rfl)
theorem dJ10_compareTo_80 : decode cJ10_compareTo 80 = .ok (.iload 5, 2) := dk_21 5 (dk_at dksJ10_compareTo_3 10 rfl rfl)
theorem dJ10_compareTo_82 : decode cJ10_compareTo 82 = .ok (.invokestatic 94, 3) := dk_184 0 94 (dk_at dksJ10_compareTo_3 12 rfl rfl)
theorem dJ10_compareTo_85 : decode cJ10_compareTo 85 = .ok (.goto 12, 3) := dk_167 0 12 (dk_at dksJ10_compareTo_3 15 rfl rfl)
theorem dJ10_compareTo_88 : decode cJ10_compareTo 88 = .ok (.aload_n 2, 1) := dk_44 (dk_at dksJ10_compareTo_3 18 rfl rfl)
theorem dJ10_compareTo_89 : decode cJ10_compareTo 89 = .ok (.aload_n 3, 1) := dk_45 (dk_at dksJ10_compareTo_3 19 rfl rfl)
theorem dJ10_compareTo_90 : decode cJ10_compareTo 90 = .ok (.iload 4, 2) := dk_21 4 (dk_at dksJ10_compareTo_3 20 rfl rfl)
theorem dJ10_compareTo_92 : decode cJ10_compareTo 92 = .ok (.iload 5, 2) := dk_21 5 (dk_at dksJ10_compareTo_3 22 rfl rfl)
theorem dJ10_compareTo_94 : decode cJ10_compareTo 94 = .ok (.invokestatic 97, 3) := dk_184 0 97 (dk_at dksJ10_compareTo_4 0 rfl rfl)
theorem dJ10_compareTo_97 : decode cJ10_compareTo 97 = .ok (.ireturn, 1) := dk_172 (dk_at dksJ10_compareTo_4 3 rfl rfl)
abbrev cJ10_append_3 : ByteArray := prog_17_method_31_code
def yJ10_append_3 : MethodName := ⟨RJ10, "append", "(C)Ljava/lang/AbstractStringBuilder;"⟩
def dkwJ10_append_3_3 : List UInt8 := [181, 0, 79, 27, 184, 0, 197, 42, 176]
abbrev dktJ10_append_3_3 : List UInt8 := dkwJ10_append_3_3 ++ []
def dkwJ10_append_3_2 : List UInt8 := [182, 0, 83, 153, 0, 7, 42, 182, 0, 195, 42, 180, 0, 15, 42, 89, 180, 0, 79, 90, 4, 96]
abbrev dktJ10_append_3_2 : List UInt8 := dkwJ10_append_3_2 ++ dktJ10_append_3_3
def dkwJ10_append_3_1 : List UInt8 := [42, 180, 0, 15, 42, 89, 180, 0, 79, 90, 4, 96, 181, 0, 79, 27, 145, 84, 167, 0, 33, 42]
abbrev dktJ10_append_3_1 : List UInt8 := dkwJ10_append_3_1 ++ dktJ10_append_3_2
def dkwJ10_append_3_0 : List UInt8 := [42, 42, 180, 0, 79, 4, 96, 182, 0, 100, 42, 182, 0, 83, 153, 0, 31, 27, 184, 0, 191, 153, 0, 24]
abbrev dktJ10_append_3_0 : List UInt8 := dkwJ10_append_3_0 ++ dktJ10_append_3_1
theorem dksJ10_append_3_0 : cJ10_append_3.data.toList.drop 0 = dktJ10_append_3_0 := by decide +kernel
theorem dksJ10_append_3_1 : cJ10_append_3.data.toList.drop 24 = dktJ10_append_3_1 := dk_seg dksJ10_append_3_0 24 rfl rfl
theorem dksJ10_append_3_2 : cJ10_append_3.data.toList.drop 46 = dktJ10_append_3_2 := dk_seg dksJ10_append_3_1 22 rfl rfl
theorem dksJ10_append_3_3 : cJ10_append_3.data.toList.drop 68 = dktJ10_append_3_3 := dk_seg dksJ10_append_3_2 22 rfl rfl
theorem dJ10_append_3_0 : decode cJ10_append_3 0 = .ok (.aload_n 0, 1) := dk_42 (dk_at dksJ10_append_3_0 0 rfl rfl)
theorem dJ10_append_3_1 : decode cJ10_append_3 1 = .ok (.aload_n 0, 1) := dk_42 (dk_at dksJ10_append_3_0 1 rfl rfl)
theorem dJ10_append_3_2 : decode cJ10_append_3 2 = .ok (.getfield 79, 3) := dk_180 0 79 (dk_at dksJ10_append_3_0 2 rfl rfl)
theorem dJ10_append_3_5 : decode cJ10_append_3 5 = .ok (.iconst 1, 1) := dk_4 (dk_at dksJ10_append_3_0 5 rfl rfl)
theorem dJ10_append_3_6 : decode cJ10_append_3 6 = .ok (.iadd, 1) := dk_96 (dk_at dksJ10_append_3_0 6 rfl rfl)
theorem dJ10_append_3_7 : decode cJ10_append_3 7 = .ok (.invokevirtual 100, 3) := dk_182 0 100 (dk_at dksJ10_append_3_0 7 rfl rfl)
theorem dJ10_append_3_10 : decode cJ10_append_3 10 = .ok (.aload_n 0, 1) := dk_42 (dk_at dksJ10_append_3_0 10 rfl rfl)
theorem dJ10_append_3_11 : decode cJ10_append_3 11 = .ok (.invokevirtual 83, 3) := dk_182 0 83 (dk_at dksJ10_append_3_0 11 rfl rfl)
theorem dJ10_append_3_14 : decode cJ10_append_3 14 = .ok (.ifCond .eq 31, 3) := dk_153 0 31 (dk_at dksJ10_append_3_0 14 rfl rfl)
theorem dJ10_append_3_17 : decode cJ10_append_3 17 = .ok (.iload_n 1, 1) := dk_27 (dk_at dksJ10_append_3_0 17 rfl rfl)
theorem dJ10_append_3_18 : decode cJ10_append_3 18 = .ok (.invokestatic 191, 3) := dk_184 0 191 (dk_at dksJ10_append_3_0 18 rfl rfl)
theorem dJ10_append_3_21 : decode cJ10_append_3 21 = .ok (.ifCond .eq 24, 3) := dk_153 0 24 (dk_at dksJ10_append_3_0 21 rfl rfl)
theorem dJ10_append_3_24 : decode cJ10_append_3 24 = .ok (.aload_n 0, 1) := dk_42 (dk_at dksJ10_append_3_1 0 rfl rfl)
theorem dJ10_append_3_25 : decode cJ10_append_3 25 = .ok (.getfield 15, 3) := dk_180 0 15 (dk_at dksJ10_append_3_1 1 rfl rfl)
theorem dJ10_append_3_28 : decode cJ10_append_3 28 = .ok (.aload_n 0, 1) := dk_42 (dk_at dksJ10_append_3_1 4 rfl rfl)
theorem dJ10_append_3_29 : decode cJ10_append_3 29 = .ok (.dup, 1) := dk_89 (dk_at dksJ10_append_3_1 5 rfl rfl)
theorem dJ10_append_3_30 : decode cJ10_append_3 30 = .ok (.getfield 79, 3) := dk_180 0 79 (dk_at dksJ10_append_3_1 6 rfl rfl)
theorem dJ10_append_3_33 : decode cJ10_append_3 33 = .ok (.dup_x1, 1) := dk_90 (dk_at dksJ10_append_3_1 9 rfl rfl)
theorem dJ10_append_3_34 : decode cJ10_append_3 34 = .ok (.iconst 1, 1) := dk_4 (dk_at dksJ10_append_3_1 10 rfl rfl)
theorem dJ10_append_3_35 : decode cJ10_append_3 35 = .ok (.iadd, 1) := dk_96 (dk_at dksJ10_append_3_1 11 rfl rfl)
theorem dJ10_append_3_36 : decode cJ10_append_3 36 = .ok (.putfield 79, 3) := dk_181 0 79 (dk_at dksJ10_append_3_1 12 rfl rfl)
theorem dJ10_append_3_39 : decode cJ10_append_3 39 = .ok (.iload_n 1, 1) := dk_27 (dk_at dksJ10_append_3_1 15 rfl rfl)
theorem dJ10_append_3_40 : decode cJ10_append_3 40 = .ok (.i2b, 1) := dk_145 (dk_at dksJ10_append_3_1 16 rfl rfl)
theorem dJ10_append_3_41 : decode cJ10_append_3 41 = .ok (.bastore, 1) := dk_84 (dk_at dksJ10_append_3_1 17 rfl rfl)
theorem dJ10_append_3_42 : decode cJ10_append_3 42 = .ok (.goto 33, 3) := dk_167 0 33 (dk_at dksJ10_append_3_1 18 rfl rfl)
theorem dJ10_append_3_45 : decode cJ10_append_3 45 = .ok (.aload_n 0, 1) := dk_42 (dk_at dksJ10_append_3_1 21 rfl rfl)
theorem dJ10_append_3_46 : decode cJ10_append_3 46 = .ok (.invokevirtual 83, 3) := dk_182 0 83 (dk_at dksJ10_append_3_2 0 rfl rfl)
theorem dJ10_append_3_49 : decode cJ10_append_3 49 = .ok (.ifCond .eq 7, 3) := dk_153 0 7 (dk_at dksJ10_append_3_2 3 rfl rfl)
theorem dJ10_append_3_52 : decode cJ10_append_3 52 = .ok (.aload_n 0, 1) := dk_42 (dk_at dksJ10_append_3_2 6 rfl rfl)
theorem dJ10_append_3_53 : decode cJ10_append_3 53 = .ok (.invokevirtual 195, 3) := dk_182 0 195 (dk_at dksJ10_append_3_2 7 rfl rfl)
theorem dJ10_append_3_56 : decode cJ10_append_3 56 = .ok (.aload_n 0, 1) := dk_42 (dk_at dksJ10_append_3_2 10 rfl rfl)
theorem dJ10_append_3_57 : decode cJ10_append_3 57 = .ok (.getfield 15, 3) := dk_180 0 15 (dk_at dksJ10_append_3_2 11 rfl rfl)
theorem dJ10_append_3_60 : decode cJ10_append_3 60 = .ok (.aload_n 0, 1) := dk_42 (dk_at dksJ10_append_3_2 14 rfl rfl)
theorem dJ10_append_3_61 : decode cJ10_append_3 61 = .ok (.dup, 1) := dk_89 (dk_at dksJ10_append_3_2 15 rfl rfl)
theorem dJ10_append_3_62 : decode cJ10_append_3 62 = .ok (.getfield 79, 3) := dk_180 0 79 (dk_at dksJ10_append_3_2 16 rfl rfl)
theorem dJ10_append_3_65 : decode cJ10_append_3 65 = .ok (.dup_x1, 1) := dk_90 (dk_at dksJ10_append_3_2 19 rfl rfl)
theorem dJ10_append_3_66 : decode cJ10_append_3 66 = .ok (.iconst 1, 1) := dk_4 (dk_at dksJ10_append_3_2 20 rfl rfl)
theorem dJ10_append_3_67 : decode cJ10_append_3 67 = .ok (.iadd, 1) := dk_96 (dk_at dksJ10_append_3_2 21 rfl rfl)
theorem dJ10_append_3_68 : decode cJ10_append_3 68 = .ok (.putfield 79, 3) := dk_181 0 79 (dk_at dksJ10_append_3_3 0 rfl rfl)
theorem dJ10_append_3_71 : decode cJ10_append_3 71 = .ok (.iload_n 1, 1) := dk_27 (dk_at dksJ10_append_3_3 3 rfl rfl)
theorem dJ10_append_3_72 : decode cJ10_append_3 72 = .ok (.invokestatic 197, 3) := dk_184 0 197 (dk_at dksJ10_append_3_3 4 rfl rfl)
theorem dJ10_append_3_75 : decode cJ10_append_3 75 = .ok (.aload_n 0, 1) := dk_42 (dk_at dksJ10_append_3_3 7 rfl rfl)
theorem dJ10_append_3_76 : decode cJ10_append_3 76 = .ok (.areturn, 1) := dk_176 (dk_at dksJ10_append_3_3 8 rfl rfl)
theorem q114 : (Jvm.Cond.initialized "java/lang/AbstractStringBuilder") ∈ lw_all := lw_g (lw_at lw_m1 20 rfl) rfl
theorem q554 : (Jvm.Cond.instanceMethod ({ cls := "java/lang/AbstractStringBuilder", name := "<init>", desc := "(I)V" } : Jvm.MethodName)) ∈ lw_all := lw_g (lw_at lw_m2 220 rfl) rfl
theorem q555 : (Jvm.Cond.code ({ cls := "java/lang/AbstractStringBuilder", name := "<init>", desc := "(I)V" } : Jvm.MethodName) prog_17_method_2_code (2 : Nat) (Option.none : Option Jvm.ClassFile.FieldType)) ∈ lw_all := lw_g (lw_at lw_m2 221 rfl) rfl
theorem q556 : (Jvm.Cond.methodLink "java/lang/AbstractStringBuilder" (3 : Nat) ({ cls := "java/lang/Object", name := "<init>", desc := "()V" } : Jvm.MethodName)) ∈ lw_all := lw_g (lw_at lw_m2 222 rfl) rfl
theorem q557 : (Jvm.Cond.fieldLink "java/lang/AbstractStringBuilder" (18 : Nat) "java/lang/String" "COMPACT_STRINGS" "Z") ∈ lw_all := lw_g (lw_at lw_m2 223 rfl) rfl
theorem q559 : (Jvm.Cond.methodLink "java/lang/AbstractStringBuilder" (26 : Nat) ({ cls := "java/lang/StringUTF16", name := "newBytesFor", desc := "(I)[B" } : Jvm.MethodName)) ∈ lw_all := lw_g (lw_at lw_m2 225 rfl) rfl
theorem q566 : (Jvm.Cond.fieldLink "java/lang/AbstractStringBuilder" (15 : Nat) "java/lang/AbstractStringBuilder" "value" "[B") ∈ lw_all := lw_g (lw_at lw_m2 232 rfl) rfl
theorem q567 : (Jvm.Cond.fieldLink "java/lang/AbstractStringBuilder" (22 : Nat) "java/lang/AbstractStringBuilder" "coder" "B") ∈ lw_all := lw_g (lw_at lw_m2 233 rfl) rfl
theorem q569 : (Jvm.Cond.fieldLink "java/lang/AbstractStringBuilder" (79 : Nat) "java/lang/AbstractStringBuilder" "count" "I") ∈ lw_all := lw_g (lw_at lw_m2 235 rfl) rfl
theorem q571 : (Jvm.Cond.soleField "java/lang/AbstractStringBuilder" "value") ∈ lw_all := lw_g (lw_at lw_m2 237 rfl) rfl
theorem q573 : (Jvm.Cond.soleField "java/lang/AbstractStringBuilder" "coder") ∈ lw_all := lw_g (lw_at lw_m2 239 rfl) rfl
theorem q575 : (Jvm.Cond.soleField "java/lang/AbstractStringBuilder" "maybeLatin1") ∈ lw_all := lw_g (lw_at lw_m3 1 rfl) rfl
theorem q577 : (Jvm.Cond.soleField "java/lang/AbstractStringBuilder" "count") ∈ lw_all := lw_g (lw_at lw_m3 3 rfl) rfl
theorem q585 : (Jvm.Cond.instanceMethod ({ cls := "java/lang/AbstractStringBuilder", name := "append", desc := "(Ljava/lang/String;)Ljava/lang/AbstractStringBuilder;" } : Jvm.MethodName)) ∈ lw_all := lw_g (lw_at lw_m3 11 rfl) rfl
theorem q586 : (Jvm.Cond.code ({ cls := "java/lang/AbstractStringBuilder", name := "append", desc := "(Ljava/lang/String;)Ljava/lang/AbstractStringBuilder;" } : Jvm.MethodName) prog_17_method_22_code (3 : Nat) (Option.some (Jvm.ClassFile.FieldType.object "java/lang/AbstractStringBuilder"))) ∈ lw_all := lw_g (lw_at lw_m3 12 rfl) rfl
theorem q587 : (Jvm.Cond.methodLink "java/lang/AbstractStringBuilder" (204 : Nat) ({ cls := "java/lang/AbstractStringBuilder", name := "appendNull", desc := "()Ljava/lang/AbstractStringBuilder;" } : Jvm.MethodName)) ∈ lw_all := lw_g (lw_at lw_m3 13 rfl) rfl
theorem q588 : (Jvm.Cond.privateMethod ({ cls := "java/lang/AbstractStringBuilder", name := "appendNull", desc := "()Ljava/lang/AbstractStringBuilder;" } : Jvm.MethodName)) ∈ lw_tbl := lw_at lw_m3 14 rfl
theorem q589 : (Jvm.Cond.instanceMethod ({ cls := "java/lang/AbstractStringBuilder", name := "appendNull", desc := "()Ljava/lang/AbstractStringBuilder;" } : Jvm.MethodName)) ∈ lw_all := lw_g (lw_at lw_m3 15 rfl) rfl
theorem q590 : (Jvm.Cond.code ({ cls := "java/lang/AbstractStringBuilder", name := "appendNull", desc := "()Ljava/lang/AbstractStringBuilder;" } : Jvm.MethodName) prog_17_method_26_code (3 : Nat) (Option.some (Jvm.ClassFile.FieldType.object "java/lang/AbstractStringBuilder"))) ∈ lw_all := lw_g (lw_at lw_m3 16 rfl) rfl
theorem q591 : (Jvm.Cond.methodLink "java/lang/AbstractStringBuilder" (100 : Nat) ({ cls := "java/lang/AbstractStringBuilder", name := "ensureCapacityInternal", desc := "(I)V" } : Jvm.MethodName)) ∈ lw_all := lw_g (lw_at lw_m3 17 rfl) rfl
theorem q592 : (Jvm.Cond.privateMethod ({ cls := "java/lang/AbstractStringBuilder", name := "ensureCapacityInternal", desc := "(I)V" } : Jvm.MethodName)) ∈ lw_tbl := lw_at lw_m3 18 rfl
theorem q593 : (Jvm.Cond.instanceMethod ({ cls := "java/lang/AbstractStringBuilder", name := "ensureCapacityInternal", desc := "(I)V" } : Jvm.MethodName)) ∈ lw_all := lw_g (lw_at lw_m3 19 rfl) rfl
theorem q594 : (Jvm.Cond.code ({ cls := "java/lang/AbstractStringBuilder", name := "ensureCapacityInternal", desc := "(I)V" } : Jvm.MethodName) prog_17_method_9_code (3 : Nat) (Option.none : Option Jvm.ClassFile.FieldType)) ∈ lw_all := lw_g (lw_at lw_m3 20 rfl) rfl
theorem q595 : (Jvm.Cond.methodLink "java/lang/AbstractStringBuilder" (104 : Nat) ({ cls := "java/lang/AbstractStringBuilder", name := "newCapacity", desc := "(I)I" } : Jvm.MethodName)) ∈ lw_all := lw_g (lw_at lw_m3 21 rfl) rfl
theorem q596 : (Jvm.Cond.privateMethod ({ cls := "java/lang/AbstractStringBuilder", name := "newCapacity", desc := "(I)I" } : Jvm.MethodName)) ∈ lw_tbl := lw_at lw_m3 22 rfl
theorem q597 : (Jvm.Cond.instanceMethod ({ cls := "java/lang/AbstractStringBuilder", name := "newCapacity", desc := "(I)I" } : Jvm.MethodName)) ∈ lw_all := lw_g (lw_at lw_m3 23 rfl) rfl
theorem q598 : (Jvm.Cond.code ({ cls := "java/lang/AbstractStringBuilder", name := "newCapacity", desc := "(I)I" } : Jvm.MethodName) prog_17_method_10_code (6 : Nat) (Option.some Jvm.ClassFile.FieldType.int)) ∈ lw_all := lw_g (lw_at lw_m3 24 rfl) rfl
theorem q599 : (Jvm.Cond.methodLink "java/lang/AbstractStringBuilder" (114 : Nat) ({ cls := "jdk/internal/util/ArraysSupport", name := "newLength", desc := "(III)I" } : Jvm.MethodName)) ∈ lw_all := lw_g (lw_at lw_m3 25 rfl) rfl
theorem q609 : (Jvm.Cond.constant "java/lang/AbstractStringBuilder" (39 : Nat) (2147483647 : Int32)) ∈ lw_all := lw_g (lw_at lw_m3 35 rfl) rfl
theorem q610 : (Jvm.Cond.methodLink "java/lang/AbstractStringBuilder" (108 : Nat) ({ cls := "java/util/Arrays", name := "copyOf", desc := "([BI)[B" } : Jvm.MethodName)) ∈ lw_all := lw_g (lw_at lw_m3 36 rfl) rfl
theorem q626 : (Jvm.Cond.methodLink "java/lang/AbstractStringBuilder" (83 : Nat) ({ cls := "java/lang/AbstractStringBuilder", name := "isLatin1", desc := "()Z" } : Jvm.MethodName)) ∈ lw_all := lw_g (lw_at lw_m3 52 rfl) rfl
theorem q627 : (Jvm.Cond.instanceMethod ({ cls := "java/lang/AbstractStringBuilder", name := "isLatin1", desc := "()Z" } : Jvm.MethodName)) ∈ lw_all := lw_g (lw_at lw_m3 53 rfl) rfl
theorem q628 : (Jvm.Cond.sameMethod "java/lang/AbstractStringBuilder" "java/lang/AbstractStringBuilder" "isLatin1" "()Z") ∈ lw_all := lw_g (lw_at lw_m3 54 rfl) rfl
theorem q630 : (Jvm.Cond.code ({ cls := "java/lang/AbstractStringBuilder", name := "isLatin1", desc := "()Z" } : Jvm.MethodName) prog_17_method_68_code (1 : Nat) (Option.some Jvm.ClassFile.FieldType.boolean)) ∈ lw_all := lw_g (lw_at lw_m3 56 rfl) rfl
theorem q631 : (Jvm.Cond.methodLink "java/lang/AbstractStringBuilder" (226 : Nat) ({ cls := "java/lang/StringUTF16", name := "putCharsAt", desc := "([BICCCC)I" } : Jvm.MethodName)) ∈ lw_all := lw_g (lw_at lw_m3 57 rfl) rfl
theorem q657 : (Jvm.Cond.methodLink "java/lang/AbstractStringBuilder" (32 : Nat) ({ cls := "java/lang/String", name := "length", desc := "()I" } : Jvm.MethodName)) ∈ lw_all := lw_g (lw_at lw_m3 83 rfl) rfl
theorem q666 : (Jvm.Cond.methodLink "java/lang/AbstractStringBuilder" (208 : Nat) ({ cls := "java/lang/AbstractStringBuilder", name := "putStringAt", desc := "(ILjava/lang/String;)V" } : Jvm.MethodName)) ∈ lw_all := lw_g (lw_at lw_m3 92 rfl) rfl
theorem q667 : (Jvm.Cond.privateMethod ({ cls := "java/lang/AbstractStringBuilder", name := "putStringAt", desc := "(ILjava/lang/String;)V" } : Jvm.MethodName)) ∈ lw_tbl := lw_at lw_m3 93 rfl
theorem q668 : (Jvm.Cond.instanceMethod ({ cls := "java/lang/AbstractStringBuilder", name := "putStringAt", desc := "(ILjava/lang/String;)V" } : Jvm.MethodName)) ∈ lw_all := lw_g (lw_at lw_m3 94 rfl) rfl
theorem q669 : (Jvm.Cond.code ({ cls := "java/lang/AbstractStringBuilder", name := "putStringAt", desc := "(ILjava/lang/String;)V" } : Jvm.MethodName) prog_17_method_73_code (3 : Nat) (Option.none : Option Jvm.ClassFile.FieldType)) ∈ lw_all := lw_g (lw_at lw_m3 95 rfl) rfl
theorem q670 : (Jvm.Cond.methodLink "java/lang/AbstractStringBuilder" (397 : Nat) ({ cls := "java/lang/AbstractStringBuilder", name := "inflateIfNeededFor", desc := "(Ljava/lang/String;)V" } : Jvm.MethodName)) ∈ lw_all := lw_g (lw_at lw_m3 96 rfl) rfl
theorem q671 : (Jvm.Cond.privateMethod ({ cls := "java/lang/AbstractStringBuilder", name := "inflateIfNeededFor", desc := "(Ljava/lang/String;)V" } : Jvm.MethodName)) ∈ lw_tbl := lw_at lw_m3 97 rfl
theorem q672 : (Jvm.Cond.instanceMethod ({ cls := "java/lang/AbstractStringBuilder", name := "inflateIfNeededFor", desc := "(Ljava/lang/String;)V" } : Jvm.MethodName)) ∈ lw_all := lw_g (lw_at lw_m3 98 rfl) rfl
theorem q673 : (Jvm.Cond.code ({ cls := "java/lang/AbstractStringBuilder", name := "inflateIfNeededFor", desc := "(Ljava/lang/String;)V" } : Jvm.MethodName) prog_17_method_71_code (2 : Nat) (Option.none : Option Jvm.ClassFile.FieldType)) ∈ lw_all := lw_g (lw_at lw_m3 99 rfl) rfl
theorem q674 : (Jvm.Cond.methodLink "java/lang/AbstractStringBuilder" (40 : Nat) ({ cls := "java/lang/String", name := "coder", desc := "()B" } : Jvm.MethodName)) ∈ lw_all := lw_g (lw_at lw_m3 100 rfl) rfl
theorem q675 : (Jvm.Cond.methodLink "java/lang/AbstractStringBuilder" (195 : Nat) ({ cls := "java/lang/AbstractStringBuilder", name := "inflate", desc := "()V" } : Jvm.MethodName)) ∈ lw_all := lw_g (lw_at lw_m3 101 rfl) rfl
theorem q676 : (Jvm.Cond.privateMethod ({ cls := "java/lang/AbstractStringBuilder", name := "inflate", desc := "()V" } : Jvm.MethodName)) ∈ lw_tbl := lw_at lw_m3 102 rfl
theorem q677 : (Jvm.Cond.instanceMethod ({ cls := "java/lang/AbstractStringBuilder", name := "inflate", desc := "()V" } : Jvm.MethodName)) ∈ lw_all := lw_g (lw_at lw_m3 103 rfl) rfl
theorem q678 : (Jvm.Cond.code ({ cls := "java/lang/AbstractStringBuilder", name := "inflate", desc := "()V" } : Jvm.MethodName) prog_17_method_11_code (2 : Nat) (Option.none : Option Jvm.ClassFile.FieldType)) ∈ lw_all := lw_g (lw_at lw_m3 104 rfl) rfl
theorem q679 : (Jvm.Cond.methodLink "java/lang/AbstractStringBuilder" (125 : Nat) ({ cls := "java/lang/StringLatin1", name := "inflate", desc := "([BI[BII)V" } : Jvm.MethodName)) ∈ lw_all := lw_g (lw_at lw_m3 105 rfl) rfl
theorem q694 : (Jvm.Cond.methodLink "java/lang/AbstractStringBuilder" (399 : Nat) ({ cls := "java/lang/String", name := "getBytes", desc := "([BIB)V" } : Jvm.MethodName)) ∈ lw_all := lw_g (lw_at lw_m3 120 rfl) rfl
theorem q705 : (Jvm.Cond.instanceMethod ({ cls := "java/lang/AbstractStringBuilder", name := "append", desc := "(I)Ljava/lang/AbstractStringBuilder;" } : Jvm.MethodName)) ∈ lw_all := lw_g (lw_at lw_m3 131 rfl) rfl
theorem q706 : (Jvm.Cond.code ({ cls := "java/lang/AbstractStringBuilder", name := "append", desc := "(I)Ljava/lang/AbstractStringBuilder;" } : Jvm.MethodName) prog_17_method_32_code (4 : Nat) (Option.some (Jvm.ClassFile.FieldType.object "java/lang/AbstractStringBuilder"))) ∈ lw_all := lw_g (lw_at lw_m3 132 rfl) rfl
theorem q707 : (Jvm.Cond.methodLink "java/lang/AbstractStringBuilder" (245 : Nat) ({ cls := "java/lang/Integer", name := "stringSize", desc := "(I)I" } : Jvm.MethodName)) ∈ lw_all := lw_g (lw_at lw_m3 133 rfl) rfl
theorem q710 : (Jvm.Cond.methodLink "java/lang/AbstractStringBuilder" (248 : Nat) ({ cls := "java/lang/Integer", name := "getChars", desc := "(II[B)I" } : Jvm.MethodName)) ∈ lw_all := lw_g (lw_at lw_m3 136 rfl) rfl
theorem q717 : (Jvm.Cond.methodLink "java/lang/AbstractStringBuilder" (251 : Nat) ({ cls := "java/lang/StringUTF16", name := "getChars", desc := "(III[B)I" } : Jvm.MethodName)) ∈ lw_all := lw_g (lw_at lw_m3 143 rfl) rfl
theorem q745 : (Jvm.Cond.instanceMethod ({ cls := "java/lang/AbstractStringBuilder", name := "getValue", desc := "()[B" } : Jvm.MethodName)) ∈ lw_all := lw_g (lw_at lw_m3 171 rfl) rfl
theorem q746 : (Jvm.Cond.sameMethod "java/lang/AbstractStringBuilder" "java/lang/AbstractStringBuilder" "getValue" "()[B") ∈ lw_all := lw_g (lw_at lw_m3 172 rfl) rfl
theorem q748 : (Jvm.Cond.code ({ cls := "java/lang/AbstractStringBuilder", name := "getValue", desc := "()[B" } : Jvm.MethodName) prog_17_method_64_code (1 : Nat) (Option.some (Jvm.ClassFile.FieldType.array Jvm.ClassFile.FieldType.byte))) ∈ lw_all := lw_g (lw_at lw_m3 174 rfl) rfl
theorem q750 : (Jvm.Cond.instanceMethod ({ cls := "java/lang/AbstractStringBuilder", name := "length", desc := "()I" } : Jvm.MethodName)) ∈ lw_all := lw_g (lw_at lw_m3 176 rfl) rfl
theorem q751 : (Jvm.Cond.sameMethod "java/lang/AbstractStringBuilder" "java/lang/AbstractStringBuilder" "length" "()I") ∈ lw_all := lw_g (lw_at lw_m3 177 rfl) rfl
theorem q756 : (Jvm.Cond.code ({ cls := "java/lang/AbstractStringBuilder", name := "length", desc := "()I" } : Jvm.MethodName) prog_17_method_6_code (1 : Nat) (Option.some Jvm.ClassFile.FieldType.int)) ∈ lw_all := lw_g (lw_at lw_m3 182 rfl) rfl
theorem q1412 : (Jvm.Cond.instanceMethod ({ cls := "java/lang/AbstractStringBuilder", name := "compareTo", desc := "(Ljava/lang/AbstractStringBuilder;)I" } : Jvm.MethodName)) ∈ lw_all := lw_g (lw_at lw_m6 118 rfl) rfl
theorem q1413 : (Jvm.Cond.code ({ cls := "java/lang/AbstractStringBuilder", name := "compareTo", desc := "(Ljava/lang/AbstractStringBuilder;)I" } : Jvm.MethodName) prog_17_method_5_code (6 : Nat) (Option.some Jvm.ClassFile.FieldType.int)) ∈ lw_all := lw_g (lw_at lw_m6 119 rfl) rfl
theorem q1414 : (Jvm.Cond.methodLink "java/lang/AbstractStringBuilder" (87 : Nat) ({ cls := "java/lang/StringLatin1", name := "compareTo", desc := "([B[BII)I" } : Jvm.MethodName)) ∈ lw_all := lw_g (lw_at lw_m6 120 rfl) rfl
theorem q1415 : (Jvm.Cond.methodLink "java/lang/AbstractStringBuilder" (93 : Nat) ({ cls := "java/lang/StringUTF16", name := "compareTo", desc := "([B[BII)I" } : Jvm.MethodName)) ∈ lw_all := lw_g (lw_at lw_m6 121 rfl) rfl
theorem q1424 : (Jvm.Cond.methodLink "java/lang/AbstractStringBuilder" (94 : Nat) ({ cls := "java/lang/StringLatin1", name := "compareToUTF16", desc := "([B[BII)I" } : Jvm.MethodName)) ∈ lw_all := lw_g (lw_at lw_m6 130 rfl) rfl
theorem q1428 : (Jvm.Cond.methodLink "java/lang/AbstractStringBuilder" (97 : Nat) ({ cls := "java/lang/StringUTF16", name := "compareToLatin1", desc := "([B[BII)I" } : Jvm.MethodName)) ∈ lw_all := lw_g (lw_at lw_m6 134 rfl) rfl
theorem q2081 : (Jvm.Cond.instanceMethod ({ cls := "java/lang/AbstractStringBuilder", name := "append", desc := "(C)Ljava/lang/AbstractStringBuilder;" } : Jvm.MethodName)) ∈ lw_all := lw_g (lw_at lw_m9 67 rfl) rfl
theorem q2082 : (Jvm.Cond.code ({ cls := "java/lang/AbstractStringBuilder", name := "append", desc := "(C)Ljava/lang/AbstractStringBuilder;" } : Jvm.MethodName) prog_17_method_31_code (2 : Nat) (Option.some (Jvm.ClassFile.FieldType.object "java/lang/AbstractStringBuilder"))) ∈ lw_all := lw_g (lw_at lw_m9 68 rfl) rfl
theorem q2083 : (Jvm.Cond.methodLink "java/lang/AbstractStringBuilder" (191 : Nat) ({ cls := "java/lang/StringLatin1", name := "canEncode", desc := "(C)Z" } : Jvm.MethodName)) ∈ lw_all := lw_g (lw_at lw_m9 69 rfl) rfl
theorem q2086 : (Jvm.Cond.methodLink "java/lang/AbstractStringBuilder" (197 : Nat) ({ cls := "java/lang/StringUTF16", name := "putCharSB", desc := "([BII)V" } : Jvm.MethodName)) ∈ lw_all := lw_g (lw_at lw_m9 72 rfl) rfl
theorem q3120 : (Jvm.Cond.sameMethod "java/lang/AbstractStringBuilder" "java/lang/AbstractStringBuilder" "append" "(Ljava/lang/String;)Ljava/lang/AbstractStringBuilder;") ∈ lw_all := lw_g (lw_at lw_m13 146 rfl) rfl
theorem q3121 : (Jvm.Cond.sameMethod "java/lang/AbstractStringBuilder" "java/lang/AbstractStringBuilder" "appendNull" "()Ljava/lang/AbstractStringBuilder;") ∈ lw_all := lw_g (lw_at lw_m13 147 rfl) rfl
theorem q3122 : (Jvm.Cond.sameMethod "java/lang/AbstractStringBuilder" "java/lang/AbstractStringBuilder" "ensureCapacityInternal" "(I)V") ∈ lw_all := lw_g (lw_at lw_m13 148 rfl) rfl
theorem q3123 : (Jvm.Cond.sameMethod "java/lang/AbstractStringBuilder" "java/lang/AbstractStringBuilder" "newCapacity" "(I)I") ∈ lw_all := lw_g (lw_at lw_m13 149 rfl) rfl
theorem q3124 : (Jvm.Cond.sameMethod "java/lang/AbstractStringBuilder" "java/lang/AbstractStringBuilder" "putStringAt" "(ILjava/lang/String;)V") ∈ lw_all := lw_g (lw_at lw_m13 150 rfl) rfl
theorem q3125 : (Jvm.Cond.sameMethod "java/lang/AbstractStringBuilder" "java/lang/AbstractStringBuilder" "inflateIfNeededFor" "(Ljava/lang/String;)V") ∈ lw_all := lw_g (lw_at lw_m13 151 rfl) rfl
theorem q3126 : (Jvm.Cond.sameMethod "java/lang/AbstractStringBuilder" "java/lang/AbstractStringBuilder" "inflate" "()V") ∈ lw_all := lw_g (lw_at lw_m13 152 rfl) rfl
theorem q3127 : (Jvm.Cond.sameMethod "java/lang/AbstractStringBuilder" "java/lang/AbstractStringBuilder" "append" "(I)Ljava/lang/AbstractStringBuilder;") ∈ lw_all := lw_g (lw_at lw_m13 153 rfl) rfl
theorem q3129 : (Jvm.Cond.sameMethod "java/lang/AbstractStringBuilder" "java/lang/AbstractStringBuilder" "compareTo" "(Ljava/lang/AbstractStringBuilder;)I") ∈ lw_all := lw_g (lw_at lw_m13 155 rfl) rfl
theorem q3132 : (Jvm.Cond.sameMethod "java/lang/AbstractStringBuilder" "java/lang/AbstractStringBuilder" "append" "(C)Ljava/lang/AbstractStringBuilder;") ∈ lw_all := lw_g (lw_at lw_m13 158 rfl) rfl

/-! java/lang/StringBuilder -/
set_option maxRecDepth 100000
def RJ11 : String := "java/lang/StringBuilder"
def TJ11 : u_T := fun k => match k with
  | 0 => ("java/lang/AbstractStringBuilder", "value", "[B", false)
  | 1 => ("java/lang/AbstractStringBuilder", "coder", "B", false)
  | 2 => ("java/lang/AbstractStringBuilder", "maybeLatin1", "Z", false)
  | _ => ("java/lang/AbstractStringBuilder", "count", "I", false)
def tyJ11 : Nat → FieldType := fun k => match k with
  | 0 => .array .byte
  | 1 => .byte
  | 2 => .boolean
  | _ => .int
abbrev wsJ110 : List Cond := u_ws RJ11 TJ11 4
theorem nmJ11 : ∀ a, a < 4 → ∀ b, b < 4 → a ≠ b → (TJ11 a).2.1 ≠ (TJ11 b).2.1 := by decide +kernel
theorem tyJ11_ok : ∀ k, k < 4 → parseFieldDescriptor (TJ11 k).2.2.1 = some (tyJ11 k) := by decide +kernel
abbrev cJ11_init : ByteArray := prog_35_method_1_code
def yJ11_init : MethodName := ⟨RJ11, "<init>", "()V"⟩
def dkwJ11_init_0 : List UInt8 := [42, 16, 16, 183, 0, 1, 177]
abbrev dktJ11_init_0 : List UInt8 := dkwJ11_init_0 ++ []
theorem dksJ11_init_0 : cJ11_init.data.toList.drop 0 = dktJ11_init_0 := by decide +kernel
theorem dJ11_init_0 : decode cJ11_init 0 = .ok (.aload_n 0, 1) := dk_42 (dk_at dksJ11_init_0 0 rfl rfl)
theorem dJ11_init_1 : decode cJ11_init 1 = .ok (.bipush 16, 2) := dk_16 16 (dk_at dksJ11_init_0 1 rfl rfl)
theorem dJ11_init_3 : decode cJ11_init 3 = .ok (.invokespecial 1, 3) := dk_183 0 1 (dk_at dksJ11_init_0 3 rfl rfl)
theorem dJ11_init_6 : decode cJ11_init 6 = .ok (.return_, 1) := dk_177 (dk_at dksJ11_init_0 6 rfl rfl)
abbrev cJ11_append : ByteArray := prog_35_method_7_code
def yJ11_append : MethodName := ⟨RJ11, "append", "(Ljava/lang/String;)Ljava/lang/StringBuilder;"⟩
def dkwJ11_append_0 : List UInt8 := [42, 43, 183, 0, 29, 87, 42, 176]
abbrev dktJ11_append_0 : List UInt8 := dkwJ11_append_0 ++ []
theorem dksJ11_append_0 : cJ11_append.data.toList.drop 0 = dktJ11_append_0 := by decide +kernel
theorem dJ11_append_0 : decode cJ11_append 0 = .ok (.aload_n 0, 1) := dk_42 (dk_at dksJ11_append_0 0 rfl rfl)
theorem dJ11_append_1 : decode cJ11_append 1 = .ok (.aload_n 1, 1) := dk_43 (dk_at dksJ11_append_0 1 rfl rfl)
theorem dJ11_append_2 : decode cJ11_append 2 = .ok (.invokespecial 29, 3) := dk_183 0 29 (dk_at dksJ11_append_0 2 rfl rfl)
theorem dJ11_append_5 : decode cJ11_append 5 = .ok (.pop, 1) := dk_87 (dk_at dksJ11_append_0 5 rfl rfl)
theorem dJ11_append_6 : decode cJ11_append 6 = .ok (.aload_n 0, 1) := dk_42 (dk_at dksJ11_append_0 6 rfl rfl)
theorem dJ11_append_7 : decode cJ11_append 7 = .ok (.areturn, 1) := dk_176 (dk_at dksJ11_append_0 7 rfl rfl)
abbrev cJ11_append_2 : ByteArray := prog_35_method_15_code
def yJ11_append_2 : MethodName := ⟨RJ11, "append", "(I)Ljava/lang/StringBuilder;"⟩
def dkwJ11_append_2_0 : List UInt8 := [42, 27, 183, 0, 53, 87, 42, 176]
abbrev dktJ11_append_2_0 : List UInt8 := dkwJ11_append_2_0 ++ []
theorem dksJ11_append_2_0 : cJ11_append_2.data.toList.drop 0 = dktJ11_append_2_0 := by decide +kernel
theorem dJ11_append_2_0 : decode cJ11_append_2 0 = .ok (.aload_n 0, 1) := dk_42 (dk_at dksJ11_append_2_0 0 rfl rfl)
theorem dJ11_append_2_1 : decode cJ11_append_2 1 = .ok (.iload_n 1, 1) := dk_27 (dk_at dksJ11_append_2_0 1 rfl rfl)
theorem dJ11_append_2_2 : decode cJ11_append_2 2 = .ok (.invokespecial 53, 3) := dk_183 0 53 (dk_at dksJ11_append_2_0 2 rfl rfl)
theorem dJ11_append_2_5 : decode cJ11_append_2 5 = .ok (.pop, 1) := dk_87 (dk_at dksJ11_append_2_0 5 rfl rfl)
theorem dJ11_append_2_6 : decode cJ11_append_2 6 = .ok (.aload_n 0, 1) := dk_42 (dk_at dksJ11_append_2_0 6 rfl rfl)
theorem dJ11_append_2_7 : decode cJ11_append_2 7 = .ok (.areturn, 1) := dk_176 (dk_at dksJ11_append_2_0 7 rfl rfl)
abbrev cJ11_toString : ByteArray := prog_35_method_42_code
def yJ11_toString : MethodName := ⟨RJ11, "toString", "()Ljava/lang/String;"⟩
def dkwJ11_toString_0 : List UInt8 := [187, 0, 18, 89, 42, 183, 0, 137, 176]
abbrev dktJ11_toString_0 : List UInt8 := dkwJ11_toString_0 ++ []
theorem dksJ11_toString_0 : cJ11_toString.data.toList.drop 0 = dktJ11_toString_0 := by decide +kernel
theorem dJ11_toString_0 : decode cJ11_toString 0 = .ok (.new 18, 3) := dk_187 0 18 (dk_at dksJ11_toString_0 0 rfl rfl)
theorem dJ11_toString_3 : decode cJ11_toString 3 = .ok (.dup, 1) := dk_89 (dk_at dksJ11_toString_0 3 rfl rfl)
theorem dJ11_toString_4 : decode cJ11_toString 4 = .ok (.aload_n 0, 1) := dk_42 (dk_at dksJ11_toString_0 4 rfl rfl)
theorem dJ11_toString_5 : decode cJ11_toString 5 = .ok (.invokespecial 137, 3) := dk_183 0 137 (dk_at dksJ11_toString_0 5 rfl rfl)
theorem dJ11_toString_8 : decode cJ11_toString 8 = .ok (.areturn, 1) := dk_176 (dk_at dksJ11_toString_0 8 rfl rfl)
abbrev cJ11_length : ByteArray := prog_35_method_93_code
def yJ11_length : MethodName := ⟨RJ11, "length", "()I"⟩
theorem dJ11_length_0 : decode cJ11_length 0 = .ok (.aload_n 0, 1) := by decide +kernel
theorem dJ11_length_1 : decode cJ11_length 1 = .ok (.invokespecial 343, 3) := by decide +kernel
theorem dJ11_length_4 : decode cJ11_length 4 = .ok (.ireturn, 1) := by decide +kernel
abbrev cJ11_compareTo : ByteArray := prog_35_method_97_code
def yJ11_compareTo : MethodName := ⟨RJ11, "compareTo", "(Ljava/lang/Object;)I"⟩
def dkwJ11_compareTo_0 : List UInt8 := [42, 43, 192, 0, 24, 182, 1, 90, 172]
abbrev dktJ11_compareTo_0 : List UInt8 := dkwJ11_compareTo_0 ++ []
theorem dksJ11_compareTo_0 : cJ11_compareTo.data.toList.drop 0 = dktJ11_compareTo_0 := by decide +kernel
theorem dJ11_compareTo_0 : decode cJ11_compareTo 0 = .ok (.aload_n 0, 1) := dk_42 (dk_at dksJ11_compareTo_0 0 rfl rfl)
theorem dJ11_compareTo_1 : decode cJ11_compareTo 1 = .ok (.aload_n 1, 1) := dk_43 (dk_at dksJ11_compareTo_0 1 rfl rfl)
theorem dJ11_compareTo_2 : decode cJ11_compareTo 2 = .ok (.checkcast 24, 3) := dk_192 0 24 (dk_at dksJ11_compareTo_0 2 rfl rfl)
theorem dJ11_compareTo_5 : decode cJ11_compareTo 5 = .ok (.invokevirtual 346, 3) := dk_182 1 90 (dk_at dksJ11_compareTo_0 5 rfl rfl)
theorem dJ11_compareTo_8 : decode cJ11_compareTo 8 = .ok (.ireturn, 1) := dk_172 (dk_at dksJ11_compareTo_0 8 rfl rfl)
abbrev cJ11_compareTo_2 : ByteArray := prog_35_method_5_code
def yJ11_compareTo_2 : MethodName := ⟨RJ11, "compareTo", "(Ljava/lang/StringBuilder;)I"⟩
def dkwJ11_compareTo_2_0 : List UInt8 := [42, 43, 183, 0, 13, 172]
abbrev dktJ11_compareTo_2_0 : List UInt8 := dkwJ11_compareTo_2_0 ++ []
theorem dksJ11_compareTo_2_0 : cJ11_compareTo_2.data.toList.drop 0 = dktJ11_compareTo_2_0 := by decide +kernel
theorem dJ11_compareTo_2_0 : decode cJ11_compareTo_2 0 = .ok (.aload_n 0, 1) := dk_42 (dk_at dksJ11_compareTo_2_0 0 rfl rfl)
theorem dJ11_compareTo_2_1 : decode cJ11_compareTo_2 1 = .ok (.aload_n 1, 1) := dk_43 (dk_at dksJ11_compareTo_2_0 1 rfl rfl)
theorem dJ11_compareTo_2_2 : decode cJ11_compareTo_2 2 = .ok (.invokespecial 13, 3) := dk_183 0 13 (dk_at dksJ11_compareTo_2_0 2 rfl rfl)
theorem dJ11_compareTo_2_5 : decode cJ11_compareTo_2 5 = .ok (.ireturn, 1) := dk_172 (dk_at dksJ11_compareTo_2_0 5 rfl rfl)
abbrev cJ11_append_3 : ByteArray := prog_35_method_14_code
def yJ11_append_3 : MethodName := ⟨RJ11, "append", "(C)Ljava/lang/StringBuilder;"⟩
def dkwJ11_append_3_0 : List UInt8 := [42, 27, 183, 0, 50, 87, 42, 176]
abbrev dktJ11_append_3_0 : List UInt8 := dkwJ11_append_3_0 ++ []
theorem dksJ11_append_3_0 : cJ11_append_3.data.toList.drop 0 = dktJ11_append_3_0 := by decide +kernel
theorem dJ11_append_3_0 : decode cJ11_append_3 0 = .ok (.aload_n 0, 1) := dk_42 (dk_at dksJ11_append_3_0 0 rfl rfl)
theorem dJ11_append_3_1 : decode cJ11_append_3 1 = .ok (.iload_n 1, 1) := dk_27 (dk_at dksJ11_append_3_0 1 rfl rfl)
theorem dJ11_append_3_2 : decode cJ11_append_3 2 = .ok (.invokespecial 50, 3) := dk_183 0 50 (dk_at dksJ11_append_3_0 2 rfl rfl)
theorem dJ11_append_3_5 : decode cJ11_append_3 5 = .ok (.pop, 1) := dk_87 (dk_at dksJ11_append_3_0 5 rfl rfl)
theorem dJ11_append_3_6 : decode cJ11_append_3 6 = .ok (.aload_n 0, 1) := dk_42 (dk_at dksJ11_append_3_0 6 rfl rfl)
theorem dJ11_append_3_7 : decode cJ11_append_3 7 = .ok (.areturn, 1) := dk_176 (dk_at dksJ11_append_3_0 7 rfl rfl)
theorem q115 : (Jvm.Cond.initialized "java/lang/StringBuilder") ∈ lw_all := lw_g (lw_at lw_m1 21 rfl) rfl
theorem q549 : (Jvm.Cond.instantiable "java/lang/StringBuilder" (4 : Nat)) ∈ lw_all := lw_g (lw_at lw_m2 215 rfl) rfl
theorem q551 : (Jvm.Cond.instanceMethod ({ cls := "java/lang/StringBuilder", name := "<init>", desc := "()V" } : Jvm.MethodName)) ∈ lw_all := lw_g (lw_at lw_m2 217 rfl) rfl
theorem q552 : (Jvm.Cond.code ({ cls := "java/lang/StringBuilder", name := "<init>", desc := "()V" } : Jvm.MethodName) prog_35_method_1_code (1 : Nat) (Option.none : Option Jvm.ClassFile.FieldType)) ∈ lw_all := lw_g (lw_at lw_m2 218 rfl) rfl
theorem q553 : (Jvm.Cond.methodLink "java/lang/StringBuilder" (1 : Nat) ({ cls := "java/lang/AbstractStringBuilder", name := "<init>", desc := "(I)V" } : Jvm.MethodName)) ∈ lw_all := lw_g (lw_at lw_m2 219 rfl) rfl
theorem q570 : (Jvm.Cond.lays "java/lang/StringBuilder" "java/lang/AbstractStringBuilder" "value" "[B") ∈ lw_all := lw_g (lw_at lw_m2 236 rfl) rfl
theorem q572 : (Jvm.Cond.lays "java/lang/StringBuilder" "java/lang/AbstractStringBuilder" "coder" "B") ∈ lw_all := lw_g (lw_at lw_m2 238 rfl) rfl
theorem q574 : (Jvm.Cond.lays "java/lang/StringBuilder" "java/lang/AbstractStringBuilder" "maybeLatin1" "Z") ∈ lw_all := lw_g (lw_at lw_m3 0 rfl) rfl
theorem q576 : (Jvm.Cond.lays "java/lang/StringBuilder" "java/lang/AbstractStringBuilder" "count" "I") ∈ lw_all := lw_g (lw_at lw_m3 2 rfl) rfl
theorem q578 : (Jvm.Cond.superclass "java/lang/StringBuilder" "java/lang/AbstractStringBuilder") ∈ lw_all := lw_g (lw_at lw_m3 4 rfl) rfl
theorem q581 : (Jvm.Cond.instanceMethod ({ cls := "java/lang/StringBuilder", name := "append", desc := "(Ljava/lang/String;)Ljava/lang/StringBuilder;" } : Jvm.MethodName)) ∈ lw_all := lw_g (lw_at lw_m3 7 rfl) rfl
theorem q582 : (Jvm.Cond.selects "java/lang/StringBuilder" ({ cls := "java/lang/StringBuilder", name := "append", desc := "(Ljava/lang/String;)Ljava/lang/StringBuilder;" } : Jvm.MethodName) ({ cls := "java/lang/StringBuilder", name := "append", desc := "(Ljava/lang/String;)Ljava/lang/StringBuilder;" } : Jvm.MethodName)) ∈ lw_all := lw_g (lw_at lw_m3 8 rfl) rfl
theorem q583 : (Jvm.Cond.code ({ cls := "java/lang/StringBuilder", name := "append", desc := "(Ljava/lang/String;)Ljava/lang/StringBuilder;" } : Jvm.MethodName) prog_35_method_7_code (2 : Nat) (Option.some (Jvm.ClassFile.FieldType.object "java/lang/StringBuilder"))) ∈ lw_all := lw_g (lw_at lw_m3 9 rfl) rfl
theorem q584 : (Jvm.Cond.methodLink "java/lang/StringBuilder" (29 : Nat) ({ cls := "java/lang/AbstractStringBuilder", name := "append", desc := "(Ljava/lang/String;)Ljava/lang/AbstractStringBuilder;" } : Jvm.MethodName)) ∈ lw_all := lw_g (lw_at lw_m3 10 rfl) rfl
theorem q629 : (Jvm.Cond.selects "java/lang/StringBuilder" ({ cls := "java/lang/AbstractStringBuilder", name := "isLatin1", desc := "()Z" } : Jvm.MethodName) ({ cls := "java/lang/AbstractStringBuilder", name := "isLatin1", desc := "()Z" } : Jvm.MethodName)) ∈ lw_all := lw_g (lw_at lw_m3 55 rfl) rfl
theorem q701 : (Jvm.Cond.instanceMethod ({ cls := "java/lang/StringBuilder", name := "append", desc := "(I)Ljava/lang/StringBuilder;" } : Jvm.MethodName)) ∈ lw_all := lw_g (lw_at lw_m3 127 rfl) rfl
theorem q702 : (Jvm.Cond.selects "java/lang/StringBuilder" ({ cls := "java/lang/StringBuilder", name := "append", desc := "(I)Ljava/lang/StringBuilder;" } : Jvm.MethodName) ({ cls := "java/lang/StringBuilder", name := "append", desc := "(I)Ljava/lang/StringBuilder;" } : Jvm.MethodName)) ∈ lw_all := lw_g (lw_at lw_m3 128 rfl) rfl
theorem q703 : (Jvm.Cond.code ({ cls := "java/lang/StringBuilder", name := "append", desc := "(I)Ljava/lang/StringBuilder;" } : Jvm.MethodName) prog_35_method_15_code (2 : Nat) (Option.some (Jvm.ClassFile.FieldType.object "java/lang/StringBuilder"))) ∈ lw_all := lw_g (lw_at lw_m3 129 rfl) rfl
theorem q704 : (Jvm.Cond.methodLink "java/lang/StringBuilder" (53 : Nat) ({ cls := "java/lang/AbstractStringBuilder", name := "append", desc := "(I)Ljava/lang/AbstractStringBuilder;" } : Jvm.MethodName)) ∈ lw_all := lw_g (lw_at lw_m3 130 rfl) rfl
theorem q732 : (Jvm.Cond.instanceMethod ({ cls := "java/lang/StringBuilder", name := "toString", desc := "()Ljava/lang/String;" } : Jvm.MethodName)) ∈ lw_all := lw_g (lw_at lw_m3 158 rfl) rfl
theorem q733 : (Jvm.Cond.selects "java/lang/StringBuilder" ({ cls := "java/lang/StringBuilder", name := "toString", desc := "()Ljava/lang/String;" } : Jvm.MethodName) ({ cls := "java/lang/StringBuilder", name := "toString", desc := "()Ljava/lang/String;" } : Jvm.MethodName)) ∈ lw_all := lw_g (lw_at lw_m3 159 rfl) rfl
theorem q734 : (Jvm.Cond.code ({ cls := "java/lang/StringBuilder", name := "toString", desc := "()Ljava/lang/String;" } : Jvm.MethodName) prog_35_method_42_code (1 : Nat) (Option.some (Jvm.ClassFile.FieldType.object "java/lang/String"))) ∈ lw_all := lw_g (lw_at lw_m3 160 rfl) rfl
theorem q735 : (Jvm.Cond.classLink "java/lang/StringBuilder" (18 : Nat) "java/lang/String") ∈ lw_all := lw_g (lw_at lw_m3 161 rfl) rfl
theorem q737 : (Jvm.Cond.methodLink "java/lang/StringBuilder" (137 : Nat) ({ cls := "java/lang/String", name := "<init>", desc := "(Ljava/lang/StringBuilder;)V" } : Jvm.MethodName)) ∈ lw_all := lw_g (lw_at lw_m3 163 rfl) rfl
theorem q747 : (Jvm.Cond.selects "java/lang/StringBuilder" ({ cls := "java/lang/AbstractStringBuilder", name := "getValue", desc := "()[B" } : Jvm.MethodName) ({ cls := "java/lang/AbstractStringBuilder", name := "getValue", desc := "()[B" } : Jvm.MethodName)) ∈ lw_all := lw_g (lw_at lw_m3 173 rfl) rfl
theorem q752 : (Jvm.Cond.selects "java/lang/StringBuilder" ({ cls := "java/lang/AbstractStringBuilder", name := "length", desc := "()I" } : Jvm.MethodName) ({ cls := "java/lang/StringBuilder", name := "length", desc := "()I" } : Jvm.MethodName)) ∈ lw_all := lw_g (lw_at lw_m3 178 rfl) rfl
theorem q753 : (Jvm.Cond.instanceMethod ({ cls := "java/lang/StringBuilder", name := "length", desc := "()I" } : Jvm.MethodName)) ∈ lw_all := lw_g (lw_at lw_m3 179 rfl) rfl
theorem q754 : (Jvm.Cond.code ({ cls := "java/lang/StringBuilder", name := "length", desc := "()I" } : Jvm.MethodName) prog_35_method_93_code (1 : Nat) (Option.some Jvm.ClassFile.FieldType.int)) ∈ lw_all := lw_g (lw_at lw_m3 180 rfl) rfl
theorem q755 : (Jvm.Cond.methodLink "java/lang/StringBuilder" (343 : Nat) ({ cls := "java/lang/AbstractStringBuilder", name := "length", desc := "()I" } : Jvm.MethodName)) ∈ lw_all := lw_g (lw_at lw_m3 181 rfl) rfl
theorem q1400 : (Jvm.Cond.castable "java/lang/StringBuilder" "java/lang/Comparable") ∈ lw_tbl := lw_at lw_m6 106 rfl
theorem q1401 : (Jvm.Cond.selects "java/lang/StringBuilder" ({ cls := "java/lang/Comparable", name := "compareTo", desc := "(Ljava/lang/Object;)I" } : Jvm.MethodName) ({ cls := "java/lang/StringBuilder", name := "compareTo", desc := "(Ljava/lang/Object;)I" } : Jvm.MethodName)) ∈ lw_all := lw_g (lw_at lw_m6 107 rfl) rfl
theorem q1402 : (Jvm.Cond.unhidden "java/lang/StringBuilder" "compareTo" "(Ljava/lang/Object;)I") ∈ lw_tbl := lw_at lw_m6 108 rfl
theorem q1403 : (Jvm.Cond.instanceMethod ({ cls := "java/lang/StringBuilder", name := "compareTo", desc := "(Ljava/lang/Object;)I" } : Jvm.MethodName)) ∈ lw_all := lw_g (lw_at lw_m6 109 rfl) rfl
theorem q1404 : (Jvm.Cond.publicMethod ({ cls := "java/lang/StringBuilder", name := "compareTo", desc := "(Ljava/lang/Object;)I" } : Jvm.MethodName)) ∈ lw_tbl := lw_at lw_m6 110 rfl
theorem q1405 : (Jvm.Cond.code ({ cls := "java/lang/StringBuilder", name := "compareTo", desc := "(Ljava/lang/Object;)I" } : Jvm.MethodName) prog_35_method_97_code (2 : Nat) (Option.some Jvm.ClassFile.FieldType.int)) ∈ lw_all := lw_g (lw_at lw_m6 111 rfl) rfl
theorem q1406 : (Jvm.Cond.classLink "java/lang/StringBuilder" (24 : Nat) "java/lang/StringBuilder") ∈ lw_all := lw_g (lw_at lw_m6 112 rfl) rfl
theorem q1407 : (Jvm.Cond.methodLink "java/lang/StringBuilder" (346 : Nat) ({ cls := "java/lang/StringBuilder", name := "compareTo", desc := "(Ljava/lang/StringBuilder;)I" } : Jvm.MethodName)) ∈ lw_all := lw_g (lw_at lw_m6 113 rfl) rfl
theorem q1408 : (Jvm.Cond.instanceMethod ({ cls := "java/lang/StringBuilder", name := "compareTo", desc := "(Ljava/lang/StringBuilder;)I" } : Jvm.MethodName)) ∈ lw_all := lw_g (lw_at lw_m6 114 rfl) rfl
theorem q1409 : (Jvm.Cond.selects "java/lang/StringBuilder" ({ cls := "java/lang/StringBuilder", name := "compareTo", desc := "(Ljava/lang/StringBuilder;)I" } : Jvm.MethodName) ({ cls := "java/lang/StringBuilder", name := "compareTo", desc := "(Ljava/lang/StringBuilder;)I" } : Jvm.MethodName)) ∈ lw_all := lw_g (lw_at lw_m6 115 rfl) rfl
theorem q1410 : (Jvm.Cond.code ({ cls := "java/lang/StringBuilder", name := "compareTo", desc := "(Ljava/lang/StringBuilder;)I" } : Jvm.MethodName) prog_35_method_5_code (2 : Nat) (Option.some Jvm.ClassFile.FieldType.int)) ∈ lw_all := lw_g (lw_at lw_m6 116 rfl) rfl
theorem q1411 : (Jvm.Cond.methodLink "java/lang/StringBuilder" (13 : Nat) ({ cls := "java/lang/AbstractStringBuilder", name := "compareTo", desc := "(Ljava/lang/AbstractStringBuilder;)I" } : Jvm.MethodName)) ∈ lw_all := lw_g (lw_at lw_m6 117 rfl) rfl
theorem q1500 : (Jvm.Cond.selects "java/lang/StringBuilder" ({ cls := "java/lang/Object", name := "getClass", desc := "()Ljava/lang/Class;" } : Jvm.MethodName) ({ cls := "java/lang/Object", name := "getClass", desc := "()Ljava/lang/Class;" } : Jvm.MethodName)) ∈ lw_all := lw_g (lw_at lw_m6 206 rfl) rfl
theorem q2077 : (Jvm.Cond.instanceMethod ({ cls := "java/lang/StringBuilder", name := "append", desc := "(C)Ljava/lang/StringBuilder;" } : Jvm.MethodName)) ∈ lw_all := lw_g (lw_at lw_m9 63 rfl) rfl
theorem q2078 : (Jvm.Cond.selects "java/lang/StringBuilder" ({ cls := "java/lang/StringBuilder", name := "append", desc := "(C)Ljava/lang/StringBuilder;" } : Jvm.MethodName) ({ cls := "java/lang/StringBuilder", name := "append", desc := "(C)Ljava/lang/StringBuilder;" } : Jvm.MethodName)) ∈ lw_all := lw_g (lw_at lw_m9 64 rfl) rfl
theorem q2079 : (Jvm.Cond.code ({ cls := "java/lang/StringBuilder", name := "append", desc := "(C)Ljava/lang/StringBuilder;" } : Jvm.MethodName) prog_35_method_14_code (2 : Nat) (Option.some (Jvm.ClassFile.FieldType.object "java/lang/StringBuilder"))) ∈ lw_all := lw_g (lw_at lw_m9 65 rfl) rfl
theorem q2080 : (Jvm.Cond.methodLink "java/lang/StringBuilder" (50 : Nat) ({ cls := "java/lang/AbstractStringBuilder", name := "append", desc := "(C)Ljava/lang/AbstractStringBuilder;" } : Jvm.MethodName)) ∈ lw_all := lw_g (lw_at lw_m9 66 rfl) rfl
theorem q2396 : (Jvm.Cond.selects "java/lang/StringBuilder" ({ cls := "java/lang/Object", name := "equals", desc := "(Ljava/lang/Object;)Z" } : Jvm.MethodName) ({ cls := "java/lang/Object", name := "equals", desc := "(Ljava/lang/Object;)Z" } : Jvm.MethodName)) ∈ lw_all := lw_g (lw_at lw_m10 142 rfl) rfl
theorem q3155 : (Jvm.Cond.castable "java/lang/StringBuilder" "java/lang/Object") ∈ lw_tbl := lw_at lw_m13 181 rfl
theorem in_J11 : ∀ w ∈ wsJ110, w ∈ lw_all := lw_in wsJ110 [570, 572, 574, 576] (by decide +kernel) (by decide +kernel)

/-! java/lang/String -/
set_option maxRecDepth 100000
def RJ12 : String := "java/lang/String"
def TJ12 : u_T := fun k => match k with
  | 0 => ("java/lang/String", "value", "[B", true)
  | 1 => ("java/lang/String", "coder", "B", true)
  | 2 => ("java/lang/String", "hash", "I", false)
  | _ => ("java/lang/String", "hashIsZero", "Z", false)
def tyJ12 : Nat → FieldType := fun k => match k with
  | 0 => .array .byte
  | 1 => .byte
  | 2 => .int
  | _ => .boolean
abbrev wsJ120 : List Cond := u_ws RJ12 TJ12 4
theorem nmJ12 : ∀ a, a < 4 → ∀ b, b < 4 → a ≠ b → (TJ12 a).2.1 ≠ (TJ12 b).2.1 := by decide +kernel
theorem tyJ12_ok : ∀ k, k < 4 → parseFieldDescriptor (TJ12 k).2.2.1 = some (tyJ12 k) := by decide +kernel
abbrev cJ12_checkBoundsBeginEnd : ByteArray := prog_34_method_158_code
def yJ12_checkBoundsBeginEnd : MethodName := ⟨RJ12, "checkBoundsBeginEnd", "(III)V"⟩
def dkwJ12_checkBoundsBeginEnd_0 : List UInt8 := [26, 27, 28, 178, 4, 29, 184, 4, 38, 87, 177]
abbrev dktJ12_checkBoundsBeginEnd_0 : List UInt8 := dkwJ12_checkBoundsBeginEnd_0 ++ []
theorem dksJ12_checkBoundsBeginEnd_0 : cJ12_checkBoundsBeginEnd.data.toList.drop 0 = dktJ12_checkBoundsBeginEnd_0 := by decide +kernel
theorem dJ12_checkBoundsBeginEnd_0 : decode cJ12_checkBoundsBeginEnd 0 = .ok (.iload_n 0, 1) := dk_26 (dk_at dksJ12_checkBoundsBeginEnd_0 0 rfl rfl)
theorem dJ12_checkBoundsBeginEnd_1 : decode cJ12_checkBoundsBeginEnd 1 = .ok (.iload_n 1, 1) := dk_27 (dk_at dksJ12_checkBoundsBeginEnd_0 1 rfl rfl)
theorem dJ12_checkBoundsBeginEnd_2 : decode cJ12_checkBoundsBeginEnd 2 = .ok (.iload_n 2, 1) := dk_28 (dk_at dksJ12_checkBoundsBeginEnd_0 2 rfl rfl)
theorem dJ12_checkBoundsBeginEnd_3 : decode cJ12_checkBoundsBeginEnd 3 = .ok (.getstatic 1053, 3) := dk_178 4 29 (dk_at dksJ12_checkBoundsBeginEnd_0 3 rfl rfl)
theorem dJ12_checkBoundsBeginEnd_6 : decode cJ12_checkBoundsBeginEnd 6 = .ok (.invokestatic 1062, 3) := dk_184 4 38 (dk_at dksJ12_checkBoundsBeginEnd_0 6 rfl rfl)
theorem dJ12_checkBoundsBeginEnd_9 : decode cJ12_checkBoundsBeginEnd 9 = .ok (.pop, 1) := dk_87 (dk_at dksJ12_checkBoundsBeginEnd_0 9 rfl rfl)
theorem dJ12_checkBoundsBeginEnd_10 : decode cJ12_checkBoundsBeginEnd 10 = .ok (.return_, 1) := dk_177 (dk_at dksJ12_checkBoundsBeginEnd_0 10 rfl rfl)
abbrev cJ12_length : ByteArray := prog_34_method_54_code
def yJ12_length : MethodName := ⟨RJ12, "length", "()I"⟩
def dkwJ12_length_0 : List UInt8 := [42, 180, 0, 9, 190, 42, 182, 1, 79, 122, 172]
abbrev dktJ12_length_0 : List UInt8 := dkwJ12_length_0 ++ []
theorem dksJ12_length_0 : cJ12_length.data.toList.drop 0 = dktJ12_length_0 := by decide +kernel
theorem dJ12_length_0 : decode cJ12_length 0 = .ok (.aload_n 0, 1) := dk_42 (dk_at dksJ12_length_0 0 rfl rfl)
theorem dJ12_length_1 : decode cJ12_length 1 = .ok (.getfield 9, 3) := dk_180 0 9 (dk_at dksJ12_length_0 1 rfl rfl)
theorem dJ12_length_4 : decode cJ12_length 4 = .ok (.arraylength, 1) := dk_190 (dk_at dksJ12_length_0 4 rfl rfl)
theorem dJ12_length_5 : decode cJ12_length 5 = .ok (.aload_n 0, 1) := dk_42 (dk_at dksJ12_length_0 5 rfl rfl)
theorem dJ12_length_6 : decode cJ12_length 6 = .ok (.invokevirtual 335, 3) := dk_182 1 79 (dk_at dksJ12_length_0 6 rfl rfl)
theorem dJ12_length_9 : decode cJ12_length 9 = .ok (.ishr, 1) := dk_122 (dk_at dksJ12_length_0 9 rfl rfl)
theorem dJ12_length_10 : decode cJ12_length 10 = .ok (.ireturn, 1) := dk_172 (dk_at dksJ12_length_0 10 rfl rfl)
abbrev cJ12_coder : ByteArray := prog_34_method_152_code
def yJ12_coder : MethodName := ⟨RJ12, "coder", "()B"⟩
def dkwJ12_coder_0 : List UInt8 := [178, 0, 38, 153, 0, 10, 42, 180, 0, 15, 167, 0, 4, 4, 172]
abbrev dktJ12_coder_0 : List UInt8 := dkwJ12_coder_0 ++ []
theorem dksJ12_coder_0 : cJ12_coder.data.toList.drop 0 = dktJ12_coder_0 := by decide +kernel
theorem dJ12_coder_0 : decode cJ12_coder 0 = .ok (.getstatic 38, 3) := dk_178 0 38 (dk_at dksJ12_coder_0 0 rfl rfl)
theorem dJ12_coder_3 : decode cJ12_coder 3 = .ok (.ifCond .eq 10, 3) := dk_153 0 10 (dk_at dksJ12_coder_0 3 rfl rfl)
theorem dJ12_coder_6 : decode cJ12_coder 6 = .ok (.aload_n 0, 1) := dk_42 (dk_at dksJ12_coder_0 6 rfl rfl)
theorem dJ12_coder_7 : decode cJ12_coder 7 = .ok (.getfield 15, 3) := dk_180 0 15 (dk_at dksJ12_coder_0 7 rfl rfl)
theorem dJ12_coder_10 : decode cJ12_coder 10 = .ok (.goto 4, 3) := dk_167 0 4 (dk_at dksJ12_coder_0 10 rfl rfl)
theorem dJ12_coder_13 : decode cJ12_coder 13 = .ok (.iconst 1, 1) := dk_4 (dk_at dksJ12_coder_0 13 rfl rfl)
theorem dJ12_coder_14 : decode cJ12_coder 14 = .ok (.ireturn, 1) := dk_172 (dk_at dksJ12_coder_0 14 rfl rfl)
abbrev cJ12_checkBoundsOffCount : ByteArray := prog_34_method_157_code
def yJ12_checkBoundsOffCount : MethodName := ⟨RJ12, "checkBoundsOffCount", "(III)I"⟩
def dkwJ12_checkBoundsOffCount_0 : List UInt8 := [26, 27, 28, 178, 4, 29, 184, 4, 41, 172]
abbrev dktJ12_checkBoundsOffCount_0 : List UInt8 := dkwJ12_checkBoundsOffCount_0 ++ []
theorem dksJ12_checkBoundsOffCount_0 : cJ12_checkBoundsOffCount.data.toList.drop 0 = dktJ12_checkBoundsOffCount_0 := by decide +kernel
theorem dJ12_checkBoundsOffCount_0 : decode cJ12_checkBoundsOffCount 0 = .ok (.iload_n 0, 1) := dk_26 (dk_at dksJ12_checkBoundsOffCount_0 0 rfl rfl)
theorem dJ12_checkBoundsOffCount_1 : decode cJ12_checkBoundsOffCount 1 = .ok (.iload_n 1, 1) := dk_27 (dk_at dksJ12_checkBoundsOffCount_0 1 rfl rfl)
theorem dJ12_checkBoundsOffCount_2 : decode cJ12_checkBoundsOffCount 2 = .ok (.iload_n 2, 1) := dk_28 (dk_at dksJ12_checkBoundsOffCount_0 2 rfl rfl)
theorem dJ12_checkBoundsOffCount_3 : decode cJ12_checkBoundsOffCount 3 = .ok (.getstatic 1053, 3) := dk_178 4 29 (dk_at dksJ12_checkBoundsOffCount_0 3 rfl rfl)
theorem dJ12_checkBoundsOffCount_6 : decode cJ12_checkBoundsOffCount 6 = .ok (.invokestatic 1065, 3) := dk_184 4 41 (dk_at dksJ12_checkBoundsOffCount_0 6 rfl rfl)
theorem dJ12_checkBoundsOffCount_9 : decode cJ12_checkBoundsOffCount 9 = .ok (.ireturn, 1) := dk_172 (dk_at dksJ12_checkBoundsOffCount_0 9 rfl rfl)
abbrev cJ12_getBytes : ByteArray := prog_34_method_147_code
def yJ12_getBytes : MethodName := ⟨RJ12, "getBytes", "([BIB)V"⟩
def dkwJ12_getBytes_1 : List UInt8 := [184, 0, 212, 167, 0, 18, 42, 180, 0, 9, 3, 43, 28, 42, 180, 0, 9, 190, 184, 0, 106, 177]
abbrev dktJ12_getBytes_1 : List UInt8 := dkwJ12_getBytes_1 ++ []
def dkwJ12_getBytes_0 : List UInt8 := [42, 182, 1, 79, 29, 160, 0, 23, 42, 180, 0, 9, 3, 43, 28, 29, 120, 42, 180, 0, 9, 190]
abbrev dktJ12_getBytes_0 : List UInt8 := dkwJ12_getBytes_0 ++ dktJ12_getBytes_1
theorem dksJ12_getBytes_0 : cJ12_getBytes.data.toList.drop 0 = dktJ12_getBytes_0 := by decide +kernel
theorem dksJ12_getBytes_1 : cJ12_getBytes.data.toList.drop 22 = dktJ12_getBytes_1 := dk_seg dksJ12_getBytes_0 22 rfl rfl
theorem dJ12_getBytes_0 : decode cJ12_getBytes 0 = .ok (.aload_n 0, 1) := dk_42 (dk_at dksJ12_getBytes_0 0 rfl rfl)
theorem dJ12_getBytes_1 : decode cJ12_getBytes 1 = .ok (.invokevirtual 335, 3) := dk_182 1 79 (dk_at dksJ12_getBytes_0 1 rfl rfl)
theorem dJ12_getBytes_4 : decode cJ12_getBytes 4 = .ok (.iload_n 3, 1) := dk_29 (dk_at dksJ12_getBytes_0 4 rfl rfl)
theorem dJ12_getBytes_5 : decode cJ12_getBytes 5 = .ok (.if_icmp .ne 23, 3) := dk_160 0 23 (dk_at dksJ12_getBytes_0 5 rfl rfl)
theorem dJ12_getBytes_8 : decode cJ12_getBytes 8 = .ok (.aload_n 0, 1) := dk_42 (dk_at dksJ12_getBytes_0 8 rfl rfl)
theorem dJ12_getBytes_9 : decode cJ12_getBytes 9 = .ok (.getfield 9, 3) := dk_180 0 9 (dk_at dksJ12_getBytes_0 9 rfl rfl)
theorem dJ12_getBytes_12 : decode cJ12_getBytes 12 = .ok (.iconst 0, 1) := dk_3 (dk_at dksJ12_getBytes_0 12 rfl rfl)
theorem dJ12_getBytes_13 : decode cJ12_getBytes 13 = .ok (.aload_n 1, 1) := dk_43 (dk_at dksJ12_getBytes_0 13 rfl rfl)
theorem dJ12_getBytes_14 : decode cJ12_getBytes 14 = .ok (.iload_n 2, 1) := dk_28 (dk_at dksJ12_getBytes_0 14 rfl rfl)
theorem dJ12_getBytes_15 : decode cJ12_getBytes 15 = .ok (.iload_n 3, 1) := dk_29 (dk_at dksJ12_getBytes_0 15 rfl rfl)
theorem dJ12_getBytes_16 : decode cJ12_getBytes 16 = .ok (.ishl, 1) := dk_120 (dk_at dksJ12_getBytes_0 16 rfl rfl)
theorem dJ12_getBytes_17 : decode cJ12_getBytes 17 = .ok (.aload_n 0, 1) := dk_42 (dk_at dksJ12_getBytes_0 17 rfl rfl)
theorem dJ12_getBytes_18 : decode cJ12_getBytes 18 = .ok (.getfield 9, 3) := dk_180 0 9 (dk_at dksJ12_getBytes_0 18 rfl rfl)
theorem dJ12_getBytes_21 : decode cJ12_getBytes 21 = .ok (.arraylength, 1) := dk_190 (dk_at dksJ12_getBytes_0 21 rfl rfl)
theorem dJ12_getBytes_22 : decode cJ12_getBytes 22 = .ok (.invokestatic 212, 3) := dk_184 0 212 (dk_at dksJ12_getBytes_1 0 rfl rfl)
theorem dJ12_getBytes_25 : decode cJ12_getBytes 25 = .ok (.goto 18, 3) := dk_167 0 18 (dk_at dksJ12_getBytes_1 3 rfl rfl)
theorem dJ12_getBytes_28 : decode cJ12_getBytes 28 = .ok (.aload_n 0, 1) := dk_42 (dk_at dksJ12_getBytes_1 6 rfl rfl)
theorem dJ12_getBytes_29 : decode cJ12_getBytes 29 = .ok (.getfield 9, 3) := dk_180 0 9 (dk_at dksJ12_getBytes_1 7 rfl rfl)
theorem dJ12_getBytes_32 : decode cJ12_getBytes 32 = .ok (.iconst 0, 1) := dk_3 (dk_at dksJ12_getBytes_1 10 rfl rfl)
theorem dJ12_getBytes_33 : decode cJ12_getBytes 33 = .ok (.aload_n 1, 1) := dk_43 (dk_at dksJ12_getBytes_1 11 rfl rfl)
theorem dJ12_getBytes_34 : decode cJ12_getBytes 34 = .ok (.iload_n 2, 1) := dk_28 (dk_at dksJ12_getBytes_1 12 rfl rfl)
theorem dJ12_getBytes_35 : decode cJ12_getBytes 35 = .ok (.aload_n 0, 1) := dk_42 (dk_at dksJ12_getBytes_1 13 rfl rfl)
theorem dJ12_getBytes_36 : decode cJ12_getBytes 36 = .ok (.getfield 9, 3) := dk_180 0 9 (dk_at dksJ12_getBytes_1 14 rfl rfl)
theorem dJ12_getBytes_39 : decode cJ12_getBytes 39 = .ok (.arraylength, 1) := dk_190 (dk_at dksJ12_getBytes_1 17 rfl rfl)
theorem dJ12_getBytes_40 : decode cJ12_getBytes 40 = .ok (.invokestatic 106, 3) := dk_184 0 106 (dk_at dksJ12_getBytes_1 18 rfl rfl)
theorem dJ12_getBytes_43 : decode cJ12_getBytes 43 = .ok (.return_, 1) := dk_177 (dk_at dksJ12_getBytes_1 21 rfl rfl)
abbrev cJ12_init : ByteArray := prog_34_method_53_code
def yJ12_init : MethodName := ⟨RJ12, "<init>", "(Ljava/lang/StringBuilder;)V"⟩
def dkwJ12_init_0 : List UInt8 := [42, 43, 1, 183, 1, 233, 177]
abbrev dktJ12_init_0 : List UInt8 := dkwJ12_init_0 ++ []
theorem dksJ12_init_0 : cJ12_init.data.toList.drop 0 = dktJ12_init_0 := by decide +kernel
theorem dJ12_init_0 : decode cJ12_init 0 = .ok (.aload_n 0, 1) := dk_42 (dk_at dksJ12_init_0 0 rfl rfl)
theorem dJ12_init_1 : decode cJ12_init 1 = .ok (.aload_n 1, 1) := dk_43 (dk_at dksJ12_init_0 1 rfl rfl)
theorem dJ12_init_2 : decode cJ12_init 2 = .ok (.aconst_null, 1) := dk_1 (dk_at dksJ12_init_0 2 rfl rfl)
theorem dJ12_init_3 : decode cJ12_init 3 = .ok (.invokespecial 489, 3) := dk_183 1 233 (dk_at dksJ12_init_0 3 rfl rfl)
theorem dJ12_init_6 : decode cJ12_init 6 = .ok (.return_, 1) := dk_177 (dk_at dksJ12_init_0 6 rfl rfl)
abbrev cJ12_init_2 : ByteArray := prog_34_method_150_code
def yJ12_init_2 : MethodName := ⟨RJ12, "<init>", "(Ljava/lang/AbstractStringBuilder;Ljava/lang/Void;)V"⟩
def dkwJ12_init_2_4 : List UInt8 := [181, 0, 9, 177]
abbrev dktJ12_init_2_4 : List UInt8 := dkwJ12_init_2_4 ++ []
def dkwJ12_init_2_3 : List UInt8 := [184, 0, 47, 181, 0, 15, 177, 42, 4, 181, 0, 15, 42, 45, 3, 21, 4, 4, 120, 184, 0, 54]
abbrev dktJ12_init_2_3 : List UInt8 := dkwJ12_init_2_3 ++ dktJ12_init_2_4
def dkwJ12_init_2_2 : List UInt8 := [180, 4, 24, 153, 0, 28, 42, 45, 3, 21, 4, 184, 4, 27, 181, 0, 9, 42, 42, 180, 0, 9, 21, 4]
abbrev dktJ12_init_2_2 : List UInt8 := dkwJ12_init_2_2 ++ dktJ12_init_2_3
def dkwJ12_init_2_1 : List UInt8 := [181, 0, 15, 42, 45, 3, 21, 4, 184, 0, 54, 181, 0, 9, 167, 0, 59, 178, 0, 38, 153, 0, 35, 43]
abbrev dktJ12_init_2_1 : List UInt8 := dkwJ12_init_2_1 ++ dktJ12_init_2_2
def dkwJ12_init_2_0 : List UInt8 := [42, 183, 0, 1, 43, 182, 2, 40, 78, 43, 182, 2, 37, 54, 4, 43, 182, 4, 23, 153, 0, 22, 42, 3]
abbrev dktJ12_init_2_0 : List UInt8 := dkwJ12_init_2_0 ++ dktJ12_init_2_1
theorem dksJ12_init_2_0 : cJ12_init_2.data.toList.drop 0 = dktJ12_init_2_0 := by decide +kernel
theorem dksJ12_init_2_1 : cJ12_init_2.data.toList.drop 24 = dktJ12_init_2_1 := dk_seg dksJ12_init_2_0 24 rfl rfl
theorem dksJ12_init_2_2 : cJ12_init_2.data.toList.drop 48 = dktJ12_init_2_2 := dk_seg dksJ12_init_2_1 24 rfl rfl
theorem dksJ12_init_2_3 : cJ12_init_2.data.toList.drop 72 = dktJ12_init_2_3 := dk_seg dksJ12_init_2_2 24 rfl rfl
theorem dksJ12_init_2_4 : cJ12_init_2.data.toList.drop 94 = dktJ12_init_2_4 := dk_seg dksJ12_init_2_3 22 rfl rfl
theorem dJ12_init_2_0 : decode cJ12_init_2 0 = .ok (.aload_n 0, 1) := dk_42 (dk_at dksJ12_init_2_0 0 rfl rfl)
theorem dJ12_init_2_1 : decode cJ12_init_2 1 = .ok (.invokespecial 1, 3) := dk_183 0 1 (dk_at dksJ12_init_2_0 1 rfl rfl)
theorem dJ12_init_2_4 : decode cJ12_init_2 4 = .ok (.aload_n 1, 1) := dk_43 (dk_at dksJ12_init_2_0 4 rfl rfl)
theorem dJ12_init_2_5 : decode cJ12_init_2 5 = .ok (.invokevirtual 552, 3) := dk_182 2 40 (dk_at dksJ12_init_2_0 5 rfl rfl)
theorem dJ12_init_2_8 : decode cJ12_init_2 8 = .ok (.astore_n 3, 1) := dk_78 (dk_at dksJ12_init_2_0 8 rfl rfl)
theorem dJ12_init_2_9 : decode cJ12_init_2 9 = .ok (.aload_n 1, 1) := dk_43 (dk_at dksJ12_init_2_0 9 rfl rfl)
theorem dJ12_init_2_10 : decode cJ12_init_2 10 = .ok (.invokevirtual 549, 3) := dk_182 2 37 (dk_at dksJ12_init_2_0 10 rfl rfl)
theorem dJ12_init_2_13 : decode cJ12_init_2 13 = .ok (.istore 4, 2) := dk_54 4 (dk_at dksJ12_init_2_0 13 rfl rfl)
theorem dJ12_init_2_15 : decode cJ12_init_2 15 = .ok (.aload_n 1, 1) := dk_43 (dk_at dksJ12_init_2_0 15 rfl rfl)
theorem dJ12_init_2_16 : decode cJ12_init_2 16 = .ok (.invokevirtual 1047, 3) := dk_182 4 23 (dk_at dksJ12_init_2_0 16 rfl rfl)
theorem dJ12_init_2_19 : decode cJ12_init_2 19 = .ok (.ifCond .eq 22, 3) := dk_153 0 22 (dk_at dksJ12_init_2_0 19 rfl rfl)
theorem dJ12_init_2_22 : decode cJ12_init_2 22 = .ok (.aload_n 0, 1) := dk_42 (dk_at dksJ12_init_2_0 22 rfl rfl)
theorem dJ12_init_2_23 : decode cJ12_init_2 23 = .ok (.iconst 0, 1) := dk_3 (dk_at dksJ12_init_2_0 23 rfl rfl)
theorem dJ12_init_2_24 : decode cJ12_init_2 24 = .ok (.putfield 15, 3) := dk_181 0 15 (dk_at dksJ12_init_2_1 0 rfl rfl)
theorem dJ12_init_2_27 : decode cJ12_init_2 27 = .ok (.aload_n 0, 1) := dk_42 (dk_at dksJ12_init_2_1 3 rfl rfl)
theorem dJ12_init_2_28 : decode cJ12_init_2 28 = .ok (.aload_n 3, 1) := dk_45 (dk_at dksJ12_init_2_1 4 rfl rfl)
theorem dJ12_init_2_29 : decode cJ12_init_2 29 = .ok (.iconst 0, 1) := dk_3 (dk_at dksJ12_init_2_1 5 rfl rfl)
theorem dJ12_init_2_30 : decode cJ12_init_2 30 = .ok (.iload 4, 2) := dk_21 4 (dk_at dksJ12_init_2_1 6 rfl rfl)
theorem dJ12_init_2_32 : decode cJ12_init_2 32 = .ok (.invokestatic 54, 3) := dk_184 0 54 (dk_at dksJ12_init_2_1 8 rfl rfl)
theorem dJ12_init_2_35 : decode cJ12_init_2 35 = .ok (.putfield 9, 3) := dk_181 0 9 (dk_at dksJ12_init_2_1 11 rfl rfl)
theorem dJ12_init_2_38 : decode cJ12_init_2 38 = .ok (.goto 59, 3) := dk_167 0 59 (dk_at dksJ12_init_2_1 14 rfl rfl)
theorem dJ12_init_2_41 : decode cJ12_init_2 41 = .ok (.getstatic 38, 3) := dk_178 0 38 (dk_at dksJ12_init_2_1 17 rfl rfl)
theorem dJ12_init_2_44 : decode cJ12_init_2 44 = .ok (.ifCond .eq 35, 3) := dk_153 0 35 (dk_at dksJ12_init_2_1 20 rfl rfl)
theorem dJ12_init_2_47 : decode cJ12_init_2 47 = .ok (.aload_n 1, 1) := dk_43 (dk_at dksJ12_init_2_1 23 rfl rfl)
theorem dJ12_init_2_48 : decode cJ12_init_2 48 = .ok (.getfield 1048, 3) := dk_180 4 24 (dk_at dksJ12_init_2_2 0 rfl rfl)
theorem dJ12_init_2_51 : decode cJ12_init_2 51 = .ok (.ifCond .eq 28, 3) := dk_153 0 28 (dk_at dksJ12_init_2_2 3 rfl rfl)
theorem dJ12_init_2_54 : decode cJ12_init_2 54 = .ok (.aload_n 0, 1) := dk_42 (dk_at dksJ12_init_2_2 6 rfl rfl)
theorem dJ12_init_2_55 : decode cJ12_init_2 55 = .ok (.aload_n 3, 1) := dk_45 (dk_at dksJ12_init_2_2 7 rfl rfl)
theorem dJ12_init_2_56 : decode cJ12_init_2 56 = .ok (.iconst 0, 1) := dk_3 (dk_at dksJ12_init_2_2 8 rfl rfl)
theorem dJ12_init_2_57 : decode cJ12_init_2 57 = .ok (.iload 4, 2) := dk_21 4 (dk_at dksJ12_init_2_2 9 rfl rfl)
theorem dJ12_init_2_59 : decode cJ12_init_2 59 = .ok (.invokestatic 1051, 3) := dk_184 4 27 (dk_at dksJ12_init_2_2 11 rfl rfl)
theorem dJ12_init_2_62 : decode cJ12_init_2 62 = .ok (.putfield 9, 3) := dk_181 0 9 (dk_at dksJ12_init_2_2 14 rfl rfl)
theorem dJ12_init_2_65 : decode cJ12_init_2 65 = .ok (.aload_n 0, 1) := dk_42 (dk_at dksJ12_init_2_2 17 rfl rfl)
theorem dJ12_init_2_66 : decode cJ12_init_2 66 = .ok (.aload_n 0, 1) := dk_42 (dk_at dksJ12_init_2_2 18 rfl rfl)
theorem dJ12_init_2_67 : decode cJ12_init_2 67 = .ok (.getfield 9, 3) := dk_180 0 9 (dk_at dksJ12_init_2_2 19 rfl rfl)
theorem dJ12_init_2_70 : decode cJ12_init_2 70 = .ok (.iload 4, 2) := dk_21 4 (dk_at dksJ12_init_2_2 22 rfl rfl)
theorem dJ12_init_2_72 : decode cJ12_init_2 72 = .ok (.invokestatic 47, 3) := dk_184 0 47 (dk_at dksJ12_init_2_3 0 rfl rfl)
theorem dJ12_init_2_75 : decode cJ12_init_2 75 = .ok (.putfield 15, 3) := dk_181 0 15 (dk_at dksJ12_init_2_3 3 rfl rfl)
theorem dJ12_init_2_78 : decode cJ12_init_2 78 = .ok (.return_, 1) := dk_177 (dk_at dksJ12_init_2_3 6 rfl rfl)
theorem dJ12_init_2_79 : decode cJ12_init_2 79 = .ok (.aload_n 0, 1) := dk_42 (dk_at dksJ12_init_2_3 7 rfl rfl)
theorem dJ12_init_2_80 : decode cJ12_init_2 80 = .ok (.iconst 1, 1) := dk_4 (dk_at dksJ12_init_2_3 8 rfl rfl)
theorem dJ12_init_2_81 : decode cJ12_init_2 81 = .ok (.putfield 15, 3) := dk_181 0 15 (dk_at dksJ12_init_2_3 9 rfl rfl)
theorem dJ12_init_2_84 : decode cJ12_init_2 84 = .ok (.aload_n 0, 1) := dk_42 (dk_at dksJ12_init_2_3 12 rfl rfl)
theorem dJ12_init_2_85 : decode cJ12_init_2 85 = .ok (.aload_n 3, 1) := dk_45 (dk_at dksJ12_init_2_3 13 rfl rfl)
theorem dJ12_init_2_86 : decode cJ12_init_2 86 = .ok (.iconst 0, 1) := dk_3 (dk_at dksJ12_init_2_3 14 rfl rfl)
theorem dJ12_init_2_87 : decode cJ12_init_2 87 = .ok (.iload 4, 2) := dk_21 4 (dk_at dksJ12_init_2_3 15 rfl rfl)
theorem dJ12_init_2_89 : decode cJ12_init_2 89 = .ok (.iconst 1, 1) := dk_4 (dk_at dksJ12_init_2_3 17 rfl rfl)
theorem dJ12_init_2_90 : decode cJ12_init_2 90 = .ok (.ishl, 1) := dk_120 (dk_at dksJ12_init_2_3 18 rfl rfl)
theorem dJ12_init_2_91 : decode cJ12_init_2 91 = .ok (.invokestatic 54, 3) := dk_184 0 54 (dk_at dksJ12_init_2_3 19 rfl rfl)
theorem dJ12_init_2_94 : decode cJ12_init_2 94 = .ok (.putfield 9, 3) := dk_181 0 9 (dk_at dksJ12_init_2_4 0 rfl rfl)
theorem dJ12_init_2_97 : decode cJ12_init_2 97 = .ok (.return_, 1) := dk_177 (dk_at dksJ12_init_2_4 3 rfl rfl)
abbrev cJ12_hashCode : ByteArray := prog_34_method_78_code
def yJ12_hashCode : MethodName := ⟨RJ12, "hashCode", "()I"⟩
def dkwJ12_hashCode_2 : List UInt8 := [181, 0, 23, 167, 0, 8, 42, 27, 181, 0, 19, 27, 172]
abbrev dktJ12_hashCode_2 : List UInt8 := dkwJ12_hashCode_2 ++ []
def dkwJ12_hashCode_1 : List UInt8 := [180, 0, 9, 184, 2, 116, 167, 0, 10, 42, 180, 0, 9, 184, 2, 120, 60, 27, 154, 0, 11, 42, 4]
abbrev dktJ12_hashCode_1 : List UInt8 := dkwJ12_hashCode_1 ++ dktJ12_hashCode_2
def dkwJ12_hashCode_0 : List UInt8 := [42, 180, 0, 19, 60, 27, 154, 0, 52, 42, 180, 0, 23, 154, 0, 45, 42, 182, 1, 236, 153, 0, 13, 42]
abbrev dktJ12_hashCode_0 : List UInt8 := dkwJ12_hashCode_0 ++ dktJ12_hashCode_1
theorem dksJ12_hashCode_0 : cJ12_hashCode.data.toList.drop 0 = dktJ12_hashCode_0 := by decide +kernel
theorem dksJ12_hashCode_1 : cJ12_hashCode.data.toList.drop 24 = dktJ12_hashCode_1 := dk_seg dksJ12_hashCode_0 24 rfl rfl
theorem dksJ12_hashCode_2 : cJ12_hashCode.data.toList.drop 47 = dktJ12_hashCode_2 := dk_seg dksJ12_hashCode_1 23 rfl rfl
theorem dJ12_hashCode_0 : decode cJ12_hashCode 0 = .ok (.aload_n 0, 1) := dk_42 (dk_at dksJ12_hashCode_0 0 rfl rfl)
theorem dJ12_hashCode_1 : decode cJ12_hashCode 1 = .ok (.getfield 19, 3) := dk_180 0 19 (dk_at dksJ12_hashCode_0 1 rfl rfl)
theorem dJ12_hashCode_4 : decode cJ12_hashCode 4 = .ok (.istore_n 1, 1) := dk_60 (dk_at dksJ12_hashCode_0 4 rfl rfl)
theorem dJ12_hashCode_5 : decode cJ12_hashCode 5 = .ok (.iload_n 1, 1) := dk_27 (dk_at dksJ12_hashCode_0 5 rfl rfl)
theorem dJ12_hashCode_6 : decode cJ12_hashCode 6 = .ok (.ifCond .ne 52, 3) := dk_154 0 52 (dk_at dksJ12_hashCode_0 6 rfl rfl)
theorem dJ12_hashCode_9 : decode cJ12_hashCode 9 = .ok (.aload_n 0, 1) := dk_42 (dk_at dksJ12_hashCode_0 9 rfl rfl)
theorem dJ12_hashCode_10 : decode cJ12_hashCode 10 = .ok (.getfield 23, 3) := dk_180 0 23 (dk_at dksJ12_hashCode_0 10 rfl rfl)
theorem dJ12_hashCode_13 : decode cJ12_hashCode 13 = .ok (.ifCond .ne 45, 3) := dk_154 0 45 (dk_at dksJ12_hashCode_0 13 rfl rfl)
theorem dJ12_hashCode_16 : decode cJ12_hashCode 16 = .ok (.aload_n 0, 1) := dk_42 (dk_at dksJ12_hashCode_0 16 rfl rfl)
theorem dJ12_hashCode_17 : decode cJ12_hashCode 17 = .ok (.invokevirtual 492, 3) := dk_182 1 236 (dk_at dksJ12_hashCode_0 17 rfl rfl)
theorem dJ12_hashCode_20 : decode cJ12_hashCode 20 = .ok (.ifCond .eq 13, 3) := dk_153 0 13 (dk_at dksJ12_hashCode_0 20 rfl rfl)
theorem dJ12_hashCode_23 : decode cJ12_hashCode 23 = .ok (.aload_n 0, 1) := dk_42 (dk_at dksJ12_hashCode_0 23 rfl rfl)
theorem dJ12_hashCode_24 : decode cJ12_hashCode 24 = .ok (.getfield 9, 3) := dk_180 0 9 (dk_at dksJ12_hashCode_1 0 rfl rfl)
theorem dJ12_hashCode_27 : decode cJ12_hashCode 27 = .ok (.invokestatic 628, 3) := dk_184 2 116 (dk_at dksJ12_hashCode_1 3 rfl rfl)
theorem dJ12_hashCode_30 : decode cJ12_hashCode 30 = .ok (.goto 10, 3) := dk_167 0 10 (dk_at dksJ12_hashCode_1 6 rfl rfl)
theorem dJ12_hashCode_33 : decode cJ12_hashCode 33 = .ok (.aload_n 0, 1) := dk_42 (dk_at dksJ12_hashCode_1 9 rfl rfl)
theorem dJ12_hashCode_34 : decode cJ12_hashCode 34 = .ok (.getfield 9, 3) := dk_180 0 9 (dk_at dksJ12_hashCode_1 10 rfl rfl)
theorem dJ12_hashCode_37 : decode cJ12_hashCode 37 = .ok (.invokestatic 632, 3) := dk_184 2 120 (dk_at dksJ12_hashCode_1 13 rfl rfl)
theorem dJ12_hashCode_40 : decode cJ12_hashCode 40 = .ok (.istore_n 1, 1) := dk_60 (dk_at dksJ12_hashCode_1 16 rfl rfl)
theorem dJ12_hashCode_41 : decode cJ12_hashCode 41 = .ok (.iload_n 1, 1) := dk_27 (dk_at dksJ12_hashCode_1 17 rfl rfl)
theorem dJ12_hashCode_42 : decode cJ12_hashCode 42 = .ok (.ifCond .ne 11, 3) := dk_154 0 11 (dk_at dksJ12_hashCode_1 18 rfl rfl)
theorem dJ12_hashCode_45 : decode cJ12_hashCode 45 = .ok (.aload_n 0, 1) := dk_42 (dk_at dksJ12_hashCode_1 21 rfl rfl)
theorem dJ12_hashCode_46 : decode cJ12_hashCode 46 = .ok (.iconst 1, 1) := dk_4 (dk_at dksJ12_hashCode_1 22 rfl rfl)
theorem dJ12_hashCode_47 : decode cJ12_hashCode 47 = .ok (.putfield 23, 3) := dk_181 0 23 (dk_at dksJ12_hashCode_2 0 rfl rfl)
theorem dJ12_hashCode_50 : decode cJ12_hashCode 50 = .ok (.goto 8, 3) := dk_167 0 8 (dk_at dksJ12_hashCode_2 3 rfl rfl)
theorem dJ12_hashCode_53 : decode cJ12_hashCode 53 = .ok (.aload_n 0, 1) := dk_42 (dk_at dksJ12_hashCode_2 6 rfl rfl)
theorem dJ12_hashCode_54 : decode cJ12_hashCode 54 = .ok (.iload_n 1, 1) := dk_27 (dk_at dksJ12_hashCode_2 7 rfl rfl)
theorem dJ12_hashCode_55 : decode cJ12_hashCode 55 = .ok (.putfield 19, 3) := dk_181 0 19 (dk_at dksJ12_hashCode_2 8 rfl rfl)
theorem dJ12_hashCode_58 : decode cJ12_hashCode 58 = .ok (.iload_n 1, 1) := dk_27 (dk_at dksJ12_hashCode_2 11 rfl rfl)
theorem dJ12_hashCode_59 : decode cJ12_hashCode 59 = .ok (.ireturn, 1) := dk_172 (dk_at dksJ12_hashCode_2 12 rfl rfl)
abbrev cJ12_isLatin1 : ByteArray := prog_34_method_154_code
def yJ12_isLatin1 : MethodName := ⟨RJ12, "isLatin1", "()Z"⟩
def dkwJ12_isLatin1_0 : List UInt8 := [178, 0, 38, 153, 0, 14, 42, 180, 0, 15, 154, 0, 7, 4, 167, 0, 4, 3, 172]
abbrev dktJ12_isLatin1_0 : List UInt8 := dkwJ12_isLatin1_0 ++ []
theorem dksJ12_isLatin1_0 : cJ12_isLatin1.data.toList.drop 0 = dktJ12_isLatin1_0 := by decide +kernel
theorem dJ12_isLatin1_0 : decode cJ12_isLatin1 0 = .ok (.getstatic 38, 3) := dk_178 0 38 (dk_at dksJ12_isLatin1_0 0 rfl rfl)
theorem dJ12_isLatin1_3 : decode cJ12_isLatin1 3 = .ok (.ifCond .eq 14, 3) := dk_153 0 14 (dk_at dksJ12_isLatin1_0 3 rfl rfl)
theorem dJ12_isLatin1_6 : decode cJ12_isLatin1 6 = .ok (.aload_n 0, 1) := dk_42 (dk_at dksJ12_isLatin1_0 6 rfl rfl)
theorem dJ12_isLatin1_7 : decode cJ12_isLatin1 7 = .ok (.getfield 15, 3) := dk_180 0 15 (dk_at dksJ12_isLatin1_0 7 rfl rfl)
theorem dJ12_isLatin1_10 : decode cJ12_isLatin1 10 = .ok (.ifCond .ne 7, 3) := dk_154 0 7 (dk_at dksJ12_isLatin1_0 10 rfl rfl)
theorem dJ12_isLatin1_13 : decode cJ12_isLatin1 13 = .ok (.iconst 1, 1) := dk_4 (dk_at dksJ12_isLatin1_0 13 rfl rfl)
theorem dJ12_isLatin1_14 : decode cJ12_isLatin1 14 = .ok (.goto 4, 3) := dk_167 0 4 (dk_at dksJ12_isLatin1_0 14 rfl rfl)
theorem dJ12_isLatin1_17 : decode cJ12_isLatin1 17 = .ok (.iconst 0, 1) := dk_3 (dk_at dksJ12_isLatin1_0 17 rfl rfl)
theorem dJ12_isLatin1_18 : decode cJ12_isLatin1 18 = .ok (.ireturn, 1) := dk_172 (dk_at dksJ12_isLatin1_0 18 rfl rfl)
abbrev cJ12_equals : ByteArray := prog_34_method_66_code
def yJ12_equals : MethodName := ⟨RJ12, "equals", "(Ljava/lang/Object;)Z"⟩
def dkwJ12_equals_2 : List UInt8 := [184, 2, 29, 153, 0, 7, 4, 167, 0, 4, 3, 172]
abbrev dktJ12_equals_2 : List UInt8 := dkwJ12_equals_2 ++ []
def dkwJ12_equals_1 : List UInt8 := [153, 0, 14, 42, 180, 0, 15, 44, 180, 0, 15, 160, 0, 21, 42, 180, 0, 9, 44, 180, 0, 9]
abbrev dktJ12_equals_1 : List UInt8 := dkwJ12_equals_1 ++ dktJ12_equals_2
def dkwJ12_equals_0 : List UInt8 := [42, 43, 166, 0, 5, 4, 172, 43, 193, 0, 10, 153, 0, 43, 43, 192, 0, 10, 77, 178, 0, 38]
abbrev dktJ12_equals_0 : List UInt8 := dkwJ12_equals_0 ++ dktJ12_equals_1
theorem dksJ12_equals_0 : cJ12_equals.data.toList.drop 0 = dktJ12_equals_0 := by decide +kernel
theorem dksJ12_equals_1 : cJ12_equals.data.toList.drop 22 = dktJ12_equals_1 := dk_seg dksJ12_equals_0 22 rfl rfl
theorem dksJ12_equals_2 : cJ12_equals.data.toList.drop 44 = dktJ12_equals_2 := dk_seg dksJ12_equals_1 22 rfl rfl
theorem dJ12_equals_0 : decode cJ12_equals 0 = .ok (.aload_n 0, 1) := dk_42 (dk_at dksJ12_equals_0 0 rfl rfl)
theorem dJ12_equals_1 : decode cJ12_equals 1 = .ok (.aload_n 1, 1) := dk_43 (dk_at dksJ12_equals_0 1 rfl rfl)
theorem dJ12_equals_2 : decode cJ12_equals 2 = .ok (.if_acmp .ne 5, 3) := dk_166 0 5 (dk_at dksJ12_equals_0 2 rfl rfl)
theorem dJ12_equals_5 : decode cJ12_equals 5 = .ok (.iconst 1, 1) := dk_4 (dk_at dksJ12_equals_0 5 rfl rfl)
theorem dJ12_equals_6 : decode cJ12_equals 6 = .ok (.ireturn, 1) := dk_172 (dk_at dksJ12_equals_0 6 rfl rfl)
theorem dJ12_equals_7 : decode cJ12_equals 7 = .ok (.aload_n 1, 1) := dk_43 (dk_at dksJ12_equals_0 7 rfl rfl)
theorem dJ12_equals_8 : decode cJ12_equals 8 = .ok (.instanceof 10, 3) := dk_193 0 10 (dk_at dksJ12_equals_0 8 rfl rfl)
theorem dJ12_equals_11 : decode cJ12_equals 11 = .ok (.ifCond .eq 43, 3) := dk_153 0 43 (dk_at dksJ12_equals_0 11 rfl rfl)
theorem dJ12_equals_14 : decode cJ12_equals 14 = .ok (.aload_n 1, 1) := dk_43 (dk_at dksJ12_equals_0 14 rfl rfl)
theorem dJ12_equals_15 : decode cJ12_equals 15 = .ok (.checkcast 10, 3) := dk_192 0 10 (dk_at dksJ12_equals_0 15 rfl rfl)
theorem dJ12_equals_18 : decode cJ12_equals 18 = .ok (.astore_n 2, 1) := dk_77 (dk_at dksJ12_equals_0 18 rfl rfl)
theorem dJ12_equals_19 : decode cJ12_equals 19 = .ok (.getstatic 38, 3) := dk_178 0 38 (dk_at dksJ12_equals_0 19 rfl rfl)
theorem dJ12_equals_22 : decode cJ12_equals 22 = .ok (.ifCond .eq 14, 3) := dk_153 0 14 (dk_at dksJ12_equals_1 0 rfl rfl)
theorem dJ12_equals_25 : decode cJ12_equals 25 = .ok (.aload_n 0, 1) := dk_42 (dk_at dksJ12_equals_1 3 rfl rfl)
theorem dJ12_equals_26 : decode cJ12_equals 26 = .ok (.getfield 15, 3) := dk_180 0 15 (dk_at dksJ12_equals_1 4 rfl rfl)
theorem dJ12_equals_29 : decode cJ12_equals 29 = .ok (.aload_n 2, 1) := dk_44 (dk_at dksJ12_equals_1 7 rfl rfl)
theorem dJ12_equals_30 : decode cJ12_equals 30 = .ok (.getfield 15, 3) := dk_180 0 15 (dk_at dksJ12_equals_1 8 rfl rfl)
theorem dJ12_equals_33 : decode cJ12_equals 33 = .ok (.if_icmp .ne 21, 3) := dk_160 0 21 (dk_at dksJ12_equals_1 11 rfl rfl)
theorem dJ12_equals_36 : decode cJ12_equals 36 = .ok (.aload_n 0, 1) := dk_42 (dk_at dksJ12_equals_1 14 rfl rfl)
theorem dJ12_equals_37 : decode cJ12_equals 37 = .ok (.getfield 9, 3) := dk_180 0 9 (dk_at dksJ12_equals_1 15 rfl rfl)
theorem dJ12_equals_40 : decode cJ12_equals 40 = .ok (.aload_n 2, 1) := dk_44 (dk_at dksJ12_equals_1 18 rfl rfl)
theorem dJ12_equals_41 : decode cJ12_equals 41 = .ok (.getfield 9, 3) := dk_180 0 9 (dk_at dksJ12_equals_1 19 rfl rfl)
theorem dJ12_equals_44 : decode cJ12_equals 44 = .ok (.invokestatic 541, 3) := dk_184 2 29 (dk_at dksJ12_equals_2 0 rfl rfl)
theorem dJ12_equals_47 : decode cJ12_equals 47 = .ok (.ifCond .eq 7, 3) := dk_153 0 7 (dk_at dksJ12_equals_2 3 rfl rfl)
theorem dJ12_equals_50 : decode cJ12_equals 50 = .ok (.iconst 1, 1) := dk_4 (dk_at dksJ12_equals_2 6 rfl rfl)
theorem dJ12_equals_51 : decode cJ12_equals 51 = .ok (.goto 4, 3) := dk_167 0 4 (dk_at dksJ12_equals_2 7 rfl rfl)
theorem dJ12_equals_54 : decode cJ12_equals 54 = .ok (.iconst 0, 1) := dk_3 (dk_at dksJ12_equals_2 10 rfl rfl)
theorem dJ12_equals_55 : decode cJ12_equals 55 = .ok (.ireturn, 1) := dk_172 (dk_at dksJ12_equals_2 11 rfl rfl)
abbrev cJ12_compareTo : ByteArray := prog_34_method_162_code
def yJ12_compareTo : MethodName := ⟨RJ12, "compareTo", "(Ljava/lang/Object;)I"⟩
def dkwJ12_compareTo_0 : List UInt8 := [42, 43, 192, 0, 10, 182, 4, 60, 172]
abbrev dktJ12_compareTo_0 : List UInt8 := dkwJ12_compareTo_0 ++ []
theorem dksJ12_compareTo_0 : cJ12_compareTo.data.toList.drop 0 = dktJ12_compareTo_0 := by decide +kernel
theorem dJ12_compareTo_0 : decode cJ12_compareTo 0 = .ok (.aload_n 0, 1) := dk_42 (dk_at dksJ12_compareTo_0 0 rfl rfl)
theorem dJ12_compareTo_1 : decode cJ12_compareTo 1 = .ok (.aload_n 1, 1) := dk_43 (dk_at dksJ12_compareTo_0 1 rfl rfl)
theorem dJ12_compareTo_2 : decode cJ12_compareTo 2 = .ok (.checkcast 10, 3) := dk_192 0 10 (dk_at dksJ12_compareTo_0 2 rfl rfl)
theorem dJ12_compareTo_5 : decode cJ12_compareTo 5 = .ok (.invokevirtual 1084, 3) := dk_182 4 60 (dk_at dksJ12_compareTo_0 5 rfl rfl)
theorem dJ12_compareTo_8 : decode cJ12_compareTo 8 = .ok (.ireturn, 1) := dk_172 (dk_at dksJ12_compareTo_0 8 rfl rfl)
abbrev cJ12_compareTo_2 : ByteArray := prog_34_method_71_code
def yJ12_compareTo_2 : MethodName := ⟨RJ12, "compareTo", "(Ljava/lang/String;)I"⟩
def dkwJ12_compareTo_2_2 : List UInt8 := [154, 0, 11, 44, 45, 184, 2, 79, 167, 0, 8, 44, 45, 184, 2, 82, 172]
abbrev dktJ12_compareTo_2_2 : List UInt8 := dkwJ12_compareTo_2_2 ++ []
def dkwJ12_compareTo_2_1 : List UInt8 := [160, 0, 22, 21, 4, 154, 0, 11, 44, 45, 184, 2, 74, 167, 0, 8, 44, 45, 184, 2, 78, 172, 21, 4]
abbrev dktJ12_compareTo_2_1 : List UInt8 := dkwJ12_compareTo_2_1 ++ dktJ12_compareTo_2_2
def dkwJ12_compareTo_2_0 : List UInt8 := [42, 180, 0, 9, 77, 43, 180, 0, 9, 78, 42, 182, 1, 79, 54, 4, 21, 4, 43, 182, 1, 79]
abbrev dktJ12_compareTo_2_0 : List UInt8 := dkwJ12_compareTo_2_0 ++ dktJ12_compareTo_2_1
theorem dksJ12_compareTo_2_0 : cJ12_compareTo_2.data.toList.drop 0 = dktJ12_compareTo_2_0 := by decide +kernel
theorem dksJ12_compareTo_2_1 : cJ12_compareTo_2.data.toList.drop 22 = dktJ12_compareTo_2_1 := dk_seg dksJ12_compareTo_2_0 22 rfl rfl
theorem dksJ12_compareTo_2_2 : cJ12_compareTo_2.data.toList.drop 46 = dktJ12_compareTo_2_2 := dk_seg dksJ12_compareTo_2_1 24 rfl rfl
theorem dJ12_compareTo_2_0 : decode cJ12_compareTo_2 0 = .ok (.aload_n 0, 1) := dk_42 (dk_at dksJ12_compareTo_2_0 0 rfl rfl)
theorem dJ12_compareTo_2_1 : decode cJ12_compareTo_2 1 = .ok (.getfield 9, 3) := dk_180 0 9 (dk_at dksJ12_compareTo_2_0 1 rfl rfl)
theorem dJ12_compareTo_2_4 : decode cJ12_compareTo_2 4 = .ok (.astore_n 2, 1) := dk_77 (dk_at dksJ12_compareTo_2_0 4 rfl rfl)
theorem dJ12_compareTo_2_5 : decode cJ12_compareTo_2 5 = .ok (.aload_n 1, 1) := dk_43 (dk_at dksJ12_compareTo_2_0 5 rfl rfl)
theorem dJ12_compareTo_2_6 : decode cJ12_compareTo_2 6 = .ok (.getfield 9, 3) := dk_180 0 9 (dk_at dksJ12_compareTo_2_0 6 rfl rfl)
theorem dJ12_compareTo_2_9 : decode cJ12_compareTo_2 9 = .ok (.astore_n 3, 1) := dk_78 (dk_at dksJ12_compareTo_2_0 9 rfl rfl)
theorem dJ12_compareTo_2_10 : decode cJ12_compareTo_2 10 = .ok (.aload_n 0, 1) := dk_42 (dk_at dksJ12_compareTo_2_0 10 rfl rfl)
theorem dJ12_compareTo_2_11 : decode cJ12_compareTo_2 11 = .ok (.invokevirtual 335, 3) := dk_182 1 79 (dk_at dksJ12_compareTo_2_0 11 rfl rfl)
theorem dJ12_compareTo_2_14 : decode cJ12_compareTo_2 14 = .ok (.istore 4, 2) := dk_54 4 (dk_at dksJ12_compareTo_2_0 14 rfl rfl)
theorem dJ12_compareTo_2_16 : decode cJ12_compareTo_2 16 = .ok (.iload 4, 2) := dk_21 4 (dk_at dksJ12_compareTo_2_0 16 rfl rfl)
theorem dJ12_compareTo_2_18 : decode cJ12_compareTo_2 18 = .ok (.aload_n 1, 1) := dk_43 (dk_at dksJ12_compareTo_2_0 18 rfl rfl)
theorem dJ12_compareTo_2_19 : decode cJ12_compareTo_2 19 = .ok (.invokevirtual 335, 3) := dk_182 1 79 (dk_at dksJ12_compareTo_2_0 19 rfl rfl)
theorem dJ12_compareTo_2_22 : decode cJ12_compareTo_2 22 = .ok (.if_icmp .ne 22, 3) := dk_160 0 22 (dk_at dksJ12_compareTo_2_1 0 rfl rfl)
theorem dJ12_compareTo_2_25 : decode cJ12_compareTo_2 25 = .ok (.iload 4, 2) := dk_21 4 (dk_at dksJ12_compareTo_2_1 3 rfl rfl)
theorem dJ12_compareTo_2_27 : decode cJ12_compareTo_2 27 = .ok (.ifCond .ne 11, 3) := dk_154 0 11 (dk_at dksJ12_compareTo_2_1 5 rfl rfl)
theorem dJ12_compareTo_2_30 : decode cJ12_compareTo_2 30 = .ok (.aload_n 2, 1) := dk_44 (dk_at dksJ12_compareTo_2_1 8 rfl rfl)
theorem dJ12_compareTo_2_31 : decode cJ12_compareTo_2 31 = .ok (.aload_n 3, 1) := dk_45 (dk_at dksJ12_compareTo_2_1 9 rfl rfl)
theorem dJ12_compareTo_2_32 : decode cJ12_compareTo_2 32 = .ok (.invokestatic 586, 3) := dk_184 2 74 (dk_at dksJ12_compareTo_2_1 10 rfl rfl)
theorem dJ12_compareTo_2_35 : decode cJ12_compareTo_2 35 = .ok (.goto 8, 3) := dk_167 0 8 (dk_at dksJ12_compareTo_2_1 13 rfl rfl)
theorem dJ12_compareTo_2_38 : decode cJ12_compareTo_2 38 = .ok (.aload_n 2, 1) := dk_44 (dk_at dksJ12_compareTo_2_1 16 rfl rfl)
theorem dJ12_compareTo_2_39 : decode cJ12_compareTo_2 39 = .ok (.aload_n 3, 1) := dk_45 (dk_at dksJ12_compareTo_2_1 17 rfl rfl)
theorem dJ12_compareTo_2_40 : decode cJ12_compareTo_2 40 = .ok (.invokestatic 590, 3) := dk_184 2 78 (dk_at dksJ12_compareTo_2_1 18 rfl rfl)
theorem dJ12_compareTo_2_43 : decode cJ12_compareTo_2 43 = .ok (.ireturn, 1) := dk_172 (dk_at dksJ12_compareTo_2_1 21 rfl rfl)
theorem dJ12_compareTo_2_44 : decode cJ12_compareTo_2 44 = .ok (.iload 4, 2) := dk_21 4 (dk_at dksJ12_compareTo_2_1 22 rfl rfl)
theorem dJ12_compareTo_2_46 : decode cJ12_compareTo_2 46 = .ok (.ifCond .ne 11, 3) := dk_154 0 11 (dk_at dksJ12_compareTo_2_2 0 rfl rfl)
theorem dJ12_compareTo_2_49 : decode cJ12_compareTo_2 49 = .ok (.aload_n 2, 1) := dk_44 (dk_at dksJ12_compareTo_2_2 3 rfl rfl)
theorem dJ12_compareTo_2_50 : decode cJ12_compareTo_2 50 = .ok (.aload_n 3, 1) := dk_45 (dk_at dksJ12_compareTo_2_2 4 rfl rfl)
theorem dJ12_compareTo_2_51 : decode cJ12_compareTo_2 51 = .ok (.invokestatic 591, 3) := dk_184 2 79 (dk_at dksJ12_compareTo_2_2 5 rfl rfl)
theorem dJ12_compareTo_2_54 : decode cJ12_compareTo_2 54 = .ok (.goto 8, 3) := dk_167 0 8 (dk_at dksJ12_compareTo_2_2 8 rfl rfl)
theorem dJ12_compareTo_2_57 : decode cJ12_compareTo_2 57 = .ok (.aload_n 2, 1) := dk_44 (dk_at dksJ12_compareTo_2_2 11 rfl rfl)
theorem dJ12_compareTo_2_58 : decode cJ12_compareTo_2 58 = .ok (.aload_n 3, 1) := dk_45 (dk_at dksJ12_compareTo_2_2 12 rfl rfl)
theorem dJ12_compareTo_2_59 : decode cJ12_compareTo_2 59 = .ok (.invokestatic 594, 3) := dk_184 2 82 (dk_at dksJ12_compareTo_2_2 13 rfl rfl)
theorem dJ12_compareTo_2_62 : decode cJ12_compareTo_2 62 = .ok (.ireturn, 1) := dk_172 (dk_at dksJ12_compareTo_2_2 16 rfl rfl)
abbrev cJ12_checkOffset : ByteArray := prog_34_method_156_code
def yJ12_checkOffset : MethodName := ⟨RJ12, "checkOffset", "(II)V"⟩
def dkwJ12_checkOffset_0 : List UInt8 := [26, 27, 27, 178, 4, 29, 184, 4, 38, 87, 177]
abbrev dktJ12_checkOffset_0 : List UInt8 := dkwJ12_checkOffset_0 ++ []
theorem dksJ12_checkOffset_0 : cJ12_checkOffset.data.toList.drop 0 = dktJ12_checkOffset_0 := by decide +kernel
theorem dJ12_checkOffset_0 : decode cJ12_checkOffset 0 = .ok (.iload_n 0, 1) := dk_26 (dk_at dksJ12_checkOffset_0 0 rfl rfl)
theorem dJ12_checkOffset_1 : decode cJ12_checkOffset 1 = .ok (.iload_n 1, 1) := dk_27 (dk_at dksJ12_checkOffset_0 1 rfl rfl)
theorem dJ12_checkOffset_2 : decode cJ12_checkOffset 2 = .ok (.iload_n 1, 1) := dk_27 (dk_at dksJ12_checkOffset_0 2 rfl rfl)
theorem dJ12_checkOffset_3 : decode cJ12_checkOffset 3 = .ok (.getstatic 1053, 3) := dk_178 4 29 (dk_at dksJ12_checkOffset_0 3 rfl rfl)
theorem dJ12_checkOffset_6 : decode cJ12_checkOffset 6 = .ok (.invokestatic 1062, 3) := dk_184 4 38 (dk_at dksJ12_checkOffset_0 6 rfl rfl)
theorem dJ12_checkOffset_9 : decode cJ12_checkOffset 9 = .ok (.pop, 1) := dk_87 (dk_at dksJ12_checkOffset_0 9 rfl rfl)
theorem dJ12_checkOffset_10 : decode cJ12_checkOffset 10 = .ok (.return_, 1) := dk_177 (dk_at dksJ12_checkOffset_0 10 rfl rfl)
abbrev cJ12_checkIndex : ByteArray := prog_34_method_155_code
def yJ12_checkIndex : MethodName := ⟨RJ12, "checkIndex", "(II)V"⟩
def dkwJ12_checkIndex_0 : List UInt8 := [26, 27, 178, 4, 29, 184, 4, 35, 87, 177]
abbrev dktJ12_checkIndex_0 : List UInt8 := dkwJ12_checkIndex_0 ++ []
theorem dksJ12_checkIndex_0 : cJ12_checkIndex.data.toList.drop 0 = dktJ12_checkIndex_0 := by decide +kernel
theorem dJ12_checkIndex_0 : decode cJ12_checkIndex 0 = .ok (.iload_n 0, 1) := dk_26 (dk_at dksJ12_checkIndex_0 0 rfl rfl)
theorem dJ12_checkIndex_1 : decode cJ12_checkIndex 1 = .ok (.iload_n 1, 1) := dk_27 (dk_at dksJ12_checkIndex_0 1 rfl rfl)
theorem dJ12_checkIndex_2 : decode cJ12_checkIndex 2 = .ok (.getstatic 1053, 3) := dk_178 4 29 (dk_at dksJ12_checkIndex_0 2 rfl rfl)
theorem dJ12_checkIndex_5 : decode cJ12_checkIndex 5 = .ok (.invokestatic 1059, 3) := dk_184 4 35 (dk_at dksJ12_checkIndex_0 5 rfl rfl)
theorem dJ12_checkIndex_8 : decode cJ12_checkIndex 8 = .ok (.pop, 1) := dk_87 (dk_at dksJ12_checkIndex_0 8 rfl rfl)
theorem dJ12_checkIndex_9 : decode cJ12_checkIndex 9 = .ok (.return_, 1) := dk_177 (dk_at dksJ12_checkIndex_0 9 rfl rfl)
abbrev cJ12_charAt : ByteArray := prog_34_method_56_code
def yJ12_charAt : MethodName := ⟨RJ12, "charAt", "(I)C"⟩
def dkwJ12_charAt_1 : List UInt8 := [172]
abbrev dktJ12_charAt_1 : List UInt8 := dkwJ12_charAt_1 ++ []
def dkwJ12_charAt_0 : List UInt8 := [42, 182, 1, 236, 153, 0, 12, 42, 180, 0, 9, 27, 184, 1, 239, 172, 42, 180, 0, 9, 27, 184, 1, 242]
abbrev dktJ12_charAt_0 : List UInt8 := dkwJ12_charAt_0 ++ dktJ12_charAt_1
theorem dksJ12_charAt_0 : cJ12_charAt.data.toList.drop 0 = dktJ12_charAt_0 := by decide +kernel
theorem dksJ12_charAt_1 : cJ12_charAt.data.toList.drop 24 = dktJ12_charAt_1 := dk_seg dksJ12_charAt_0 24 rfl rfl
theorem dJ12_charAt_0 : decode cJ12_charAt 0 = .ok (.aload_n 0, 1) := dk_42 (dk_at dksJ12_charAt_0 0 rfl rfl)
theorem dJ12_charAt_1 : decode cJ12_charAt 1 = .ok (.invokevirtual 492, 3) := dk_182 1 236 (dk_at dksJ12_charAt_0 1 rfl rfl)
theorem dJ12_charAt_4 : decode cJ12_charAt 4 = .ok (.ifCond .eq 12, 3) := dk_153 0 12 (dk_at dksJ12_charAt_0 4 rfl rfl)
theorem dJ12_charAt_7 : decode cJ12_charAt 7 = .ok (.aload_n 0, 1) := dk_42 (dk_at dksJ12_charAt_0 7 rfl rfl)
theorem dJ12_charAt_8 : decode cJ12_charAt 8 = .ok (.getfield 9, 3) := dk_180 0 9 (dk_at dksJ12_charAt_0 8 rfl rfl)
theorem dJ12_charAt_11 : decode cJ12_charAt 11 = .ok (.iload_n 1, 1) := dk_27 (dk_at dksJ12_charAt_0 11 rfl rfl)
theorem dJ12_charAt_12 : decode cJ12_charAt 12 = .ok (.invokestatic 495, 3) := dk_184 1 239 (dk_at dksJ12_charAt_0 12 rfl rfl)
theorem dJ12_charAt_15 : decode cJ12_charAt 15 = .ok (.ireturn, 1) := dk_172 (dk_at dksJ12_charAt_0 15 rfl rfl)
theorem dJ12_charAt_16 : decode cJ12_charAt 16 = .ok (.aload_n 0, 1) := dk_42 (dk_at dksJ12_charAt_0 16 rfl rfl)
theorem dJ12_charAt_17 : decode cJ12_charAt 17 = .ok (.getfield 9, 3) := dk_180 0 9 (dk_at dksJ12_charAt_0 17 rfl rfl)
theorem dJ12_charAt_20 : decode cJ12_charAt 20 = .ok (.iload_n 1, 1) := dk_27 (dk_at dksJ12_charAt_0 20 rfl rfl)
theorem dJ12_charAt_21 : decode cJ12_charAt 21 = .ok (.invokestatic 498, 3) := dk_184 1 242 (dk_at dksJ12_charAt_0 21 rfl rfl)
theorem dJ12_charAt_24 : decode cJ12_charAt 24 = .ok (.ireturn, 1) := dk_172 (dk_at dksJ12_charAt_1 0 rfl rfl)
theorem q116 : (Jvm.Cond.initialized "java/lang/String") ∈ lw_all := lw_g (lw_at lw_m1 22 rfl) rfl
theorem q558 : (Jvm.Cond.laysStatic "java/lang/String" "COMPACT_STRINGS" "Z") ∈ lw_tbl := lw_at lw_m2 224 rfl
theorem q568 : (Jvm.Cond.fieldLink "java/lang/String" (1048 : Nat) "java/lang/AbstractStringBuilder" "maybeLatin1" "Z") ∈ lw_all := lw_g (lw_at lw_m2 234 rfl) rfl
theorem q641 : (Jvm.Cond.static ({ cls := "java/lang/String", name := "checkBoundsBeginEnd", desc := "(III)V" } : Jvm.MethodName)) ∈ lw_all := lw_g (lw_at lw_m3 67 rfl) rfl
theorem q642 : (Jvm.Cond.code ({ cls := "java/lang/String", name := "checkBoundsBeginEnd", desc := "(III)V" } : Jvm.MethodName) prog_34_method_158_code (3 : Nat) (Option.none : Option Jvm.ClassFile.FieldType)) ∈ lw_all := lw_g (lw_at lw_m3 68 rfl) rfl
theorem q643 : (Jvm.Cond.fieldLink "java/lang/String" (1053 : Nat) "jdk/internal/util/Preconditions" "SIOOBE_FORMATTER" "Ljava/util/function/BiFunction;") ∈ lw_all := lw_g (lw_at lw_m3 69 rfl) rfl
theorem q645 : (Jvm.Cond.methodLink "java/lang/String" (1062 : Nat) ({ cls := "jdk/internal/util/Preconditions", name := "checkFromToIndex", desc := "(IIILjava/util/function/BiFunction;)I" } : Jvm.MethodName)) ∈ lw_all := lw_g (lw_at lw_m3 71 rfl) rfl
theorem q658 : (Jvm.Cond.instanceMethod ({ cls := "java/lang/String", name := "length", desc := "()I" } : Jvm.MethodName)) ∈ lw_all := lw_g (lw_at lw_m3 84 rfl) rfl
theorem q659 : (Jvm.Cond.selects "java/lang/String" ({ cls := "java/lang/String", name := "length", desc := "()I" } : Jvm.MethodName) ({ cls := "java/lang/String", name := "length", desc := "()I" } : Jvm.MethodName)) ∈ lw_all := lw_g (lw_at lw_m3 85 rfl) rfl
theorem q660 : (Jvm.Cond.code ({ cls := "java/lang/String", name := "length", desc := "()I" } : Jvm.MethodName) prog_34_method_54_code (1 : Nat) (Option.some Jvm.ClassFile.FieldType.int)) ∈ lw_all := lw_g (lw_at lw_m3 86 rfl) rfl
theorem q661 : (Jvm.Cond.methodLink "java/lang/String" (335 : Nat) ({ cls := "java/lang/String", name := "coder", desc := "()B" } : Jvm.MethodName)) ∈ lw_all := lw_g (lw_at lw_m3 87 rfl) rfl
theorem q662 : (Jvm.Cond.instanceMethod ({ cls := "java/lang/String", name := "coder", desc := "()B" } : Jvm.MethodName)) ∈ lw_all := lw_g (lw_at lw_m3 88 rfl) rfl
theorem q663 : (Jvm.Cond.selects "java/lang/String" ({ cls := "java/lang/String", name := "coder", desc := "()B" } : Jvm.MethodName) ({ cls := "java/lang/String", name := "coder", desc := "()B" } : Jvm.MethodName)) ∈ lw_all := lw_g (lw_at lw_m3 89 rfl) rfl
theorem q664 : (Jvm.Cond.code ({ cls := "java/lang/String", name := "coder", desc := "()B" } : Jvm.MethodName) prog_34_method_152_code (1 : Nat) (Option.some Jvm.ClassFile.FieldType.byte)) ∈ lw_all := lw_g (lw_at lw_m3 90 rfl) rfl
theorem q665 : (Jvm.Cond.fieldLink "java/lang/String" (38 : Nat) "java/lang/String" "COMPACT_STRINGS" "Z") ∈ lw_all := lw_g (lw_at lw_m3 91 rfl) rfl
theorem q689 : (Jvm.Cond.static ({ cls := "java/lang/String", name := "checkBoundsOffCount", desc := "(III)I" } : Jvm.MethodName)) ∈ lw_all := lw_g (lw_at lw_m3 115 rfl) rfl
theorem q690 : (Jvm.Cond.code ({ cls := "java/lang/String", name := "checkBoundsOffCount", desc := "(III)I" } : Jvm.MethodName) prog_34_method_157_code (3 : Nat) (Option.some Jvm.ClassFile.FieldType.int)) ∈ lw_all := lw_g (lw_at lw_m3 116 rfl) rfl
theorem q691 : (Jvm.Cond.methodLink "java/lang/String" (1065 : Nat) ({ cls := "jdk/internal/util/Preconditions", name := "checkFromIndexSize", desc := "(IIILjava/util/function/BiFunction;)I" } : Jvm.MethodName)) ∈ lw_all := lw_g (lw_at lw_m3 117 rfl) rfl
theorem q695 : (Jvm.Cond.instanceMethod ({ cls := "java/lang/String", name := "getBytes", desc := "([BIB)V" } : Jvm.MethodName)) ∈ lw_all := lw_g (lw_at lw_m3 121 rfl) rfl
theorem q696 : (Jvm.Cond.selects "java/lang/String" ({ cls := "java/lang/String", name := "getBytes", desc := "([BIB)V" } : Jvm.MethodName) ({ cls := "java/lang/String", name := "getBytes", desc := "([BIB)V" } : Jvm.MethodName)) ∈ lw_all := lw_g (lw_at lw_m3 122 rfl) rfl
theorem q697 : (Jvm.Cond.code ({ cls := "java/lang/String", name := "getBytes", desc := "([BIB)V" } : Jvm.MethodName) prog_34_method_147_code (4 : Nat) (Option.none : Option Jvm.ClassFile.FieldType)) ∈ lw_all := lw_g (lw_at lw_m3 123 rfl) rfl
theorem q698 : (Jvm.Cond.methodLink "java/lang/String" (212 : Nat) ({ cls := "java/lang/System", name := "arraycopy", desc := "(Ljava/lang/Object;ILjava/lang/Object;II)V" } : Jvm.MethodName)) ∈ lw_all := lw_g (lw_at lw_m3 124 rfl) rfl
theorem q699 : (Jvm.Cond.methodLink "java/lang/String" (106 : Nat) ({ cls := "java/lang/StringLatin1", name := "inflate", desc := "([BI[BII)V" } : Jvm.MethodName)) ∈ lw_all := lw_g (lw_at lw_m3 125 rfl) rfl
theorem q736 : (Jvm.Cond.instantiable "java/lang/String" (4 : Nat)) ∈ lw_all := lw_g (lw_at lw_m3 162 rfl) rfl
theorem q738 : (Jvm.Cond.instanceMethod ({ cls := "java/lang/String", name := "<init>", desc := "(Ljava/lang/StringBuilder;)V" } : Jvm.MethodName)) ∈ lw_all := lw_g (lw_at lw_m3 164 rfl) rfl
theorem q739 : (Jvm.Cond.code ({ cls := "java/lang/String", name := "<init>", desc := "(Ljava/lang/StringBuilder;)V" } : Jvm.MethodName) prog_34_method_53_code (2 : Nat) (Option.none : Option Jvm.ClassFile.FieldType)) ∈ lw_all := lw_g (lw_at lw_m3 165 rfl) rfl
theorem q740 : (Jvm.Cond.methodLink "java/lang/String" (489 : Nat) ({ cls := "java/lang/String", name := "<init>", desc := "(Ljava/lang/AbstractStringBuilder;Ljava/lang/Void;)V" } : Jvm.MethodName)) ∈ lw_all := lw_g (lw_at lw_m3 166 rfl) rfl
theorem q741 : (Jvm.Cond.instanceMethod ({ cls := "java/lang/String", name := "<init>", desc := "(Ljava/lang/AbstractStringBuilder;Ljava/lang/Void;)V" } : Jvm.MethodName)) ∈ lw_all := lw_g (lw_at lw_m3 167 rfl) rfl
theorem q742 : (Jvm.Cond.code ({ cls := "java/lang/String", name := "<init>", desc := "(Ljava/lang/AbstractStringBuilder;Ljava/lang/Void;)V" } : Jvm.MethodName) prog_34_method_150_code (5 : Nat) (Option.none : Option Jvm.ClassFile.FieldType)) ∈ lw_all := lw_g (lw_at lw_m3 168 rfl) rfl
theorem q743 : (Jvm.Cond.methodLink "java/lang/String" (1 : Nat) ({ cls := "java/lang/Object", name := "<init>", desc := "()V" } : Jvm.MethodName)) ∈ lw_all := lw_g (lw_at lw_m3 169 rfl) rfl
theorem q744 : (Jvm.Cond.methodLink "java/lang/String" (552 : Nat) ({ cls := "java/lang/AbstractStringBuilder", name := "getValue", desc := "()[B" } : Jvm.MethodName)) ∈ lw_all := lw_g (lw_at lw_m3 170 rfl) rfl
theorem q749 : (Jvm.Cond.methodLink "java/lang/String" (549 : Nat) ({ cls := "java/lang/AbstractStringBuilder", name := "length", desc := "()I" } : Jvm.MethodName)) ∈ lw_all := lw_g (lw_at lw_m3 175 rfl) rfl
theorem q757 : (Jvm.Cond.methodLink "java/lang/String" (1047 : Nat) ({ cls := "java/lang/AbstractStringBuilder", name := "isLatin1", desc := "()Z" } : Jvm.MethodName)) ∈ lw_all := lw_g (lw_at lw_m3 183 rfl) rfl
theorem q758 : (Jvm.Cond.methodLink "java/lang/String" (54 : Nat) ({ cls := "java/util/Arrays", name := "copyOfRange", desc := "([BII)[B" } : Jvm.MethodName)) ∈ lw_all := lw_g (lw_at lw_m3 184 rfl) rfl
theorem q807 : (Jvm.Cond.methodLink "java/lang/String" (1051 : Nat) ({ cls := "java/lang/StringUTF16", name := "compress", desc := "([BII)[B" } : Jvm.MethodName)) ∈ lw_all := lw_g (lw_at lw_m3 233 rfl) rfl
theorem q817 : (Jvm.Cond.methodLink "java/lang/String" (47 : Nat) ({ cls := "java/lang/StringUTF16", name := "coderFromArrayLen", desc := "([BI)B" } : Jvm.MethodName)) ∈ lw_all := lw_g (lw_at lw_m4 3 rfl) rfl
theorem q820 : (Jvm.Cond.fieldLink "java/lang/String" (9 : Nat) "java/lang/String" "value" "[B") ∈ lw_all := lw_g (lw_at lw_m4 6 rfl) rfl
theorem q821 : (Jvm.Cond.fieldLink "java/lang/String" (15 : Nat) "java/lang/String" "coder" "B") ∈ lw_all := lw_g (lw_at lw_m4 7 rfl) rfl
theorem q822 : (Jvm.Cond.fieldLink "java/lang/String" (19 : Nat) "java/lang/String" "hash" "I") ∈ lw_all := lw_g (lw_at lw_m4 8 rfl) rfl
theorem q823 : (Jvm.Cond.fieldLink "java/lang/String" (23 : Nat) "java/lang/String" "hashIsZero" "Z") ∈ lw_all := lw_g (lw_at lw_m4 9 rfl) rfl
theorem q824 : (Jvm.Cond.laysFinal "java/lang/String" "java/lang/String" "value" "[B") ∈ lw_all := lw_g (lw_at lw_m4 10 rfl) rfl
theorem q825 : (Jvm.Cond.soleField "java/lang/String" "value") ∈ lw_all := lw_g (lw_at lw_m4 11 rfl) rfl
theorem q826 : (Jvm.Cond.laysFinal "java/lang/String" "java/lang/String" "coder" "B") ∈ lw_all := lw_g (lw_at lw_m4 12 rfl) rfl
theorem q827 : (Jvm.Cond.soleField "java/lang/String" "coder") ∈ lw_all := lw_g (lw_at lw_m4 13 rfl) rfl
theorem q828 : (Jvm.Cond.lays "java/lang/String" "java/lang/String" "hash" "I") ∈ lw_all := lw_g (lw_at lw_m4 14 rfl) rfl
theorem q829 : (Jvm.Cond.soleField "java/lang/String" "hash") ∈ lw_all := lw_g (lw_at lw_m4 15 rfl) rfl
theorem q830 : (Jvm.Cond.lays "java/lang/String" "java/lang/String" "hashIsZero" "Z") ∈ lw_all := lw_g (lw_at lw_m4 16 rfl) rfl
theorem q831 : (Jvm.Cond.soleField "java/lang/String" "hashIsZero") ∈ lw_all := lw_g (lw_at lw_m4 17 rfl) rfl
theorem q832 : (Jvm.Cond.superclass "java/lang/String" "java/lang/Object") ∈ lw_all := lw_g (lw_at lw_m4 18 rfl) rfl
theorem q906 : (Jvm.Cond.instanceMethod ({ cls := "java/lang/String", name := "hashCode", desc := "()I" } : Jvm.MethodName)) ∈ lw_all := lw_g (lw_at lw_m4 92 rfl) rfl
theorem q907 : (Jvm.Cond.selects "java/lang/String" ({ cls := "java/lang/String", name := "hashCode", desc := "()I" } : Jvm.MethodName) ({ cls := "java/lang/String", name := "hashCode", desc := "()I" } : Jvm.MethodName)) ∈ lw_all := lw_g (lw_at lw_m4 93 rfl) rfl
theorem q908 : (Jvm.Cond.code ({ cls := "java/lang/String", name := "hashCode", desc := "()I" } : Jvm.MethodName) prog_34_method_78_code (2 : Nat) (Option.some Jvm.ClassFile.FieldType.int)) ∈ lw_all := lw_g (lw_at lw_m4 94 rfl) rfl
theorem q909 : (Jvm.Cond.methodLink "java/lang/String" (492 : Nat) ({ cls := "java/lang/String", name := "isLatin1", desc := "()Z" } : Jvm.MethodName)) ∈ lw_all := lw_g (lw_at lw_m4 95 rfl) rfl
theorem q910 : (Jvm.Cond.instanceMethod ({ cls := "java/lang/String", name := "isLatin1", desc := "()Z" } : Jvm.MethodName)) ∈ lw_all := lw_g (lw_at lw_m4 96 rfl) rfl
theorem q911 : (Jvm.Cond.selects "java/lang/String" ({ cls := "java/lang/String", name := "isLatin1", desc := "()Z" } : Jvm.MethodName) ({ cls := "java/lang/String", name := "isLatin1", desc := "()Z" } : Jvm.MethodName)) ∈ lw_all := lw_g (lw_at lw_m4 97 rfl) rfl
theorem q912 : (Jvm.Cond.code ({ cls := "java/lang/String", name := "isLatin1", desc := "()Z" } : Jvm.MethodName) prog_34_method_154_code (1 : Nat) (Option.some Jvm.ClassFile.FieldType.boolean)) ∈ lw_all := lw_g (lw_at lw_m4 98 rfl) rfl
theorem q913 : (Jvm.Cond.methodLink "java/lang/String" (628 : Nat) ({ cls := "java/lang/StringLatin1", name := "hashCode", desc := "([B)I" } : Jvm.MethodName)) ∈ lw_all := lw_g (lw_at lw_m4 99 rfl) rfl
theorem q962 : (Jvm.Cond.methodLink "java/lang/String" (632 : Nat) ({ cls := "java/lang/StringUTF16", name := "hashCode", desc := "([B)I" } : Jvm.MethodName)) ∈ lw_all := lw_g (lw_at lw_m4 148 rfl) rfl
theorem q968 : (Jvm.Cond.instanceMethod ({ cls := "java/lang/String", name := "equals", desc := "(Ljava/lang/Object;)Z" } : Jvm.MethodName)) ∈ lw_all := lw_g (lw_at lw_m4 154 rfl) rfl
theorem q969 : (Jvm.Cond.selects "java/lang/String" ({ cls := "java/lang/String", name := "equals", desc := "(Ljava/lang/Object;)Z" } : Jvm.MethodName) ({ cls := "java/lang/String", name := "equals", desc := "(Ljava/lang/Object;)Z" } : Jvm.MethodName)) ∈ lw_all := lw_g (lw_at lw_m4 155 rfl) rfl
theorem q970 : (Jvm.Cond.code ({ cls := "java/lang/String", name := "equals", desc := "(Ljava/lang/Object;)Z" } : Jvm.MethodName) prog_34_method_66_code (3 : Nat) (Option.some Jvm.ClassFile.FieldType.boolean)) ∈ lw_all := lw_g (lw_at lw_m4 156 rfl) rfl
theorem q971 : (Jvm.Cond.classLink "java/lang/String" (10 : Nat) "java/lang/String") ∈ lw_all := lw_g (lw_at lw_m4 157 rfl) rfl
theorem q972 : (Jvm.Cond.methodLink "java/lang/String" (541 : Nat) ({ cls := "java/lang/StringLatin1", name := "equals", desc := "([B[B)Z" } : Jvm.MethodName)) ∈ lw_all := lw_g (lw_at lw_m4 158 rfl) rfl
theorem q1254 : (Jvm.Cond.castable "java/lang/String" "java/lang/Comparable") ∈ lw_tbl := lw_at lw_m5 200 rfl
theorem q1255 : (Jvm.Cond.selects "java/lang/String" ({ cls := "java/lang/Comparable", name := "compareTo", desc := "(Ljava/lang/Object;)I" } : Jvm.MethodName) ({ cls := "java/lang/String", name := "compareTo", desc := "(Ljava/lang/Object;)I" } : Jvm.MethodName)) ∈ lw_all := lw_g (lw_at lw_m5 201 rfl) rfl
theorem q1256 : (Jvm.Cond.unhidden "java/lang/String" "compareTo" "(Ljava/lang/Object;)I") ∈ lw_tbl := lw_at lw_m5 202 rfl
theorem q1257 : (Jvm.Cond.instanceMethod ({ cls := "java/lang/String", name := "compareTo", desc := "(Ljava/lang/Object;)I" } : Jvm.MethodName)) ∈ lw_all := lw_g (lw_at lw_m5 203 rfl) rfl
theorem q1258 : (Jvm.Cond.publicMethod ({ cls := "java/lang/String", name := "compareTo", desc := "(Ljava/lang/Object;)I" } : Jvm.MethodName)) ∈ lw_tbl := lw_at lw_m5 204 rfl
theorem q1259 : (Jvm.Cond.code ({ cls := "java/lang/String", name := "compareTo", desc := "(Ljava/lang/Object;)I" } : Jvm.MethodName) prog_34_method_162_code (2 : Nat) (Option.some Jvm.ClassFile.FieldType.int)) ∈ lw_all := lw_g (lw_at lw_m5 205 rfl) rfl
theorem q1260 : (Jvm.Cond.methodLink "java/lang/String" (1084 : Nat) ({ cls := "java/lang/String", name := "compareTo", desc := "(Ljava/lang/String;)I" } : Jvm.MethodName)) ∈ lw_all := lw_g (lw_at lw_m5 206 rfl) rfl
theorem q1261 : (Jvm.Cond.instanceMethod ({ cls := "java/lang/String", name := "compareTo", desc := "(Ljava/lang/String;)I" } : Jvm.MethodName)) ∈ lw_all := lw_g (lw_at lw_m5 207 rfl) rfl
theorem q1262 : (Jvm.Cond.selects "java/lang/String" ({ cls := "java/lang/String", name := "compareTo", desc := "(Ljava/lang/String;)I" } : Jvm.MethodName) ({ cls := "java/lang/String", name := "compareTo", desc := "(Ljava/lang/String;)I" } : Jvm.MethodName)) ∈ lw_all := lw_g (lw_at lw_m5 208 rfl) rfl
theorem q1263 : (Jvm.Cond.code ({ cls := "java/lang/String", name := "compareTo", desc := "(Ljava/lang/String;)I" } : Jvm.MethodName) prog_34_method_71_code (5 : Nat) (Option.some Jvm.ClassFile.FieldType.int)) ∈ lw_all := lw_g (lw_at lw_m5 209 rfl) rfl
theorem q1264 : (Jvm.Cond.methodLink "java/lang/String" (586 : Nat) ({ cls := "java/lang/StringLatin1", name := "compareTo", desc := "([B[B)I" } : Jvm.MethodName)) ∈ lw_all := lw_g (lw_at lw_m5 210 rfl) rfl
theorem q1378 : (Jvm.Cond.methodLink "java/lang/String" (590 : Nat) ({ cls := "java/lang/StringUTF16", name := "compareTo", desc := "([B[B)I" } : Jvm.MethodName)) ∈ lw_all := lw_g (lw_at lw_m6 84 rfl) rfl
theorem q1385 : (Jvm.Cond.methodLink "java/lang/String" (591 : Nat) ({ cls := "java/lang/StringLatin1", name := "compareToUTF16", desc := "([B[B)I" } : Jvm.MethodName)) ∈ lw_all := lw_g (lw_at lw_m6 91 rfl) rfl
theorem q1396 : (Jvm.Cond.methodLink "java/lang/String" (594 : Nat) ({ cls := "java/lang/StringUTF16", name := "compareToLatin1", desc := "([B[B)I" } : Jvm.MethodName)) ∈ lw_all := lw_g (lw_at lw_m6 102 rfl) rfl
theorem q1422 : (Jvm.Cond.static ({ cls := "java/lang/String", name := "checkOffset", desc := "(II)V" } : Jvm.MethodName)) ∈ lw_all := lw_g (lw_at lw_m6 128 rfl) rfl
theorem q1423 : (Jvm.Cond.code ({ cls := "java/lang/String", name := "checkOffset", desc := "(II)V" } : Jvm.MethodName) prog_34_method_156_code (2 : Nat) (Option.none : Option Jvm.ClassFile.FieldType)) ∈ lw_all := lw_g (lw_at lw_m6 129 rfl) rfl
theorem q1499 : (Jvm.Cond.selects "java/lang/String" ({ cls := "java/lang/Object", name := "getClass", desc := "()Ljava/lang/Class;" } : Jvm.MethodName) ({ cls := "java/lang/Object", name := "getClass", desc := "()Ljava/lang/Class;" } : Jvm.MethodName)) ∈ lw_all := lw_g (lw_at lw_m6 205 rfl) rfl
theorem q2093 : (Jvm.Cond.static ({ cls := "java/lang/String", name := "checkIndex", desc := "(II)V" } : Jvm.MethodName)) ∈ lw_all := lw_g (lw_at lw_m9 79 rfl) rfl
theorem q2094 : (Jvm.Cond.code ({ cls := "java/lang/String", name := "checkIndex", desc := "(II)V" } : Jvm.MethodName) prog_34_method_155_code (2 : Nat) (Option.none : Option Jvm.ClassFile.FieldType)) ∈ lw_all := lw_g (lw_at lw_m9 80 rfl) rfl
theorem q2095 : (Jvm.Cond.methodLink "java/lang/String" (1059 : Nat) ({ cls := "jdk/internal/util/Preconditions", name := "checkIndex", desc := "(IILjava/util/function/BiFunction;)I" } : Jvm.MethodName)) ∈ lw_all := lw_g (lw_at lw_m9 81 rfl) rfl
theorem q2395 : (Jvm.Cond.selects "java/lang/String" ({ cls := "java/lang/Object", name := "equals", desc := "(Ljava/lang/Object;)Z" } : Jvm.MethodName) ({ cls := "java/lang/String", name := "equals", desc := "(Ljava/lang/Object;)Z" } : Jvm.MethodName)) ∈ lw_all := lw_g (lw_at lw_m10 141 rfl) rfl
theorem q2788 : (Jvm.Cond.instanceMethod ({ cls := "java/lang/String", name := "charAt", desc := "(I)C" } : Jvm.MethodName)) ∈ lw_all := lw_g (lw_at lw_m12 54 rfl) rfl
theorem q2789 : (Jvm.Cond.selects "java/lang/String" ({ cls := "java/lang/String", name := "charAt", desc := "(I)C" } : Jvm.MethodName) ({ cls := "java/lang/String", name := "charAt", desc := "(I)C" } : Jvm.MethodName)) ∈ lw_all := lw_g (lw_at lw_m12 55 rfl) rfl
theorem q2790 : (Jvm.Cond.code ({ cls := "java/lang/String", name := "charAt", desc := "(I)C" } : Jvm.MethodName) prog_34_method_56_code (2 : Nat) (Option.some Jvm.ClassFile.FieldType.char)) ∈ lw_all := lw_g (lw_at lw_m12 56 rfl) rfl
theorem q2791 : (Jvm.Cond.methodLink "java/lang/String" (495 : Nat) ({ cls := "java/lang/StringLatin1", name := "charAt", desc := "([BI)C" } : Jvm.MethodName)) ∈ lw_all := lw_g (lw_at lw_m12 57 rfl) rfl
theorem q2795 : (Jvm.Cond.methodLink "java/lang/String" (498 : Nat) ({ cls := "java/lang/StringUTF16", name := "charAt", desc := "([BI)C" } : Jvm.MethodName)) ∈ lw_all := lw_g (lw_at lw_m12 61 rfl) rfl
theorem q3156 : (Jvm.Cond.castable "java/lang/String" "java/lang/Object") ∈ lw_tbl := lw_at lw_m13 182 rfl
theorem in_J12 : ∀ w ∈ wsJ120, w ∈ lw_all := lw_in wsJ120 [824, 826, 828, 830] (by decide +kernel) (by decide +kernel)

/-! jdk/internal/util/ArraysSupport -/
set_option maxRecDepth 100000
def RJ14 : String := "jdk/internal/util/ArraysSupport"
abbrev cJ14_newLength : ByteArray := prog_85_method_27_code
def yJ14_newLength : MethodName := ⟨RJ14, "newLength", "(III)I"⟩
def dkwJ14_newLength_1 : List UInt8 := [184, 0, 201, 172]
abbrev dktJ14_newLength_1 : List UInt8 := dkwJ14_newLength_1 ++ []
def dkwJ14_newLength_0 : List UInt8 := [26, 27, 28, 184, 0, 194, 96, 62, 3, 29, 162, 0, 11, 29, 18, 200, 163, 0, 5, 29, 172, 26, 27]
abbrev dktJ14_newLength_0 : List UInt8 := dkwJ14_newLength_0 ++ dktJ14_newLength_1
theorem dksJ14_newLength_0 : cJ14_newLength.data.toList.drop 0 = dktJ14_newLength_0 := by decide +kernel
theorem dksJ14_newLength_1 : cJ14_newLength.data.toList.drop 23 = dktJ14_newLength_1 := dk_seg dksJ14_newLength_0 23 rfl rfl
theorem dJ14_newLength_0 : decode cJ14_newLength 0 = .ok (.iload_n 0, 1) := dk_26 (dk_at dksJ14_newLength_0 0 rfl rfl)
theorem dJ14_newLength_1 : decode cJ14_newLength 1 = .ok (.iload_n 1, 1) := dk_27 (dk_at dksJ14_newLength_0 1 rfl rfl)
theorem dJ14_newLength_2 : decode cJ14_newLength 2 = .ok (.iload_n 2, 1) := dk_28 (dk_at dksJ14_newLength_0 2 rfl rfl)
theorem dJ14_newLength_3 : decode cJ14_newLength 3 = .ok (.invokestatic 194, 3) := dk_184 0 194 (dk_at dksJ14_newLength_0 3 rfl rfl)
theorem dJ14_newLength_6 : decode cJ14_newLength 6 = .ok (.iadd, 1) := dk_96 (dk_at dksJ14_newLength_0 6 rfl rfl)
theorem dJ14_newLength_7 : decode cJ14_newLength 7 = .ok (.istore_n 3, 1) := dk_62 (dk_at dksJ14_newLength_0 7 rfl rfl)
theorem dJ14_newLength_8 : decode cJ14_newLength 8 = .ok (.iconst 0, 1) := dk_3 (dk_at dksJ14_newLength_0 8 rfl rfl)
theorem dJ14_newLength_9 : decode cJ14_newLength 9 = .ok (.iload_n 3, 1) := dk_29 (dk_at dksJ14_newLength_0 9 rfl rfl)
theorem dJ14_newLength_10 : decode cJ14_newLength 10 = .ok (.if_icmp .ge 11, 3) := dk_162 0 11 (dk_at dksJ14_newLength_0 10 rfl rfl)
theorem dJ14_newLength_13 : decode cJ14_newLength 13 = .ok (.iload_n 3, 1) := dk_29 (dk_at dksJ14_newLength_0 13 rfl rfl)
theorem dJ14_newLength_14 : decode cJ14_newLength 14 = .ok (.ldc 200, 2) := dk_18 200 (dk_at dksJ14_newLength_0 14 rfl rfl)
theorem dJ14_newLength_16 : decode cJ14_newLength 16 = .ok (.if_icmp .gt 5, 3) := dk_163 0 5 (dk_at dksJ14_newLength_0 16 rfl rfl)
theorem dJ14_newLength_19 : decode cJ14_newLength 19 = .ok (.iload_n 3, 1) := dk_29 (dk_at dksJ14_newLength_0 19 rfl rfl)
theorem dJ14_newLength_20 : decode cJ14_newLength 20 = .ok (.ireturn, 1) := dk_172 (dk_at dksJ14_newLength_0 20 rfl rfl)
theorem dJ14_newLength_21 : decode cJ14_newLength 21 = .ok (.iload_n 0, 1) := dk_26 (dk_at dksJ14_newLength_0 21 rfl rfl)
theorem dJ14_newLength_22 : decode cJ14_newLength 22 = .ok (.iload_n 1, 1) := dk_27 (dk_at dksJ14_newLength_0 22 rfl rfl)
theorem dJ14_newLength_23 : decode cJ14_newLength 23 = .ok (.invokestatic 201, 3) := dk_184 0 201 (dk_at dksJ14_newLength_1 0 rfl rfl)
theorem dJ14_newLength_26 : decode cJ14_newLength 26 = .ok (.ireturn, 1) := dk_172 (dk_at dksJ14_newLength_1 3 rfl rfl)
abbrev cJ14_hugeLength : ByteArray := prog_85_method_28_code
def yJ14_hugeLength : MethodName := ⟨RJ14, "hugeLength", "(II)I"⟩
def dkwJ14_hugeLength_2 : List UInt8 := [191, 28, 18, 200, 163, 0, 6, 18, 200, 172, 28, 172]
abbrev dktJ14_hugeLength_2 : List UInt8 := dkwJ14_hugeLength_2 ++ []
def dkwJ14_hugeLength_1 : List UInt8 := [26, 182, 0, 98, 18, 208, 182, 0, 94, 27, 182, 0, 98, 18, 210, 182, 0, 94, 182, 0, 101, 183, 0, 212]
abbrev dktJ14_hugeLength_1 : List UInt8 := dkwJ14_hugeLength_1 ++ dktJ14_hugeLength_2
def dkwJ14_hugeLength_0 : List UInt8 := [26, 27, 96, 61, 28, 156, 0, 44, 187, 0, 204, 89, 187, 0, 89, 89, 183, 0, 91, 18, 206, 182, 0, 94]
abbrev dktJ14_hugeLength_0 : List UInt8 := dkwJ14_hugeLength_0 ++ dktJ14_hugeLength_1
theorem dksJ14_hugeLength_0 : cJ14_hugeLength.data.toList.drop 0 = dktJ14_hugeLength_0 := by decide +kernel
theorem dksJ14_hugeLength_1 : cJ14_hugeLength.data.toList.drop 24 = dktJ14_hugeLength_1 := dk_seg dksJ14_hugeLength_0 24 rfl rfl
theorem dksJ14_hugeLength_2 : cJ14_hugeLength.data.toList.drop 48 = dktJ14_hugeLength_2 := dk_seg dksJ14_hugeLength_1 24 rfl rfl
theorem dJ14_hugeLength_0 : decode cJ14_hugeLength 0 = .ok (.iload_n 0, 1) := dk_26 (dk_at dksJ14_hugeLength_0 0 rfl rfl)
theorem dJ14_hugeLength_1 : decode cJ14_hugeLength 1 = .ok (.iload_n 1, 1) := dk_27 (dk_at dksJ14_hugeLength_0 1 rfl rfl)
theorem dJ14_hugeLength_2 : decode cJ14_hugeLength 2 = .ok (.iadd, 1) := dk_96 (dk_at dksJ14_hugeLength_0 2 rfl rfl)
theorem dJ14_hugeLength_3 : decode cJ14_hugeLength 3 = .ok (.istore_n 2, 1) := dk_61 (dk_at dksJ14_hugeLength_0 3 rfl rfl)
theorem dJ14_hugeLength_4 : decode cJ14_hugeLength 4 = .ok (.iload_n 2, 1) := dk_28 (dk_at dksJ14_hugeLength_0 4 rfl rfl)
theorem dJ14_hugeLength_5 : decode cJ14_hugeLength 5 = .ok (.ifCond .ge 44, 3) := dk_156 0 44 (dk_at dksJ14_hugeLength_0 5 rfl rfl)
theorem dJ14_hugeLength_8 : decode cJ14_hugeLength 8 = .ok (.new 204, 3) := dk_187 0 204 (dk_at dksJ14_hugeLength_0 8 rfl rfl)
theorem dJ14_hugeLength_11 : decode cJ14_hugeLength 11 = .ok (.dup, 1) := dk_89 (dk_at dksJ14_hugeLength_0 11 rfl rfl)
theorem dJ14_hugeLength_12 : decode cJ14_hugeLength 12 = .ok (.new 89, 3) := dk_187 0 89 (dk_at dksJ14_hugeLength_0 12 rfl rfl)
theorem dJ14_hugeLength_15 : decode cJ14_hugeLength 15 = .ok (.dup, 1) := dk_89 (dk_at dksJ14_hugeLength_0 15 rfl rfl)
theorem dJ14_hugeLength_16 : decode cJ14_hugeLength 16 = .ok (.invokespecial 91, 3) := dk_183 0 91 (dk_at dksJ14_hugeLength_0 16 rfl rfl)
theorem dJ14_hugeLength_19 : decode cJ14_hugeLength 19 = .ok (.ldc 206, 2) := dk_18 206 (dk_at dksJ14_hugeLength_0 19 rfl rfl)
theorem dJ14_hugeLength_21 : decode cJ14_hugeLength 21 = .ok (.invokevirtual 94, 3) := dk_182 0 94 (dk_at dksJ14_hugeLength_0 21 rfl rfl)
theorem dJ14_hugeLength_24 : decode cJ14_hugeLength 24 = .ok (.iload_n 0, 1) := dk_26 (dk_at dksJ14_hugeLength_1 0 rfl rfl)
theorem dJ14_hugeLength_25 : decode cJ14_hugeLength 25 = .ok (.invokevirtual 98, 3) := dk_182 0 98 (dk_at dksJ14_hugeLength_1 1 rfl rfl)
theorem dJ14_hugeLength_28 : decode cJ14_hugeLength 28 = .ok (.ldc 208, 2) := dk_18 208 (dk_at dksJ14_hugeLength_1 4 rfl rfl)
theorem dJ14_hugeLength_30 : decode cJ14_hugeLength 30 = .ok (.invokevirtual 94, 3) := dk_182 0 94 (dk_at dksJ14_hugeLength_1 6 rfl rfl)
theorem dJ14_hugeLength_33 : decode cJ14_hugeLength 33 = .ok (.iload_n 1, 1) := dk_27 (dk_at dksJ14_hugeLength_1 9 rfl rfl)
theorem dJ14_hugeLength_34 : decode cJ14_hugeLength 34 = .ok (.invokevirtual 98, 3) := dk_182 0 98 (dk_at dksJ14_hugeLength_1 10 rfl rfl)
theorem dJ14_hugeLength_37 : decode cJ14_hugeLength 37 = .ok (.ldc 210, 2) := dk_18 210 (dk_at dksJ14_hugeLength_1 13 rfl rfl)
theorem dJ14_hugeLength_39 : decode cJ14_hugeLength 39 = .ok (.invokevirtual 94, 3) := dk_182 0 94 (dk_at dksJ14_hugeLength_1 15 rfl rfl)
theorem dJ14_hugeLength_42 : decode cJ14_hugeLength 42 = .ok (.invokevirtual 101, 3) := dk_182 0 101 (dk_at dksJ14_hugeLength_1 18 rfl rfl)
theorem dJ14_hugeLength_45 : decode cJ14_hugeLength 45 = .ok (.invokespecial 212, 3) := dk_183 0 212 (dk_at dksJ14_hugeLength_1 21 rfl rfl)
theorem dJ14_hugeLength_48 : decode cJ14_hugeLength 48 = .ok (.athrow, 1) := dk_191 (dk_at dksJ14_hugeLength_2 0 rfl rfl)
theorem dJ14_hugeLength_49 : decode cJ14_hugeLength 49 = .ok (.iload_n 2, 1) := dk_28 (dk_at dksJ14_hugeLength_2 1 rfl rfl)
theorem dJ14_hugeLength_50 : decode cJ14_hugeLength 50 = .ok (.ldc 200, 2) := dk_18 200 (dk_at dksJ14_hugeLength_2 2 rfl rfl)
theorem dJ14_hugeLength_52 : decode cJ14_hugeLength 52 = .ok (.if_icmp .gt 6, 3) := dk_163 0 6 (dk_at dksJ14_hugeLength_2 4 rfl rfl)
theorem dJ14_hugeLength_55 : decode cJ14_hugeLength 55 = .ok (.ldc 200, 2) := dk_18 200 (dk_at dksJ14_hugeLength_2 7 rfl rfl)
theorem dJ14_hugeLength_57 : decode cJ14_hugeLength 57 = .ok (.ireturn, 1) := dk_172 (dk_at dksJ14_hugeLength_2 9 rfl rfl)
theorem dJ14_hugeLength_58 : decode cJ14_hugeLength 58 = .ok (.iload_n 2, 1) := dk_28 (dk_at dksJ14_hugeLength_2 10 rfl rfl)
theorem dJ14_hugeLength_59 : decode cJ14_hugeLength 59 = .ok (.ireturn, 1) := dk_172 (dk_at dksJ14_hugeLength_2 11 rfl rfl)
abbrev cJ14_vectorizedHashCode : ByteArray := prog_85_method_4_code
def yJ14_vectorizedHashCode : MethodName := ⟨RJ14, "vectorizedHashCode", "(Ljava/lang/Object;IIII)I"⟩
def dkwJ14_vectorizedHashCode_6 : List UInt8 := [183, 0, 91, 18, 92, 182, 0, 94, 21, 4, 182, 0, 98, 182, 0, 101, 183, 0, 105, 191, 172]
abbrev dktJ14_vectorizedHashCode_6 : List UInt8 := dkwJ14_vectorizedHashCode_6 ++ []
def dkwJ14_vectorizedHashCode_5 : List UInt8 := [167, 0, 44, 29, 42, 192, 0, 82, 27, 28, 184, 0, 84, 167, 0, 31, 187, 0, 87, 89, 187, 0, 89, 89]
abbrev dktJ14_vectorizedHashCode_5 : List UInt8 := dkwJ14_vectorizedHashCode_5 ++ dktJ14_vectorizedHashCode_6
def dkwJ14_vectorizedHashCode_4 : List UInt8 := [29, 42, 192, 0, 60, 27, 28, 184, 0, 75, 167, 0, 57, 29, 42, 192, 0, 77, 27, 28, 184, 0, 79]
abbrev dktJ14_vectorizedHashCode_4 : List UInt8 := dkwJ14_vectorizedHashCode_4 ++ dktJ14_vectorizedHashCode_5
def dkwJ14_vectorizedHashCode_3 : List UInt8 := [192, 0, 60, 27, 28, 184, 0, 66, 167, 0, 83, 29, 42, 192, 0, 69, 27, 28, 184, 0, 71, 167, 0, 70]
abbrev dktJ14_vectorizedHashCode_3 : List UInt8 := dkwJ14_vectorizedHashCode_3 ++ dktJ14_vectorizedHashCode_4
def dkwJ14_vectorizedHashCode_2 : List UInt8 := [29, 42, 192, 0, 60, 27, 28, 184, 0, 62, 167, 0, 103, 42, 193, 0, 60, 153, 0, 16, 29, 42]
abbrev dktJ14_vectorizedHashCode_2 : List UInt8 := dkwJ14_vectorizedHashCode_2 ++ dktJ14_vectorizedHashCode_3
def dkwJ14_vectorizedHashCode_1 : List UInt8 := [170, 0, 0, 0, 0, 127, 0, 0, 0, 4, 0, 0, 0, 10, 0, 0, 0, 42, 0, 0, 0, 55, 0, 0, 0, 127, 0, 0, 0, 127, 0, 0, 0, 88, 0, 0, 0, 101, 0, 0, 0, 114]
abbrev dktJ14_vectorizedHashCode_1 : List UInt8 := dkwJ14_vectorizedHashCode_1 ++ dktJ14_vectorizedHashCode_2
def dkwJ14_vectorizedHashCode_0 : List UInt8 := [21, 4]
abbrev dktJ14_vectorizedHashCode_0 : List UInt8 := dkwJ14_vectorizedHashCode_0 ++ dktJ14_vectorizedHashCode_1
theorem dksJ14_vectorizedHashCode_0 : cJ14_vectorizedHashCode.data.toList.drop 0 = dktJ14_vectorizedHashCode_0 := by decide +kernel
theorem dksJ14_vectorizedHashCode_1 : cJ14_vectorizedHashCode.data.toList.drop 2 = dktJ14_vectorizedHashCode_1 := dk_seg dksJ14_vectorizedHashCode_0 2 rfl rfl
theorem dksJ14_vectorizedHashCode_2 : cJ14_vectorizedHashCode.data.toList.drop 44 = dktJ14_vectorizedHashCode_2 := dk_seg dksJ14_vectorizedHashCode_1 42 rfl rfl
theorem dksJ14_vectorizedHashCode_3 : cJ14_vectorizedHashCode.data.toList.drop 66 = dktJ14_vectorizedHashCode_3 := dk_seg dksJ14_vectorizedHashCode_2 22 rfl rfl
theorem dksJ14_vectorizedHashCode_4 : cJ14_vectorizedHashCode.data.toList.drop 90 = dktJ14_vectorizedHashCode_4 := dk_seg dksJ14_vectorizedHashCode_3 24 rfl rfl
theorem dksJ14_vectorizedHashCode_5 : cJ14_vectorizedHashCode.data.toList.drop 113 = dktJ14_vectorizedHashCode_5 := dk_seg dksJ14_vectorizedHashCode_4 23 rfl rfl
theorem dksJ14_vectorizedHashCode_6 : cJ14_vectorizedHashCode.data.toList.drop 137 = dktJ14_vectorizedHashCode_6 := dk_seg dksJ14_vectorizedHashCode_5 24 rfl rfl
theorem dJ14_vectorizedHashCode_0 : decode cJ14_vectorizedHashCode 0 = .ok (.iload 4, 2) := dk_21 4 (dk_at dksJ14_vectorizedHashCode_0 0 rfl rfl)
theorem dJ14_vectorizedHashCode_2 : decode cJ14_vectorizedHashCode 2 = .ok (.tableswitch 127 4 10 #[42, 55, 127, 127, 88, 101, 114], 42) := by decide +kernel
theorem dJ14_vectorizedHashCode_44 : decode cJ14_vectorizedHashCode 44 = .ok (.iload_n 3, 1) := dk_29 (dk_at dksJ14_vectorizedHashCode_2 0 rfl rfl)
theorem dJ14_vectorizedHashCode_45 : decode cJ14_vectorizedHashCode 45 = .ok (.aload_n 0, 1) := dk_42 (dk_at dksJ14_vectorizedHashCode_2 1 rfl rfl)
theorem dJ14_vectorizedHashCode_46 : decode cJ14_vectorizedHashCode 46 = .ok (.checkcast 60, 3) := dk_192 0 60 (dk_at dksJ14_vectorizedHashCode_2 2 rfl rfl)
theorem dJ14_vectorizedHashCode_49 : decode cJ14_vectorizedHashCode 49 = .ok (.iload_n 1, 1) := dk_27 (dk_at dksJ14_vectorizedHashCode_2 5 rfl rfl)
theorem dJ14_vectorizedHashCode_50 : decode cJ14_vectorizedHashCode 50 = .ok (.iload_n 2, 1) := dk_28 (dk_at dksJ14_vectorizedHashCode_2 6 rfl rfl)
theorem dJ14_vectorizedHashCode_51 : decode cJ14_vectorizedHashCode 51 = .ok (.invokestatic 62, 3) := dk_184 0 62 (dk_at dksJ14_vectorizedHashCode_2 7 rfl rfl)
theorem dJ14_vectorizedHashCode_54 : decode cJ14_vectorizedHashCode 54 = .ok (.goto 103, 3) := dk_167 0 103 (dk_at dksJ14_vectorizedHashCode_2 10 rfl rfl)
theorem dJ14_vectorizedHashCode_57 : decode cJ14_vectorizedHashCode 57 = .ok (.aload_n 0, 1) := dk_42 (dk_at dksJ14_vectorizedHashCode_2 13 rfl rfl)
theorem dJ14_vectorizedHashCode_58 : decode cJ14_vectorizedHashCode 58 = .ok (.instanceof 60, 3) := dk_193 0 60 (dk_at dksJ14_vectorizedHashCode_2 14 rfl rfl)
theorem dJ14_vectorizedHashCode_61 : decode cJ14_vectorizedHashCode 61 = .ok (.ifCond .eq 16, 3) := dk_153 0 16 (dk_at dksJ14_vectorizedHashCode_2 17 rfl rfl)
theorem dJ14_vectorizedHashCode_64 : decode cJ14_vectorizedHashCode 64 = .ok (.iload_n 3, 1) := dk_29 (dk_at dksJ14_vectorizedHashCode_2 20 rfl rfl)
theorem dJ14_vectorizedHashCode_65 : decode cJ14_vectorizedHashCode 65 = .ok (.aload_n 0, 1) := dk_42 (dk_at dksJ14_vectorizedHashCode_2 21 rfl rfl)
theorem dJ14_vectorizedHashCode_66 : decode cJ14_vectorizedHashCode 66 = .ok (.checkcast 60, 3) := dk_192 0 60 (dk_at dksJ14_vectorizedHashCode_3 0 rfl rfl)
theorem dJ14_vectorizedHashCode_69 : decode cJ14_vectorizedHashCode 69 = .ok (.iload_n 1, 1) := dk_27 (dk_at dksJ14_vectorizedHashCode_3 3 rfl rfl)
theorem dJ14_vectorizedHashCode_70 : decode cJ14_vectorizedHashCode 70 = .ok (.iload_n 2, 1) := dk_28 (dk_at dksJ14_vectorizedHashCode_3 4 rfl rfl)
theorem dJ14_vectorizedHashCode_71 : decode cJ14_vectorizedHashCode 71 = .ok (.invokestatic 66, 3) := dk_184 0 66 (dk_at dksJ14_vectorizedHashCode_3 5 rfl rfl)
theorem dJ14_vectorizedHashCode_74 : decode cJ14_vectorizedHashCode 74 = .ok (.goto 83, 3) := dk_167 0 83 (dk_at dksJ14_vectorizedHashCode_3 8 rfl rfl)
theorem dJ14_vectorizedHashCode_77 : decode cJ14_vectorizedHashCode 77 = .ok (.iload_n 3, 1) := dk_29 (dk_at dksJ14_vectorizedHashCode_3 11 rfl rfl)
theorem dJ14_vectorizedHashCode_78 : decode cJ14_vectorizedHashCode 78 = .ok (.aload_n 0, 1) := dk_42 (dk_at dksJ14_vectorizedHashCode_3 12 rfl rfl)
theorem dJ14_vectorizedHashCode_79 : decode cJ14_vectorizedHashCode 79 = .ok (.checkcast 69, 3) := dk_192 0 69 (dk_at dksJ14_vectorizedHashCode_3 13 rfl rfl)
theorem dJ14_vectorizedHashCode_82 : decode cJ14_vectorizedHashCode 82 = .ok (.iload_n 1, 1) := dk_27 (dk_at dksJ14_vectorizedHashCode_3 16 rfl rfl)
theorem dJ14_vectorizedHashCode_83 : decode cJ14_vectorizedHashCode 83 = .ok (.iload_n 2, 1) := dk_28 (dk_at dksJ14_vectorizedHashCode_3 17 rfl rfl)
theorem dJ14_vectorizedHashCode_84 : decode cJ14_vectorizedHashCode 84 = .ok (.invokestatic 71, 3) := dk_184 0 71 (dk_at dksJ14_vectorizedHashCode_3 18 rfl rfl)
theorem dJ14_vectorizedHashCode_87 : decode cJ14_vectorizedHashCode 87 = .ok (.goto 70, 3) := dk_167 0 70 (dk_at dksJ14_vectorizedHashCode_3 21 rfl rfl)
theorem dJ14_vectorizedHashCode_90 : decode cJ14_vectorizedHashCode 90 = .ok (.iload_n 3, 1) := dk_29 (dk_at dksJ14_vectorizedHashCode_4 0 rfl rfl)
theorem dJ14_vectorizedHashCode_91 : decode cJ14_vectorizedHashCode 91 = .ok (.aload_n 0, 1) := dk_42 (dk_at dksJ14_vectorizedHashCode_4 1 rfl rfl)
theorem dJ14_vectorizedHashCode_92 : decode cJ14_vectorizedHashCode 92 = .ok (.checkcast 60, 3) := dk_192 0 60 (dk_at dksJ14_vectorizedHashCode_4 2 rfl rfl)
theorem dJ14_vectorizedHashCode_95 : decode cJ14_vectorizedHashCode 95 = .ok (.iload_n 1, 1) := dk_27 (dk_at dksJ14_vectorizedHashCode_4 5 rfl rfl)
theorem dJ14_vectorizedHashCode_96 : decode cJ14_vectorizedHashCode 96 = .ok (.iload_n 2, 1) := dk_28 (dk_at dksJ14_vectorizedHashCode_4 6 rfl rfl)
theorem dJ14_vectorizedHashCode_97 : decode cJ14_vectorizedHashCode 97 = .ok (.invokestatic 75, 3) := dk_184 0 75 (dk_at dksJ14_vectorizedHashCode_4 7 rfl rfl)
theorem dJ14_vectorizedHashCode_100 : decode cJ14_vectorizedHashCode 100 = .ok (.goto 57, 3) := dk_167 0 57 (dk_at dksJ14_vectorizedHashCode_4 10 rfl rfl)
theorem dJ14_vectorizedHashCode_103 : decode cJ14_vectorizedHashCode 103 = .ok (.iload_n 3, 1) := dk_29 (dk_at dksJ14_vectorizedHashCode_4 13 rfl rfl)
theorem dJ14_vectorizedHashCode_104 : decode cJ14_vectorizedHashCode 104 = .ok (.aload_n 0, 1) := dk_42 (dk_at dksJ14_vectorizedHashCode_4 14 rfl rfl)
theorem dJ14_vectorizedHashCode_105 : decode cJ14_vectorizedHashCode 105 = .ok (.checkcast 77, 3) := dk_192 0 77 (dk_at dksJ14_vectorizedHashCode_4 15 rfl rfl)
theorem dJ14_vectorizedHashCode_108 : decode cJ14_vectorizedHashCode 108 = .ok (.iload_n 1, 1) := dk_27 (dk_at dksJ14_vectorizedHashCode_4 18 rfl rfl)
theorem dJ14_vectorizedHashCode_109 : decode cJ14_vectorizedHashCode 109 = .ok (.iload_n 2, 1) := dk_28 (dk_at dksJ14_vectorizedHashCode_4 19 rfl rfl)
theorem dJ14_vectorizedHashCode_110 : decode cJ14_vectorizedHashCode 110 = .ok (.invokestatic 79, 3) := dk_184 0 79 (dk_at dksJ14_vectorizedHashCode_4 20 rfl rfl)
theorem dJ14_vectorizedHashCode_113 : decode cJ14_vectorizedHashCode 113 = .ok (.goto 44, 3) := dk_167 0 44 (dk_at dksJ14_vectorizedHashCode_5 0 rfl rfl)
theorem dJ14_vectorizedHashCode_116 : decode cJ14_vectorizedHashCode 116 = .ok (.iload_n 3, 1) := dk_29 (dk_at dksJ14_vectorizedHashCode_5 3 rfl rfl)
theorem dJ14_vectorizedHashCode_117 : decode cJ14_vectorizedHashCode 117 = .ok (.aload_n 0, 1) := dk_42 (dk_at dksJ14_vectorizedHashCode_5 4 rfl rfl)
theorem dJ14_vectorizedHashCode_118 : decode cJ14_vectorizedHashCode 118 = .ok (.checkcast 82, 3) := dk_192 0 82 (dk_at dksJ14_vectorizedHashCode_5 5 rfl rfl)
theorem dJ14_vectorizedHashCode_121 : decode cJ14_vectorizedHashCode 121 = .ok (.iload_n 1, 1) := dk_27 (dk_at dksJ14_vectorizedHashCode_5 8 rfl rfl)
theorem dJ14_vectorizedHashCode_122 : decode cJ14_vectorizedHashCode 122 = .ok (.iload_n 2, 1) := dk_28 (dk_at dksJ14_vectorizedHashCode_5 9 rfl rfl)
theorem dJ14_vectorizedHashCode_123 : decode cJ14_vectorizedHashCode 123 = .ok (.invokestatic 84, 3) := dk_184 0 84 (dk_at dksJ14_vectorizedHashCode_5 10 rfl rfl)
theorem dJ14_vectorizedHashCode_126 : decode cJ14_vectorizedHashCode 126 = .ok (.goto 31, 3) := dk_167 0 31 (dk_at dksJ14_vectorizedHashCode_5 13 rfl rfl)
theorem dJ14_vectorizedHashCode_129 : decode cJ14_vectorizedHashCode 129 = .ok (.new 87, 3) := dk_187 0 87 (dk_at dksJ14_vectorizedHashCode_5 16 rfl rfl)
theorem dJ14_vectorizedHashCode_132 : decode cJ14_vectorizedHashCode 132 = .ok (.dup, 1) := dk_89 (dk_at dksJ14_vectorizedHashCode_5 19 rfl rfl)
theorem dJ14_vectorizedHashCode_133 : decode cJ14_vectorizedHashCode 133 = .ok (.new 89, 3) := dk_187 0 89 (dk_at dksJ14_vectorizedHashCode_5 20 rfl rfl)
theorem dJ14_vectorizedHashCode_136 : decode cJ14_vectorizedHashCode 136 = .ok (.dup, 1) := dk_89 (dk_at dksJ14_vectorizedHashCode_5 23 rfl rfl)
theorem dJ14_vectorizedHashCode_137 : decode cJ14_vectorizedHashCode 137 = .ok (.invokespecial 91, 3) := dk_183 0 91 (dk_at dksJ14_vectorizedHashCode_6 0 rfl rfl)
theorem dJ14_vectorizedHashCode_140 : decode cJ14_vectorizedHashCode 140 = .ok (.ldc 92, 2) := dk_18 92 (dk_at dksJ14_vectorizedHashCode_6 3 rfl rfl)
theorem dJ14_vectorizedHashCode_142 : decode cJ14_vectorizedHashCode 142 = .ok (.invokevirtual 94, 3) := dk_182 0 94 (dk_at dksJ14_vectorizedHashCode_6 5 rfl rfl)
theorem dJ14_vectorizedHashCode_145 : decode cJ14_vectorizedHashCode 145 = .ok (.iload 4, 2) := dk_21 4 (dk_at dksJ14_vectorizedHashCode_6 8 rfl rfl)
theorem dJ14_vectorizedHashCode_147 : decode cJ14_vectorizedHashCode 147 = .ok (.invokevirtual 98, 3) := dk_182 0 98 (dk_at dksJ14_vectorizedHashCode_6 10 rfl rfl)
theorem dJ14_vectorizedHashCode_150 : decode cJ14_vectorizedHashCode 150 = .ok (.invokevirtual 101, 3) := dk_182 0 101 (dk_at dksJ14_vectorizedHashCode_6 13 rfl rfl)
theorem dJ14_vectorizedHashCode_153 : decode cJ14_vectorizedHashCode 153 = .ok (.invokespecial 105, 3) := dk_183 0 105 (dk_at dksJ14_vectorizedHashCode_6 16 rfl rfl)
theorem dJ14_vectorizedHashCode_156 : decode cJ14_vectorizedHashCode 156 = .ok (.athrow, 1) := dk_191 (dk_at dksJ14_vectorizedHashCode_6 19 rfl rfl)
theorem dJ14_vectorizedHashCode_157 : decode cJ14_vectorizedHashCode 157 = .ok (.ireturn, 1) := dk_172 (dk_at dksJ14_vectorizedHashCode_6 20 rfl rfl)
abbrev cJ14_signedHashCode : ByteArray := prog_85_method_5_code
def yJ14_signedHashCode : MethodName := ⟨RJ14, "signedHashCode", "(I[BII)I"⟩
def dkwJ14_signedHashCode_1 : List UInt8 := [17, 0, 255, 126, 96, 59, 132, 5, 1, 167, 255, 232, 26, 172]
abbrev dktJ14_signedHashCode_1 : List UInt8 := dkwJ14_signedHashCode_1 ++ []
def dkwJ14_signedHashCode_0 : List UInt8 := [28, 29, 96, 54, 4, 28, 54, 5, 21, 5, 21, 4, 162, 0, 23, 16, 31, 26, 104, 43, 21, 5, 51]
abbrev dktJ14_signedHashCode_0 : List UInt8 := dkwJ14_signedHashCode_0 ++ dktJ14_signedHashCode_1
theorem dksJ14_signedHashCode_0 : cJ14_signedHashCode.data.toList.drop 0 = dktJ14_signedHashCode_0 := by decide +kernel
theorem dksJ14_signedHashCode_1 : cJ14_signedHashCode.data.toList.drop 23 = dktJ14_signedHashCode_1 := dk_seg dksJ14_signedHashCode_0 23 rfl rfl
theorem dJ14_signedHashCode_0 : decode cJ14_signedHashCode 0 = .ok (.iload_n 2, 1) := dk_28 (dk_at dksJ14_signedHashCode_0 0 rfl rfl)
theorem dJ14_signedHashCode_1 : decode cJ14_signedHashCode 1 = .ok (.iload_n 3, 1) := dk_29 (dk_at dksJ14_signedHashCode_0 1 rfl rfl)
theorem dJ14_signedHashCode_2 : decode cJ14_signedHashCode 2 = .ok (.iadd, 1) := dk_96 (dk_at dksJ14_signedHashCode_0 2 rfl rfl)
theorem dJ14_signedHashCode_3 : decode cJ14_signedHashCode 3 = .ok (.istore 4, 2) := dk_54 4 (dk_at dksJ14_signedHashCode_0 3 rfl rfl)
theorem dJ14_signedHashCode_5 : decode cJ14_signedHashCode 5 = .ok (.iload_n 2, 1) := dk_28 (dk_at dksJ14_signedHashCode_0 5 rfl rfl)
theorem dJ14_signedHashCode_6 : decode cJ14_signedHashCode 6 = .ok (.istore 5, 2) := dk_54 5 (dk_at dksJ14_signedHashCode_0 6 rfl rfl)
theorem dJ14_signedHashCode_8 : decode cJ14_signedHashCode 8 = .ok (.iload 5, 2) := dk_21 5 (dk_at dksJ14_signedHashCode_0 8 rfl rfl)
theorem dJ14_signedHashCode_10 : decode cJ14_signedHashCode 10 = .ok (.iload 4, 2) := dk_21 4 (dk_at dksJ14_signedHashCode_0 10 rfl rfl)
theorem dJ14_signedHashCode_12 : decode cJ14_signedHashCode 12 = .ok (.if_icmp .ge 23, 3) := dk_162 0 23 (dk_at dksJ14_signedHashCode_0 12 rfl rfl)
theorem dJ14_signedHashCode_15 : decode cJ14_signedHashCode 15 = .ok (.bipush 31, 2) := dk_16 31 (dk_at dksJ14_signedHashCode_0 15 rfl rfl)
theorem dJ14_signedHashCode_17 : decode cJ14_signedHashCode 17 = .ok (.iload_n 0, 1) := dk_26 (dk_at dksJ14_signedHashCode_0 17 rfl rfl)
theorem dJ14_signedHashCode_18 : decode cJ14_signedHashCode 18 = .ok (.imul, 1) := dk_104 (dk_at dksJ14_signedHashCode_0 18 rfl rfl)
theorem dJ14_signedHashCode_19 : decode cJ14_signedHashCode 19 = .ok (.aload_n 1, 1) := dk_43 (dk_at dksJ14_signedHashCode_0 19 rfl rfl)
theorem dJ14_signedHashCode_20 : decode cJ14_signedHashCode 20 = .ok (.iload 5, 2) := dk_21 5 (dk_at dksJ14_signedHashCode_0 20 rfl rfl)
theorem dJ14_signedHashCode_22 : decode cJ14_signedHashCode 22 = .ok (.baload, 1) := dk_51 (dk_at dksJ14_signedHashCode_0 22 rfl rfl)
theorem dJ14_signedHashCode_23 : decode cJ14_signedHashCode 23 = .ok (.sipush 255, 3) := dk_17 0 255 (dk_at dksJ14_signedHashCode_1 0 rfl rfl)
theorem dJ14_signedHashCode_26 : decode cJ14_signedHashCode 26 = .ok (.iand, 1) := dk_126 (dk_at dksJ14_signedHashCode_1 3 rfl rfl)
theorem dJ14_signedHashCode_27 : decode cJ14_signedHashCode 27 = .ok (.iadd, 1) := dk_96 (dk_at dksJ14_signedHashCode_1 4 rfl rfl)
theorem dJ14_signedHashCode_28 : decode cJ14_signedHashCode 28 = .ok (.istore_n 0, 1) := dk_59 (dk_at dksJ14_signedHashCode_1 5 rfl rfl)
theorem dJ14_signedHashCode_29 : decode cJ14_signedHashCode 29 = .ok (.iinc 5 1, 3) := dk_132 5 1 (dk_at dksJ14_signedHashCode_1 6 rfl rfl)
theorem dJ14_signedHashCode_32 : decode cJ14_signedHashCode 32 = .ok (.goto (-24), 3) := dk_167 255 232 (dk_at dksJ14_signedHashCode_1 9 rfl rfl)
theorem dJ14_signedHashCode_35 : decode cJ14_signedHashCode 35 = .ok (.iload_n 0, 1) := dk_26 (dk_at dksJ14_signedHashCode_1 12 rfl rfl)
theorem dJ14_signedHashCode_36 : decode cJ14_signedHashCode 36 = .ok (.ireturn, 1) := dk_172 (dk_at dksJ14_signedHashCode_1 13 rfl rfl)
abbrev cJ14_utf16hashCode : ByteArray := prog_85_method_10_code
def yJ14_utf16hashCode : MethodName := ⟨RJ14, "utf16hashCode", "(I[BII)I"⟩
def dkwJ14_utf16hashCode_1 : List UInt8 := [21, 5, 185, 0, 110, 3, 0, 96, 59, 132, 5, 1, 167, 255, 229, 26, 172]
abbrev dktJ14_utf16hashCode_1 : List UInt8 := dkwJ14_utf16hashCode_1 ++ []
def dkwJ14_utf16hashCode_0 : List UInt8 := [28, 29, 96, 54, 4, 28, 54, 5, 21, 5, 21, 4, 162, 0, 26, 16, 31, 26, 104, 178, 0, 106, 43]
abbrev dktJ14_utf16hashCode_0 : List UInt8 := dkwJ14_utf16hashCode_0 ++ dktJ14_utf16hashCode_1
theorem dksJ14_utf16hashCode_0 : cJ14_utf16hashCode.data.toList.drop 0 = dktJ14_utf16hashCode_0 := by decide +kernel
theorem dksJ14_utf16hashCode_1 : cJ14_utf16hashCode.data.toList.drop 23 = dktJ14_utf16hashCode_1 := dk_seg dksJ14_utf16hashCode_0 23 rfl rfl
theorem dJ14_utf16hashCode_0 : decode cJ14_utf16hashCode 0 = .ok (.iload_n 2, 1) := dk_28 (dk_at dksJ14_utf16hashCode_0 0 rfl rfl)
theorem dJ14_utf16hashCode_1 : decode cJ14_utf16hashCode 1 = .ok (.iload_n 3, 1) := dk_29 (dk_at dksJ14_utf16hashCode_0 1 rfl rfl)
theorem dJ14_utf16hashCode_2 : decode cJ14_utf16hashCode 2 = .ok (.iadd, 1) := dk_96 (dk_at dksJ14_utf16hashCode_0 2 rfl rfl)
theorem dJ14_utf16hashCode_3 : decode cJ14_utf16hashCode 3 = .ok (.istore 4, 2) := dk_54 4 (dk_at dksJ14_utf16hashCode_0 3 rfl rfl)
theorem dJ14_utf16hashCode_5 : decode cJ14_utf16hashCode 5 = .ok (.iload_n 2, 1) := dk_28 (dk_at dksJ14_utf16hashCode_0 5 rfl rfl)
theorem dJ14_utf16hashCode_6 : decode cJ14_utf16hashCode 6 = .ok (.istore 5, 2) := dk_54 5 (dk_at dksJ14_utf16hashCode_0 6 rfl rfl)
theorem dJ14_utf16hashCode_8 : decode cJ14_utf16hashCode 8 = .ok (.iload 5, 2) := dk_21 5 (dk_at dksJ14_utf16hashCode_0 8 rfl rfl)
theorem dJ14_utf16hashCode_10 : decode cJ14_utf16hashCode 10 = .ok (.iload 4, 2) := dk_21 4 (dk_at dksJ14_utf16hashCode_0 10 rfl rfl)
theorem dJ14_utf16hashCode_12 : decode cJ14_utf16hashCode 12 = .ok (.if_icmp .ge 26, 3) := dk_162 0 26 (dk_at dksJ14_utf16hashCode_0 12 rfl rfl)
theorem dJ14_utf16hashCode_15 : decode cJ14_utf16hashCode 15 = .ok (.bipush 31, 2) := dk_16 31 (dk_at dksJ14_utf16hashCode_0 15 rfl rfl)
theorem dJ14_utf16hashCode_17 : decode cJ14_utf16hashCode 17 = .ok (.iload_n 0, 1) := dk_26 (dk_at dksJ14_utf16hashCode_0 17 rfl rfl)
theorem dJ14_utf16hashCode_18 : decode cJ14_utf16hashCode 18 = .ok (.imul, 1) := dk_104 (dk_at dksJ14_utf16hashCode_0 18 rfl rfl)
theorem dJ14_utf16hashCode_19 : decode cJ14_utf16hashCode 19 = .ok (.getstatic 106, 3) := dk_178 0 106 (dk_at dksJ14_utf16hashCode_0 19 rfl rfl)
theorem dJ14_utf16hashCode_22 : decode cJ14_utf16hashCode 22 = .ok (.aload_n 1, 1) := dk_43 (dk_at dksJ14_utf16hashCode_0 22 rfl rfl)
theorem dJ14_utf16hashCode_23 : decode cJ14_utf16hashCode 23 = .ok (.iload 5, 2) := dk_21 5 (dk_at dksJ14_utf16hashCode_1 0 rfl rfl)
theorem dJ14_utf16hashCode_25 : decode cJ14_utf16hashCode 25 = .ok (.invokeinterface 110 3, 5) := by decide +kernel
theorem dJ14_utf16hashCode_30 : decode cJ14_utf16hashCode 30 = .ok (.iadd, 1) := dk_96 (dk_at dksJ14_utf16hashCode_1 7 rfl rfl)
theorem dJ14_utf16hashCode_31 : decode cJ14_utf16hashCode 31 = .ok (.istore_n 0, 1) := dk_59 (dk_at dksJ14_utf16hashCode_1 8 rfl rfl)
theorem dJ14_utf16hashCode_32 : decode cJ14_utf16hashCode 32 = .ok (.iinc 5 1, 3) := dk_132 5 1 (dk_at dksJ14_utf16hashCode_1 9 rfl rfl)
theorem dJ14_utf16hashCode_35 : decode cJ14_utf16hashCode 35 = .ok (.goto (-27), 3) := dk_167 255 229 (dk_at dksJ14_utf16hashCode_1 12 rfl rfl)
theorem dJ14_utf16hashCode_38 : decode cJ14_utf16hashCode 38 = .ok (.iload_n 0, 1) := dk_26 (dk_at dksJ14_utf16hashCode_1 15 rfl rfl)
theorem dJ14_utf16hashCode_39 : decode cJ14_utf16hashCode 39 = .ok (.ireturn, 1) := dk_172 (dk_at dksJ14_utf16hashCode_1 16 rfl rfl)
abbrev cJ14_hashCode : ByteArray := prog_85_method_7_code
def yJ14_hashCode : MethodName := ⟨RJ14, "hashCode", "(I[CII)I"⟩
def dkwJ14_hashCode_1 : List UInt8 := [59, 132, 5, 1, 167, 255, 236, 26, 172]
abbrev dktJ14_hashCode_1 : List UInt8 := dkwJ14_hashCode_1 ++ []
def dkwJ14_hashCode_0 : List UInt8 := [28, 29, 96, 54, 4, 28, 54, 5, 21, 5, 21, 4, 162, 0, 19, 16, 31, 26, 104, 43, 21, 5, 52, 96]
abbrev dktJ14_hashCode_0 : List UInt8 := dkwJ14_hashCode_0 ++ dktJ14_hashCode_1
theorem dksJ14_hashCode_0 : cJ14_hashCode.data.toList.drop 0 = dktJ14_hashCode_0 := by decide +kernel
theorem dksJ14_hashCode_1 : cJ14_hashCode.data.toList.drop 24 = dktJ14_hashCode_1 := dk_seg dksJ14_hashCode_0 24 rfl rfl
theorem dJ14_hashCode_0 : decode cJ14_hashCode 0 = .ok (.iload_n 2, 1) := dk_28 (dk_at dksJ14_hashCode_0 0 rfl rfl)
theorem dJ14_hashCode_1 : decode cJ14_hashCode 1 = .ok (.iload_n 3, 1) := dk_29 (dk_at dksJ14_hashCode_0 1 rfl rfl)
theorem dJ14_hashCode_2 : decode cJ14_hashCode 2 = .ok (.iadd, 1) := dk_96 (dk_at dksJ14_hashCode_0 2 rfl rfl)
theorem dJ14_hashCode_3 : decode cJ14_hashCode 3 = .ok (.istore 4, 2) := dk_54 4 (dk_at dksJ14_hashCode_0 3 rfl rfl)
theorem dJ14_hashCode_5 : decode cJ14_hashCode 5 = .ok (.iload_n 2, 1) := dk_28 (dk_at dksJ14_hashCode_0 5 rfl rfl)
theorem dJ14_hashCode_6 : decode cJ14_hashCode 6 = .ok (.istore 5, 2) := dk_54 5 (dk_at dksJ14_hashCode_0 6 rfl rfl)
theorem dJ14_hashCode_8 : decode cJ14_hashCode 8 = .ok (.iload 5, 2) := dk_21 5 (dk_at dksJ14_hashCode_0 8 rfl rfl)
theorem dJ14_hashCode_10 : decode cJ14_hashCode 10 = .ok (.iload 4, 2) := dk_21 4 (dk_at dksJ14_hashCode_0 10 rfl rfl)
theorem dJ14_hashCode_12 : decode cJ14_hashCode 12 = .ok (.if_icmp .ge 19, 3) := dk_162 0 19 (dk_at dksJ14_hashCode_0 12 rfl rfl)
theorem dJ14_hashCode_15 : decode cJ14_hashCode 15 = .ok (.bipush 31, 2) := dk_16 31 (dk_at dksJ14_hashCode_0 15 rfl rfl)
theorem dJ14_hashCode_17 : decode cJ14_hashCode 17 = .ok (.iload_n 0, 1) := dk_26 (dk_at dksJ14_hashCode_0 17 rfl rfl)
theorem dJ14_hashCode_18 : decode cJ14_hashCode 18 = .ok (.imul, 1) := dk_104 (dk_at dksJ14_hashCode_0 18 rfl rfl)
theorem dJ14_hashCode_19 : decode cJ14_hashCode 19 = .ok (.aload_n 1, 1) := dk_43 (dk_at dksJ14_hashCode_0 19 rfl rfl)
theorem dJ14_hashCode_20 : decode cJ14_hashCode 20 = .ok (.iload 5, 2) := dk_21 5 (dk_at dksJ14_hashCode_0 20 rfl rfl)
theorem dJ14_hashCode_22 : decode cJ14_hashCode 22 = .ok (.caload, 1) := dk_52 (dk_at dksJ14_hashCode_0 22 rfl rfl)
theorem dJ14_hashCode_23 : decode cJ14_hashCode 23 = .ok (.iadd, 1) := dk_96 (dk_at dksJ14_hashCode_0 23 rfl rfl)
theorem dJ14_hashCode_24 : decode cJ14_hashCode 24 = .ok (.istore_n 0, 1) := dk_59 (dk_at dksJ14_hashCode_1 0 rfl rfl)
theorem dJ14_hashCode_25 : decode cJ14_hashCode 25 = .ok (.iinc 5 1, 3) := dk_132 5 1 (dk_at dksJ14_hashCode_1 1 rfl rfl)
theorem dJ14_hashCode_28 : decode cJ14_hashCode 28 = .ok (.goto (-20), 3) := dk_167 255 236 (dk_at dksJ14_hashCode_1 4 rfl rfl)
theorem dJ14_hashCode_31 : decode cJ14_hashCode 31 = .ok (.iload_n 0, 1) := dk_26 (dk_at dksJ14_hashCode_1 7 rfl rfl)
theorem dJ14_hashCode_32 : decode cJ14_hashCode 32 = .ok (.ireturn, 1) := dk_172 (dk_at dksJ14_hashCode_1 8 rfl rfl)
abbrev cJ14_hashCode_2 : ByteArray := prog_85_method_6_code
def yJ14_hashCode_2 : MethodName := ⟨RJ14, "hashCode", "(I[BII)I"⟩
def dkwJ14_hashCode_2_1 : List UInt8 := [59, 132, 5, 1, 167, 255, 236, 26, 172]
abbrev dktJ14_hashCode_2_1 : List UInt8 := dkwJ14_hashCode_2_1 ++ []
def dkwJ14_hashCode_2_0 : List UInt8 := [28, 29, 96, 54, 4, 28, 54, 5, 21, 5, 21, 4, 162, 0, 19, 16, 31, 26, 104, 43, 21, 5, 51, 96]
abbrev dktJ14_hashCode_2_0 : List UInt8 := dkwJ14_hashCode_2_0 ++ dktJ14_hashCode_2_1
theorem dksJ14_hashCode_2_0 : cJ14_hashCode_2.data.toList.drop 0 = dktJ14_hashCode_2_0 := by decide +kernel
theorem dksJ14_hashCode_2_1 : cJ14_hashCode_2.data.toList.drop 24 = dktJ14_hashCode_2_1 := dk_seg dksJ14_hashCode_2_0 24 rfl rfl
theorem dJ14_hashCode_2_0 : decode cJ14_hashCode_2 0 = .ok (.iload_n 2, 1) := dk_28 (dk_at dksJ14_hashCode_2_0 0 rfl rfl)
theorem dJ14_hashCode_2_1 : decode cJ14_hashCode_2 1 = .ok (.iload_n 3, 1) := dk_29 (dk_at dksJ14_hashCode_2_0 1 rfl rfl)
theorem dJ14_hashCode_2_2 : decode cJ14_hashCode_2 2 = .ok (.iadd, 1) := dk_96 (dk_at dksJ14_hashCode_2_0 2 rfl rfl)
theorem dJ14_hashCode_2_3 : decode cJ14_hashCode_2 3 = .ok (.istore 4, 2) := dk_54 4 (dk_at dksJ14_hashCode_2_0 3 rfl rfl)
theorem dJ14_hashCode_2_5 : decode cJ14_hashCode_2 5 = .ok (.iload_n 2, 1) := dk_28 (dk_at dksJ14_hashCode_2_0 5 rfl rfl)
theorem dJ14_hashCode_2_6 : decode cJ14_hashCode_2 6 = .ok (.istore 5, 2) := dk_54 5 (dk_at dksJ14_hashCode_2_0 6 rfl rfl)
theorem dJ14_hashCode_2_8 : decode cJ14_hashCode_2 8 = .ok (.iload 5, 2) := dk_21 5 (dk_at dksJ14_hashCode_2_0 8 rfl rfl)
theorem dJ14_hashCode_2_10 : decode cJ14_hashCode_2 10 = .ok (.iload 4, 2) := dk_21 4 (dk_at dksJ14_hashCode_2_0 10 rfl rfl)
theorem dJ14_hashCode_2_12 : decode cJ14_hashCode_2 12 = .ok (.if_icmp .ge 19, 3) := dk_162 0 19 (dk_at dksJ14_hashCode_2_0 12 rfl rfl)
theorem dJ14_hashCode_2_15 : decode cJ14_hashCode_2 15 = .ok (.bipush 31, 2) := dk_16 31 (dk_at dksJ14_hashCode_2_0 15 rfl rfl)
theorem dJ14_hashCode_2_17 : decode cJ14_hashCode_2 17 = .ok (.iload_n 0, 1) := dk_26 (dk_at dksJ14_hashCode_2_0 17 rfl rfl)
theorem dJ14_hashCode_2_18 : decode cJ14_hashCode_2 18 = .ok (.imul, 1) := dk_104 (dk_at dksJ14_hashCode_2_0 18 rfl rfl)
theorem dJ14_hashCode_2_19 : decode cJ14_hashCode_2 19 = .ok (.aload_n 1, 1) := dk_43 (dk_at dksJ14_hashCode_2_0 19 rfl rfl)
theorem dJ14_hashCode_2_20 : decode cJ14_hashCode_2 20 = .ok (.iload 5, 2) := dk_21 5 (dk_at dksJ14_hashCode_2_0 20 rfl rfl)
theorem dJ14_hashCode_2_22 : decode cJ14_hashCode_2 22 = .ok (.baload, 1) := dk_51 (dk_at dksJ14_hashCode_2_0 22 rfl rfl)
theorem dJ14_hashCode_2_23 : decode cJ14_hashCode_2 23 = .ok (.iadd, 1) := dk_96 (dk_at dksJ14_hashCode_2_0 23 rfl rfl)
theorem dJ14_hashCode_2_24 : decode cJ14_hashCode_2 24 = .ok (.istore_n 0, 1) := dk_59 (dk_at dksJ14_hashCode_2_1 0 rfl rfl)
theorem dJ14_hashCode_2_25 : decode cJ14_hashCode_2 25 = .ok (.iinc 5 1, 3) := dk_132 5 1 (dk_at dksJ14_hashCode_2_1 1 rfl rfl)
theorem dJ14_hashCode_2_28 : decode cJ14_hashCode_2 28 = .ok (.goto (-20), 3) := dk_167 255 236 (dk_at dksJ14_hashCode_2_1 4 rfl rfl)
theorem dJ14_hashCode_2_31 : decode cJ14_hashCode_2 31 = .ok (.iload_n 0, 1) := dk_26 (dk_at dksJ14_hashCode_2_1 7 rfl rfl)
theorem dJ14_hashCode_2_32 : decode cJ14_hashCode_2 32 = .ok (.ireturn, 1) := dk_172 (dk_at dksJ14_hashCode_2_1 8 rfl rfl)
abbrev cJ14_hashCode_3 : ByteArray := prog_85_method_8_code
def yJ14_hashCode_3 : MethodName := ⟨RJ14, "hashCode", "(I[SII)I"⟩
def dkwJ14_hashCode_3_1 : List UInt8 := [59, 132, 5, 1, 167, 255, 236, 26, 172]
abbrev dktJ14_hashCode_3_1 : List UInt8 := dkwJ14_hashCode_3_1 ++ []
def dkwJ14_hashCode_3_0 : List UInt8 := [28, 29, 96, 54, 4, 28, 54, 5, 21, 5, 21, 4, 162, 0, 19, 16, 31, 26, 104, 43, 21, 5, 53, 96]
abbrev dktJ14_hashCode_3_0 : List UInt8 := dkwJ14_hashCode_3_0 ++ dktJ14_hashCode_3_1
theorem dksJ14_hashCode_3_0 : cJ14_hashCode_3.data.toList.drop 0 = dktJ14_hashCode_3_0 := by decide +kernel
theorem dksJ14_hashCode_3_1 : cJ14_hashCode_3.data.toList.drop 24 = dktJ14_hashCode_3_1 := dk_seg dksJ14_hashCode_3_0 24 rfl rfl
theorem dJ14_hashCode_3_0 : decode cJ14_hashCode_3 0 = .ok (.iload_n 2, 1) := dk_28 (dk_at dksJ14_hashCode_3_0 0 rfl rfl)
theorem dJ14_hashCode_3_1 : decode cJ14_hashCode_3 1 = .ok (.iload_n 3, 1) := dk_29 (dk_at dksJ14_hashCode_3_0 1 rfl rfl)
theorem dJ14_hashCode_3_2 : decode cJ14_hashCode_3 2 = .ok (.iadd, 1) := dk_96 (dk_at dksJ14_hashCode_3_0 2 rfl rfl)
theorem dJ14_hashCode_3_3 : decode cJ14_hashCode_3 3 = .ok (.istore 4, 2) := dk_54 4 (dk_at dksJ14_hashCode_3_0 3 rfl rfl)
theorem dJ14_hashCode_3_5 : decode cJ14_hashCode_3 5 = .ok (.iload_n 2, 1) := dk_28 (dk_at dksJ14_hashCode_3_0 5 rfl rfl)
theorem dJ14_hashCode_3_6 : decode cJ14_hashCode_3 6 = .ok (.istore 5, 2) := dk_54 5 (dk_at dksJ14_hashCode_3_0 6 rfl rfl)
theorem dJ14_hashCode_3_8 : decode cJ14_hashCode_3 8 = .ok (.iload 5, 2) := dk_21 5 (dk_at dksJ14_hashCode_3_0 8 rfl rfl)
theorem dJ14_hashCode_3_10 : decode cJ14_hashCode_3 10 = .ok (.iload 4, 2) := dk_21 4 (dk_at dksJ14_hashCode_3_0 10 rfl rfl)
theorem dJ14_hashCode_3_12 : decode cJ14_hashCode_3 12 = .ok (.if_icmp .ge 19, 3) := dk_162 0 19 (dk_at dksJ14_hashCode_3_0 12 rfl rfl)
theorem dJ14_hashCode_3_15 : decode cJ14_hashCode_3 15 = .ok (.bipush 31, 2) := dk_16 31 (dk_at dksJ14_hashCode_3_0 15 rfl rfl)
theorem dJ14_hashCode_3_17 : decode cJ14_hashCode_3 17 = .ok (.iload_n 0, 1) := dk_26 (dk_at dksJ14_hashCode_3_0 17 rfl rfl)
theorem dJ14_hashCode_3_18 : decode cJ14_hashCode_3 18 = .ok (.imul, 1) := dk_104 (dk_at dksJ14_hashCode_3_0 18 rfl rfl)
theorem dJ14_hashCode_3_19 : decode cJ14_hashCode_3 19 = .ok (.aload_n 1, 1) := dk_43 (dk_at dksJ14_hashCode_3_0 19 rfl rfl)
theorem dJ14_hashCode_3_20 : decode cJ14_hashCode_3 20 = .ok (.iload 5, 2) := dk_21 5 (dk_at dksJ14_hashCode_3_0 20 rfl rfl)
theorem dJ14_hashCode_3_22 : decode cJ14_hashCode_3 22 = .ok (.saload, 1) := dk_53 (dk_at dksJ14_hashCode_3_0 22 rfl rfl)
theorem dJ14_hashCode_3_23 : decode cJ14_hashCode_3 23 = .ok (.iadd, 1) := dk_96 (dk_at dksJ14_hashCode_3_0 23 rfl rfl)
theorem dJ14_hashCode_3_24 : decode cJ14_hashCode_3 24 = .ok (.istore_n 0, 1) := dk_59 (dk_at dksJ14_hashCode_3_1 0 rfl rfl)
theorem dJ14_hashCode_3_25 : decode cJ14_hashCode_3 25 = .ok (.iinc 5 1, 3) := dk_132 5 1 (dk_at dksJ14_hashCode_3_1 1 rfl rfl)
theorem dJ14_hashCode_3_28 : decode cJ14_hashCode_3 28 = .ok (.goto (-20), 3) := dk_167 255 236 (dk_at dksJ14_hashCode_3_1 4 rfl rfl)
theorem dJ14_hashCode_3_31 : decode cJ14_hashCode_3 31 = .ok (.iload_n 0, 1) := dk_26 (dk_at dksJ14_hashCode_3_1 7 rfl rfl)
theorem dJ14_hashCode_3_32 : decode cJ14_hashCode_3 32 = .ok (.ireturn, 1) := dk_172 (dk_at dksJ14_hashCode_3_1 8 rfl rfl)
abbrev cJ14_hashCode_4 : ByteArray := prog_85_method_9_code
def yJ14_hashCode_4 : MethodName := ⟨RJ14, "hashCode", "(I[III)I"⟩
def dkwJ14_hashCode_4_1 : List UInt8 := [59, 132, 5, 1, 167, 255, 236, 26, 172]
abbrev dktJ14_hashCode_4_1 : List UInt8 := dkwJ14_hashCode_4_1 ++ []
def dkwJ14_hashCode_4_0 : List UInt8 := [28, 29, 96, 54, 4, 28, 54, 5, 21, 5, 21, 4, 162, 0, 19, 16, 31, 26, 104, 43, 21, 5, 46, 96]
abbrev dktJ14_hashCode_4_0 : List UInt8 := dkwJ14_hashCode_4_0 ++ dktJ14_hashCode_4_1
theorem dksJ14_hashCode_4_0 : cJ14_hashCode_4.data.toList.drop 0 = dktJ14_hashCode_4_0 := by decide +kernel
theorem dksJ14_hashCode_4_1 : cJ14_hashCode_4.data.toList.drop 24 = dktJ14_hashCode_4_1 := dk_seg dksJ14_hashCode_4_0 24 rfl rfl
theorem dJ14_hashCode_4_0 : decode cJ14_hashCode_4 0 = .ok (.iload_n 2, 1) := dk_28 (dk_at dksJ14_hashCode_4_0 0 rfl rfl)
theorem dJ14_hashCode_4_1 : decode cJ14_hashCode_4 1 = .ok (.iload_n 3, 1) := dk_29 (dk_at dksJ14_hashCode_4_0 1 rfl rfl)
theorem dJ14_hashCode_4_2 : decode cJ14_hashCode_4 2 = .ok (.iadd, 1) := dk_96 (dk_at dksJ14_hashCode_4_0 2 rfl rfl)
theorem dJ14_hashCode_4_3 : decode cJ14_hashCode_4 3 = .ok (.istore 4, 2) := dk_54 4 (dk_at dksJ14_hashCode_4_0 3 rfl rfl)
theorem dJ14_hashCode_4_5 : decode cJ14_hashCode_4 5 = .ok (.iload_n 2, 1) := dk_28 (dk_at dksJ14_hashCode_4_0 5 rfl rfl)
theorem dJ14_hashCode_4_6 : decode cJ14_hashCode_4 6 = .ok (.istore 5, 2) := dk_54 5 (dk_at dksJ14_hashCode_4_0 6 rfl rfl)
theorem dJ14_hashCode_4_8 : decode cJ14_hashCode_4 8 = .ok (.iload 5, 2) := dk_21 5 (dk_at dksJ14_hashCode_4_0 8 rfl rfl)
theorem dJ14_hashCode_4_10 : decode cJ14_hashCode_4 10 = .ok (.iload 4, 2) := dk_21 4 (dk_at dksJ14_hashCode_4_0 10 rfl rfl)
theorem dJ14_hashCode_4_12 : decode cJ14_hashCode_4 12 = .ok (.if_icmp .ge 19, 3) := dk_162 0 19 (dk_at dksJ14_hashCode_4_0 12 rfl rfl)
theorem dJ14_hashCode_4_15 : decode cJ14_hashCode_4 15 = .ok (.bipush 31, 2) := dk_16 31 (dk_at dksJ14_hashCode_4_0 15 rfl rfl)
theorem dJ14_hashCode_4_17 : decode cJ14_hashCode_4 17 = .ok (.iload_n 0, 1) := dk_26 (dk_at dksJ14_hashCode_4_0 17 rfl rfl)
theorem dJ14_hashCode_4_18 : decode cJ14_hashCode_4 18 = .ok (.imul, 1) := dk_104 (dk_at dksJ14_hashCode_4_0 18 rfl rfl)
theorem dJ14_hashCode_4_19 : decode cJ14_hashCode_4 19 = .ok (.aload_n 1, 1) := dk_43 (dk_at dksJ14_hashCode_4_0 19 rfl rfl)
theorem dJ14_hashCode_4_20 : decode cJ14_hashCode_4 20 = .ok (.iload 5, 2) := dk_21 5 (dk_at dksJ14_hashCode_4_0 20 rfl rfl)
theorem dJ14_hashCode_4_22 : decode cJ14_hashCode_4 22 = .ok (.iaload, 1) := dk_46 (dk_at dksJ14_hashCode_4_0 22 rfl rfl)
theorem dJ14_hashCode_4_23 : decode cJ14_hashCode_4 23 = .ok (.iadd, 1) := dk_96 (dk_at dksJ14_hashCode_4_0 23 rfl rfl)
theorem dJ14_hashCode_4_24 : decode cJ14_hashCode_4 24 = .ok (.istore_n 0, 1) := dk_59 (dk_at dksJ14_hashCode_4_1 0 rfl rfl)
theorem dJ14_hashCode_4_25 : decode cJ14_hashCode_4 25 = .ok (.iinc 5 1, 3) := dk_132 5 1 (dk_at dksJ14_hashCode_4_1 1 rfl rfl)
theorem dJ14_hashCode_4_28 : decode cJ14_hashCode_4 28 = .ok (.goto (-20), 3) := dk_167 255 236 (dk_at dksJ14_hashCode_4_1 4 rfl rfl)
theorem dJ14_hashCode_4_31 : decode cJ14_hashCode_4 31 = .ok (.iload_n 0, 1) := dk_26 (dk_at dksJ14_hashCode_4_1 7 rfl rfl)
theorem dJ14_hashCode_4_32 : decode cJ14_hashCode_4 32 = .ok (.ireturn, 1) := dk_172 (dk_at dksJ14_hashCode_4_1 8 rfl rfl)
abbrev cJ14_mismatch : ByteArray := prog_85_method_13_code
def yJ14_mismatch : MethodName := ⟨RJ14, "mismatch", "([B[BI)I"⟩
def dkwJ14_mismatch_3 : List UInt8 := [172]
abbrev dktJ14_mismatch_3 : List UInt8 := dkwJ14_mismatch_3 ++ []
def dkwJ14_mismatch_2 : List UInt8 := [62, 29, 28, 162, 0, 20, 42, 29, 51, 43, 29, 51, 159, 0, 5, 29, 172, 132, 3, 1, 167, 255, 237, 2]
abbrev dktJ14_mismatch_2 : List UInt8 := dkwJ14_mismatch_2 ++ dktJ14_mismatch_3
def dkwJ14_mismatch_1 : List UInt8 := [43, 178, 0, 126, 133, 28, 178, 0, 129, 184, 0, 122, 62, 29, 155, 0, 5, 29, 172, 28, 29, 2, 130, 100]
abbrev dktJ14_mismatch_1 : List UInt8 := dkwJ14_mismatch_1 ++ dktJ14_mismatch_2
def dkwJ14_mismatch_0 : List UInt8 := [3, 62, 28, 16, 7, 164, 0, 44, 42, 3, 51, 43, 3, 51, 159, 0, 5, 3, 172, 42, 178, 0, 126, 133]
abbrev dktJ14_mismatch_0 : List UInt8 := dkwJ14_mismatch_0 ++ dktJ14_mismatch_1
theorem dksJ14_mismatch_0 : cJ14_mismatch.data.toList.drop 0 = dktJ14_mismatch_0 := by decide +kernel
theorem dksJ14_mismatch_1 : cJ14_mismatch.data.toList.drop 24 = dktJ14_mismatch_1 := dk_seg dksJ14_mismatch_0 24 rfl rfl
theorem dksJ14_mismatch_2 : cJ14_mismatch.data.toList.drop 48 = dktJ14_mismatch_2 := dk_seg dksJ14_mismatch_1 24 rfl rfl
theorem dksJ14_mismatch_3 : cJ14_mismatch.data.toList.drop 72 = dktJ14_mismatch_3 := dk_seg dksJ14_mismatch_2 24 rfl rfl
theorem dJ14_mismatch_0 : decode cJ14_mismatch 0 = .ok (.iconst 0, 1) := dk_3 (dk_at dksJ14_mismatch_0 0 rfl rfl)
theorem dJ14_mismatch_1 : decode cJ14_mismatch 1 = .ok (.istore_n 3, 1) := dk_62 (dk_at dksJ14_mismatch_0 1 rfl rfl)
theorem dJ14_mismatch_2 : decode cJ14_mismatch 2 = .ok (.iload_n 2, 1) := dk_28 (dk_at dksJ14_mismatch_0 2 rfl rfl)
theorem dJ14_mismatch_3 : decode cJ14_mismatch 3 = .ok (.bipush 7, 2) := dk_16 7 (dk_at dksJ14_mismatch_0 3 rfl rfl)
theorem dJ14_mismatch_5 : decode cJ14_mismatch 5 = .ok (.if_icmp .le 44, 3) := dk_164 0 44 (dk_at dksJ14_mismatch_0 5 rfl rfl)
theorem dJ14_mismatch_8 : decode cJ14_mismatch 8 = .ok (.aload_n 0, 1) := dk_42 (dk_at dksJ14_mismatch_0 8 rfl rfl)
theorem dJ14_mismatch_9 : decode cJ14_mismatch 9 = .ok (.iconst 0, 1) := dk_3 (dk_at dksJ14_mismatch_0 9 rfl rfl)
theorem dJ14_mismatch_10 : decode cJ14_mismatch 10 = .ok (.baload, 1) := dk_51 (dk_at dksJ14_mismatch_0 10 rfl rfl)
theorem dJ14_mismatch_11 : decode cJ14_mismatch 11 = .ok (.aload_n 1, 1) := dk_43 (dk_at dksJ14_mismatch_0 11 rfl rfl)
theorem dJ14_mismatch_12 : decode cJ14_mismatch 12 = .ok (.iconst 0, 1) := dk_3 (dk_at dksJ14_mismatch_0 12 rfl rfl)
theorem dJ14_mismatch_13 : decode cJ14_mismatch 13 = .ok (.baload, 1) := dk_51 (dk_at dksJ14_mismatch_0 13 rfl rfl)
theorem dJ14_mismatch_14 : decode cJ14_mismatch 14 = .ok (.if_icmp .eq 5, 3) := dk_159 0 5 (dk_at dksJ14_mismatch_0 14 rfl rfl)
theorem dJ14_mismatch_17 : decode cJ14_mismatch 17 = .ok (.iconst 0, 1) := dk_3 (dk_at dksJ14_mismatch_0 17 rfl rfl)
theorem dJ14_mismatch_18 : decode cJ14_mismatch 18 = .ok (.ireturn, 1) := dk_172 (dk_at dksJ14_mismatch_0 18 rfl rfl)
theorem dJ14_mismatch_19 : decode cJ14_mismatch 19 = .ok (.aload_n 0, 1) := dk_42 (dk_at dksJ14_mismatch_0 19 rfl rfl)
theorem dJ14_mismatch_20 : decode cJ14_mismatch 20 = .ok (.getstatic 126, 3) := dk_178 0 126 (dk_at dksJ14_mismatch_0 20 rfl rfl)
theorem dJ14_mismatch_23 : decode cJ14_mismatch 23 = .ok (.i2l, 1) := dk_133 (dk_at dksJ14_mismatch_0 23 rfl rfl)
theorem dJ14_mismatch_24 : decode cJ14_mismatch 24 = .ok (.aload_n 1, 1) := dk_43 (dk_at dksJ14_mismatch_1 0 rfl rfl)
theorem dJ14_mismatch_25 : decode cJ14_mismatch 25 = .ok (.getstatic 126, 3) := dk_178 0 126 (dk_at dksJ14_mismatch_1 1 rfl rfl)
theorem dJ14_mismatch_28 : decode cJ14_mismatch 28 = .ok (.i2l, 1) := dk_133 (dk_at dksJ14_mismatch_1 4 rfl rfl)
theorem dJ14_mismatch_29 : decode cJ14_mismatch 29 = .ok (.iload_n 2, 1) := dk_28 (dk_at dksJ14_mismatch_1 5 rfl rfl)
theorem dJ14_mismatch_30 : decode cJ14_mismatch 30 = .ok (.getstatic 129, 3) := dk_178 0 129 (dk_at dksJ14_mismatch_1 6 rfl rfl)
theorem dJ14_mismatch_33 : decode cJ14_mismatch 33 = .ok (.invokestatic 122, 3) := dk_184 0 122 (dk_at dksJ14_mismatch_1 9 rfl rfl)
theorem dJ14_mismatch_36 : decode cJ14_mismatch 36 = .ok (.istore_n 3, 1) := dk_62 (dk_at dksJ14_mismatch_1 12 rfl rfl)
theorem dJ14_mismatch_37 : decode cJ14_mismatch 37 = .ok (.iload_n 3, 1) := dk_29 (dk_at dksJ14_mismatch_1 13 rfl rfl)
theorem dJ14_mismatch_38 : decode cJ14_mismatch 38 = .ok (.ifCond .lt 5, 3) := dk_155 0 5 (dk_at dksJ14_mismatch_1 14 rfl rfl)
theorem dJ14_mismatch_41 : decode cJ14_mismatch 41 = .ok (.iload_n 3, 1) := dk_29 (dk_at dksJ14_mismatch_1 17 rfl rfl)
theorem dJ14_mismatch_42 : decode cJ14_mismatch 42 = .ok (.ireturn, 1) := dk_172 (dk_at dksJ14_mismatch_1 18 rfl rfl)
theorem dJ14_mismatch_43 : decode cJ14_mismatch 43 = .ok (.iload_n 2, 1) := dk_28 (dk_at dksJ14_mismatch_1 19 rfl rfl)
theorem dJ14_mismatch_44 : decode cJ14_mismatch 44 = .ok (.iload_n 3, 1) := dk_29 (dk_at dksJ14_mismatch_1 20 rfl rfl)
theorem dJ14_mismatch_45 : decode cJ14_mismatch 45 = .ok (.iconst (-1), 1) := dk_2 (dk_at dksJ14_mismatch_1 21 rfl rfl)
theorem dJ14_mismatch_46 : decode cJ14_mismatch 46 = .ok (.ixor, 1) := dk_130 (dk_at dksJ14_mismatch_1 22 rfl rfl)
theorem dJ14_mismatch_47 : decode cJ14_mismatch 47 = .ok (.isub, 1) := dk_100 (dk_at dksJ14_mismatch_1 23 rfl rfl)
theorem dJ14_mismatch_48 : decode cJ14_mismatch 48 = .ok (.istore_n 3, 1) := dk_62 (dk_at dksJ14_mismatch_2 0 rfl rfl)
theorem dJ14_mismatch_49 : decode cJ14_mismatch 49 = .ok (.iload_n 3, 1) := dk_29 (dk_at dksJ14_mismatch_2 1 rfl rfl)
theorem dJ14_mismatch_50 : decode cJ14_mismatch 50 = .ok (.iload_n 2, 1) := dk_28 (dk_at dksJ14_mismatch_2 2 rfl rfl)
theorem dJ14_mismatch_51 : decode cJ14_mismatch 51 = .ok (.if_icmp .ge 20, 3) := dk_162 0 20 (dk_at dksJ14_mismatch_2 3 rfl rfl)
theorem dJ14_mismatch_54 : decode cJ14_mismatch 54 = .ok (.aload_n 0, 1) := dk_42 (dk_at dksJ14_mismatch_2 6 rfl rfl)
theorem dJ14_mismatch_55 : decode cJ14_mismatch 55 = .ok (.iload_n 3, 1) := dk_29 (dk_at dksJ14_mismatch_2 7 rfl rfl)
theorem dJ14_mismatch_56 : decode cJ14_mismatch 56 = .ok (.baload, 1) := dk_51 (dk_at dksJ14_mismatch_2 8 rfl rfl)
theorem dJ14_mismatch_57 : decode cJ14_mismatch 57 = .ok (.aload_n 1, 1) := dk_43 (dk_at dksJ14_mismatch_2 9 rfl rfl)
theorem dJ14_mismatch_58 : decode cJ14_mismatch 58 = .ok (.iload_n 3, 1) := dk_29 (dk_at dksJ14_mismatch_2 10 rfl rfl)
theorem dJ14_mismatch_59 : decode cJ14_mismatch 59 = .ok (.baload, 1) := dk_51 (dk_at dksJ14_mismatch_2 11 rfl rfl)
theorem dJ14_mismatch_60 : decode cJ14_mismatch 60 = .ok (.if_icmp .eq 5, 3) := dk_159 0 5 (dk_at dksJ14_mismatch_2 12 rfl rfl)
theorem dJ14_mismatch_63 : decode cJ14_mismatch 63 = .ok (.iload_n 3, 1) := dk_29 (dk_at dksJ14_mismatch_2 15 rfl rfl)
theorem dJ14_mismatch_64 : decode cJ14_mismatch 64 = .ok (.ireturn, 1) := dk_172 (dk_at dksJ14_mismatch_2 16 rfl rfl)
theorem dJ14_mismatch_65 : decode cJ14_mismatch 65 = .ok (.iinc 3 1, 3) := dk_132 3 1 (dk_at dksJ14_mismatch_2 17 rfl rfl)
theorem dJ14_mismatch_68 : decode cJ14_mismatch 68 = .ok (.goto (-19), 3) := dk_167 255 237 (dk_at dksJ14_mismatch_2 20 rfl rfl)
theorem dJ14_mismatch_71 : decode cJ14_mismatch 71 = .ok (.iconst (-1), 1) := dk_2 (dk_at dksJ14_mismatch_2 23 rfl rfl)
theorem dJ14_mismatch_72 : decode cJ14_mismatch 72 = .ok (.ireturn, 1) := dk_172 (dk_at dksJ14_mismatch_3 0 rfl rfl)
abbrev cJ14_vectorizedMismatch : ByteArray := prog_85_method_3_code
def yJ14_vectorizedMismatch : MethodName := ⟨RJ14, "vectorizedMismatch", "(Ljava/lang/Object;JLjava/lang/Object;JII)I"⟩
def dkwJ14_vectorizedMismatch_11 : List UInt8 := [54, 10, 21, 10, 2, 130, 172, 21, 10, 2, 130, 172]
abbrev dktJ14_vectorizedMismatch_11 : List UInt8 := dkwJ14_vectorizedMismatch_11 ++ []
def dkwJ14_vectorizedMismatch_10 : List UInt8 := [178, 0, 46, 21, 7, 96, 122, 54, 17, 21, 9, 21, 8, 120, 21, 17, 96, 172, 21, 10, 21, 11, 100]
abbrev dktJ14_vectorizedMismatch_10 : List UInt8 := dkwJ14_vectorizedMismatch_10 ++ dktJ14_vectorizedMismatch_11
def dkwJ14_vectorizedMismatch_9 : List UInt8 := [153, 0, 18, 21, 16, 184, 0, 58, 178, 0, 46, 21, 7, 96, 122, 167, 0, 15, 21, 16, 184, 0, 11]
abbrev dktJ14_vectorizedMismatch_9 : List UInt8 := dkwJ14_vectorizedMismatch_9 ++ dktJ14_vectorizedMismatch_10
def dkwJ14_vectorizedMismatch_8 : List UInt8 := [182, 0, 54, 54, 15, 21, 14, 21, 15, 159, 0, 54, 21, 14, 21, 15, 130, 54, 16, 178, 0, 36]
abbrev dktJ14_vectorizedMismatch_8 : List UInt8 := dkwJ14_vectorizedMismatch_8 ++ dktJ14_vectorizedMismatch_9
def dkwJ14_vectorizedMismatch_7 : List UInt8 := [55, 12, 178, 0, 26, 42, 31, 22, 12, 97, 182, 0, 54, 54, 14, 178, 0, 26, 45, 22, 4, 22, 12, 97]
abbrev dktJ14_vectorizedMismatch_7 : List UInt8 := dkwJ14_vectorizedMismatch_7 ++ dktJ14_vectorizedMismatch_8
def dkwJ14_vectorizedMismatch_6 : List UInt8 := [4, 178, 0, 51, 21, 7, 100, 120, 54, 11, 21, 10, 21, 11, 161, 0, 104, 21, 9, 133, 178, 0, 20, 121]
abbrev dktJ14_vectorizedMismatch_6 : List UInt8 := dkwJ14_vectorizedMismatch_6 ++ dktJ14_vectorizedMismatch_7
def dkwJ14_vectorizedMismatch_5 : List UInt8 := [132, 9, 1, 167, 255, 148, 21, 6, 21, 9, 21, 8, 120, 100, 54, 10, 21, 7, 178, 0, 51, 162, 0, 126]
abbrev dktJ14_vectorizedMismatch_5 : List UInt8 := dkwJ14_vectorizedMismatch_5 ++ dktJ14_vectorizedMismatch_6
def dkwJ14_vectorizedMismatch_4 : List UInt8 := [22, 16, 184, 0, 49, 178, 0, 46, 21, 7, 96, 122, 54, 18, 21, 9, 21, 8, 120, 21, 18, 96, 172]
abbrev dktJ14_vectorizedMismatch_4 : List UInt8 := dkwJ14_vectorizedMismatch_4 ++ dktJ14_vectorizedMismatch_5
def dkwJ14_vectorizedMismatch_3 : List UInt8 := [55, 16, 178, 0, 36, 153, 0, 18, 22, 16, 184, 0, 40, 178, 0, 46, 21, 7, 96, 122, 167, 0, 15]
abbrev dktJ14_vectorizedMismatch_3 : List UInt8 := dkwJ14_vectorizedMismatch_3 ++ dktJ14_vectorizedMismatch_4
def dkwJ14_vectorizedMismatch_2 : List UInt8 := [22, 4, 22, 10, 97, 182, 0, 30, 55, 14, 22, 12, 22, 14, 148, 153, 0, 54, 22, 12, 22, 14, 131]
abbrev dktJ14_vectorizedMismatch_2 : List UInt8 := dkwJ14_vectorizedMismatch_2 ++ dktJ14_vectorizedMismatch_3
def dkwJ14_vectorizedMismatch_1 : List UInt8 := [178, 0, 20, 121, 55, 10, 178, 0, 26, 42, 31, 22, 10, 97, 182, 0, 30, 55, 12, 178, 0, 26, 45]
abbrev dktJ14_vectorizedMismatch_1 : List UInt8 := dkwJ14_vectorizedMismatch_1 ++ dktJ14_vectorizedMismatch_2
def dkwJ14_vectorizedMismatch_0 : List UInt8 := [178, 0, 20, 21, 7, 100, 54, 8, 3, 54, 9, 21, 9, 21, 6, 21, 8, 122, 162, 0, 104, 21, 9, 133]
abbrev dktJ14_vectorizedMismatch_0 : List UInt8 := dkwJ14_vectorizedMismatch_0 ++ dktJ14_vectorizedMismatch_1
theorem dksJ14_vectorizedMismatch_0 : cJ14_vectorizedMismatch.data.toList.drop 0 = dktJ14_vectorizedMismatch_0 := by decide +kernel
theorem dksJ14_vectorizedMismatch_1 : cJ14_vectorizedMismatch.data.toList.drop 24 = dktJ14_vectorizedMismatch_1 := dk_seg dksJ14_vectorizedMismatch_0 24 rfl rfl
theorem dksJ14_vectorizedMismatch_2 : cJ14_vectorizedMismatch.data.toList.drop 47 = dktJ14_vectorizedMismatch_2 := dk_seg dksJ14_vectorizedMismatch_1 23 rfl rfl
theorem dksJ14_vectorizedMismatch_3 : cJ14_vectorizedMismatch.data.toList.drop 70 = dktJ14_vectorizedMismatch_3 := dk_seg dksJ14_vectorizedMismatch_2 23 rfl rfl
theorem dksJ14_vectorizedMismatch_4 : cJ14_vectorizedMismatch.data.toList.drop 93 = dktJ14_vectorizedMismatch_4 := dk_seg dksJ14_vectorizedMismatch_3 23 rfl rfl
theorem dksJ14_vectorizedMismatch_5 : cJ14_vectorizedMismatch.data.toList.drop 116 = dktJ14_vectorizedMismatch_5 := dk_seg dksJ14_vectorizedMismatch_4 23 rfl rfl
theorem dksJ14_vectorizedMismatch_6 : cJ14_vectorizedMismatch.data.toList.drop 140 = dktJ14_vectorizedMismatch_6 := dk_seg dksJ14_vectorizedMismatch_5 24 rfl rfl
theorem dksJ14_vectorizedMismatch_7 : cJ14_vectorizedMismatch.data.toList.drop 164 = dktJ14_vectorizedMismatch_7 := dk_seg dksJ14_vectorizedMismatch_6 24 rfl rfl
theorem dksJ14_vectorizedMismatch_8 : cJ14_vectorizedMismatch.data.toList.drop 188 = dktJ14_vectorizedMismatch_8 := dk_seg dksJ14_vectorizedMismatch_7 24 rfl rfl
theorem dksJ14_vectorizedMismatch_9 : cJ14_vectorizedMismatch.data.toList.drop 210 = dktJ14_vectorizedMismatch_9 := dk_seg dksJ14_vectorizedMismatch_8 22 rfl rfl
theorem dksJ14_vectorizedMismatch_10 : cJ14_vectorizedMismatch.data.toList.drop 233 = dktJ14_vectorizedMismatch_10 := dk_seg dksJ14_vectorizedMismatch_9 23 rfl rfl
theorem dksJ14_vectorizedMismatch_11 : cJ14_vectorizedMismatch.data.toList.drop 256 = dktJ14_vectorizedMismatch_11 := dk_seg dksJ14_vectorizedMismatch_10 23 rfl rfl
theorem dJ14_vectorizedMismatch_0 : decode cJ14_vectorizedMismatch 0 = .ok (.getstatic 20, 3) := dk_178 0 20 (dk_at dksJ14_vectorizedMismatch_0 0 rfl rfl)
theorem dJ14_vectorizedMismatch_3 : decode cJ14_vectorizedMismatch 3 = .ok (.iload 7, 2) := dk_21 7 (dk_at dksJ14_vectorizedMismatch_0 3 rfl rfl)
theorem dJ14_vectorizedMismatch_5 : decode cJ14_vectorizedMismatch 5 = .ok (.isub, 1) := dk_100 (dk_at dksJ14_vectorizedMismatch_0 5 rfl rfl)
theorem dJ14_vectorizedMismatch_6 : decode cJ14_vectorizedMismatch 6 = .ok (.istore 8, 2) := dk_54 8 (dk_at dksJ14_vectorizedMismatch_0 6 rfl rfl)
theorem dJ14_vectorizedMismatch_8 : decode cJ14_vectorizedMismatch 8 = .ok (.iconst 0, 1) := dk_3 (dk_at dksJ14_vectorizedMismatch_0 8 rfl rfl)
theorem dJ14_vectorizedMismatch_9 : decode cJ14_vectorizedMismatch 9 = .ok (.istore 9, 2) := dk_54 9 (dk_at dksJ14_vectorizedMismatch_0 9 rfl rfl)
theorem dJ14_vectorizedMismatch_11 : decode cJ14_vectorizedMismatch 11 = .ok (.iload 9, 2) := dk_21 9 (dk_at dksJ14_vectorizedMismatch_0 11 rfl rfl)
theorem dJ14_vectorizedMismatch_13 : decode cJ14_vectorizedMismatch 13 = .ok (.iload 6, 2) := dk_21 6 (dk_at dksJ14_vectorizedMismatch_0 13 rfl rfl)
theorem dJ14_vectorizedMismatch_15 : decode cJ14_vectorizedMismatch 15 = .ok (.iload 8, 2) := dk_21 8 (dk_at dksJ14_vectorizedMismatch_0 15 rfl rfl)
theorem dJ14_vectorizedMismatch_17 : decode cJ14_vectorizedMismatch 17 = .ok (.ishr, 1) := dk_122 (dk_at dksJ14_vectorizedMismatch_0 17 rfl rfl)
theorem dJ14_vectorizedMismatch_18 : decode cJ14_vectorizedMismatch 18 = .ok (.if_icmp .ge 104, 3) := dk_162 0 104 (dk_at dksJ14_vectorizedMismatch_0 18 rfl rfl)
theorem dJ14_vectorizedMismatch_21 : decode cJ14_vectorizedMismatch 21 = .ok (.iload 9, 2) := dk_21 9 (dk_at dksJ14_vectorizedMismatch_0 21 rfl rfl)
theorem dJ14_vectorizedMismatch_23 : decode cJ14_vectorizedMismatch 23 = .ok (.i2l, 1) := dk_133 (dk_at dksJ14_vectorizedMismatch_0 23 rfl rfl)
theorem dJ14_vectorizedMismatch_24 : decode cJ14_vectorizedMismatch 24 = .ok (.getstatic 20, 3) := dk_178 0 20 (dk_at dksJ14_vectorizedMismatch_1 0 rfl rfl)
theorem dJ14_vectorizedMismatch_27 : decode cJ14_vectorizedMismatch 27 = .ok (.lshl, 1) := dk_121 (dk_at dksJ14_vectorizedMismatch_1 3 rfl rfl)
theorem dJ14_vectorizedMismatch_28 : decode cJ14_vectorizedMismatch 28 = .ok (.lstore 10, 2) := dk_55 10 (dk_at dksJ14_vectorizedMismatch_1 4 rfl rfl)
theorem dJ14_vectorizedMismatch_30 : decode cJ14_vectorizedMismatch 30 = .ok (.getstatic 26, 3) := dk_178 0 26 (dk_at dksJ14_vectorizedMismatch_1 6 rfl rfl)
theorem dJ14_vectorizedMismatch_33 : decode cJ14_vectorizedMismatch 33 = .ok (.aload_n 0, 1) := dk_42 (dk_at dksJ14_vectorizedMismatch_1 9 rfl rfl)
theorem dJ14_vectorizedMismatch_34 : decode cJ14_vectorizedMismatch 34 = .ok (.lload_n 1, 1) := dk_31 (dk_at dksJ14_vectorizedMismatch_1 10 rfl rfl)
theorem dJ14_vectorizedMismatch_35 : decode cJ14_vectorizedMismatch 35 = .ok (.lload 10, 2) := dk_22 10 (dk_at dksJ14_vectorizedMismatch_1 11 rfl rfl)
theorem dJ14_vectorizedMismatch_37 : decode cJ14_vectorizedMismatch 37 = .ok (.ladd, 1) := dk_97 (dk_at dksJ14_vectorizedMismatch_1 13 rfl rfl)
theorem dJ14_vectorizedMismatch_38 : decode cJ14_vectorizedMismatch 38 = .ok (.invokevirtual 30, 3) := dk_182 0 30 (dk_at dksJ14_vectorizedMismatch_1 14 rfl rfl)
theorem dJ14_vectorizedMismatch_41 : decode cJ14_vectorizedMismatch 41 = .ok (.lstore 12, 2) := dk_55 12 (dk_at dksJ14_vectorizedMismatch_1 17 rfl rfl)
theorem dJ14_vectorizedMismatch_43 : decode cJ14_vectorizedMismatch 43 = .ok (.getstatic 26, 3) := dk_178 0 26 (dk_at dksJ14_vectorizedMismatch_1 19 rfl rfl)
theorem dJ14_vectorizedMismatch_46 : decode cJ14_vectorizedMismatch 46 = .ok (.aload_n 3, 1) := dk_45 (dk_at dksJ14_vectorizedMismatch_1 22 rfl rfl)
theorem dJ14_vectorizedMismatch_47 : decode cJ14_vectorizedMismatch 47 = .ok (.lload 4, 2) := dk_22 4 (dk_at dksJ14_vectorizedMismatch_2 0 rfl rfl)
theorem dJ14_vectorizedMismatch_49 : decode cJ14_vectorizedMismatch 49 = .ok (.lload 10, 2) := dk_22 10 (dk_at dksJ14_vectorizedMismatch_2 2 rfl rfl)
theorem dJ14_vectorizedMismatch_51 : decode cJ14_vectorizedMismatch 51 = .ok (.ladd, 1) := dk_97 (dk_at dksJ14_vectorizedMismatch_2 4 rfl rfl)
theorem dJ14_vectorizedMismatch_52 : decode cJ14_vectorizedMismatch 52 = .ok (.invokevirtual 30, 3) := dk_182 0 30 (dk_at dksJ14_vectorizedMismatch_2 5 rfl rfl)
theorem dJ14_vectorizedMismatch_55 : decode cJ14_vectorizedMismatch 55 = .ok (.lstore 14, 2) := dk_55 14 (dk_at dksJ14_vectorizedMismatch_2 8 rfl rfl)
theorem dJ14_vectorizedMismatch_57 : decode cJ14_vectorizedMismatch 57 = .ok (.lload 12, 2) := dk_22 12 (dk_at dksJ14_vectorizedMismatch_2 10 rfl rfl)
theorem dJ14_vectorizedMismatch_59 : decode cJ14_vectorizedMismatch 59 = .ok (.lload 14, 2) := dk_22 14 (dk_at dksJ14_vectorizedMismatch_2 12 rfl rfl)
theorem dJ14_vectorizedMismatch_61 : decode cJ14_vectorizedMismatch 61 = .ok (.lcmp, 1) := dk_148 (dk_at dksJ14_vectorizedMismatch_2 14 rfl rfl)
theorem dJ14_vectorizedMismatch_62 : decode cJ14_vectorizedMismatch 62 = .ok (.ifCond .eq 54, 3) := dk_153 0 54 (dk_at dksJ14_vectorizedMismatch_2 15 rfl rfl)
theorem dJ14_vectorizedMismatch_65 : decode cJ14_vectorizedMismatch 65 = .ok (.lload 12, 2) := dk_22 12 (dk_at dksJ14_vectorizedMismatch_2 18 rfl rfl)
theorem dJ14_vectorizedMismatch_67 : decode cJ14_vectorizedMismatch 67 = .ok (.lload 14, 2) := dk_22 14 (dk_at dksJ14_vectorizedMismatch_2 20 rfl rfl)
theorem dJ14_vectorizedMismatch_69 : decode cJ14_vectorizedMismatch 69 = .ok (.lxor, 1) := dk_131 (dk_at dksJ14_vectorizedMismatch_2 22 rfl rfl)
theorem dJ14_vectorizedMismatch_70 : decode cJ14_vectorizedMismatch 70 = .ok (.lstore 16, 2) := dk_55 16 (dk_at dksJ14_vectorizedMismatch_3 0 rfl rfl)
theorem dJ14_vectorizedMismatch_72 : decode cJ14_vectorizedMismatch 72 = .ok (.getstatic 36, 3) := dk_178 0 36 (dk_at dksJ14_vectorizedMismatch_3 2 rfl rfl)
theorem dJ14_vectorizedMismatch_75 : decode cJ14_vectorizedMismatch 75 = .ok (.ifCond .eq 18, 3) := dk_153 0 18 (dk_at dksJ14_vectorizedMismatch_3 5 rfl rfl)
theorem dJ14_vectorizedMismatch_78 : decode cJ14_vectorizedMismatch 78 = .ok (.lload 16, 2) := dk_22 16 (dk_at dksJ14_vectorizedMismatch_3 8 rfl rfl)
theorem dJ14_vectorizedMismatch_80 : decode cJ14_vectorizedMismatch 80 = .ok (.invokestatic 40, 3) := dk_184 0 40 (dk_at dksJ14_vectorizedMismatch_3 10 rfl rfl)
theorem dJ14_vectorizedMismatch_83 : decode cJ14_vectorizedMismatch 83 = .ok (.getstatic 46, 3) := dk_178 0 46 (dk_at dksJ14_vectorizedMismatch_3 13 rfl rfl)
theorem dJ14_vectorizedMismatch_86 : decode cJ14_vectorizedMismatch 86 = .ok (.iload 7, 2) := dk_21 7 (dk_at dksJ14_vectorizedMismatch_3 16 rfl rfl)
theorem dJ14_vectorizedMismatch_88 : decode cJ14_vectorizedMismatch 88 = .ok (.iadd, 1) := dk_96 (dk_at dksJ14_vectorizedMismatch_3 18 rfl rfl)
theorem dJ14_vectorizedMismatch_89 : decode cJ14_vectorizedMismatch 89 = .ok (.ishr, 1) := dk_122 (dk_at dksJ14_vectorizedMismatch_3 19 rfl rfl)
theorem dJ14_vectorizedMismatch_90 : decode cJ14_vectorizedMismatch 90 = .ok (.goto 15, 3) := dk_167 0 15 (dk_at dksJ14_vectorizedMismatch_3 20 rfl rfl)
theorem dJ14_vectorizedMismatch_93 : decode cJ14_vectorizedMismatch 93 = .ok (.lload 16, 2) := dk_22 16 (dk_at dksJ14_vectorizedMismatch_4 0 rfl rfl)
theorem dJ14_vectorizedMismatch_95 : decode cJ14_vectorizedMismatch 95 = .ok (.invokestatic 49, 3) := dk_184 0 49 (dk_at dksJ14_vectorizedMismatch_4 2 rfl rfl)
theorem dJ14_vectorizedMismatch_98 : decode cJ14_vectorizedMismatch 98 = .ok (.getstatic 46, 3) := dk_178 0 46 (dk_at dksJ14_vectorizedMismatch_4 5 rfl rfl)
theorem dJ14_vectorizedMismatch_101 : decode cJ14_vectorizedMismatch 101 = .ok (.iload 7, 2) := dk_21 7 (dk_at dksJ14_vectorizedMismatch_4 8 rfl rfl)
theorem dJ14_vectorizedMismatch_103 : decode cJ14_vectorizedMismatch 103 = .ok (.iadd, 1) := dk_96 (dk_at dksJ14_vectorizedMismatch_4 10 rfl rfl)
theorem dJ14_vectorizedMismatch_104 : decode cJ14_vectorizedMismatch 104 = .ok (.ishr, 1) := dk_122 (dk_at dksJ14_vectorizedMismatch_4 11 rfl rfl)
theorem dJ14_vectorizedMismatch_105 : decode cJ14_vectorizedMismatch 105 = .ok (.istore 18, 2) := dk_54 18 (dk_at dksJ14_vectorizedMismatch_4 12 rfl rfl)
theorem dJ14_vectorizedMismatch_107 : decode cJ14_vectorizedMismatch 107 = .ok (.iload 9, 2) := dk_21 9 (dk_at dksJ14_vectorizedMismatch_4 14 rfl rfl)
theorem dJ14_vectorizedMismatch_109 : decode cJ14_vectorizedMismatch 109 = .ok (.iload 8, 2) := dk_21 8 (dk_at dksJ14_vectorizedMismatch_4 16 rfl rfl)
theorem dJ14_vectorizedMismatch_111 : decode cJ14_vectorizedMismatch 111 = .ok (.ishl, 1) := dk_120 (dk_at dksJ14_vectorizedMismatch_4 18 rfl rfl)
theorem dJ14_vectorizedMismatch_112 : decode cJ14_vectorizedMismatch 112 = .ok (.iload 18, 2) := dk_21 18 (dk_at dksJ14_vectorizedMismatch_4 19 rfl rfl)
theorem dJ14_vectorizedMismatch_114 : decode cJ14_vectorizedMismatch 114 = .ok (.iadd, 1) := dk_96 (dk_at dksJ14_vectorizedMismatch_4 21 rfl rfl)
theorem dJ14_vectorizedMismatch_115 : decode cJ14_vectorizedMismatch 115 = .ok (.ireturn, 1) := dk_172 (dk_at dksJ14_vectorizedMismatch_4 22 rfl rfl)
theorem dJ14_vectorizedMismatch_116 : decode cJ14_vectorizedMismatch 116 = .ok (.iinc 9 1, 3) := dk_132 9 1 (dk_at dksJ14_vectorizedMismatch_5 0 rfl rfl)
theorem dJ14_vectorizedMismatch_119 : decode cJ14_vectorizedMismatch 119 = .ok (.goto (-108), 3) := dk_167 255 148 (dk_at dksJ14_vectorizedMismatch_5 3 rfl rfl)
theorem dJ14_vectorizedMismatch_122 : decode cJ14_vectorizedMismatch 122 = .ok (.iload 6, 2) := dk_21 6 (dk_at dksJ14_vectorizedMismatch_5 6 rfl rfl)
theorem dJ14_vectorizedMismatch_124 : decode cJ14_vectorizedMismatch 124 = .ok (.iload 9, 2) := dk_21 9 (dk_at dksJ14_vectorizedMismatch_5 8 rfl rfl)
theorem dJ14_vectorizedMismatch_126 : decode cJ14_vectorizedMismatch 126 = .ok (.iload 8, 2) := dk_21 8 (dk_at dksJ14_vectorizedMismatch_5 10 rfl rfl)
theorem dJ14_vectorizedMismatch_128 : decode cJ14_vectorizedMismatch 128 = .ok (.ishl, 1) := dk_120 (dk_at dksJ14_vectorizedMismatch_5 12 rfl rfl)
theorem dJ14_vectorizedMismatch_129 : decode cJ14_vectorizedMismatch 129 = .ok (.isub, 1) := dk_100 (dk_at dksJ14_vectorizedMismatch_5 13 rfl rfl)
theorem dJ14_vectorizedMismatch_130 : decode cJ14_vectorizedMismatch 130 = .ok (.istore 10, 2) := dk_54 10 (dk_at dksJ14_vectorizedMismatch_5 14 rfl rfl)
theorem dJ14_vectorizedMismatch_132 : decode cJ14_vectorizedMismatch 132 = .ok (.iload 7, 2) := dk_21 7 (dk_at dksJ14_vectorizedMismatch_5 16 rfl rfl)
theorem dJ14_vectorizedMismatch_134 : decode cJ14_vectorizedMismatch 134 = .ok (.getstatic 51, 3) := dk_178 0 51 (dk_at dksJ14_vectorizedMismatch_5 18 rfl rfl)
theorem dJ14_vectorizedMismatch_137 : decode cJ14_vectorizedMismatch 137 = .ok (.if_icmp .ge 126, 3) := dk_162 0 126 (dk_at dksJ14_vectorizedMismatch_5 21 rfl rfl)
theorem dJ14_vectorizedMismatch_140 : decode cJ14_vectorizedMismatch 140 = .ok (.iconst 1, 1) := dk_4 (dk_at dksJ14_vectorizedMismatch_6 0 rfl rfl)
theorem dJ14_vectorizedMismatch_141 : decode cJ14_vectorizedMismatch 141 = .ok (.getstatic 51, 3) := dk_178 0 51 (dk_at dksJ14_vectorizedMismatch_6 1 rfl rfl)
theorem dJ14_vectorizedMismatch_144 : decode cJ14_vectorizedMismatch 144 = .ok (.iload 7, 2) := dk_21 7 (dk_at dksJ14_vectorizedMismatch_6 4 rfl rfl)
theorem dJ14_vectorizedMismatch_146 : decode cJ14_vectorizedMismatch 146 = .ok (.isub, 1) := dk_100 (dk_at dksJ14_vectorizedMismatch_6 6 rfl rfl)
theorem dJ14_vectorizedMismatch_147 : decode cJ14_vectorizedMismatch 147 = .ok (.ishl, 1) := dk_120 (dk_at dksJ14_vectorizedMismatch_6 7 rfl rfl)
theorem dJ14_vectorizedMismatch_148 : decode cJ14_vectorizedMismatch 148 = .ok (.istore 11, 2) := dk_54 11 (dk_at dksJ14_vectorizedMismatch_6 8 rfl rfl)
theorem dJ14_vectorizedMismatch_150 : decode cJ14_vectorizedMismatch 150 = .ok (.iload 10, 2) := dk_21 10 (dk_at dksJ14_vectorizedMismatch_6 10 rfl rfl)
theorem dJ14_vectorizedMismatch_152 : decode cJ14_vectorizedMismatch 152 = .ok (.iload 11, 2) := dk_21 11 (dk_at dksJ14_vectorizedMismatch_6 12 rfl rfl)
theorem dJ14_vectorizedMismatch_154 : decode cJ14_vectorizedMismatch 154 = .ok (.if_icmp .lt 104, 3) := dk_161 0 104 (dk_at dksJ14_vectorizedMismatch_6 14 rfl rfl)
theorem dJ14_vectorizedMismatch_157 : decode cJ14_vectorizedMismatch 157 = .ok (.iload 9, 2) := dk_21 9 (dk_at dksJ14_vectorizedMismatch_6 17 rfl rfl)
theorem dJ14_vectorizedMismatch_159 : decode cJ14_vectorizedMismatch 159 = .ok (.i2l, 1) := dk_133 (dk_at dksJ14_vectorizedMismatch_6 19 rfl rfl)
theorem dJ14_vectorizedMismatch_160 : decode cJ14_vectorizedMismatch 160 = .ok (.getstatic 20, 3) := dk_178 0 20 (dk_at dksJ14_vectorizedMismatch_6 20 rfl rfl)
theorem dJ14_vectorizedMismatch_163 : decode cJ14_vectorizedMismatch 163 = .ok (.lshl, 1) := dk_121 (dk_at dksJ14_vectorizedMismatch_6 23 rfl rfl)
theorem dJ14_vectorizedMismatch_164 : decode cJ14_vectorizedMismatch 164 = .ok (.lstore 12, 2) := dk_55 12 (dk_at dksJ14_vectorizedMismatch_7 0 rfl rfl)
theorem dJ14_vectorizedMismatch_166 : decode cJ14_vectorizedMismatch 166 = .ok (.getstatic 26, 3) := dk_178 0 26 (dk_at dksJ14_vectorizedMismatch_7 2 rfl rfl)
theorem dJ14_vectorizedMismatch_169 : decode cJ14_vectorizedMismatch 169 = .ok (.aload_n 0, 1) := dk_42 (dk_at dksJ14_vectorizedMismatch_7 5 rfl rfl)
theorem dJ14_vectorizedMismatch_170 : decode cJ14_vectorizedMismatch 170 = .ok (.lload_n 1, 1) := dk_31 (dk_at dksJ14_vectorizedMismatch_7 6 rfl rfl)
theorem dJ14_vectorizedMismatch_171 : decode cJ14_vectorizedMismatch 171 = .ok (.lload 12, 2) := dk_22 12 (dk_at dksJ14_vectorizedMismatch_7 7 rfl rfl)
theorem dJ14_vectorizedMismatch_173 : decode cJ14_vectorizedMismatch 173 = .ok (.ladd, 1) := dk_97 (dk_at dksJ14_vectorizedMismatch_7 9 rfl rfl)
theorem dJ14_vectorizedMismatch_174 : decode cJ14_vectorizedMismatch 174 = .ok (.invokevirtual 54, 3) := dk_182 0 54 (dk_at dksJ14_vectorizedMismatch_7 10 rfl rfl)
theorem dJ14_vectorizedMismatch_177 : decode cJ14_vectorizedMismatch 177 = .ok (.istore 14, 2) := dk_54 14 (dk_at dksJ14_vectorizedMismatch_7 13 rfl rfl)
theorem dJ14_vectorizedMismatch_179 : decode cJ14_vectorizedMismatch 179 = .ok (.getstatic 26, 3) := dk_178 0 26 (dk_at dksJ14_vectorizedMismatch_7 15 rfl rfl)
theorem dJ14_vectorizedMismatch_182 : decode cJ14_vectorizedMismatch 182 = .ok (.aload_n 3, 1) := dk_45 (dk_at dksJ14_vectorizedMismatch_7 18 rfl rfl)
theorem dJ14_vectorizedMismatch_183 : decode cJ14_vectorizedMismatch 183 = .ok (.lload 4, 2) := dk_22 4 (dk_at dksJ14_vectorizedMismatch_7 19 rfl rfl)
theorem dJ14_vectorizedMismatch_185 : decode cJ14_vectorizedMismatch 185 = .ok (.lload 12, 2) := dk_22 12 (dk_at dksJ14_vectorizedMismatch_7 21 rfl rfl)
theorem dJ14_vectorizedMismatch_187 : decode cJ14_vectorizedMismatch 187 = .ok (.ladd, 1) := dk_97 (dk_at dksJ14_vectorizedMismatch_7 23 rfl rfl)
theorem dJ14_vectorizedMismatch_188 : decode cJ14_vectorizedMismatch 188 = .ok (.invokevirtual 54, 3) := dk_182 0 54 (dk_at dksJ14_vectorizedMismatch_8 0 rfl rfl)
theorem dJ14_vectorizedMismatch_191 : decode cJ14_vectorizedMismatch 191 = .ok (.istore 15, 2) := dk_54 15 (dk_at dksJ14_vectorizedMismatch_8 3 rfl rfl)
theorem dJ14_vectorizedMismatch_193 : decode cJ14_vectorizedMismatch 193 = .ok (.iload 14, 2) := dk_21 14 (dk_at dksJ14_vectorizedMismatch_8 5 rfl rfl)
theorem dJ14_vectorizedMismatch_195 : decode cJ14_vectorizedMismatch 195 = .ok (.iload 15, 2) := dk_21 15 (dk_at dksJ14_vectorizedMismatch_8 7 rfl rfl)
theorem dJ14_vectorizedMismatch_197 : decode cJ14_vectorizedMismatch 197 = .ok (.if_icmp .eq 54, 3) := dk_159 0 54 (dk_at dksJ14_vectorizedMismatch_8 9 rfl rfl)
theorem dJ14_vectorizedMismatch_200 : decode cJ14_vectorizedMismatch 200 = .ok (.iload 14, 2) := dk_21 14 (dk_at dksJ14_vectorizedMismatch_8 12 rfl rfl)
theorem dJ14_vectorizedMismatch_202 : decode cJ14_vectorizedMismatch 202 = .ok (.iload 15, 2) := dk_21 15 (dk_at dksJ14_vectorizedMismatch_8 14 rfl rfl)
theorem dJ14_vectorizedMismatch_204 : decode cJ14_vectorizedMismatch 204 = .ok (.ixor, 1) := dk_130 (dk_at dksJ14_vectorizedMismatch_8 16 rfl rfl)
theorem dJ14_vectorizedMismatch_205 : decode cJ14_vectorizedMismatch 205 = .ok (.istore 16, 2) := dk_54 16 (dk_at dksJ14_vectorizedMismatch_8 17 rfl rfl)
theorem dJ14_vectorizedMismatch_207 : decode cJ14_vectorizedMismatch 207 = .ok (.getstatic 36, 3) := dk_178 0 36 (dk_at dksJ14_vectorizedMismatch_8 19 rfl rfl)
theorem dJ14_vectorizedMismatch_210 : decode cJ14_vectorizedMismatch 210 = .ok (.ifCond .eq 18, 3) := dk_153 0 18 (dk_at dksJ14_vectorizedMismatch_9 0 rfl rfl)
theorem dJ14_vectorizedMismatch_213 : decode cJ14_vectorizedMismatch 213 = .ok (.iload 16, 2) := dk_21 16 (dk_at dksJ14_vectorizedMismatch_9 3 rfl rfl)
theorem dJ14_vectorizedMismatch_215 : decode cJ14_vectorizedMismatch 215 = .ok (.invokestatic 58, 3) := dk_184 0 58 (dk_at dksJ14_vectorizedMismatch_9 5 rfl rfl)
theorem dJ14_vectorizedMismatch_218 : decode cJ14_vectorizedMismatch 218 = .ok (.getstatic 46, 3) := dk_178 0 46 (dk_at dksJ14_vectorizedMismatch_9 8 rfl rfl)
theorem dJ14_vectorizedMismatch_221 : decode cJ14_vectorizedMismatch 221 = .ok (.iload 7, 2) := dk_21 7 (dk_at dksJ14_vectorizedMismatch_9 11 rfl rfl)
theorem dJ14_vectorizedMismatch_223 : decode cJ14_vectorizedMismatch 223 = .ok (.iadd, 1) := dk_96 (dk_at dksJ14_vectorizedMismatch_9 13 rfl rfl)
theorem dJ14_vectorizedMismatch_224 : decode cJ14_vectorizedMismatch 224 = .ok (.ishr, 1) := dk_122 (dk_at dksJ14_vectorizedMismatch_9 14 rfl rfl)
theorem dJ14_vectorizedMismatch_225 : decode cJ14_vectorizedMismatch 225 = .ok (.goto 15, 3) := dk_167 0 15 (dk_at dksJ14_vectorizedMismatch_9 15 rfl rfl)
theorem dJ14_vectorizedMismatch_228 : decode cJ14_vectorizedMismatch 228 = .ok (.iload 16, 2) := dk_21 16 (dk_at dksJ14_vectorizedMismatch_9 18 rfl rfl)
theorem dJ14_vectorizedMismatch_230 : decode cJ14_vectorizedMismatch 230 = .ok (.invokestatic 11, 3) := dk_184 0 11 (dk_at dksJ14_vectorizedMismatch_9 20 rfl rfl)
theorem dJ14_vectorizedMismatch_233 : decode cJ14_vectorizedMismatch 233 = .ok (.getstatic 46, 3) := dk_178 0 46 (dk_at dksJ14_vectorizedMismatch_10 0 rfl rfl)
theorem dJ14_vectorizedMismatch_236 : decode cJ14_vectorizedMismatch 236 = .ok (.iload 7, 2) := dk_21 7 (dk_at dksJ14_vectorizedMismatch_10 3 rfl rfl)
theorem dJ14_vectorizedMismatch_238 : decode cJ14_vectorizedMismatch 238 = .ok (.iadd, 1) := dk_96 (dk_at dksJ14_vectorizedMismatch_10 5 rfl rfl)
theorem dJ14_vectorizedMismatch_239 : decode cJ14_vectorizedMismatch 239 = .ok (.ishr, 1) := dk_122 (dk_at dksJ14_vectorizedMismatch_10 6 rfl rfl)
theorem dJ14_vectorizedMismatch_240 : decode cJ14_vectorizedMismatch 240 = .ok (.istore 17, 2) := dk_54 17 (dk_at dksJ14_vectorizedMismatch_10 7 rfl rfl)
theorem dJ14_vectorizedMismatch_242 : decode cJ14_vectorizedMismatch 242 = .ok (.iload 9, 2) := dk_21 9 (dk_at dksJ14_vectorizedMismatch_10 9 rfl rfl)
theorem dJ14_vectorizedMismatch_244 : decode cJ14_vectorizedMismatch 244 = .ok (.iload 8, 2) := dk_21 8 (dk_at dksJ14_vectorizedMismatch_10 11 rfl rfl)
theorem dJ14_vectorizedMismatch_246 : decode cJ14_vectorizedMismatch 246 = .ok (.ishl, 1) := dk_120 (dk_at dksJ14_vectorizedMismatch_10 13 rfl rfl)
theorem dJ14_vectorizedMismatch_247 : decode cJ14_vectorizedMismatch 247 = .ok (.iload 17, 2) := dk_21 17 (dk_at dksJ14_vectorizedMismatch_10 14 rfl rfl)
theorem dJ14_vectorizedMismatch_249 : decode cJ14_vectorizedMismatch 249 = .ok (.iadd, 1) := dk_96 (dk_at dksJ14_vectorizedMismatch_10 16 rfl rfl)
theorem dJ14_vectorizedMismatch_250 : decode cJ14_vectorizedMismatch 250 = .ok (.ireturn, 1) := dk_172 (dk_at dksJ14_vectorizedMismatch_10 17 rfl rfl)
theorem dJ14_vectorizedMismatch_251 : decode cJ14_vectorizedMismatch 251 = .ok (.iload 10, 2) := dk_21 10 (dk_at dksJ14_vectorizedMismatch_10 18 rfl rfl)
theorem dJ14_vectorizedMismatch_253 : decode cJ14_vectorizedMismatch 253 = .ok (.iload 11, 2) := dk_21 11 (dk_at dksJ14_vectorizedMismatch_10 20 rfl rfl)
theorem dJ14_vectorizedMismatch_255 : decode cJ14_vectorizedMismatch 255 = .ok (.isub, 1) := dk_100 (dk_at dksJ14_vectorizedMismatch_10 22 rfl rfl)
theorem dJ14_vectorizedMismatch_256 : decode cJ14_vectorizedMismatch 256 = .ok (.istore 10, 2) := dk_54 10 (dk_at dksJ14_vectorizedMismatch_11 0 rfl rfl)
theorem dJ14_vectorizedMismatch_258 : decode cJ14_vectorizedMismatch 258 = .ok (.iload 10, 2) := dk_21 10 (dk_at dksJ14_vectorizedMismatch_11 2 rfl rfl)
theorem dJ14_vectorizedMismatch_260 : decode cJ14_vectorizedMismatch 260 = .ok (.iconst (-1), 1) := dk_2 (dk_at dksJ14_vectorizedMismatch_11 4 rfl rfl)
theorem dJ14_vectorizedMismatch_261 : decode cJ14_vectorizedMismatch 261 = .ok (.ixor, 1) := dk_130 (dk_at dksJ14_vectorizedMismatch_11 5 rfl rfl)
theorem dJ14_vectorizedMismatch_262 : decode cJ14_vectorizedMismatch 262 = .ok (.ireturn, 1) := dk_172 (dk_at dksJ14_vectorizedMismatch_11 6 rfl rfl)
theorem dJ14_vectorizedMismatch_263 : decode cJ14_vectorizedMismatch 263 = .ok (.iload 10, 2) := dk_21 10 (dk_at dksJ14_vectorizedMismatch_11 7 rfl rfl)
theorem dJ14_vectorizedMismatch_265 : decode cJ14_vectorizedMismatch 265 = .ok (.iconst (-1), 1) := dk_2 (dk_at dksJ14_vectorizedMismatch_11 9 rfl rfl)
theorem dJ14_vectorizedMismatch_266 : decode cJ14_vectorizedMismatch 266 = .ok (.ixor, 1) := dk_130 (dk_at dksJ14_vectorizedMismatch_11 10 rfl rfl)
theorem dJ14_vectorizedMismatch_267 : decode cJ14_vectorizedMismatch 267 = .ok (.ireturn, 1) := dk_172 (dk_at dksJ14_vectorizedMismatch_11 11 rfl rfl)
theorem q118 : (Jvm.Cond.initialized "jdk/internal/util/ArraysSupport") ∈ lw_all := lw_g (lw_at lw_m1 24 rfl) rfl
theorem q600 : (Jvm.Cond.static ({ cls := "jdk/internal/util/ArraysSupport", name := "newLength", desc := "(III)I" } : Jvm.MethodName)) ∈ lw_all := lw_g (lw_at lw_m3 26 rfl) rfl
theorem q601 : (Jvm.Cond.code ({ cls := "jdk/internal/util/ArraysSupport", name := "newLength", desc := "(III)I" } : Jvm.MethodName) prog_85_method_27_code (4 : Nat) (Option.some Jvm.ClassFile.FieldType.int)) ∈ lw_all := lw_g (lw_at lw_m3 27 rfl) rfl
theorem q602 : (Jvm.Cond.methodLink "jdk/internal/util/ArraysSupport" (194 : Nat) ({ cls := "java/lang/Math", name := "max", desc := "(II)I" } : Jvm.MethodName)) ∈ lw_all := lw_g (lw_at lw_m3 28 rfl) rfl
theorem q605 : (Jvm.Cond.constant "jdk/internal/util/ArraysSupport" (200 : Nat) (2147483639 : Int32)) ∈ lw_all := lw_g (lw_at lw_m3 31 rfl) rfl
theorem q606 : (Jvm.Cond.methodLink "jdk/internal/util/ArraysSupport" (201 : Nat) ({ cls := "jdk/internal/util/ArraysSupport", name := "hugeLength", desc := "(II)I" } : Jvm.MethodName)) ∈ lw_all := lw_g (lw_at lw_m3 32 rfl) rfl
theorem q607 : (Jvm.Cond.static ({ cls := "jdk/internal/util/ArraysSupport", name := "hugeLength", desc := "(II)I" } : Jvm.MethodName)) ∈ lw_all := lw_g (lw_at lw_m3 33 rfl) rfl
theorem q608 : (Jvm.Cond.code ({ cls := "jdk/internal/util/ArraysSupport", name := "hugeLength", desc := "(II)I" } : Jvm.MethodName) prog_85_method_28_code (3 : Nat) (Option.some Jvm.ClassFile.FieldType.int)) ∈ lw_all := lw_g (lw_at lw_m3 34 rfl) rfl
theorem q917 : (Jvm.Cond.static ({ cls := "jdk/internal/util/ArraysSupport", name := "vectorizedHashCode", desc := "(Ljava/lang/Object;IIII)I" } : Jvm.MethodName)) ∈ lw_all := lw_g (lw_at lw_m4 103 rfl) rfl
theorem q918 : (Jvm.Cond.code ({ cls := "jdk/internal/util/ArraysSupport", name := "vectorizedHashCode", desc := "(Ljava/lang/Object;IIII)I" } : Jvm.MethodName) prog_85_method_4_code (5 : Nat) (Option.some Jvm.ClassFile.FieldType.int)) ∈ lw_all := lw_g (lw_at lw_m4 104 rfl) rfl
theorem q919 : (Jvm.Cond.classLink "jdk/internal/util/ArraysSupport" (60 : Nat) "[B") ∈ lw_all := lw_g (lw_at lw_m4 105 rfl) rfl
theorem q920 : (Jvm.Cond.methodLink "jdk/internal/util/ArraysSupport" (62 : Nat) ({ cls := "jdk/internal/util/ArraysSupport", name := "signedHashCode", desc := "(I[BII)I" } : Jvm.MethodName)) ∈ lw_all := lw_g (lw_at lw_m4 106 rfl) rfl
theorem q921 : (Jvm.Cond.static ({ cls := "jdk/internal/util/ArraysSupport", name := "signedHashCode", desc := "(I[BII)I" } : Jvm.MethodName)) ∈ lw_all := lw_g (lw_at lw_m4 107 rfl) rfl
theorem q922 : (Jvm.Cond.code ({ cls := "jdk/internal/util/ArraysSupport", name := "signedHashCode", desc := "(I[BII)I" } : Jvm.MethodName) prog_85_method_5_code (6 : Nat) (Option.some Jvm.ClassFile.FieldType.int)) ∈ lw_all := lw_g (lw_at lw_m4 108 rfl) rfl
theorem q923 : (Jvm.Cond.methodLink "jdk/internal/util/ArraysSupport" (66 : Nat) ({ cls := "jdk/internal/util/ArraysSupport", name := "utf16hashCode", desc := "(I[BII)I" } : Jvm.MethodName)) ∈ lw_all := lw_g (lw_at lw_m4 109 rfl) rfl
theorem q924 : (Jvm.Cond.static ({ cls := "jdk/internal/util/ArraysSupport", name := "utf16hashCode", desc := "(I[BII)I" } : Jvm.MethodName)) ∈ lw_all := lw_g (lw_at lw_m4 110 rfl) rfl
theorem q925 : (Jvm.Cond.code ({ cls := "jdk/internal/util/ArraysSupport", name := "utf16hashCode", desc := "(I[BII)I" } : Jvm.MethodName) prog_85_method_10_code (6 : Nat) (Option.some Jvm.ClassFile.FieldType.int)) ∈ lw_all := lw_g (lw_at lw_m4 111 rfl) rfl
theorem q926 : (Jvm.Cond.fieldLink "jdk/internal/util/ArraysSupport" (106 : Nat) "jdk/internal/util/ArraysSupport" "JLA" "Ljdk/internal/access/JavaLangAccess;") ∈ lw_all := lw_g (lw_at lw_m4 112 rfl) rfl
theorem q927 : (Jvm.Cond.laysStatic "jdk/internal/util/ArraysSupport" "JLA" "Ljdk/internal/access/JavaLangAccess;") ∈ lw_tbl := lw_at lw_m4 113 rfl
theorem q928 : (Jvm.Cond.interfaceEntry "jdk/internal/util/ArraysSupport" (110 : Nat)) ∈ lw_tbl := lw_at lw_m4 114 rfl
theorem q929 : (Jvm.Cond.methodLink "jdk/internal/util/ArraysSupport" (110 : Nat) ({ cls := "jdk/internal/access/JavaLangAccess", name := "getUTF16Char", desc := "([BI)C" } : Jvm.MethodName)) ∈ lw_all := lw_g (lw_at lw_m4 115 rfl) rfl
theorem q939 : (Jvm.Cond.classLink "jdk/internal/util/ArraysSupport" (69 : Nat) "[C") ∈ lw_all := lw_g (lw_at lw_m4 125 rfl) rfl
theorem q940 : (Jvm.Cond.methodLink "jdk/internal/util/ArraysSupport" (71 : Nat) ({ cls := "jdk/internal/util/ArraysSupport", name := "hashCode", desc := "(I[CII)I" } : Jvm.MethodName)) ∈ lw_all := lw_g (lw_at lw_m4 126 rfl) rfl
theorem q941 : (Jvm.Cond.static ({ cls := "jdk/internal/util/ArraysSupport", name := "hashCode", desc := "(I[CII)I" } : Jvm.MethodName)) ∈ lw_all := lw_g (lw_at lw_m4 127 rfl) rfl
theorem q942 : (Jvm.Cond.code ({ cls := "jdk/internal/util/ArraysSupport", name := "hashCode", desc := "(I[CII)I" } : Jvm.MethodName) prog_85_method_7_code (6 : Nat) (Option.some Jvm.ClassFile.FieldType.int)) ∈ lw_all := lw_g (lw_at lw_m4 128 rfl) rfl
theorem q943 : (Jvm.Cond.methodLink "jdk/internal/util/ArraysSupport" (75 : Nat) ({ cls := "jdk/internal/util/ArraysSupport", name := "hashCode", desc := "(I[BII)I" } : Jvm.MethodName)) ∈ lw_all := lw_g (lw_at lw_m4 129 rfl) rfl
theorem q944 : (Jvm.Cond.static ({ cls := "jdk/internal/util/ArraysSupport", name := "hashCode", desc := "(I[BII)I" } : Jvm.MethodName)) ∈ lw_all := lw_g (lw_at lw_m4 130 rfl) rfl
theorem q945 : (Jvm.Cond.code ({ cls := "jdk/internal/util/ArraysSupport", name := "hashCode", desc := "(I[BII)I" } : Jvm.MethodName) prog_85_method_6_code (6 : Nat) (Option.some Jvm.ClassFile.FieldType.int)) ∈ lw_all := lw_g (lw_at lw_m4 131 rfl) rfl
theorem q946 : (Jvm.Cond.classLink "jdk/internal/util/ArraysSupport" (77 : Nat) "[S") ∈ lw_all := lw_g (lw_at lw_m4 132 rfl) rfl
theorem q947 : (Jvm.Cond.methodLink "jdk/internal/util/ArraysSupport" (79 : Nat) ({ cls := "jdk/internal/util/ArraysSupport", name := "hashCode", desc := "(I[SII)I" } : Jvm.MethodName)) ∈ lw_all := lw_g (lw_at lw_m4 133 rfl) rfl
theorem q948 : (Jvm.Cond.static ({ cls := "jdk/internal/util/ArraysSupport", name := "hashCode", desc := "(I[SII)I" } : Jvm.MethodName)) ∈ lw_all := lw_g (lw_at lw_m4 134 rfl) rfl
theorem q949 : (Jvm.Cond.code ({ cls := "jdk/internal/util/ArraysSupport", name := "hashCode", desc := "(I[SII)I" } : Jvm.MethodName) prog_85_method_8_code (6 : Nat) (Option.some Jvm.ClassFile.FieldType.int)) ∈ lw_all := lw_g (lw_at lw_m4 135 rfl) rfl
theorem q950 : (Jvm.Cond.classLink "jdk/internal/util/ArraysSupport" (82 : Nat) "[I") ∈ lw_all := lw_g (lw_at lw_m4 136 rfl) rfl
theorem q951 : (Jvm.Cond.methodLink "jdk/internal/util/ArraysSupport" (84 : Nat) ({ cls := "jdk/internal/util/ArraysSupport", name := "hashCode", desc := "(I[III)I" } : Jvm.MethodName)) ∈ lw_all := lw_g (lw_at lw_m4 137 rfl) rfl
theorem q952 : (Jvm.Cond.static ({ cls := "jdk/internal/util/ArraysSupport", name := "hashCode", desc := "(I[III)I" } : Jvm.MethodName)) ∈ lw_all := lw_g (lw_at lw_m4 138 rfl) rfl
theorem q953 : (Jvm.Cond.code ({ cls := "jdk/internal/util/ArraysSupport", name := "hashCode", desc := "(I[III)I" } : Jvm.MethodName) prog_85_method_9_code (6 : Nat) (Option.some Jvm.ClassFile.FieldType.int)) ∈ lw_all := lw_g (lw_at lw_m4 139 rfl) rfl
theorem q954 : (Jvm.Cond.classLink "jdk/internal/util/ArraysSupport" (87 : Nat) "java/lang/IllegalArgumentException") ∈ lw_all := lw_g (lw_at lw_m4 140 rfl) rfl
theorem q955 : (Jvm.Cond.classLink "jdk/internal/util/ArraysSupport" (89 : Nat) "java/lang/StringBuilder") ∈ lw_all := lw_g (lw_at lw_m4 141 rfl) rfl
theorem q956 : (Jvm.Cond.methodLink "jdk/internal/util/ArraysSupport" (91 : Nat) ({ cls := "java/lang/StringBuilder", name := "<init>", desc := "()V" } : Jvm.MethodName)) ∈ lw_all := lw_g (lw_at lw_m4 142 rfl) rfl
theorem q957 : (Jvm.Cond.stringRef "jdk/internal/util/ArraysSupport" (92 : Nat) "unrecognized basic type: ") ∈ lw_tbl := lw_at lw_m4 143 rfl
theorem q958 : (Jvm.Cond.methodLink "jdk/internal/util/ArraysSupport" (94 : Nat) ({ cls := "java/lang/StringBuilder", name := "append", desc := "(Ljava/lang/String;)Ljava/lang/StringBuilder;" } : Jvm.MethodName)) ∈ lw_all := lw_g (lw_at lw_m4 144 rfl) rfl
theorem q959 : (Jvm.Cond.methodLink "jdk/internal/util/ArraysSupport" (98 : Nat) ({ cls := "java/lang/StringBuilder", name := "append", desc := "(I)Ljava/lang/StringBuilder;" } : Jvm.MethodName)) ∈ lw_all := lw_g (lw_at lw_m4 145 rfl) rfl
theorem q960 : (Jvm.Cond.methodLink "jdk/internal/util/ArraysSupport" (101 : Nat) ({ cls := "java/lang/StringBuilder", name := "toString", desc := "()Ljava/lang/String;" } : Jvm.MethodName)) ∈ lw_all := lw_g (lw_at lw_m4 146 rfl) rfl
theorem q961 : (Jvm.Cond.methodLink "jdk/internal/util/ArraysSupport" (105 : Nat) ({ cls := "java/lang/IllegalArgumentException", name := "<init>", desc := "(Ljava/lang/String;)V" } : Jvm.MethodName)) ∈ lw_all := lw_g (lw_at lw_m4 147 rfl) rfl
theorem q1272 : (Jvm.Cond.static ({ cls := "jdk/internal/util/ArraysSupport", name := "mismatch", desc := "([B[BI)I" } : Jvm.MethodName)) ∈ lw_all := lw_g (lw_at lw_m5 218 rfl) rfl
theorem q1273 : (Jvm.Cond.code ({ cls := "jdk/internal/util/ArraysSupport", name := "mismatch", desc := "([B[BI)I" } : Jvm.MethodName) prog_85_method_13_code (4 : Nat) (Option.some Jvm.ClassFile.FieldType.int)) ∈ lw_all := lw_g (lw_at lw_m5 219 rfl) rfl
theorem q1274 : (Jvm.Cond.fieldLink "jdk/internal/util/ArraysSupport" (126 : Nat) "jdk/internal/misc/Unsafe" "ARRAY_BYTE_BASE_OFFSET" "I") ∈ lw_all := lw_g (lw_at lw_m5 220 rfl) rfl
theorem q1276 : (Jvm.Cond.fieldLink "jdk/internal/util/ArraysSupport" (129 : Nat) "jdk/internal/util/ArraysSupport" "LOG2_ARRAY_BYTE_INDEX_SCALE" "I") ∈ lw_all := lw_g (lw_at lw_m5 222 rfl) rfl
theorem q1277 : (Jvm.Cond.laysStatic "jdk/internal/util/ArraysSupport" "LOG2_ARRAY_BYTE_INDEX_SCALE" "I") ∈ lw_tbl := lw_at lw_m5 223 rfl
theorem q1278 : (Jvm.Cond.methodLink "jdk/internal/util/ArraysSupport" (122 : Nat) ({ cls := "jdk/internal/util/ArraysSupport", name := "vectorizedMismatch", desc := "(Ljava/lang/Object;JLjava/lang/Object;JII)I" } : Jvm.MethodName)) ∈ lw_all := lw_g (lw_at lw_m5 224 rfl) rfl
theorem q1279 : (Jvm.Cond.static ({ cls := "jdk/internal/util/ArraysSupport", name := "vectorizedMismatch", desc := "(Ljava/lang/Object;JLjava/lang/Object;JII)I" } : Jvm.MethodName)) ∈ lw_all := lw_g (lw_at lw_m5 225 rfl) rfl
theorem q1280 : (Jvm.Cond.code ({ cls := "jdk/internal/util/ArraysSupport", name := "vectorizedMismatch", desc := "(Ljava/lang/Object;JLjava/lang/Object;JII)I" } : Jvm.MethodName) prog_85_method_3_code (19 : Nat) (Option.some Jvm.ClassFile.FieldType.int)) ∈ lw_all := lw_g (lw_at lw_m5 226 rfl) rfl
theorem q1281 : (Jvm.Cond.fieldLink "jdk/internal/util/ArraysSupport" (20 : Nat) "jdk/internal/util/ArraysSupport" "LOG2_ARRAY_LONG_INDEX_SCALE" "I") ∈ lw_all := lw_g (lw_at lw_m5 227 rfl) rfl
theorem q1282 : (Jvm.Cond.laysStatic "jdk/internal/util/ArraysSupport" "LOG2_ARRAY_LONG_INDEX_SCALE" "I") ∈ lw_tbl := lw_at lw_m5 228 rfl
theorem q1283 : (Jvm.Cond.fieldLink "jdk/internal/util/ArraysSupport" (26 : Nat) "jdk/internal/util/ArraysSupport" "U" "Ljdk/internal/misc/Unsafe;") ∈ lw_all := lw_g (lw_at lw_m5 229 rfl) rfl
theorem q1284 : (Jvm.Cond.laysStatic "jdk/internal/util/ArraysSupport" "U" "Ljdk/internal/misc/Unsafe;") ∈ lw_tbl := lw_at lw_m5 230 rfl
theorem q1285 : (Jvm.Cond.methodLink "jdk/internal/util/ArraysSupport" (30 : Nat) ({ cls := "jdk/internal/misc/Unsafe", name := "getLongUnaligned", desc := "(Ljava/lang/Object;J)J" } : Jvm.MethodName)) ∈ lw_all := lw_g (lw_at lw_m5 231 rfl) rfl
theorem q1337 : (Jvm.Cond.fieldLink "jdk/internal/util/ArraysSupport" (36 : Nat) "jdk/internal/util/ArraysSupport" "BIG_ENDIAN" "Z") ∈ lw_all := lw_g (lw_at lw_m6 43 rfl) rfl
theorem q1338 : (Jvm.Cond.laysStatic "jdk/internal/util/ArraysSupport" "BIG_ENDIAN" "Z") ∈ lw_tbl := lw_at lw_m6 44 rfl
theorem q1339 : (Jvm.Cond.methodLink "jdk/internal/util/ArraysSupport" (40 : Nat) ({ cls := "java/lang/Long", name := "numberOfLeadingZeros", desc := "(J)I" } : Jvm.MethodName)) ∈ lw_all := lw_g (lw_at lw_m6 45 rfl) rfl
theorem q1346 : (Jvm.Cond.fieldLink "jdk/internal/util/ArraysSupport" (46 : Nat) "jdk/internal/util/ArraysSupport" "LOG2_BYTE_BIT_SIZE" "I") ∈ lw_all := lw_g (lw_at lw_m6 52 rfl) rfl
theorem q1347 : (Jvm.Cond.laysStatic "jdk/internal/util/ArraysSupport" "LOG2_BYTE_BIT_SIZE" "I") ∈ lw_tbl := lw_at lw_m6 53 rfl
theorem q1348 : (Jvm.Cond.methodLink "jdk/internal/util/ArraysSupport" (49 : Nat) ({ cls := "java/lang/Long", name := "numberOfTrailingZeros", desc := "(J)I" } : Jvm.MethodName)) ∈ lw_all := lw_g (lw_at lw_m6 54 rfl) rfl
theorem q1354 : (Jvm.Cond.fieldLink "jdk/internal/util/ArraysSupport" (51 : Nat) "jdk/internal/util/ArraysSupport" "LOG2_ARRAY_INT_INDEX_SCALE" "I") ∈ lw_all := lw_g (lw_at lw_m6 60 rfl) rfl
theorem q1355 : (Jvm.Cond.laysStatic "jdk/internal/util/ArraysSupport" "LOG2_ARRAY_INT_INDEX_SCALE" "I") ∈ lw_tbl := lw_at lw_m6 61 rfl
theorem q1356 : (Jvm.Cond.methodLink "jdk/internal/util/ArraysSupport" (54 : Nat) ({ cls := "jdk/internal/misc/Unsafe", name := "getIntUnaligned", desc := "(Ljava/lang/Object;J)I" } : Jvm.MethodName)) ∈ lw_all := lw_g (lw_at lw_m6 62 rfl) rfl
theorem q1373 : (Jvm.Cond.methodLink "jdk/internal/util/ArraysSupport" (58 : Nat) ({ cls := "java/lang/Integer", name := "numberOfLeadingZeros", desc := "(I)I" } : Jvm.MethodName)) ∈ lw_all := lw_g (lw_at lw_m6 79 rfl) rfl
theorem q1374 : (Jvm.Cond.methodLink "jdk/internal/util/ArraysSupport" (11 : Nat) ({ cls := "java/lang/Integer", name := "numberOfTrailingZeros", desc := "(I)I" } : Jvm.MethodName)) ∈ lw_all := lw_g (lw_at lw_m6 80 rfl) rfl

/-! java/lang/Math -/
set_option maxRecDepth 100000
def RJ15 : String := "java/lang/Math"
abbrev cJ15_max : ByteArray := prog_31_method_65_code
def yJ15_max : MethodName := ⟨RJ15, "max", "(II)I"⟩
def dkwJ15_max_0 : List UInt8 := [26, 27, 161, 0, 7, 26, 167, 0, 4, 27, 172]
abbrev dktJ15_max_0 : List UInt8 := dkwJ15_max_0 ++ []
theorem dksJ15_max_0 : cJ15_max.data.toList.drop 0 = dktJ15_max_0 := by decide +kernel
theorem dJ15_max_0 : decode cJ15_max 0 = .ok (.iload_n 0, 1) := dk_26 (dk_at dksJ15_max_0 0 rfl rfl)
theorem dJ15_max_1 : decode cJ15_max 1 = .ok (.iload_n 1, 1) := dk_27 (dk_at dksJ15_max_0 1 rfl rfl)
theorem dJ15_max_2 : decode cJ15_max 2 = .ok (.if_icmp .lt 7, 3) := dk_161 0 7 (dk_at dksJ15_max_0 2 rfl rfl)
theorem dJ15_max_5 : decode cJ15_max 5 = .ok (.iload_n 0, 1) := dk_26 (dk_at dksJ15_max_0 5 rfl rfl)
theorem dJ15_max_6 : decode cJ15_max 6 = .ok (.goto 4, 3) := dk_167 0 4 (dk_at dksJ15_max_0 6 rfl rfl)
theorem dJ15_max_9 : decode cJ15_max 9 = .ok (.iload_n 1, 1) := dk_27 (dk_at dksJ15_max_0 9 rfl rfl)
theorem dJ15_max_10 : decode cJ15_max 10 = .ok (.ireturn, 1) := dk_172 (dk_at dksJ15_max_0 10 rfl rfl)
abbrev cJ15_min : ByteArray := prog_31_method_69_code
def yJ15_min : MethodName := ⟨RJ15, "min", "(II)I"⟩
def dkwJ15_min_0 : List UInt8 := [26, 27, 163, 0, 7, 26, 167, 0, 4, 27, 172]
abbrev dktJ15_min_0 : List UInt8 := dkwJ15_min_0 ++ []
theorem dksJ15_min_0 : cJ15_min.data.toList.drop 0 = dktJ15_min_0 := by decide +kernel
theorem dJ15_min_0 : decode cJ15_min 0 = .ok (.iload_n 0, 1) := dk_26 (dk_at dksJ15_min_0 0 rfl rfl)
theorem dJ15_min_1 : decode cJ15_min 1 = .ok (.iload_n 1, 1) := dk_27 (dk_at dksJ15_min_0 1 rfl rfl)
theorem dJ15_min_2 : decode cJ15_min 2 = .ok (.if_icmp .gt 7, 3) := dk_163 0 7 (dk_at dksJ15_min_0 2 rfl rfl)
theorem dJ15_min_5 : decode cJ15_min 5 = .ok (.iload_n 0, 1) := dk_26 (dk_at dksJ15_min_0 5 rfl rfl)
theorem dJ15_min_6 : decode cJ15_min 6 = .ok (.goto 4, 3) := dk_167 0 4 (dk_at dksJ15_min_0 6 rfl rfl)
theorem dJ15_min_9 : decode cJ15_min 9 = .ok (.iload_n 1, 1) := dk_27 (dk_at dksJ15_min_0 9 rfl rfl)
theorem dJ15_min_10 : decode cJ15_min 10 = .ok (.ireturn, 1) := dk_172 (dk_at dksJ15_min_0 10 rfl rfl)
abbrev cJ15_min_2 : ByteArray := prog_31_method_70_code
def yJ15_min_2 : MethodName := ⟨RJ15, "min", "(JJ)J"⟩
def dkwJ15_min_2_0 : List UInt8 := [30, 32, 148, 157, 0, 7, 30, 167, 0, 4, 32, 173]
abbrev dktJ15_min_2_0 : List UInt8 := dkwJ15_min_2_0 ++ []
theorem dksJ15_min_2_0 : cJ15_min_2.data.toList.drop 0 = dktJ15_min_2_0 := by decide +kernel
theorem dJ15_min_2_0 : decode cJ15_min_2 0 = .ok (.lload_n 0, 1) := dk_30 (dk_at dksJ15_min_2_0 0 rfl rfl)
theorem dJ15_min_2_1 : decode cJ15_min_2 1 = .ok (.lload_n 2, 1) := dk_32 (dk_at dksJ15_min_2_0 1 rfl rfl)
theorem dJ15_min_2_2 : decode cJ15_min_2 2 = .ok (.lcmp, 1) := dk_148 (dk_at dksJ15_min_2_0 2 rfl rfl)
theorem dJ15_min_2_3 : decode cJ15_min_2 3 = .ok (.ifCond .gt 7, 3) := dk_157 0 7 (dk_at dksJ15_min_2_0 3 rfl rfl)
theorem dJ15_min_2_6 : decode cJ15_min_2 6 = .ok (.lload_n 0, 1) := dk_30 (dk_at dksJ15_min_2_0 6 rfl rfl)
theorem dJ15_min_2_7 : decode cJ15_min_2 7 = .ok (.goto 4, 3) := dk_167 0 4 (dk_at dksJ15_min_2_0 7 rfl rfl)
theorem dJ15_min_2_10 : decode cJ15_min_2 10 = .ok (.lload_n 2, 1) := dk_32 (dk_at dksJ15_min_2_0 10 rfl rfl)
theorem dJ15_min_2_11 : decode cJ15_min_2 11 = .ok (.lreturn, 1) := dk_173 (dk_at dksJ15_min_2_0 11 rfl rfl)
abbrev cJ15_max_2 : ByteArray := prog_31_method_66_code
def yJ15_max_2 : MethodName := ⟨RJ15, "max", "(JJ)J"⟩
def dkwJ15_max_2_0 : List UInt8 := [30, 32, 148, 155, 0, 7, 30, 167, 0, 4, 32, 173]
abbrev dktJ15_max_2_0 : List UInt8 := dkwJ15_max_2_0 ++ []
theorem dksJ15_max_2_0 : cJ15_max_2.data.toList.drop 0 = dktJ15_max_2_0 := by decide +kernel
theorem dJ15_max_2_0 : decode cJ15_max_2 0 = .ok (.lload_n 0, 1) := dk_30 (dk_at dksJ15_max_2_0 0 rfl rfl)
theorem dJ15_max_2_1 : decode cJ15_max_2 1 = .ok (.lload_n 2, 1) := dk_32 (dk_at dksJ15_max_2_0 1 rfl rfl)
theorem dJ15_max_2_2 : decode cJ15_max_2 2 = .ok (.lcmp, 1) := dk_148 (dk_at dksJ15_max_2_0 2 rfl rfl)
theorem dJ15_max_2_3 : decode cJ15_max_2 3 = .ok (.ifCond .lt 7, 3) := dk_155 0 7 (dk_at dksJ15_max_2_0 3 rfl rfl)
theorem dJ15_max_2_6 : decode cJ15_max_2 6 = .ok (.lload_n 0, 1) := dk_30 (dk_at dksJ15_max_2_0 6 rfl rfl)
theorem dJ15_max_2_7 : decode cJ15_max_2 7 = .ok (.goto 4, 3) := dk_167 0 4 (dk_at dksJ15_max_2_0 7 rfl rfl)
theorem dJ15_max_2_10 : decode cJ15_max_2 10 = .ok (.lload_n 2, 1) := dk_32 (dk_at dksJ15_max_2_0 10 rfl rfl)
theorem dJ15_max_2_11 : decode cJ15_max_2 11 = .ok (.lreturn, 1) := dk_173 (dk_at dksJ15_max_2_0 11 rfl rfl)
theorem q119 : (Jvm.Cond.initialized "java/lang/Math") ∈ lw_all := lw_g (lw_at lw_m1 25 rfl) rfl
theorem q603 : (Jvm.Cond.static ({ cls := "java/lang/Math", name := "max", desc := "(II)I" } : Jvm.MethodName)) ∈ lw_all := lw_g (lw_at lw_m3 29 rfl) rfl
theorem q604 : (Jvm.Cond.code ({ cls := "java/lang/Math", name := "max", desc := "(II)I" } : Jvm.MethodName) prog_31_method_65_code (2 : Nat) (Option.some Jvm.ClassFile.FieldType.int)) ∈ lw_all := lw_g (lw_at lw_m3 30 rfl) rfl
theorem q621 : (Jvm.Cond.static ({ cls := "java/lang/Math", name := "min", desc := "(II)I" } : Jvm.MethodName)) ∈ lw_all := lw_g (lw_at lw_m3 47 rfl) rfl
theorem q622 : (Jvm.Cond.code ({ cls := "java/lang/Math", name := "min", desc := "(II)I" } : Jvm.MethodName) prog_31_method_69_code (2 : Nat) (Option.some Jvm.ClassFile.FieldType.int)) ∈ lw_all := lw_g (lw_at lw_m3 48 rfl) rfl
theorem q980 : (Jvm.Cond.static ({ cls := "java/lang/Math", name := "min", desc := "(JJ)J" } : Jvm.MethodName)) ∈ lw_all := lw_g (lw_at lw_m4 166 rfl) rfl
theorem q981 : (Jvm.Cond.code ({ cls := "java/lang/Math", name := "min", desc := "(JJ)J" } : Jvm.MethodName) prog_31_method_70_code (4 : Nat) (Option.some Jvm.ClassFile.FieldType.long)) ∈ lw_all := lw_g (lw_at lw_m4 167 rfl) rfl
theorem q983 : (Jvm.Cond.static ({ cls := "java/lang/Math", name := "max", desc := "(JJ)J" } : Jvm.MethodName)) ∈ lw_all := lw_g (lw_at lw_m4 169 rfl) rfl
theorem q984 : (Jvm.Cond.code ({ cls := "java/lang/Math", name := "max", desc := "(JJ)J" } : Jvm.MethodName) prog_31_method_66_code (4 : Nat) (Option.some Jvm.ClassFile.FieldType.long)) ∈ lw_all := lw_g (lw_at lw_m4 170 rfl) rfl

/-! java/util/Arrays -/
set_option maxRecDepth 100000
def RJ16 : String := "java/util/Arrays"
abbrev cJ16_copyOf : ByteArray := prog_53_method_121_code
def yJ16_copyOf : MethodName := ⟨RJ16, "copyOf", "([BI)[B"⟩
def dkwJ16_copyOf_1 : List UInt8 := [27, 184, 1, 48, 184, 0, 150, 44, 176]
abbrev dktJ16_copyOf_1 : List UInt8 := dkwJ16_copyOf_1 ++ []
def dkwJ16_copyOf_0 : List UInt8 := [27, 42, 190, 160, 0, 11, 42, 182, 1, 54, 192, 1, 55, 176, 27, 188, 8, 77, 42, 3, 44, 3, 42, 190]
abbrev dktJ16_copyOf_0 : List UInt8 := dkwJ16_copyOf_0 ++ dktJ16_copyOf_1
theorem dksJ16_copyOf_0 : cJ16_copyOf.data.toList.drop 0 = dktJ16_copyOf_0 := by decide +kernel
theorem dksJ16_copyOf_1 : cJ16_copyOf.data.toList.drop 24 = dktJ16_copyOf_1 := dk_seg dksJ16_copyOf_0 24 rfl rfl
theorem dJ16_copyOf_0 : decode cJ16_copyOf 0 = .ok (.iload_n 1, 1) := dk_27 (dk_at dksJ16_copyOf_0 0 rfl rfl)
theorem dJ16_copyOf_1 : decode cJ16_copyOf 1 = .ok (.aload_n 0, 1) := dk_42 (dk_at dksJ16_copyOf_0 1 rfl rfl)
theorem dJ16_copyOf_2 : decode cJ16_copyOf 2 = .ok (.arraylength, 1) := dk_190 (dk_at dksJ16_copyOf_0 2 rfl rfl)
theorem dJ16_copyOf_3 : decode cJ16_copyOf 3 = .ok (.if_icmp .ne 11, 3) := dk_160 0 11 (dk_at dksJ16_copyOf_0 3 rfl rfl)
theorem dJ16_copyOf_6 : decode cJ16_copyOf 6 = .ok (.aload_n 0, 1) := dk_42 (dk_at dksJ16_copyOf_0 6 rfl rfl)
theorem dJ16_copyOf_7 : decode cJ16_copyOf 7 = .ok (.invokevirtual 310, 3) := dk_182 1 54 (dk_at dksJ16_copyOf_0 7 rfl rfl)
theorem dJ16_copyOf_10 : decode cJ16_copyOf 10 = .ok (.checkcast 311, 3) := dk_192 1 55 (dk_at dksJ16_copyOf_0 10 rfl rfl)
theorem dJ16_copyOf_13 : decode cJ16_copyOf 13 = .ok (.areturn, 1) := dk_176 (dk_at dksJ16_copyOf_0 13 rfl rfl)
theorem dJ16_copyOf_14 : decode cJ16_copyOf 14 = .ok (.iload_n 1, 1) := dk_27 (dk_at dksJ16_copyOf_0 14 rfl rfl)
theorem dJ16_copyOf_15 : decode cJ16_copyOf 15 = .ok (.newarray .byte, 2) := dk_188_8 (dk_at dksJ16_copyOf_0 15 rfl rfl)
theorem dJ16_copyOf_17 : decode cJ16_copyOf 17 = .ok (.astore_n 2, 1) := dk_77 (dk_at dksJ16_copyOf_0 17 rfl rfl)
theorem dJ16_copyOf_18 : decode cJ16_copyOf 18 = .ok (.aload_n 0, 1) := dk_42 (dk_at dksJ16_copyOf_0 18 rfl rfl)
theorem dJ16_copyOf_19 : decode cJ16_copyOf 19 = .ok (.iconst 0, 1) := dk_3 (dk_at dksJ16_copyOf_0 19 rfl rfl)
theorem dJ16_copyOf_20 : decode cJ16_copyOf 20 = .ok (.aload_n 2, 1) := dk_44 (dk_at dksJ16_copyOf_0 20 rfl rfl)
theorem dJ16_copyOf_21 : decode cJ16_copyOf 21 = .ok (.iconst 0, 1) := dk_3 (dk_at dksJ16_copyOf_0 21 rfl rfl)
theorem dJ16_copyOf_22 : decode cJ16_copyOf 22 = .ok (.aload_n 0, 1) := dk_42 (dk_at dksJ16_copyOf_0 22 rfl rfl)
theorem dJ16_copyOf_23 : decode cJ16_copyOf 23 = .ok (.arraylength, 1) := dk_190 (dk_at dksJ16_copyOf_0 23 rfl rfl)
theorem dJ16_copyOf_24 : decode cJ16_copyOf 24 = .ok (.iload_n 1, 1) := dk_27 (dk_at dksJ16_copyOf_1 0 rfl rfl)
theorem dJ16_copyOf_25 : decode cJ16_copyOf 25 = .ok (.invokestatic 304, 3) := dk_184 1 48 (dk_at dksJ16_copyOf_1 1 rfl rfl)
theorem dJ16_copyOf_28 : decode cJ16_copyOf 28 = .ok (.invokestatic 150, 3) := dk_184 0 150 (dk_at dksJ16_copyOf_1 4 rfl rfl)
theorem dJ16_copyOf_31 : decode cJ16_copyOf 31 = .ok (.aload_n 2, 1) := dk_44 (dk_at dksJ16_copyOf_1 7 rfl rfl)
theorem dJ16_copyOf_32 : decode cJ16_copyOf 32 = .ok (.areturn, 1) := dk_176 (dk_at dksJ16_copyOf_1 8 rfl rfl)
abbrev cJ16_copyOfRange : ByteArray := prog_53_method_132_code
def yJ16_copyOfRange : MethodName := ⟨RJ16, "copyOfRange", "([BII)[B"⟩
def dkwJ16_copyOfRange_1 : List UInt8 := [176]
abbrev dktJ16_copyOfRange_1 : List UInt8 := dkwJ16_copyOfRange_1 ++ []
def dkwJ16_copyOfRange_0 : List UInt8 := [27, 154, 0, 9, 28, 42, 190, 159, 0, 10, 42, 27, 28, 184, 1, 83, 176, 42, 182, 1, 54, 192, 1, 55]
abbrev dktJ16_copyOfRange_0 : List UInt8 := dkwJ16_copyOfRange_0 ++ dktJ16_copyOfRange_1
theorem dksJ16_copyOfRange_0 : cJ16_copyOfRange.data.toList.drop 0 = dktJ16_copyOfRange_0 := by decide +kernel
theorem dksJ16_copyOfRange_1 : cJ16_copyOfRange.data.toList.drop 24 = dktJ16_copyOfRange_1 := dk_seg dksJ16_copyOfRange_0 24 rfl rfl
theorem dJ16_copyOfRange_0 : decode cJ16_copyOfRange 0 = .ok (.iload_n 1, 1) := dk_27 (dk_at dksJ16_copyOfRange_0 0 rfl rfl)
theorem dJ16_copyOfRange_1 : decode cJ16_copyOfRange 1 = .ok (.ifCond .ne 9, 3) := dk_154 0 9 (dk_at dksJ16_copyOfRange_0 1 rfl rfl)
theorem dJ16_copyOfRange_4 : decode cJ16_copyOfRange 4 = .ok (.iload_n 2, 1) := dk_28 (dk_at dksJ16_copyOfRange_0 4 rfl rfl)
theorem dJ16_copyOfRange_5 : decode cJ16_copyOfRange 5 = .ok (.aload_n 0, 1) := dk_42 (dk_at dksJ16_copyOfRange_0 5 rfl rfl)
theorem dJ16_copyOfRange_6 : decode cJ16_copyOfRange 6 = .ok (.arraylength, 1) := dk_190 (dk_at dksJ16_copyOfRange_0 6 rfl rfl)
theorem dJ16_copyOfRange_7 : decode cJ16_copyOfRange 7 = .ok (.if_icmp .eq 10, 3) := dk_159 0 10 (dk_at dksJ16_copyOfRange_0 7 rfl rfl)
theorem dJ16_copyOfRange_10 : decode cJ16_copyOfRange 10 = .ok (.aload_n 0, 1) := dk_42 (dk_at dksJ16_copyOfRange_0 10 rfl rfl)
theorem dJ16_copyOfRange_11 : decode cJ16_copyOfRange 11 = .ok (.iload_n 1, 1) := dk_27 (dk_at dksJ16_copyOfRange_0 11 rfl rfl)
theorem dJ16_copyOfRange_12 : decode cJ16_copyOfRange 12 = .ok (.iload_n 2, 1) := dk_28 (dk_at dksJ16_copyOfRange_0 12 rfl rfl)
theorem dJ16_copyOfRange_13 : decode cJ16_copyOfRange 13 = .ok (.invokestatic 339, 3) := dk_184 1 83 (dk_at dksJ16_copyOfRange_0 13 rfl rfl)
theorem dJ16_copyOfRange_16 : decode cJ16_copyOfRange 16 = .ok (.areturn, 1) := dk_176 (dk_at dksJ16_copyOfRange_0 16 rfl rfl)
theorem dJ16_copyOfRange_17 : decode cJ16_copyOfRange 17 = .ok (.aload_n 0, 1) := dk_42 (dk_at dksJ16_copyOfRange_0 17 rfl rfl)
theorem dJ16_copyOfRange_18 : decode cJ16_copyOfRange 18 = .ok (.invokevirtual 310, 3) := dk_182 1 54 (dk_at dksJ16_copyOfRange_0 18 rfl rfl)
theorem dJ16_copyOfRange_21 : decode cJ16_copyOfRange 21 = .ok (.checkcast 311, 3) := dk_192 1 55 (dk_at dksJ16_copyOfRange_0 21 rfl rfl)
theorem dJ16_copyOfRange_24 : decode cJ16_copyOfRange 24 = .ok (.areturn, 1) := dk_176 (dk_at dksJ16_copyOfRange_1 0 rfl rfl)
abbrev cJ16_copyOfRangeByte : ByteArray := prog_53_method_133_code
def yJ16_copyOfRangeByte : MethodName := ⟨RJ16, "copyOfRangeByte", "([BII)[B"⟩
def dkwJ16_copyOfRangeByte_1 : List UInt8 := [184, 1, 48, 184, 0, 150, 25, 4, 176]
abbrev dktJ16_copyOfRangeByte_1 : List UInt8 := dkwJ16_copyOfRangeByte_1 ++ []
def dkwJ16_copyOfRangeByte_0 : List UInt8 := [27, 28, 184, 1, 87, 28, 27, 100, 62, 29, 188, 8, 58, 4, 42, 27, 25, 4, 3, 42, 190, 27, 100, 29]
abbrev dktJ16_copyOfRangeByte_0 : List UInt8 := dkwJ16_copyOfRangeByte_0 ++ dktJ16_copyOfRangeByte_1
theorem dksJ16_copyOfRangeByte_0 : cJ16_copyOfRangeByte.data.toList.drop 0 = dktJ16_copyOfRangeByte_0 := by decide +kernel
theorem dksJ16_copyOfRangeByte_1 : cJ16_copyOfRangeByte.data.toList.drop 24 = dktJ16_copyOfRangeByte_1 := dk_seg dksJ16_copyOfRangeByte_0 24 rfl rfl
theorem dJ16_copyOfRangeByte_0 : decode cJ16_copyOfRangeByte 0 = .ok (.iload_n 1, 1) := dk_27 (dk_at dksJ16_copyOfRangeByte_0 0 rfl rfl)
theorem dJ16_copyOfRangeByte_1 : decode cJ16_copyOfRangeByte 1 = .ok (.iload_n 2, 1) := dk_28 (dk_at dksJ16_copyOfRangeByte_0 1 rfl rfl)
theorem dJ16_copyOfRangeByte_2 : decode cJ16_copyOfRangeByte 2 = .ok (.invokestatic 343, 3) := dk_184 1 87 (dk_at dksJ16_copyOfRangeByte_0 2 rfl rfl)
theorem dJ16_copyOfRangeByte_5 : decode cJ16_copyOfRangeByte 5 = .ok (.iload_n 2, 1) := dk_28 (dk_at dksJ16_copyOfRangeByte_0 5 rfl rfl)
theorem dJ16_copyOfRangeByte_6 : decode cJ16_copyOfRangeByte 6 = .ok (.iload_n 1, 1) := dk_27 (dk_at dksJ16_copyOfRangeByte_0 6 rfl rfl)
theorem dJ16_copyOfRangeByte_7 : decode cJ16_copyOfRangeByte 7 = .ok (.isub, 1) := dk_100 (dk_at dksJ16_copyOfRangeByte_0 7 rfl rfl)
theorem dJ16_copyOfRangeByte_8 : decode cJ16_copyOfRangeByte 8 = .ok (.istore_n 3, 1) := dk_62 (dk_at dksJ16_copyOfRangeByte_0 8 rfl rfl)
theorem dJ16_copyOfRangeByte_9 : decode cJ16_copyOfRangeByte 9 = .ok (.iload_n 3, 1) := dk_29 (dk_at dksJ16_copyOfRangeByte_0 9 rfl rfl)
theorem dJ16_copyOfRangeByte_10 : decode cJ16_copyOfRangeByte 10 = .ok (.newarray .byte, 2) := dk_188_8 (dk_at dksJ16_copyOfRangeByte_0 10 rfl rfl)
theorem dJ16_copyOfRangeByte_12 : decode cJ16_copyOfRangeByte 12 = .ok (.astore 4, 2) := dk_58 4 (dk_at dksJ16_copyOfRangeByte_0 12 rfl rfl)
theorem dJ16_copyOfRangeByte_14 : decode cJ16_copyOfRangeByte 14 = .ok (.aload_n 0, 1) := dk_42 (dk_at dksJ16_copyOfRangeByte_0 14 rfl rfl)
theorem dJ16_copyOfRangeByte_15 : decode cJ16_copyOfRangeByte 15 = .ok (.iload_n 1, 1) := dk_27 (dk_at dksJ16_copyOfRangeByte_0 15 rfl rfl)
theorem dJ16_copyOfRangeByte_16 : decode cJ16_copyOfRangeByte 16 = .ok (.aload 4, 2) := dk_25 4 (dk_at dksJ16_copyOfRangeByte_0 16 rfl rfl)
theorem dJ16_copyOfRangeByte_18 : decode cJ16_copyOfRangeByte 18 = .ok (.iconst 0, 1) := dk_3 (dk_at dksJ16_copyOfRangeByte_0 18 rfl rfl)
theorem dJ16_copyOfRangeByte_19 : decode cJ16_copyOfRangeByte 19 = .ok (.aload_n 0, 1) := dk_42 (dk_at dksJ16_copyOfRangeByte_0 19 rfl rfl)
theorem dJ16_copyOfRangeByte_20 : decode cJ16_copyOfRangeByte 20 = .ok (.arraylength, 1) := dk_190 (dk_at dksJ16_copyOfRangeByte_0 20 rfl rfl)
theorem dJ16_copyOfRangeByte_21 : decode cJ16_copyOfRangeByte 21 = .ok (.iload_n 1, 1) := dk_27 (dk_at dksJ16_copyOfRangeByte_0 21 rfl rfl)
theorem dJ16_copyOfRangeByte_22 : decode cJ16_copyOfRangeByte 22 = .ok (.isub, 1) := dk_100 (dk_at dksJ16_copyOfRangeByte_0 22 rfl rfl)
theorem dJ16_copyOfRangeByte_23 : decode cJ16_copyOfRangeByte 23 = .ok (.iload_n 3, 1) := dk_29 (dk_at dksJ16_copyOfRangeByte_0 23 rfl rfl)
theorem dJ16_copyOfRangeByte_24 : decode cJ16_copyOfRangeByte 24 = .ok (.invokestatic 304, 3) := dk_184 1 48 (dk_at dksJ16_copyOfRangeByte_1 0 rfl rfl)
theorem dJ16_copyOfRangeByte_27 : decode cJ16_copyOfRangeByte 27 = .ok (.invokestatic 150, 3) := dk_184 0 150 (dk_at dksJ16_copyOfRangeByte_1 3 rfl rfl)
theorem dJ16_copyOfRangeByte_30 : decode cJ16_copyOfRangeByte 30 = .ok (.aload 4, 2) := dk_25 4 (dk_at dksJ16_copyOfRangeByte_1 6 rfl rfl)
theorem dJ16_copyOfRangeByte_32 : decode cJ16_copyOfRangeByte 32 = .ok (.areturn, 1) := dk_176 (dk_at dksJ16_copyOfRangeByte_1 8 rfl rfl)
abbrev cJ16_checkLength : ByteArray := prog_53_method_131_code
def yJ16_checkLength : MethodName := ⟨RJ16, "checkLength", "(II)V"⟩
def dkwJ16_checkLength_1 : List UInt8 := [182, 0, 50, 27, 182, 0, 54, 182, 0, 61, 183, 0, 65, 191, 177]
abbrev dktJ16_checkLength_1 : List UInt8 := dkwJ16_checkLength_1 ++ []
def dkwJ16_checkLength_0 : List UInt8 := [27, 26, 162, 0, 35, 187, 0, 43, 89, 187, 0, 45, 89, 183, 0, 47, 26, 182, 0, 54, 19, 1, 81]
abbrev dktJ16_checkLength_0 : List UInt8 := dkwJ16_checkLength_0 ++ dktJ16_checkLength_1
theorem dksJ16_checkLength_0 : cJ16_checkLength.data.toList.drop 0 = dktJ16_checkLength_0 := by decide +kernel
theorem dksJ16_checkLength_1 : cJ16_checkLength.data.toList.drop 23 = dktJ16_checkLength_1 := dk_seg dksJ16_checkLength_0 23 rfl rfl
theorem dJ16_checkLength_0 : decode cJ16_checkLength 0 = .ok (.iload_n 1, 1) := dk_27 (dk_at dksJ16_checkLength_0 0 rfl rfl)
theorem dJ16_checkLength_1 : decode cJ16_checkLength 1 = .ok (.iload_n 0, 1) := dk_26 (dk_at dksJ16_checkLength_0 1 rfl rfl)
theorem dJ16_checkLength_2 : decode cJ16_checkLength 2 = .ok (.if_icmp .ge 35, 3) := dk_162 0 35 (dk_at dksJ16_checkLength_0 2 rfl rfl)
theorem dJ16_checkLength_5 : decode cJ16_checkLength 5 = .ok (.new 43, 3) := dk_187 0 43 (dk_at dksJ16_checkLength_0 5 rfl rfl)
theorem dJ16_checkLength_8 : decode cJ16_checkLength 8 = .ok (.dup, 1) := dk_89 (dk_at dksJ16_checkLength_0 8 rfl rfl)
theorem dJ16_checkLength_9 : decode cJ16_checkLength 9 = .ok (.new 45, 3) := dk_187 0 45 (dk_at dksJ16_checkLength_0 9 rfl rfl)
theorem dJ16_checkLength_12 : decode cJ16_checkLength 12 = .ok (.dup, 1) := dk_89 (dk_at dksJ16_checkLength_0 12 rfl rfl)
theorem dJ16_checkLength_13 : decode cJ16_checkLength 13 = .ok (.invokespecial 47, 3) := dk_183 0 47 (dk_at dksJ16_checkLength_0 13 rfl rfl)
theorem dJ16_checkLength_16 : decode cJ16_checkLength 16 = .ok (.iload_n 0, 1) := dk_26 (dk_at dksJ16_checkLength_0 16 rfl rfl)
theorem dJ16_checkLength_17 : decode cJ16_checkLength 17 = .ok (.invokevirtual 54, 3) := dk_182 0 54 (dk_at dksJ16_checkLength_0 17 rfl rfl)
theorem dJ16_checkLength_20 : decode cJ16_checkLength 20 = .ok (.ldc_w 337, 3) := dk_19 1 81 (dk_at dksJ16_checkLength_0 20 rfl rfl)
theorem dJ16_checkLength_23 : decode cJ16_checkLength 23 = .ok (.invokevirtual 50, 3) := dk_182 0 50 (dk_at dksJ16_checkLength_1 0 rfl rfl)
theorem dJ16_checkLength_26 : decode cJ16_checkLength 26 = .ok (.iload_n 1, 1) := dk_27 (dk_at dksJ16_checkLength_1 3 rfl rfl)
theorem dJ16_checkLength_27 : decode cJ16_checkLength 27 = .ok (.invokevirtual 54, 3) := dk_182 0 54 (dk_at dksJ16_checkLength_1 4 rfl rfl)
theorem dJ16_checkLength_30 : decode cJ16_checkLength 30 = .ok (.invokevirtual 61, 3) := dk_182 0 61 (dk_at dksJ16_checkLength_1 7 rfl rfl)
theorem dJ16_checkLength_33 : decode cJ16_checkLength 33 = .ok (.invokespecial 65, 3) := dk_183 0 65 (dk_at dksJ16_checkLength_1 10 rfl rfl)
theorem dJ16_checkLength_36 : decode cJ16_checkLength 36 = .ok (.athrow, 1) := dk_191 (dk_at dksJ16_checkLength_1 13 rfl rfl)
theorem dJ16_checkLength_37 : decode cJ16_checkLength 37 = .ok (.return_, 1) := dk_177 (dk_at dksJ16_checkLength_1 14 rfl rfl)
abbrev cJ16_copyOf_2 : ByteArray := prog_53_method_124_code
def yJ16_copyOf_2 : MethodName := ⟨RJ16, "copyOf", "([JI)[J"⟩
def dkwJ16_copyOf_2_1 : List UInt8 := [27, 184, 1, 48, 184, 0, 150, 44, 176]
abbrev dktJ16_copyOf_2_1 : List UInt8 := dkwJ16_copyOf_2_1 ++ []
def dkwJ16_copyOf_2_0 : List UInt8 := [27, 42, 190, 160, 0, 11, 42, 182, 1, 63, 192, 1, 64, 176, 27, 188, 11, 77, 42, 3, 44, 3, 42, 190]
abbrev dktJ16_copyOf_2_0 : List UInt8 := dkwJ16_copyOf_2_0 ++ dktJ16_copyOf_2_1
theorem dksJ16_copyOf_2_0 : cJ16_copyOf_2.data.toList.drop 0 = dktJ16_copyOf_2_0 := by decide +kernel
theorem dksJ16_copyOf_2_1 : cJ16_copyOf_2.data.toList.drop 24 = dktJ16_copyOf_2_1 := dk_seg dksJ16_copyOf_2_0 24 rfl rfl
theorem dJ16_copyOf_2_0 : decode cJ16_copyOf_2 0 = .ok (.iload_n 1, 1) := dk_27 (dk_at dksJ16_copyOf_2_0 0 rfl rfl)
theorem dJ16_copyOf_2_1 : decode cJ16_copyOf_2 1 = .ok (.aload_n 0, 1) := dk_42 (dk_at dksJ16_copyOf_2_0 1 rfl rfl)
theorem dJ16_copyOf_2_2 : decode cJ16_copyOf_2 2 = .ok (.arraylength, 1) := dk_190 (dk_at dksJ16_copyOf_2_0 2 rfl rfl)
theorem dJ16_copyOf_2_3 : decode cJ16_copyOf_2 3 = .ok (.if_icmp .ne 11, 3) := dk_160 0 11 (dk_at dksJ16_copyOf_2_0 3 rfl rfl)
theorem dJ16_copyOf_2_6 : decode cJ16_copyOf_2 6 = .ok (.aload_n 0, 1) := dk_42 (dk_at dksJ16_copyOf_2_0 6 rfl rfl)
theorem dJ16_copyOf_2_7 : decode cJ16_copyOf_2 7 = .ok (.invokevirtual 319, 3) := dk_182 1 63 (dk_at dksJ16_copyOf_2_0 7 rfl rfl)
theorem dJ16_copyOf_2_10 : decode cJ16_copyOf_2 10 = .ok (.checkcast 320, 3) := dk_192 1 64 (dk_at dksJ16_copyOf_2_0 10 rfl rfl)
theorem dJ16_copyOf_2_13 : decode cJ16_copyOf_2 13 = .ok (.areturn, 1) := dk_176 (dk_at dksJ16_copyOf_2_0 13 rfl rfl)
theorem dJ16_copyOf_2_14 : decode cJ16_copyOf_2 14 = .ok (.iload_n 1, 1) := dk_27 (dk_at dksJ16_copyOf_2_0 14 rfl rfl)
theorem dJ16_copyOf_2_15 : decode cJ16_copyOf_2 15 = .ok (.newarray .long, 2) := dk_188_11 (dk_at dksJ16_copyOf_2_0 15 rfl rfl)
theorem dJ16_copyOf_2_17 : decode cJ16_copyOf_2 17 = .ok (.astore_n 2, 1) := dk_77 (dk_at dksJ16_copyOf_2_0 17 rfl rfl)
theorem dJ16_copyOf_2_18 : decode cJ16_copyOf_2 18 = .ok (.aload_n 0, 1) := dk_42 (dk_at dksJ16_copyOf_2_0 18 rfl rfl)
theorem dJ16_copyOf_2_19 : decode cJ16_copyOf_2 19 = .ok (.iconst 0, 1) := dk_3 (dk_at dksJ16_copyOf_2_0 19 rfl rfl)
theorem dJ16_copyOf_2_20 : decode cJ16_copyOf_2 20 = .ok (.aload_n 2, 1) := dk_44 (dk_at dksJ16_copyOf_2_0 20 rfl rfl)
theorem dJ16_copyOf_2_21 : decode cJ16_copyOf_2 21 = .ok (.iconst 0, 1) := dk_3 (dk_at dksJ16_copyOf_2_0 21 rfl rfl)
theorem dJ16_copyOf_2_22 : decode cJ16_copyOf_2 22 = .ok (.aload_n 0, 1) := dk_42 (dk_at dksJ16_copyOf_2_0 22 rfl rfl)
theorem dJ16_copyOf_2_23 : decode cJ16_copyOf_2 23 = .ok (.arraylength, 1) := dk_190 (dk_at dksJ16_copyOf_2_0 23 rfl rfl)
theorem dJ16_copyOf_2_24 : decode cJ16_copyOf_2 24 = .ok (.iload_n 1, 1) := dk_27 (dk_at dksJ16_copyOf_2_1 0 rfl rfl)
theorem dJ16_copyOf_2_25 : decode cJ16_copyOf_2 25 = .ok (.invokestatic 304, 3) := dk_184 1 48 (dk_at dksJ16_copyOf_2_1 1 rfl rfl)
theorem dJ16_copyOf_2_28 : decode cJ16_copyOf_2 28 = .ok (.invokestatic 150, 3) := dk_184 0 150 (dk_at dksJ16_copyOf_2_1 4 rfl rfl)
theorem dJ16_copyOf_2_31 : decode cJ16_copyOf_2 31 = .ok (.aload_n 2, 1) := dk_44 (dk_at dksJ16_copyOf_2_1 7 rfl rfl)
theorem dJ16_copyOf_2_32 : decode cJ16_copyOf_2 32 = .ok (.areturn, 1) := dk_176 (dk_at dksJ16_copyOf_2_1 8 rfl rfl)
abbrev cJ16_copyOf_3 : ByteArray := prog_53_method_119_code
def yJ16_copyOf_3 : MethodName := ⟨RJ16, "copyOf", "([Ljava/lang/Object;I)[Ljava/lang/Object;"⟩
def dkwJ16_copyOf_3_0 : List UInt8 := [42, 27, 42, 182, 0, 86, 184, 1, 44, 176]
abbrev dktJ16_copyOf_3_0 : List UInt8 := dkwJ16_copyOf_3_0 ++ []
theorem dksJ16_copyOf_3_0 : cJ16_copyOf_3.data.toList.drop 0 = dktJ16_copyOf_3_0 := by decide +kernel
theorem dJ16_copyOf_3_0 : decode cJ16_copyOf_3 0 = .ok (.aload_n 0, 1) := dk_42 (dk_at dksJ16_copyOf_3_0 0 rfl rfl)
theorem dJ16_copyOf_3_1 : decode cJ16_copyOf_3 1 = .ok (.iload_n 1, 1) := dk_27 (dk_at dksJ16_copyOf_3_0 1 rfl rfl)
theorem dJ16_copyOf_3_2 : decode cJ16_copyOf_3 2 = .ok (.aload_n 0, 1) := dk_42 (dk_at dksJ16_copyOf_3_0 2 rfl rfl)
theorem dJ16_copyOf_3_3 : decode cJ16_copyOf_3 3 = .ok (.invokevirtual 86, 3) := dk_182 0 86 (dk_at dksJ16_copyOf_3_0 3 rfl rfl)
theorem dJ16_copyOf_3_6 : decode cJ16_copyOf_3 6 = .ok (.invokestatic 300, 3) := dk_184 1 44 (dk_at dksJ16_copyOf_3_0 6 rfl rfl)
theorem dJ16_copyOf_3_9 : decode cJ16_copyOf_3 9 = .ok (.areturn, 1) := dk_176 (dk_at dksJ16_copyOf_3_0 9 rfl rfl)
abbrev cJ16_copyOf_4 : ByteArray := prog_53_method_120_code
def yJ16_copyOf_4 : MethodName := ⟨RJ16, "copyOf", "([Ljava/lang/Object;ILjava/lang/Class;)[Ljava/lang/Object;"⟩
def dkwJ16_copyOf_4_1 : List UInt8 := [78, 42, 3, 45, 3, 42, 190, 27, 184, 1, 48, 184, 0, 150, 45, 176]
abbrev dktJ16_copyOf_4_1 : List UInt8 := dkwJ16_copyOf_4_1 ++ []
def dkwJ16_copyOf_4_0 : List UInt8 := [44, 18, 110, 166, 0, 10, 27, 189, 0, 2, 167, 0, 14, 44, 182, 0, 90, 27, 184, 0, 95, 192, 0, 110]
abbrev dktJ16_copyOf_4_0 : List UInt8 := dkwJ16_copyOf_4_0 ++ dktJ16_copyOf_4_1
theorem dksJ16_copyOf_4_0 : cJ16_copyOf_4.data.toList.drop 0 = dktJ16_copyOf_4_0 := by decide +kernel
theorem dksJ16_copyOf_4_1 : cJ16_copyOf_4.data.toList.drop 24 = dktJ16_copyOf_4_1 := dk_seg dksJ16_copyOf_4_0 24 rfl rfl
theorem dJ16_copyOf_4_0 : decode cJ16_copyOf_4 0 = .ok (.aload_n 2, 1) := dk_44 (dk_at dksJ16_copyOf_4_0 0 rfl rfl)
theorem dJ16_copyOf_4_1 : decode cJ16_copyOf_4 1 = .ok (.ldc 110, 2) := dk_18 110 (dk_at dksJ16_copyOf_4_0 1 rfl rfl)
theorem dJ16_copyOf_4_3 : decode cJ16_copyOf_4 3 = .ok (.if_acmp .ne 10, 3) := dk_166 0 10 (dk_at dksJ16_copyOf_4_0 3 rfl rfl)
theorem dJ16_copyOf_4_6 : decode cJ16_copyOf_4 6 = .ok (.iload_n 1, 1) := dk_27 (dk_at dksJ16_copyOf_4_0 6 rfl rfl)
theorem dJ16_copyOf_4_7 : decode cJ16_copyOf_4 7 = .ok (.anewarray 2, 3) := dk_189 0 2 (dk_at dksJ16_copyOf_4_0 7 rfl rfl)
theorem dJ16_copyOf_4_10 : decode cJ16_copyOf_4 10 = .ok (.goto 14, 3) := dk_167 0 14 (dk_at dksJ16_copyOf_4_0 10 rfl rfl)
theorem dJ16_copyOf_4_13 : decode cJ16_copyOf_4 13 = .ok (.aload_n 2, 1) := dk_44 (dk_at dksJ16_copyOf_4_0 13 rfl rfl)
theorem dJ16_copyOf_4_14 : decode cJ16_copyOf_4 14 = .ok (.invokevirtual 90, 3) := dk_182 0 90 (dk_at dksJ16_copyOf_4_0 14 rfl rfl)
theorem dJ16_copyOf_4_17 : decode cJ16_copyOf_4 17 = .ok (.iload_n 1, 1) := dk_27 (dk_at dksJ16_copyOf_4_0 17 rfl rfl)
theorem dJ16_copyOf_4_18 : decode cJ16_copyOf_4 18 = .ok (.invokestatic 95, 3) := dk_184 0 95 (dk_at dksJ16_copyOf_4_0 18 rfl rfl)
theorem dJ16_copyOf_4_21 : decode cJ16_copyOf_4 21 = .ok (.checkcast 110, 3) := dk_192 0 110 (dk_at dksJ16_copyOf_4_0 21 rfl rfl)
theorem dJ16_copyOf_4_24 : decode cJ16_copyOf_4 24 = .ok (.astore_n 3, 1) := dk_78 (dk_at dksJ16_copyOf_4_1 0 rfl rfl)
theorem dJ16_copyOf_4_25 : decode cJ16_copyOf_4 25 = .ok (.aload_n 0, 1) := dk_42 (dk_at dksJ16_copyOf_4_1 1 rfl rfl)
theorem dJ16_copyOf_4_26 : decode cJ16_copyOf_4 26 = .ok (.iconst 0, 1) := dk_3 (dk_at dksJ16_copyOf_4_1 2 rfl rfl)
theorem dJ16_copyOf_4_27 : decode cJ16_copyOf_4 27 = .ok (.aload_n 3, 1) := dk_45 (dk_at dksJ16_copyOf_4_1 3 rfl rfl)
theorem dJ16_copyOf_4_28 : decode cJ16_copyOf_4 28 = .ok (.iconst 0, 1) := dk_3 (dk_at dksJ16_copyOf_4_1 4 rfl rfl)
theorem dJ16_copyOf_4_29 : decode cJ16_copyOf_4 29 = .ok (.aload_n 0, 1) := dk_42 (dk_at dksJ16_copyOf_4_1 5 rfl rfl)
theorem dJ16_copyOf_4_30 : decode cJ16_copyOf_4 30 = .ok (.arraylength, 1) := dk_190 (dk_at dksJ16_copyOf_4_1 6 rfl rfl)
theorem dJ16_copyOf_4_31 : decode cJ16_copyOf_4 31 = .ok (.iload_n 1, 1) := dk_27 (dk_at dksJ16_copyOf_4_1 7 rfl rfl)
theorem dJ16_copyOf_4_32 : decode cJ16_copyOf_4 32 = .ok (.invokestatic 304, 3) := dk_184 1 48 (dk_at dksJ16_copyOf_4_1 8 rfl rfl)
theorem dJ16_copyOf_4_35 : decode cJ16_copyOf_4 35 = .ok (.invokestatic 150, 3) := dk_184 0 150 (dk_at dksJ16_copyOf_4_1 11 rfl rfl)
theorem dJ16_copyOf_4_38 : decode cJ16_copyOf_4 38 = .ok (.aload_n 3, 1) := dk_45 (dk_at dksJ16_copyOf_4_1 14 rfl rfl)
theorem dJ16_copyOf_4_39 : decode cJ16_copyOf_4 39 = .ok (.areturn, 1) := dk_176 (dk_at dksJ16_copyOf_4_1 15 rfl rfl)
theorem q120 : (Jvm.Cond.initialized "java/util/Arrays") ∈ lw_all := lw_g (lw_at lw_m1 26 rfl) rfl
theorem q611 : (Jvm.Cond.static ({ cls := "java/util/Arrays", name := "copyOf", desc := "([BI)[B" } : Jvm.MethodName)) ∈ lw_all := lw_g (lw_at lw_m3 37 rfl) rfl
theorem q612 : (Jvm.Cond.code ({ cls := "java/util/Arrays", name := "copyOf", desc := "([BI)[B" } : Jvm.MethodName) prog_53_method_121_code (3 : Nat) (Option.some (Jvm.ClassFile.FieldType.array Jvm.ClassFile.FieldType.byte))) ∈ lw_all := lw_g (lw_at lw_m3 38 rfl) rfl
theorem q613 : (Jvm.Cond.methodLink "java/util/Arrays" (310 : Nat) ({ cls := "[B", name := "clone", desc := "()Ljava/lang/Object;" } : Jvm.MethodName)) ∈ lw_all := lw_g (lw_at lw_m3 39 rfl) rfl
theorem q619 : (Jvm.Cond.classLink "java/util/Arrays" (311 : Nat) "[B") ∈ lw_all := lw_g (lw_at lw_m3 45 rfl) rfl
theorem q620 : (Jvm.Cond.methodLink "java/util/Arrays" (304 : Nat) ({ cls := "java/lang/Math", name := "min", desc := "(II)I" } : Jvm.MethodName)) ∈ lw_all := lw_g (lw_at lw_m3 46 rfl) rfl
theorem q623 : (Jvm.Cond.methodLink "java/util/Arrays" (150 : Nat) ({ cls := "java/lang/System", name := "arraycopy", desc := "(Ljava/lang/Object;ILjava/lang/Object;II)V" } : Jvm.MethodName)) ∈ lw_all := lw_g (lw_at lw_m3 49 rfl) rfl
theorem q759 : (Jvm.Cond.static ({ cls := "java/util/Arrays", name := "copyOfRange", desc := "([BII)[B" } : Jvm.MethodName)) ∈ lw_all := lw_g (lw_at lw_m3 185 rfl) rfl
theorem q760 : (Jvm.Cond.code ({ cls := "java/util/Arrays", name := "copyOfRange", desc := "([BII)[B" } : Jvm.MethodName) prog_53_method_132_code (3 : Nat) (Option.some (Jvm.ClassFile.FieldType.array Jvm.ClassFile.FieldType.byte))) ∈ lw_all := lw_g (lw_at lw_m3 186 rfl) rfl
theorem q761 : (Jvm.Cond.methodLink "java/util/Arrays" (339 : Nat) ({ cls := "java/util/Arrays", name := "copyOfRangeByte", desc := "([BII)[B" } : Jvm.MethodName)) ∈ lw_all := lw_g (lw_at lw_m3 187 rfl) rfl
theorem q762 : (Jvm.Cond.static ({ cls := "java/util/Arrays", name := "copyOfRangeByte", desc := "([BII)[B" } : Jvm.MethodName)) ∈ lw_all := lw_g (lw_at lw_m3 188 rfl) rfl
theorem q763 : (Jvm.Cond.code ({ cls := "java/util/Arrays", name := "copyOfRangeByte", desc := "([BII)[B" } : Jvm.MethodName) prog_53_method_133_code (5 : Nat) (Option.some (Jvm.ClassFile.FieldType.array Jvm.ClassFile.FieldType.byte))) ∈ lw_all := lw_g (lw_at lw_m3 189 rfl) rfl
theorem q764 : (Jvm.Cond.methodLink "java/util/Arrays" (343 : Nat) ({ cls := "java/util/Arrays", name := "checkLength", desc := "(II)V" } : Jvm.MethodName)) ∈ lw_all := lw_g (lw_at lw_m3 190 rfl) rfl
theorem q765 : (Jvm.Cond.static ({ cls := "java/util/Arrays", name := "checkLength", desc := "(II)V" } : Jvm.MethodName)) ∈ lw_all := lw_g (lw_at lw_m3 191 rfl) rfl
theorem q766 : (Jvm.Cond.code ({ cls := "java/util/Arrays", name := "checkLength", desc := "(II)V" } : Jvm.MethodName) prog_53_method_131_code (2 : Nat) (Option.none : Option Jvm.ClassFile.FieldType)) ∈ lw_all := lw_g (lw_at lw_m3 192 rfl) rfl
theorem q767 : (Jvm.Cond.classLink "java/util/Arrays" (43 : Nat) "java/lang/IllegalArgumentException") ∈ lw_all := lw_g (lw_at lw_m3 193 rfl) rfl
theorem q776 : (Jvm.Cond.classLink "java/util/Arrays" (45 : Nat) "java/lang/StringBuilder") ∈ lw_all := lw_g (lw_at lw_m3 202 rfl) rfl
theorem q777 : (Jvm.Cond.methodLink "java/util/Arrays" (47 : Nat) ({ cls := "java/lang/StringBuilder", name := "<init>", desc := "()V" } : Jvm.MethodName)) ∈ lw_all := lw_g (lw_at lw_m3 203 rfl) rfl
theorem q778 : (Jvm.Cond.methodLink "java/util/Arrays" (54 : Nat) ({ cls := "java/lang/StringBuilder", name := "append", desc := "(I)Ljava/lang/StringBuilder;" } : Jvm.MethodName)) ∈ lw_all := lw_g (lw_at lw_m3 204 rfl) rfl
theorem q779 : (Jvm.Cond.stringRef "java/util/Arrays" (337 : Nat) " > ") ∈ lw_tbl := lw_at lw_m3 205 rfl
theorem q780 : (Jvm.Cond.methodLink "java/util/Arrays" (50 : Nat) ({ cls := "java/lang/StringBuilder", name := "append", desc := "(Ljava/lang/String;)Ljava/lang/StringBuilder;" } : Jvm.MethodName)) ∈ lw_all := lw_g (lw_at lw_m3 206 rfl) rfl
theorem q781 : (Jvm.Cond.methodLink "java/util/Arrays" (61 : Nat) ({ cls := "java/lang/StringBuilder", name := "toString", desc := "()Ljava/lang/String;" } : Jvm.MethodName)) ∈ lw_all := lw_g (lw_at lw_m3 207 rfl) rfl
theorem q782 : (Jvm.Cond.methodLink "java/util/Arrays" (65 : Nat) ({ cls := "java/lang/IllegalArgumentException", name := "<init>", desc := "(Ljava/lang/String;)V" } : Jvm.MethodName)) ∈ lw_all := lw_g (lw_at lw_m3 208 rfl) rfl
theorem q1170 : (Jvm.Cond.static ({ cls := "java/util/Arrays", name := "copyOf", desc := "([JI)[J" } : Jvm.MethodName)) ∈ lw_all := lw_g (lw_at lw_m5 116 rfl) rfl
theorem q1171 : (Jvm.Cond.code ({ cls := "java/util/Arrays", name := "copyOf", desc := "([JI)[J" } : Jvm.MethodName) prog_53_method_124_code (3 : Nat) (Option.some (Jvm.ClassFile.FieldType.array Jvm.ClassFile.FieldType.long))) ∈ lw_all := lw_g (lw_at lw_m5 117 rfl) rfl
theorem q1172 : (Jvm.Cond.methodLink "java/util/Arrays" (319 : Nat) ({ cls := "[J", name := "clone", desc := "()Ljava/lang/Object;" } : Jvm.MethodName)) ∈ lw_all := lw_g (lw_at lw_m5 118 rfl) rfl
theorem q1176 : (Jvm.Cond.classLink "java/util/Arrays" (320 : Nat) "[J") ∈ lw_all := lw_g (lw_at lw_m5 122 rfl) rfl
theorem q1670 : (Jvm.Cond.static ({ cls := "java/util/Arrays", name := "copyOf", desc := "([Ljava/lang/Object;I)[Ljava/lang/Object;" } : Jvm.MethodName)) ∈ lw_all := lw_g (lw_at lw_m7 136 rfl) rfl
theorem q1671 : (Jvm.Cond.code ({ cls := "java/util/Arrays", name := "copyOf", desc := "([Ljava/lang/Object;I)[Ljava/lang/Object;" } : Jvm.MethodName) prog_53_method_119_code (2 : Nat) (Option.some (Jvm.ClassFile.FieldType.array (Jvm.ClassFile.FieldType.object "java/lang/Object")))) ∈ lw_all := lw_g (lw_at lw_m7 137 rfl) rfl
theorem q1672 : (Jvm.Cond.methodLink "java/util/Arrays" (86 : Nat) ({ cls := "java/lang/Object", name := "getClass", desc := "()Ljava/lang/Class;" } : Jvm.MethodName)) ∈ lw_all := lw_g (lw_at lw_m7 138 rfl) rfl
theorem q1673 : (Jvm.Cond.methodLink "java/util/Arrays" (300 : Nat) ({ cls := "java/util/Arrays", name := "copyOf", desc := "([Ljava/lang/Object;ILjava/lang/Class;)[Ljava/lang/Object;" } : Jvm.MethodName)) ∈ lw_all := lw_g (lw_at lw_m7 139 rfl) rfl
theorem q1674 : (Jvm.Cond.static ({ cls := "java/util/Arrays", name := "copyOf", desc := "([Ljava/lang/Object;ILjava/lang/Class;)[Ljava/lang/Object;" } : Jvm.MethodName)) ∈ lw_all := lw_g (lw_at lw_m7 140 rfl) rfl
theorem q1675 : (Jvm.Cond.code ({ cls := "java/util/Arrays", name := "copyOf", desc := "([Ljava/lang/Object;ILjava/lang/Class;)[Ljava/lang/Object;" } : Jvm.MethodName) prog_53_method_120_code (4 : Nat) (Option.some (Jvm.ClassFile.FieldType.array (Jvm.ClassFile.FieldType.object "java/lang/Object")))) ∈ lw_all := lw_g (lw_at lw_m7 141 rfl) rfl
theorem q1676 : (Jvm.Cond.classLink "java/util/Arrays" (110 : Nat) "[Ljava/lang/Object;") ∈ lw_all := lw_g (lw_at lw_m7 142 rfl) rfl
theorem q1677 : (Jvm.Cond.classLink "java/util/Arrays" (2 : Nat) "java/lang/Object") ∈ lw_all := lw_g (lw_at lw_m7 143 rfl) rfl

/-! java/lang/StringLatin1 -/
set_option maxRecDepth 100000
def RJ17 : String := "java/lang/StringLatin1"
abbrev cJ17_inflate : ByteArray := prog_36_method_50_code
def yJ17_inflate : MethodName := ⟨RJ17, "inflate", "([BI[BII)V"⟩
def dkwJ17_inflate_0 : List UInt8 := [42, 27, 44, 29, 21, 4, 184, 0, 240, 177]
abbrev dktJ17_inflate_0 : List UInt8 := dkwJ17_inflate_0 ++ []
theorem dksJ17_inflate_0 : cJ17_inflate.data.toList.drop 0 = dktJ17_inflate_0 := by decide +kernel
theorem dJ17_inflate_0 : decode cJ17_inflate 0 = .ok (.aload_n 0, 1) := dk_42 (dk_at dksJ17_inflate_0 0 rfl rfl)
theorem dJ17_inflate_1 : decode cJ17_inflate 1 = .ok (.iload_n 1, 1) := dk_27 (dk_at dksJ17_inflate_0 1 rfl rfl)
theorem dJ17_inflate_2 : decode cJ17_inflate 2 = .ok (.aload_n 2, 1) := dk_44 (dk_at dksJ17_inflate_0 2 rfl rfl)
theorem dJ17_inflate_3 : decode cJ17_inflate 3 = .ok (.iload_n 3, 1) := dk_29 (dk_at dksJ17_inflate_0 3 rfl rfl)
theorem dJ17_inflate_4 : decode cJ17_inflate 4 = .ok (.iload 4, 2) := dk_21 4 (dk_at dksJ17_inflate_0 4 rfl rfl)
theorem dJ17_inflate_6 : decode cJ17_inflate 6 = .ok (.invokestatic 240, 3) := dk_184 0 240 (dk_at dksJ17_inflate_0 6 rfl rfl)
theorem dJ17_inflate_9 : decode cJ17_inflate 9 = .ok (.return_, 1) := dk_177 (dk_at dksJ17_inflate_0 9 rfl rfl)
abbrev cJ17_hashCode : ByteArray := prog_36_method_21_code
def yJ17_hashCode : MethodName := ⟨RJ17, "hashCode", "([B)I"⟩
def dkwJ17_hashCode_2 : List UInt8 := [3, 167, 0, 22, 42, 3, 51, 17, 0, 255, 126, 167, 0, 12, 42, 3, 42, 190, 3, 7, 184, 0, 84, 172]
abbrev dktJ17_hashCode_2 : List UInt8 := dkwJ17_hashCode_2 ++ []
def dkwJ17_hashCode_1 : List UInt8 := [171, 0, 0, 0, 0, 40, 0, 0, 0, 2, 0, 0, 0, 0, 0, 0, 0, 26, 0, 0, 0, 1, 0, 0, 0, 30]
abbrev dktJ17_hashCode_1 : List UInt8 := dkwJ17_hashCode_1 ++ dktJ17_hashCode_2
def dkwJ17_hashCode_0 : List UInt8 := [42, 190]
abbrev dktJ17_hashCode_0 : List UInt8 := dkwJ17_hashCode_0 ++ dktJ17_hashCode_1
theorem dksJ17_hashCode_0 : cJ17_hashCode.data.toList.drop 0 = dktJ17_hashCode_0 := by decide +kernel
theorem dksJ17_hashCode_1 : cJ17_hashCode.data.toList.drop 2 = dktJ17_hashCode_1 := dk_seg dksJ17_hashCode_0 2 rfl rfl
theorem dksJ17_hashCode_2 : cJ17_hashCode.data.toList.drop 28 = dktJ17_hashCode_2 := dk_seg dksJ17_hashCode_1 26 rfl rfl
theorem dJ17_hashCode_0 : decode cJ17_hashCode 0 = .ok (.aload_n 0, 1) := dk_42 (dk_at dksJ17_hashCode_0 0 rfl rfl)
theorem dJ17_hashCode_1 : decode cJ17_hashCode 1 = .ok (.arraylength, 1) := dk_190 (dk_at dksJ17_hashCode_0 1 rfl rfl)
theorem dJ17_hashCode_2 : decode cJ17_hashCode 2 = .ok (.lookupswitch 40 #[(0, 26), (1, 30)], 26) := by decide +kernel
theorem dJ17_hashCode_28 : decode cJ17_hashCode 28 = .ok (.iconst 0, 1) := dk_3 (dk_at dksJ17_hashCode_2 0 rfl rfl)
theorem dJ17_hashCode_29 : decode cJ17_hashCode 29 = .ok (.goto 22, 3) := dk_167 0 22 (dk_at dksJ17_hashCode_2 1 rfl rfl)
theorem dJ17_hashCode_32 : decode cJ17_hashCode 32 = .ok (.aload_n 0, 1) := dk_42 (dk_at dksJ17_hashCode_2 4 rfl rfl)
theorem dJ17_hashCode_33 : decode cJ17_hashCode 33 = .ok (.iconst 0, 1) := dk_3 (dk_at dksJ17_hashCode_2 5 rfl rfl)
theorem dJ17_hashCode_34 : decode cJ17_hashCode 34 = .ok (.baload, 1) := dk_51 (dk_at dksJ17_hashCode_2 6 rfl rfl)
theorem dJ17_hashCode_35 : decode cJ17_hashCode 35 = .ok (.sipush 255, 3) := dk_17 0 255 (dk_at dksJ17_hashCode_2 7 rfl rfl)
theorem dJ17_hashCode_38 : decode cJ17_hashCode 38 = .ok (.iand, 1) := dk_126 (dk_at dksJ17_hashCode_2 10 rfl rfl)
theorem dJ17_hashCode_39 : decode cJ17_hashCode 39 = .ok (.goto 12, 3) := dk_167 0 12 (dk_at dksJ17_hashCode_2 11 rfl rfl)
theorem dJ17_hashCode_42 : decode cJ17_hashCode 42 = .ok (.aload_n 0, 1) := dk_42 (dk_at dksJ17_hashCode_2 14 rfl rfl)
theorem dJ17_hashCode_43 : decode cJ17_hashCode 43 = .ok (.iconst 0, 1) := dk_3 (dk_at dksJ17_hashCode_2 15 rfl rfl)
theorem dJ17_hashCode_44 : decode cJ17_hashCode 44 = .ok (.aload_n 0, 1) := dk_42 (dk_at dksJ17_hashCode_2 16 rfl rfl)
theorem dJ17_hashCode_45 : decode cJ17_hashCode 45 = .ok (.arraylength, 1) := dk_190 (dk_at dksJ17_hashCode_2 17 rfl rfl)
theorem dJ17_hashCode_46 : decode cJ17_hashCode 46 = .ok (.iconst 0, 1) := dk_3 (dk_at dksJ17_hashCode_2 18 rfl rfl)
theorem dJ17_hashCode_47 : decode cJ17_hashCode 47 = .ok (.iconst 4, 1) := dk_7 (dk_at dksJ17_hashCode_2 19 rfl rfl)
theorem dJ17_hashCode_48 : decode cJ17_hashCode 48 = .ok (.invokestatic 84, 3) := dk_184 0 84 (dk_at dksJ17_hashCode_2 20 rfl rfl)
theorem dJ17_hashCode_51 : decode cJ17_hashCode 51 = .ok (.ireturn, 1) := dk_172 (dk_at dksJ17_hashCode_2 23 rfl rfl)
abbrev cJ17_equals : ByteArray := prog_36_method_13_code
def yJ17_equals : MethodName := ⟨RJ17, "equals", "([B[B)Z"⟩
def dkwJ17_equals_1 : List UInt8 := [3, 172, 132, 2, 1, 167, 255, 236, 4, 172, 3, 172]
abbrev dktJ17_equals_1 : List UInt8 := dkwJ17_equals_1 ++ []
def dkwJ17_equals_0 : List UInt8 := [42, 190, 43, 190, 160, 0, 30, 3, 61, 28, 42, 190, 162, 0, 20, 42, 28, 51, 43, 28, 51, 159, 0, 5]
abbrev dktJ17_equals_0 : List UInt8 := dkwJ17_equals_0 ++ dktJ17_equals_1
theorem dksJ17_equals_0 : cJ17_equals.data.toList.drop 0 = dktJ17_equals_0 := by decide +kernel
theorem dksJ17_equals_1 : cJ17_equals.data.toList.drop 24 = dktJ17_equals_1 := dk_seg dksJ17_equals_0 24 rfl rfl
theorem dJ17_equals_0 : decode cJ17_equals 0 = .ok (.aload_n 0, 1) := dk_42 (dk_at dksJ17_equals_0 0 rfl rfl)
theorem dJ17_equals_1 : decode cJ17_equals 1 = .ok (.arraylength, 1) := dk_190 (dk_at dksJ17_equals_0 1 rfl rfl)
theorem dJ17_equals_2 : decode cJ17_equals 2 = .ok (.aload_n 1, 1) := dk_43 (dk_at dksJ17_equals_0 2 rfl rfl)
theorem dJ17_equals_3 : decode cJ17_equals 3 = .ok (.arraylength, 1) := dk_190 (dk_at dksJ17_equals_0 3 rfl rfl)
theorem dJ17_equals_4 : decode cJ17_equals 4 = .ok (.if_icmp .ne 30, 3) := dk_160 0 30 (dk_at dksJ17_equals_0 4 rfl rfl)
theorem dJ17_equals_7 : decode cJ17_equals 7 = .ok (.iconst 0, 1) := dk_3 (dk_at dksJ17_equals_0 7 rfl rfl)
theorem dJ17_equals_8 : decode cJ17_equals 8 = .ok (.istore_n 2, 1) := dk_61 (dk_at dksJ17_equals_0 8 rfl rfl)
theorem dJ17_equals_9 : decode cJ17_equals 9 = .ok (.iload_n 2, 1) := dk_28 (dk_at dksJ17_equals_0 9 rfl rfl)
theorem dJ17_equals_10 : decode cJ17_equals 10 = .ok (.aload_n 0, 1) := dk_42 (dk_at dksJ17_equals_0 10 rfl rfl)
theorem dJ17_equals_11 : decode cJ17_equals 11 = .ok (.arraylength, 1) := dk_190 (dk_at dksJ17_equals_0 11 rfl rfl)
theorem dJ17_equals_12 : decode cJ17_equals 12 = .ok (.if_icmp .ge 20, 3) := dk_162 0 20 (dk_at dksJ17_equals_0 12 rfl rfl)
theorem dJ17_equals_15 : decode cJ17_equals 15 = .ok (.aload_n 0, 1) := dk_42 (dk_at dksJ17_equals_0 15 rfl rfl)
theorem dJ17_equals_16 : decode cJ17_equals 16 = .ok (.iload_n 2, 1) := dk_28 (dk_at dksJ17_equals_0 16 rfl rfl)
theorem dJ17_equals_17 : decode cJ17_equals 17 = .ok (.baload, 1) := dk_51 (dk_at dksJ17_equals_0 17 rfl rfl)
theorem dJ17_equals_18 : decode cJ17_equals 18 = .ok (.aload_n 1, 1) := dk_43 (dk_at dksJ17_equals_0 18 rfl rfl)
theorem dJ17_equals_19 : decode cJ17_equals 19 = .ok (.iload_n 2, 1) := dk_28 (dk_at dksJ17_equals_0 19 rfl rfl)
theorem dJ17_equals_20 : decode cJ17_equals 20 = .ok (.baload, 1) := dk_51 (dk_at dksJ17_equals_0 20 rfl rfl)
theorem dJ17_equals_21 : decode cJ17_equals 21 = .ok (.if_icmp .eq 5, 3) := dk_159 0 5 (dk_at dksJ17_equals_0 21 rfl rfl)
theorem dJ17_equals_24 : decode cJ17_equals 24 = .ok (.iconst 0, 1) := dk_3 (dk_at dksJ17_equals_1 0 rfl rfl)
theorem dJ17_equals_25 : decode cJ17_equals 25 = .ok (.ireturn, 1) := dk_172 (dk_at dksJ17_equals_1 1 rfl rfl)
theorem dJ17_equals_26 : decode cJ17_equals 26 = .ok (.iinc 2 1, 3) := dk_132 2 1 (dk_at dksJ17_equals_1 2 rfl rfl)
theorem dJ17_equals_29 : decode cJ17_equals 29 = .ok (.goto (-20), 3) := dk_167 255 236 (dk_at dksJ17_equals_1 5 rfl rfl)
theorem dJ17_equals_32 : decode cJ17_equals 32 = .ok (.iconst 1, 1) := dk_4 (dk_at dksJ17_equals_1 8 rfl rfl)
theorem dJ17_equals_33 : decode cJ17_equals 33 = .ok (.ireturn, 1) := dk_172 (dk_at dksJ17_equals_1 9 rfl rfl)
theorem dJ17_equals_34 : decode cJ17_equals 34 = .ok (.iconst 0, 1) := dk_3 (dk_at dksJ17_equals_1 10 rfl rfl)
theorem dJ17_equals_35 : decode cJ17_equals 35 = .ok (.ireturn, 1) := dk_172 (dk_at dksJ17_equals_1 11 rfl rfl)
abbrev cJ17_compareTo : ByteArray := prog_36_method_14_code
def yJ17_compareTo : MethodName := ⟨RJ17, "compareTo", "([B[B)I"⟩
def dkwJ17_compareTo_0 : List UInt8 := [42, 190, 61, 43, 190, 62, 42, 43, 28, 29, 184, 0, 34, 172]
abbrev dktJ17_compareTo_0 : List UInt8 := dkwJ17_compareTo_0 ++ []
theorem dksJ17_compareTo_0 : cJ17_compareTo.data.toList.drop 0 = dktJ17_compareTo_0 := by decide +kernel
theorem dJ17_compareTo_0 : decode cJ17_compareTo 0 = .ok (.aload_n 0, 1) := dk_42 (dk_at dksJ17_compareTo_0 0 rfl rfl)
theorem dJ17_compareTo_1 : decode cJ17_compareTo 1 = .ok (.arraylength, 1) := dk_190 (dk_at dksJ17_compareTo_0 1 rfl rfl)
theorem dJ17_compareTo_2 : decode cJ17_compareTo 2 = .ok (.istore_n 2, 1) := dk_61 (dk_at dksJ17_compareTo_0 2 rfl rfl)
theorem dJ17_compareTo_3 : decode cJ17_compareTo 3 = .ok (.aload_n 1, 1) := dk_43 (dk_at dksJ17_compareTo_0 3 rfl rfl)
theorem dJ17_compareTo_4 : decode cJ17_compareTo 4 = .ok (.arraylength, 1) := dk_190 (dk_at dksJ17_compareTo_0 4 rfl rfl)
theorem dJ17_compareTo_5 : decode cJ17_compareTo 5 = .ok (.istore_n 3, 1) := dk_62 (dk_at dksJ17_compareTo_0 5 rfl rfl)
theorem dJ17_compareTo_6 : decode cJ17_compareTo 6 = .ok (.aload_n 0, 1) := dk_42 (dk_at dksJ17_compareTo_0 6 rfl rfl)
theorem dJ17_compareTo_7 : decode cJ17_compareTo 7 = .ok (.aload_n 1, 1) := dk_43 (dk_at dksJ17_compareTo_0 7 rfl rfl)
theorem dJ17_compareTo_8 : decode cJ17_compareTo 8 = .ok (.iload_n 2, 1) := dk_28 (dk_at dksJ17_compareTo_0 8 rfl rfl)
theorem dJ17_compareTo_9 : decode cJ17_compareTo 9 = .ok (.iload_n 3, 1) := dk_29 (dk_at dksJ17_compareTo_0 9 rfl rfl)
theorem dJ17_compareTo_10 : decode cJ17_compareTo 10 = .ok (.invokestatic 34, 3) := dk_184 0 34 (dk_at dksJ17_compareTo_0 10 rfl rfl)
theorem dJ17_compareTo_13 : decode cJ17_compareTo 13 = .ok (.ireturn, 1) := dk_172 (dk_at dksJ17_compareTo_0 13 rfl rfl)
abbrev cJ17_compareTo_2 : ByteArray := prog_36_method_15_code
def yJ17_compareTo_2 : MethodName := ⟨RJ17, "compareTo", "([B[BII)I"⟩
def dkwJ17_compareTo_2_1 : List UInt8 := [167, 0, 16, 42, 21, 5, 184, 0, 50, 43, 21, 5, 184, 0, 50, 100, 172]
abbrev dktJ17_compareTo_2_1 : List UInt8 := dkwJ17_compareTo_2_1 ++ []
def dkwJ17_compareTo_2_0 : List UInt8 := [28, 29, 184, 0, 38, 54, 4, 42, 43, 21, 4, 184, 0, 44, 54, 5, 21, 5, 156, 0, 9, 28, 29, 100]
abbrev dktJ17_compareTo_2_0 : List UInt8 := dkwJ17_compareTo_2_0 ++ dktJ17_compareTo_2_1
theorem dksJ17_compareTo_2_0 : cJ17_compareTo_2.data.toList.drop 0 = dktJ17_compareTo_2_0 := by decide +kernel
theorem dksJ17_compareTo_2_1 : cJ17_compareTo_2.data.toList.drop 24 = dktJ17_compareTo_2_1 := dk_seg dksJ17_compareTo_2_0 24 rfl rfl
theorem dJ17_compareTo_2_0 : decode cJ17_compareTo_2 0 = .ok (.iload_n 2, 1) := dk_28 (dk_at dksJ17_compareTo_2_0 0 rfl rfl)
theorem dJ17_compareTo_2_1 : decode cJ17_compareTo_2 1 = .ok (.iload_n 3, 1) := dk_29 (dk_at dksJ17_compareTo_2_0 1 rfl rfl)
theorem dJ17_compareTo_2_2 : decode cJ17_compareTo_2 2 = .ok (.invokestatic 38, 3) := dk_184 0 38 (dk_at dksJ17_compareTo_2_0 2 rfl rfl)
theorem dJ17_compareTo_2_5 : decode cJ17_compareTo_2 5 = .ok (.istore 4, 2) := dk_54 4 (dk_at dksJ17_compareTo_2_0 5 rfl rfl)
theorem dJ17_compareTo_2_7 : decode cJ17_compareTo_2 7 = .ok (.aload_n 0, 1) := dk_42 (dk_at dksJ17_compareTo_2_0 7 rfl rfl)
theorem dJ17_compareTo_2_8 : decode cJ17_compareTo_2 8 = .ok (.aload_n 1, 1) := dk_43 (dk_at dksJ17_compareTo_2_0 8 rfl rfl)
theorem dJ17_compareTo_2_9 : decode cJ17_compareTo_2 9 = .ok (.iload 4, 2) := dk_21 4 (dk_at dksJ17_compareTo_2_0 9 rfl rfl)
theorem dJ17_compareTo_2_11 : decode cJ17_compareTo_2 11 = .ok (.invokestatic 44, 3) := dk_184 0 44 (dk_at dksJ17_compareTo_2_0 11 rfl rfl)
theorem dJ17_compareTo_2_14 : decode cJ17_compareTo_2 14 = .ok (.istore 5, 2) := dk_54 5 (dk_at dksJ17_compareTo_2_0 14 rfl rfl)
theorem dJ17_compareTo_2_16 : decode cJ17_compareTo_2 16 = .ok (.iload 5, 2) := dk_21 5 (dk_at dksJ17_compareTo_2_0 16 rfl rfl)
theorem dJ17_compareTo_2_18 : decode cJ17_compareTo_2 18 = .ok (.ifCond .ge 9, 3) := dk_156 0 9 (dk_at dksJ17_compareTo_2_0 18 rfl rfl)
theorem dJ17_compareTo_2_21 : decode cJ17_compareTo_2 21 = .ok (.iload_n 2, 1) := dk_28 (dk_at dksJ17_compareTo_2_0 21 rfl rfl)
theorem dJ17_compareTo_2_22 : decode cJ17_compareTo_2 22 = .ok (.iload_n 3, 1) := dk_29 (dk_at dksJ17_compareTo_2_0 22 rfl rfl)
theorem dJ17_compareTo_2_23 : decode cJ17_compareTo_2 23 = .ok (.isub, 1) := dk_100 (dk_at dksJ17_compareTo_2_0 23 rfl rfl)
theorem dJ17_compareTo_2_24 : decode cJ17_compareTo_2 24 = .ok (.goto 16, 3) := dk_167 0 16 (dk_at dksJ17_compareTo_2_1 0 rfl rfl)
theorem dJ17_compareTo_2_27 : decode cJ17_compareTo_2 27 = .ok (.aload_n 0, 1) := dk_42 (dk_at dksJ17_compareTo_2_1 3 rfl rfl)
theorem dJ17_compareTo_2_28 : decode cJ17_compareTo_2 28 = .ok (.iload 5, 2) := dk_21 5 (dk_at dksJ17_compareTo_2_1 4 rfl rfl)
theorem dJ17_compareTo_2_30 : decode cJ17_compareTo_2 30 = .ok (.invokestatic 50, 3) := dk_184 0 50 (dk_at dksJ17_compareTo_2_1 6 rfl rfl)
theorem dJ17_compareTo_2_33 : decode cJ17_compareTo_2 33 = .ok (.aload_n 1, 1) := dk_43 (dk_at dksJ17_compareTo_2_1 9 rfl rfl)
theorem dJ17_compareTo_2_34 : decode cJ17_compareTo_2 34 = .ok (.iload 5, 2) := dk_21 5 (dk_at dksJ17_compareTo_2_1 10 rfl rfl)
theorem dJ17_compareTo_2_36 : decode cJ17_compareTo_2 36 = .ok (.invokestatic 50, 3) := dk_184 0 50 (dk_at dksJ17_compareTo_2_1 12 rfl rfl)
theorem dJ17_compareTo_2_39 : decode cJ17_compareTo_2 39 = .ok (.isub, 1) := dk_100 (dk_at dksJ17_compareTo_2_1 15 rfl rfl)
theorem dJ17_compareTo_2_40 : decode cJ17_compareTo_2 40 = .ok (.ireturn, 1) := dk_172 (dk_at dksJ17_compareTo_2_1 16 rfl rfl)
abbrev cJ17_getChar : ByteArray := prog_36_method_44_code
def yJ17_getChar : MethodName := ⟨RJ17, "getChar", "([BI)C"⟩
def dkwJ17_getChar_0 : List UInt8 := [42, 27, 51, 17, 0, 255, 126, 146, 172]
abbrev dktJ17_getChar_0 : List UInt8 := dkwJ17_getChar_0 ++ []
theorem dksJ17_getChar_0 : cJ17_getChar.data.toList.drop 0 = dktJ17_getChar_0 := by decide +kernel
theorem dJ17_getChar_0 : decode cJ17_getChar 0 = .ok (.aload_n 0, 1) := dk_42 (dk_at dksJ17_getChar_0 0 rfl rfl)
theorem dJ17_getChar_1 : decode cJ17_getChar 1 = .ok (.iload_n 1, 1) := dk_27 (dk_at dksJ17_getChar_0 1 rfl rfl)
theorem dJ17_getChar_2 : decode cJ17_getChar 2 = .ok (.baload, 1) := dk_51 (dk_at dksJ17_getChar_0 2 rfl rfl)
theorem dJ17_getChar_3 : decode cJ17_getChar 3 = .ok (.sipush 255, 3) := dk_17 0 255 (dk_at dksJ17_getChar_0 3 rfl rfl)
theorem dJ17_getChar_6 : decode cJ17_getChar 6 = .ok (.iand, 1) := dk_126 (dk_at dksJ17_getChar_0 6 rfl rfl)
theorem dJ17_getChar_7 : decode cJ17_getChar 7 = .ok (.i2c, 1) := dk_146 (dk_at dksJ17_getChar_0 7 rfl rfl)
theorem dJ17_getChar_8 : decode cJ17_getChar 8 = .ok (.ireturn, 1) := dk_172 (dk_at dksJ17_getChar_0 8 rfl rfl)
abbrev cJ17_compareToUTF16 : ByteArray := prog_36_method_16_code
def yJ17_compareToUTF16 : MethodName := ⟨RJ17, "compareToUTF16", "([B[B)I"⟩
def dkwJ17_compareToUTF16_0 : List UInt8 := [42, 184, 0, 54, 61, 43, 184, 0, 58, 62, 42, 43, 28, 29, 184, 0, 59, 172]
abbrev dktJ17_compareToUTF16_0 : List UInt8 := dkwJ17_compareToUTF16_0 ++ []
theorem dksJ17_compareToUTF16_0 : cJ17_compareToUTF16.data.toList.drop 0 = dktJ17_compareToUTF16_0 := by decide +kernel
theorem dJ17_compareToUTF16_0 : decode cJ17_compareToUTF16 0 = .ok (.aload_n 0, 1) := dk_42 (dk_at dksJ17_compareToUTF16_0 0 rfl rfl)
theorem dJ17_compareToUTF16_1 : decode cJ17_compareToUTF16 1 = .ok (.invokestatic 54, 3) := dk_184 0 54 (dk_at dksJ17_compareToUTF16_0 1 rfl rfl)
theorem dJ17_compareToUTF16_4 : decode cJ17_compareToUTF16 4 = .ok (.istore_n 2, 1) := dk_61 (dk_at dksJ17_compareToUTF16_0 4 rfl rfl)
theorem dJ17_compareToUTF16_5 : decode cJ17_compareToUTF16 5 = .ok (.aload_n 1, 1) := dk_43 (dk_at dksJ17_compareToUTF16_0 5 rfl rfl)
theorem dJ17_compareToUTF16_6 : decode cJ17_compareToUTF16 6 = .ok (.invokestatic 58, 3) := dk_184 0 58 (dk_at dksJ17_compareToUTF16_0 6 rfl rfl)
theorem dJ17_compareToUTF16_9 : decode cJ17_compareToUTF16 9 = .ok (.istore_n 3, 1) := dk_62 (dk_at dksJ17_compareToUTF16_0 9 rfl rfl)
theorem dJ17_compareToUTF16_10 : decode cJ17_compareToUTF16 10 = .ok (.aload_n 0, 1) := dk_42 (dk_at dksJ17_compareToUTF16_0 10 rfl rfl)
theorem dJ17_compareToUTF16_11 : decode cJ17_compareToUTF16 11 = .ok (.aload_n 1, 1) := dk_43 (dk_at dksJ17_compareToUTF16_0 11 rfl rfl)
theorem dJ17_compareToUTF16_12 : decode cJ17_compareToUTF16 12 = .ok (.iload_n 2, 1) := dk_28 (dk_at dksJ17_compareToUTF16_0 12 rfl rfl)
theorem dJ17_compareToUTF16_13 : decode cJ17_compareToUTF16 13 = .ok (.iload_n 3, 1) := dk_29 (dk_at dksJ17_compareToUTF16_0 13 rfl rfl)
theorem dJ17_compareToUTF16_14 : decode cJ17_compareToUTF16 14 = .ok (.invokestatic 59, 3) := dk_184 0 59 (dk_at dksJ17_compareToUTF16_0 14 rfl rfl)
theorem dJ17_compareToUTF16_17 : decode cJ17_compareToUTF16 17 = .ok (.ireturn, 1) := dk_172 (dk_at dksJ17_compareToUTF16_0 17 rfl rfl)
abbrev cJ17_length : ByteArray := prog_36_method_5_code
def yJ17_length : MethodName := ⟨RJ17, "length", "([B)I"⟩
theorem dJ17_length_0 : decode cJ17_length 0 = .ok (.aload_n 0, 1) := by decide +kernel
theorem dJ17_length_1 : decode cJ17_length 1 = .ok (.arraylength, 1) := by decide +kernel
theorem dJ17_length_2 : decode cJ17_length 2 = .ok (.ireturn, 1) := by decide +kernel
abbrev cJ17_compareToUTF16Values : ByteArray := prog_36_method_18_code
def yJ17_compareToUTF16Values : MethodName := ⟨RJ17, "compareToUTF16Values", "([B[BII)I"⟩
def dkwJ17_compareToUTF16Values_2 : List UInt8 := [132, 5, 1, 167, 255, 217, 28, 29, 100, 172]
abbrev dktJ17_compareToUTF16Values_2 : List UInt8 := dkwJ17_compareToUTF16Values_2 ++ []
def dkwJ17_compareToUTF16Values_1 : List UInt8 := [54, 6, 43, 21, 5, 184, 0, 65, 54, 7, 21, 6, 21, 7, 159, 0, 9, 21, 6, 21, 7, 100, 172]
abbrev dktJ17_compareToUTF16Values_1 : List UInt8 := dkwJ17_compareToUTF16Values_1 ++ dktJ17_compareToUTF16Values_2
def dkwJ17_compareToUTF16Values_0 : List UInt8 := [28, 29, 184, 0, 38, 54, 4, 3, 54, 5, 21, 5, 21, 4, 162, 0, 38, 42, 21, 5, 184, 0, 50]
abbrev dktJ17_compareToUTF16Values_0 : List UInt8 := dkwJ17_compareToUTF16Values_0 ++ dktJ17_compareToUTF16Values_1
theorem dksJ17_compareToUTF16Values_0 : cJ17_compareToUTF16Values.data.toList.drop 0 = dktJ17_compareToUTF16Values_0 := by decide +kernel
theorem dksJ17_compareToUTF16Values_1 : cJ17_compareToUTF16Values.data.toList.drop 23 = dktJ17_compareToUTF16Values_1 := dk_seg dksJ17_compareToUTF16Values_0 23 rfl rfl
theorem dksJ17_compareToUTF16Values_2 : cJ17_compareToUTF16Values.data.toList.drop 46 = dktJ17_compareToUTF16Values_2 := dk_seg dksJ17_compareToUTF16Values_1 23 rfl rfl
theorem dJ17_compareToUTF16Values_0 : decode cJ17_compareToUTF16Values 0 = .ok (.iload_n 2, 1) := dk_28 (dk_at dksJ17_compareToUTF16Values_0 0 rfl rfl)
theorem dJ17_compareToUTF16Values_1 : decode cJ17_compareToUTF16Values 1 = .ok (.iload_n 3, 1) := dk_29 (dk_at dksJ17_compareToUTF16Values_0 1 rfl rfl)
theorem dJ17_compareToUTF16Values_2 : decode cJ17_compareToUTF16Values 2 = .ok (.invokestatic 38, 3) := dk_184 0 38 (dk_at dksJ17_compareToUTF16Values_0 2 rfl rfl)
theorem dJ17_compareToUTF16Values_5 : decode cJ17_compareToUTF16Values 5 = .ok (.istore 4, 2) := dk_54 4 (dk_at dksJ17_compareToUTF16Values_0 5 rfl rfl)
theorem dJ17_compareToUTF16Values_7 : decode cJ17_compareToUTF16Values 7 = .ok (.iconst 0, 1) := dk_3 (dk_at dksJ17_compareToUTF16Values_0 7 rfl rfl)
theorem dJ17_compareToUTF16Values_8 : decode cJ17_compareToUTF16Values 8 = .ok (.istore 5, 2) := dk_54 5 (dk_at dksJ17_compareToUTF16Values_0 8 rfl rfl)
theorem dJ17_compareToUTF16Values_10 : decode cJ17_compareToUTF16Values 10 = .ok (.iload 5, 2) := dk_21 5 (dk_at dksJ17_compareToUTF16Values_0 10 rfl rfl)
theorem dJ17_compareToUTF16Values_12 : decode cJ17_compareToUTF16Values 12 = .ok (.iload 4, 2) := dk_21 4 (dk_at dksJ17_compareToUTF16Values_0 12 rfl rfl)
theorem dJ17_compareToUTF16Values_14 : decode cJ17_compareToUTF16Values 14 = .ok (.if_icmp .ge 38, 3) := dk_162 0 38 (dk_at dksJ17_compareToUTF16Values_0 14 rfl rfl)
theorem dJ17_compareToUTF16Values_17 : decode cJ17_compareToUTF16Values 17 = .ok (.aload_n 0, 1) := dk_42 (dk_at dksJ17_compareToUTF16Values_0 17 rfl rfl)
theorem dJ17_compareToUTF16Values_18 : decode cJ17_compareToUTF16Values 18 = .ok (.iload 5, 2) := dk_21 5 (dk_at dksJ17_compareToUTF16Values_0 18 rfl rfl)
theorem dJ17_compareToUTF16Values_20 : decode cJ17_compareToUTF16Values 20 = .ok (.invokestatic 50, 3) := dk_184 0 50 (dk_at dksJ17_compareToUTF16Values_0 20 rfl rfl)
theorem dJ17_compareToUTF16Values_23 : decode cJ17_compareToUTF16Values 23 = .ok (.istore 6, 2) := dk_54 6 (dk_at dksJ17_compareToUTF16Values_1 0 rfl rfl)
theorem dJ17_compareToUTF16Values_25 : decode cJ17_compareToUTF16Values 25 = .ok (.aload_n 1, 1) := dk_43 (dk_at dksJ17_compareToUTF16Values_1 2 rfl rfl)
theorem dJ17_compareToUTF16Values_26 : decode cJ17_compareToUTF16Values 26 = .ok (.iload 5, 2) := dk_21 5 (dk_at dksJ17_compareToUTF16Values_1 3 rfl rfl)
theorem dJ17_compareToUTF16Values_28 : decode cJ17_compareToUTF16Values 28 = .ok (.invokestatic 65, 3) := dk_184 0 65 (dk_at dksJ17_compareToUTF16Values_1 5 rfl rfl)
theorem dJ17_compareToUTF16Values_31 : decode cJ17_compareToUTF16Values 31 = .ok (.istore 7, 2) := dk_54 7 (dk_at dksJ17_compareToUTF16Values_1 8 rfl rfl)
theorem dJ17_compareToUTF16Values_33 : decode cJ17_compareToUTF16Values 33 = .ok (.iload 6, 2) := dk_21 6 (dk_at dksJ17_compareToUTF16Values_1 10 rfl rfl)
theorem dJ17_compareToUTF16Values_35 : decode cJ17_compareToUTF16Values 35 = .ok (.iload 7, 2) := dk_21 7 (dk_at dksJ17_compareToUTF16Values_1 12 rfl rfl)
theorem dJ17_compareToUTF16Values_37 : decode cJ17_compareToUTF16Values 37 = .ok (.if_icmp .eq 9, 3) := dk_159 0 9 (dk_at dksJ17_compareToUTF16Values_1 14 rfl rfl)
theorem dJ17_compareToUTF16Values_40 : decode cJ17_compareToUTF16Values 40 = .ok (.iload 6, 2) := dk_21 6 (dk_at dksJ17_compareToUTF16Values_1 17 rfl rfl)
theorem dJ17_compareToUTF16Values_42 : decode cJ17_compareToUTF16Values 42 = .ok (.iload 7, 2) := dk_21 7 (dk_at dksJ17_compareToUTF16Values_1 19 rfl rfl)
theorem dJ17_compareToUTF16Values_44 : decode cJ17_compareToUTF16Values 44 = .ok (.isub, 1) := dk_100 (dk_at dksJ17_compareToUTF16Values_1 21 rfl rfl)
theorem dJ17_compareToUTF16Values_45 : decode cJ17_compareToUTF16Values 45 = .ok (.ireturn, 1) := dk_172 (dk_at dksJ17_compareToUTF16Values_1 22 rfl rfl)
theorem dJ17_compareToUTF16Values_46 : decode cJ17_compareToUTF16Values 46 = .ok (.iinc 5 1, 3) := dk_132 5 1 (dk_at dksJ17_compareToUTF16Values_2 0 rfl rfl)
theorem dJ17_compareToUTF16Values_49 : decode cJ17_compareToUTF16Values 49 = .ok (.goto (-39), 3) := dk_167 255 217 (dk_at dksJ17_compareToUTF16Values_2 3 rfl rfl)
theorem dJ17_compareToUTF16Values_52 : decode cJ17_compareToUTF16Values 52 = .ok (.iload_n 2, 1) := dk_28 (dk_at dksJ17_compareToUTF16Values_2 6 rfl rfl)
theorem dJ17_compareToUTF16Values_53 : decode cJ17_compareToUTF16Values 53 = .ok (.iload_n 3, 1) := dk_29 (dk_at dksJ17_compareToUTF16Values_2 7 rfl rfl)
theorem dJ17_compareToUTF16Values_54 : decode cJ17_compareToUTF16Values 54 = .ok (.isub, 1) := dk_100 (dk_at dksJ17_compareToUTF16Values_2 8 rfl rfl)
theorem dJ17_compareToUTF16Values_55 : decode cJ17_compareToUTF16Values 55 = .ok (.ireturn, 1) := dk_172 (dk_at dksJ17_compareToUTF16Values_2 9 rfl rfl)
abbrev cJ17_compareToUTF16_2 : ByteArray := prog_36_method_17_code
def yJ17_compareToUTF16_2 : MethodName := ⟨RJ17, "compareToUTF16", "([B[BII)I"⟩
def dkwJ17_compareToUTF16_2_0 : List UInt8 := [28, 42, 184, 0, 54, 184, 0, 62, 29, 43, 184, 0, 58, 184, 0, 62, 42, 43, 28, 29, 184, 0, 59, 172]
abbrev dktJ17_compareToUTF16_2_0 : List UInt8 := dkwJ17_compareToUTF16_2_0 ++ []
theorem dksJ17_compareToUTF16_2_0 : cJ17_compareToUTF16_2.data.toList.drop 0 = dktJ17_compareToUTF16_2_0 := by decide +kernel
theorem dJ17_compareToUTF16_2_0 : decode cJ17_compareToUTF16_2 0 = .ok (.iload_n 2, 1) := dk_28 (dk_at dksJ17_compareToUTF16_2_0 0 rfl rfl)
theorem dJ17_compareToUTF16_2_1 : decode cJ17_compareToUTF16_2 1 = .ok (.aload_n 0, 1) := dk_42 (dk_at dksJ17_compareToUTF16_2_0 1 rfl rfl)
theorem dJ17_compareToUTF16_2_2 : decode cJ17_compareToUTF16_2 2 = .ok (.invokestatic 54, 3) := dk_184 0 54 (dk_at dksJ17_compareToUTF16_2_0 2 rfl rfl)
theorem dJ17_compareToUTF16_2_5 : decode cJ17_compareToUTF16_2 5 = .ok (.invokestatic 62, 3) := dk_184 0 62 (dk_at dksJ17_compareToUTF16_2_0 5 rfl rfl)
theorem dJ17_compareToUTF16_2_8 : decode cJ17_compareToUTF16_2 8 = .ok (.iload_n 3, 1) := dk_29 (dk_at dksJ17_compareToUTF16_2_0 8 rfl rfl)
theorem dJ17_compareToUTF16_2_9 : decode cJ17_compareToUTF16_2 9 = .ok (.aload_n 1, 1) := dk_43 (dk_at dksJ17_compareToUTF16_2_0 9 rfl rfl)
theorem dJ17_compareToUTF16_2_10 : decode cJ17_compareToUTF16_2 10 = .ok (.invokestatic 58, 3) := dk_184 0 58 (dk_at dksJ17_compareToUTF16_2_0 10 rfl rfl)
theorem dJ17_compareToUTF16_2_13 : decode cJ17_compareToUTF16_2 13 = .ok (.invokestatic 62, 3) := dk_184 0 62 (dk_at dksJ17_compareToUTF16_2_0 13 rfl rfl)
theorem dJ17_compareToUTF16_2_16 : decode cJ17_compareToUTF16_2 16 = .ok (.aload_n 0, 1) := dk_42 (dk_at dksJ17_compareToUTF16_2_0 16 rfl rfl)
theorem dJ17_compareToUTF16_2_17 : decode cJ17_compareToUTF16_2 17 = .ok (.aload_n 1, 1) := dk_43 (dk_at dksJ17_compareToUTF16_2_0 17 rfl rfl)
theorem dJ17_compareToUTF16_2_18 : decode cJ17_compareToUTF16_2 18 = .ok (.iload_n 2, 1) := dk_28 (dk_at dksJ17_compareToUTF16_2_0 18 rfl rfl)
theorem dJ17_compareToUTF16_2_19 : decode cJ17_compareToUTF16_2 19 = .ok (.iload_n 3, 1) := dk_29 (dk_at dksJ17_compareToUTF16_2_0 19 rfl rfl)
theorem dJ17_compareToUTF16_2_20 : decode cJ17_compareToUTF16_2 20 = .ok (.invokestatic 59, 3) := dk_184 0 59 (dk_at dksJ17_compareToUTF16_2_0 20 rfl rfl)
theorem dJ17_compareToUTF16_2_23 : decode cJ17_compareToUTF16_2 23 = .ok (.ireturn, 1) := dk_172 (dk_at dksJ17_compareToUTF16_2_0 23 rfl rfl)
abbrev cJ17_canEncode : ByteArray := prog_36_method_3_code
def yJ17_canEncode : MethodName := ⟨RJ17, "canEncode", "(C)Z"⟩
def dkwJ17_canEncode_0 : List UInt8 := [26, 17, 0, 255, 163, 0, 7, 4, 167, 0, 4, 3, 172]
abbrev dktJ17_canEncode_0 : List UInt8 := dkwJ17_canEncode_0 ++ []
theorem dksJ17_canEncode_0 : cJ17_canEncode.data.toList.drop 0 = dktJ17_canEncode_0 := by decide +kernel
theorem dJ17_canEncode_0 : decode cJ17_canEncode 0 = .ok (.iload_n 0, 1) := dk_26 (dk_at dksJ17_canEncode_0 0 rfl rfl)
theorem dJ17_canEncode_1 : decode cJ17_canEncode 1 = .ok (.sipush 255, 3) := dk_17 0 255 (dk_at dksJ17_canEncode_0 1 rfl rfl)
theorem dJ17_canEncode_4 : decode cJ17_canEncode 4 = .ok (.if_icmp .gt 7, 3) := dk_163 0 7 (dk_at dksJ17_canEncode_0 4 rfl rfl)
theorem dJ17_canEncode_7 : decode cJ17_canEncode 7 = .ok (.iconst 1, 1) := dk_4 (dk_at dksJ17_canEncode_0 7 rfl rfl)
theorem dJ17_canEncode_8 : decode cJ17_canEncode 8 = .ok (.goto 4, 3) := dk_167 0 4 (dk_at dksJ17_canEncode_0 8 rfl rfl)
theorem dJ17_canEncode_11 : decode cJ17_canEncode 11 = .ok (.iconst 0, 1) := dk_3 (dk_at dksJ17_canEncode_0 11 rfl rfl)
theorem dJ17_canEncode_12 : decode cJ17_canEncode 12 = .ok (.ireturn, 1) := dk_172 (dk_at dksJ17_canEncode_0 12 rfl rfl)
abbrev cJ17_charAt : ByteArray := prog_36_method_2_code
def yJ17_charAt : MethodName := ⟨RJ17, "charAt", "([BI)C"⟩
def dkwJ17_charAt_0 : List UInt8 := [27, 42, 190, 184, 0, 9, 42, 27, 51, 17, 0, 255, 126, 146, 172]
abbrev dktJ17_charAt_0 : List UInt8 := dkwJ17_charAt_0 ++ []
theorem dksJ17_charAt_0 : cJ17_charAt.data.toList.drop 0 = dktJ17_charAt_0 := by decide +kernel
theorem dJ17_charAt_0 : decode cJ17_charAt 0 = .ok (.iload_n 1, 1) := dk_27 (dk_at dksJ17_charAt_0 0 rfl rfl)
theorem dJ17_charAt_1 : decode cJ17_charAt 1 = .ok (.aload_n 0, 1) := dk_42 (dk_at dksJ17_charAt_0 1 rfl rfl)
theorem dJ17_charAt_2 : decode cJ17_charAt 2 = .ok (.arraylength, 1) := dk_190 (dk_at dksJ17_charAt_0 2 rfl rfl)
theorem dJ17_charAt_3 : decode cJ17_charAt 3 = .ok (.invokestatic 9, 3) := dk_184 0 9 (dk_at dksJ17_charAt_0 3 rfl rfl)
theorem dJ17_charAt_6 : decode cJ17_charAt 6 = .ok (.aload_n 0, 1) := dk_42 (dk_at dksJ17_charAt_0 6 rfl rfl)
theorem dJ17_charAt_7 : decode cJ17_charAt 7 = .ok (.iload_n 1, 1) := dk_27 (dk_at dksJ17_charAt_0 7 rfl rfl)
theorem dJ17_charAt_8 : decode cJ17_charAt 8 = .ok (.baload, 1) := dk_51 (dk_at dksJ17_charAt_0 8 rfl rfl)
theorem dJ17_charAt_9 : decode cJ17_charAt 9 = .ok (.sipush 255, 3) := dk_17 0 255 (dk_at dksJ17_charAt_0 9 rfl rfl)
theorem dJ17_charAt_12 : decode cJ17_charAt 12 = .ok (.iand, 1) := dk_126 (dk_at dksJ17_charAt_0 12 rfl rfl)
theorem dJ17_charAt_13 : decode cJ17_charAt 13 = .ok (.i2c, 1) := dk_146 (dk_at dksJ17_charAt_0 13 rfl rfl)
theorem dJ17_charAt_14 : decode cJ17_charAt 14 = .ok (.ireturn, 1) := dk_172 (dk_at dksJ17_charAt_0 14 rfl rfl)
theorem q122 : (Jvm.Cond.initialized "java/lang/StringLatin1") ∈ lw_all := lw_g (lw_at lw_m1 28 rfl) rfl
theorem q680 : (Jvm.Cond.static ({ cls := "java/lang/StringLatin1", name := "inflate", desc := "([BI[BII)V" } : Jvm.MethodName)) ∈ lw_all := lw_g (lw_at lw_m3 106 rfl) rfl
theorem q681 : (Jvm.Cond.code ({ cls := "java/lang/StringLatin1", name := "inflate", desc := "([BI[BII)V" } : Jvm.MethodName) prog_36_method_50_code (5 : Nat) (Option.none : Option Jvm.ClassFile.FieldType)) ∈ lw_all := lw_g (lw_at lw_m3 107 rfl) rfl
theorem q682 : (Jvm.Cond.methodLink "java/lang/StringLatin1" (240 : Nat) ({ cls := "java/lang/StringUTF16", name := "inflate", desc := "([BI[BII)V" } : Jvm.MethodName)) ∈ lw_all := lw_g (lw_at lw_m3 108 rfl) rfl
theorem q914 : (Jvm.Cond.static ({ cls := "java/lang/StringLatin1", name := "hashCode", desc := "([B)I" } : Jvm.MethodName)) ∈ lw_all := lw_g (lw_at lw_m4 100 rfl) rfl
theorem q915 : (Jvm.Cond.code ({ cls := "java/lang/StringLatin1", name := "hashCode", desc := "([B)I" } : Jvm.MethodName) prog_36_method_21_code (1 : Nat) (Option.some Jvm.ClassFile.FieldType.int)) ∈ lw_all := lw_g (lw_at lw_m4 101 rfl) rfl
theorem q916 : (Jvm.Cond.methodLink "java/lang/StringLatin1" (84 : Nat) ({ cls := "jdk/internal/util/ArraysSupport", name := "vectorizedHashCode", desc := "(Ljava/lang/Object;IIII)I" } : Jvm.MethodName)) ∈ lw_all := lw_g (lw_at lw_m4 102 rfl) rfl
theorem q973 : (Jvm.Cond.static ({ cls := "java/lang/StringLatin1", name := "equals", desc := "([B[B)Z" } : Jvm.MethodName)) ∈ lw_all := lw_g (lw_at lw_m4 159 rfl) rfl
theorem q974 : (Jvm.Cond.code ({ cls := "java/lang/StringLatin1", name := "equals", desc := "([B[B)Z" } : Jvm.MethodName) prog_36_method_13_code (3 : Nat) (Option.some Jvm.ClassFile.FieldType.boolean)) ∈ lw_all := lw_g (lw_at lw_m4 160 rfl) rfl
theorem q1265 : (Jvm.Cond.static ({ cls := "java/lang/StringLatin1", name := "compareTo", desc := "([B[B)I" } : Jvm.MethodName)) ∈ lw_all := lw_g (lw_at lw_m5 211 rfl) rfl
theorem q1266 : (Jvm.Cond.code ({ cls := "java/lang/StringLatin1", name := "compareTo", desc := "([B[B)I" } : Jvm.MethodName) prog_36_method_14_code (4 : Nat) (Option.some Jvm.ClassFile.FieldType.int)) ∈ lw_all := lw_g (lw_at lw_m5 212 rfl) rfl
theorem q1267 : (Jvm.Cond.methodLink "java/lang/StringLatin1" (34 : Nat) ({ cls := "java/lang/StringLatin1", name := "compareTo", desc := "([B[BII)I" } : Jvm.MethodName)) ∈ lw_all := lw_g (lw_at lw_m5 213 rfl) rfl
theorem q1268 : (Jvm.Cond.static ({ cls := "java/lang/StringLatin1", name := "compareTo", desc := "([B[BII)I" } : Jvm.MethodName)) ∈ lw_all := lw_g (lw_at lw_m5 214 rfl) rfl
theorem q1269 : (Jvm.Cond.code ({ cls := "java/lang/StringLatin1", name := "compareTo", desc := "([B[BII)I" } : Jvm.MethodName) prog_36_method_15_code (6 : Nat) (Option.some Jvm.ClassFile.FieldType.int)) ∈ lw_all := lw_g (lw_at lw_m5 215 rfl) rfl
theorem q1270 : (Jvm.Cond.methodLink "java/lang/StringLatin1" (38 : Nat) ({ cls := "java/lang/Math", name := "min", desc := "(II)I" } : Jvm.MethodName)) ∈ lw_all := lw_g (lw_at lw_m5 216 rfl) rfl
theorem q1271 : (Jvm.Cond.methodLink "java/lang/StringLatin1" (44 : Nat) ({ cls := "jdk/internal/util/ArraysSupport", name := "mismatch", desc := "([B[BI)I" } : Jvm.MethodName)) ∈ lw_all := lw_g (lw_at lw_m5 217 rfl) rfl
theorem q1375 : (Jvm.Cond.methodLink "java/lang/StringLatin1" (50 : Nat) ({ cls := "java/lang/StringLatin1", name := "getChar", desc := "([BI)C" } : Jvm.MethodName)) ∈ lw_all := lw_g (lw_at lw_m6 81 rfl) rfl
theorem q1376 : (Jvm.Cond.static ({ cls := "java/lang/StringLatin1", name := "getChar", desc := "([BI)C" } : Jvm.MethodName)) ∈ lw_all := lw_g (lw_at lw_m6 82 rfl) rfl
theorem q1377 : (Jvm.Cond.code ({ cls := "java/lang/StringLatin1", name := "getChar", desc := "([BI)C" } : Jvm.MethodName) prog_36_method_44_code (2 : Nat) (Option.some Jvm.ClassFile.FieldType.char)) ∈ lw_all := lw_g (lw_at lw_m6 83 rfl) rfl
theorem q1386 : (Jvm.Cond.static ({ cls := "java/lang/StringLatin1", name := "compareToUTF16", desc := "([B[B)I" } : Jvm.MethodName)) ∈ lw_all := lw_g (lw_at lw_m6 92 rfl) rfl
theorem q1387 : (Jvm.Cond.code ({ cls := "java/lang/StringLatin1", name := "compareToUTF16", desc := "([B[B)I" } : Jvm.MethodName) prog_36_method_16_code (4 : Nat) (Option.some Jvm.ClassFile.FieldType.int)) ∈ lw_all := lw_g (lw_at lw_m6 93 rfl) rfl
theorem q1388 : (Jvm.Cond.methodLink "java/lang/StringLatin1" (54 : Nat) ({ cls := "java/lang/StringLatin1", name := "length", desc := "([B)I" } : Jvm.MethodName)) ∈ lw_all := lw_g (lw_at lw_m6 94 rfl) rfl
theorem q1389 : (Jvm.Cond.static ({ cls := "java/lang/StringLatin1", name := "length", desc := "([B)I" } : Jvm.MethodName)) ∈ lw_all := lw_g (lw_at lw_m6 95 rfl) rfl
theorem q1390 : (Jvm.Cond.code ({ cls := "java/lang/StringLatin1", name := "length", desc := "([B)I" } : Jvm.MethodName) prog_36_method_5_code (1 : Nat) (Option.some Jvm.ClassFile.FieldType.int)) ∈ lw_all := lw_g (lw_at lw_m6 96 rfl) rfl
theorem q1391 : (Jvm.Cond.methodLink "java/lang/StringLatin1" (58 : Nat) ({ cls := "java/lang/StringUTF16", name := "length", desc := "([B)I" } : Jvm.MethodName)) ∈ lw_all := lw_g (lw_at lw_m6 97 rfl) rfl
theorem q1392 : (Jvm.Cond.methodLink "java/lang/StringLatin1" (59 : Nat) ({ cls := "java/lang/StringLatin1", name := "compareToUTF16Values", desc := "([B[BII)I" } : Jvm.MethodName)) ∈ lw_all := lw_g (lw_at lw_m6 98 rfl) rfl
theorem q1393 : (Jvm.Cond.static ({ cls := "java/lang/StringLatin1", name := "compareToUTF16Values", desc := "([B[BII)I" } : Jvm.MethodName)) ∈ lw_all := lw_g (lw_at lw_m6 99 rfl) rfl
theorem q1394 : (Jvm.Cond.code ({ cls := "java/lang/StringLatin1", name := "compareToUTF16Values", desc := "([B[BII)I" } : Jvm.MethodName) prog_36_method_18_code (8 : Nat) (Option.some Jvm.ClassFile.FieldType.int)) ∈ lw_all := lw_g (lw_at lw_m6 100 rfl) rfl
theorem q1395 : (Jvm.Cond.methodLink "java/lang/StringLatin1" (65 : Nat) ({ cls := "java/lang/StringUTF16", name := "getChar", desc := "([BI)C" } : Jvm.MethodName)) ∈ lw_all := lw_g (lw_at lw_m6 101 rfl) rfl
theorem q1425 : (Jvm.Cond.static ({ cls := "java/lang/StringLatin1", name := "compareToUTF16", desc := "([B[BII)I" } : Jvm.MethodName)) ∈ lw_all := lw_g (lw_at lw_m6 131 rfl) rfl
theorem q1426 : (Jvm.Cond.code ({ cls := "java/lang/StringLatin1", name := "compareToUTF16", desc := "([B[BII)I" } : Jvm.MethodName) prog_36_method_17_code (4 : Nat) (Option.some Jvm.ClassFile.FieldType.int)) ∈ lw_all := lw_g (lw_at lw_m6 132 rfl) rfl
theorem q1427 : (Jvm.Cond.methodLink "java/lang/StringLatin1" (62 : Nat) ({ cls := "java/lang/String", name := "checkOffset", desc := "(II)V" } : Jvm.MethodName)) ∈ lw_all := lw_g (lw_at lw_m6 133 rfl) rfl
theorem q2084 : (Jvm.Cond.static ({ cls := "java/lang/StringLatin1", name := "canEncode", desc := "(C)Z" } : Jvm.MethodName)) ∈ lw_all := lw_g (lw_at lw_m9 70 rfl) rfl
theorem q2085 : (Jvm.Cond.code ({ cls := "java/lang/StringLatin1", name := "canEncode", desc := "(C)Z" } : Jvm.MethodName) prog_36_method_3_code (1 : Nat) (Option.some Jvm.ClassFile.FieldType.boolean)) ∈ lw_all := lw_g (lw_at lw_m9 71 rfl) rfl
theorem q2792 : (Jvm.Cond.static ({ cls := "java/lang/StringLatin1", name := "charAt", desc := "([BI)C" } : Jvm.MethodName)) ∈ lw_all := lw_g (lw_at lw_m12 58 rfl) rfl
theorem q2793 : (Jvm.Cond.code ({ cls := "java/lang/StringLatin1", name := "charAt", desc := "([BI)C" } : Jvm.MethodName) prog_36_method_2_code (2 : Nat) (Option.some Jvm.ClassFile.FieldType.char)) ∈ lw_all := lw_g (lw_at lw_m12 59 rfl) rfl
theorem q2794 : (Jvm.Cond.methodLink "java/lang/StringLatin1" (9 : Nat) ({ cls := "java/lang/String", name := "checkIndex", desc := "(II)V" } : Jvm.MethodName)) ∈ lw_all := lw_g (lw_at lw_m12 60 rfl) rfl

/-! jdk/internal/util/Preconditions -/
set_option maxRecDepth 100000
def RJ18 : String := "jdk/internal/util/Preconditions"
abbrev cJ18_checkIndex : ByteArray := prog_86_method_11_code
def yJ18_checkIndex : MethodName := ⟨RJ18, "checkIndex", "(IILjava/util/function/BiFunction;)I"⟩
def dkwJ18_checkIndex_0 : List UInt8 := [26, 155, 0, 8, 26, 27, 161, 0, 10, 44, 26, 27, 184, 0, 95, 191, 26, 172]
abbrev dktJ18_checkIndex_0 : List UInt8 := dkwJ18_checkIndex_0 ++ []
theorem dksJ18_checkIndex_0 : cJ18_checkIndex.data.toList.drop 0 = dktJ18_checkIndex_0 := by decide +kernel
theorem dJ18_checkIndex_0 : decode cJ18_checkIndex 0 = .ok (.iload_n 0, 1) := dk_26 (dk_at dksJ18_checkIndex_0 0 rfl rfl)
theorem dJ18_checkIndex_1 : decode cJ18_checkIndex 1 = .ok (.ifCond .lt 8, 3) := dk_155 0 8 (dk_at dksJ18_checkIndex_0 1 rfl rfl)
theorem dJ18_checkIndex_4 : decode cJ18_checkIndex 4 = .ok (.iload_n 0, 1) := dk_26 (dk_at dksJ18_checkIndex_0 4 rfl rfl)
theorem dJ18_checkIndex_5 : decode cJ18_checkIndex 5 = .ok (.iload_n 1, 1) := dk_27 (dk_at dksJ18_checkIndex_0 5 rfl rfl)
theorem dJ18_checkIndex_6 : decode cJ18_checkIndex 6 = .ok (.if_icmp .lt 10, 3) := dk_161 0 10 (dk_at dksJ18_checkIndex_0 6 rfl rfl)
theorem dJ18_checkIndex_9 : decode cJ18_checkIndex 9 = .ok (.aload_n 2, 1) := dk_44 (dk_at dksJ18_checkIndex_0 9 rfl rfl)
theorem dJ18_checkIndex_10 : decode cJ18_checkIndex 10 = .ok (.iload_n 0, 1) := dk_26 (dk_at dksJ18_checkIndex_0 10 rfl rfl)
theorem dJ18_checkIndex_11 : decode cJ18_checkIndex 11 = .ok (.iload_n 1, 1) := dk_27 (dk_at dksJ18_checkIndex_0 11 rfl rfl)
theorem dJ18_checkIndex_12 : decode cJ18_checkIndex 12 = .ok (.invokestatic 95, 3) := dk_184 0 95 (dk_at dksJ18_checkIndex_0 12 rfl rfl)
theorem dJ18_checkIndex_15 : decode cJ18_checkIndex 15 = .ok (.athrow, 1) := dk_191 (dk_at dksJ18_checkIndex_0 15 rfl rfl)
theorem dJ18_checkIndex_16 : decode cJ18_checkIndex 16 = .ok (.iload_n 0, 1) := dk_26 (dk_at dksJ18_checkIndex_0 16 rfl rfl)
theorem dJ18_checkIndex_17 : decode cJ18_checkIndex 17 = .ok (.ireturn, 1) := dk_172 (dk_at dksJ18_checkIndex_0 17 rfl rfl)
abbrev cJ18_checkFromToIndex : ByteArray := prog_86_method_12_code
def yJ18_checkFromToIndex : MethodName := ⟨RJ18, "checkFromToIndex", "(IIILjava/util/function/BiFunction;)I"⟩
def dkwJ18_checkFromToIndex_0 : List UInt8 := [26, 155, 0, 13, 26, 27, 163, 0, 8, 27, 28, 164, 0, 11, 45, 26, 27, 28, 184, 0, 99, 191, 26, 172]
abbrev dktJ18_checkFromToIndex_0 : List UInt8 := dkwJ18_checkFromToIndex_0 ++ []
theorem dksJ18_checkFromToIndex_0 : cJ18_checkFromToIndex.data.toList.drop 0 = dktJ18_checkFromToIndex_0 := by decide +kernel
theorem dJ18_checkFromToIndex_0 : decode cJ18_checkFromToIndex 0 = .ok (.iload_n 0, 1) := dk_26 (dk_at dksJ18_checkFromToIndex_0 0 rfl rfl)
theorem dJ18_checkFromToIndex_1 : decode cJ18_checkFromToIndex 1 = .ok (.ifCond .lt 13, 3) := dk_155 0 13 (dk_at dksJ18_checkFromToIndex_0 1 rfl rfl)
theorem dJ18_checkFromToIndex_4 : decode cJ18_checkFromToIndex 4 = .ok (.iload_n 0, 1) := dk_26 (dk_at dksJ18_checkFromToIndex_0 4 rfl rfl)
theorem dJ18_checkFromToIndex_5 : decode cJ18_checkFromToIndex 5 = .ok (.iload_n 1, 1) := dk_27 (dk_at dksJ18_checkFromToIndex_0 5 rfl rfl)
theorem dJ18_checkFromToIndex_6 : decode cJ18_checkFromToIndex 6 = .ok (.if_icmp .gt 8, 3) := dk_163 0 8 (dk_at dksJ18_checkFromToIndex_0 6 rfl rfl)
theorem dJ18_checkFromToIndex_9 : decode cJ18_checkFromToIndex 9 = .ok (.iload_n 1, 1) := dk_27 (dk_at dksJ18_checkFromToIndex_0 9 rfl rfl)
theorem dJ18_checkFromToIndex_10 : decode cJ18_checkFromToIndex 10 = .ok (.iload_n 2, 1) := dk_28 (dk_at dksJ18_checkFromToIndex_0 10 rfl rfl)
theorem dJ18_checkFromToIndex_11 : decode cJ18_checkFromToIndex 11 = .ok (.if_icmp .le 11, 3) := dk_164 0 11 (dk_at dksJ18_checkFromToIndex_0 11 rfl rfl)
theorem dJ18_checkFromToIndex_14 : decode cJ18_checkFromToIndex 14 = .ok (.aload_n 3, 1) := dk_45 (dk_at dksJ18_checkFromToIndex_0 14 rfl rfl)
theorem dJ18_checkFromToIndex_15 : decode cJ18_checkFromToIndex 15 = .ok (.iload_n 0, 1) := dk_26 (dk_at dksJ18_checkFromToIndex_0 15 rfl rfl)
theorem dJ18_checkFromToIndex_16 : decode cJ18_checkFromToIndex 16 = .ok (.iload_n 1, 1) := dk_27 (dk_at dksJ18_checkFromToIndex_0 16 rfl rfl)
theorem dJ18_checkFromToIndex_17 : decode cJ18_checkFromToIndex 17 = .ok (.iload_n 2, 1) := dk_28 (dk_at dksJ18_checkFromToIndex_0 17 rfl rfl)
theorem dJ18_checkFromToIndex_18 : decode cJ18_checkFromToIndex 18 = .ok (.invokestatic 99, 3) := dk_184 0 99 (dk_at dksJ18_checkFromToIndex_0 18 rfl rfl)
theorem dJ18_checkFromToIndex_21 : decode cJ18_checkFromToIndex 21 = .ok (.athrow, 1) := dk_191 (dk_at dksJ18_checkFromToIndex_0 21 rfl rfl)
theorem dJ18_checkFromToIndex_22 : decode cJ18_checkFromToIndex 22 = .ok (.iload_n 0, 1) := dk_26 (dk_at dksJ18_checkFromToIndex_0 22 rfl rfl)
theorem dJ18_checkFromToIndex_23 : decode cJ18_checkFromToIndex 23 = .ok (.ireturn, 1) := dk_172 (dk_at dksJ18_checkFromToIndex_0 23 rfl rfl)
abbrev cJ18_checkFromIndexSize : ByteArray := prog_86_method_13_code
def yJ18_checkFromIndexSize : MethodName := ⟨RJ18, "checkFromIndexSize", "(IIILjava/util/function/BiFunction;)I"⟩
def dkwJ18_checkFromIndexSize_1 : List UInt8 := [172]
abbrev dktJ18_checkFromIndexSize_1 : List UInt8 := dkwJ18_checkFromIndexSize_1 ++ []
def dkwJ18_checkFromIndexSize_0 : List UInt8 := [28, 26, 128, 27, 128, 155, 0, 10, 27, 28, 26, 100, 164, 0, 11, 45, 26, 27, 28, 184, 0, 103, 191, 26]
abbrev dktJ18_checkFromIndexSize_0 : List UInt8 := dkwJ18_checkFromIndexSize_0 ++ dktJ18_checkFromIndexSize_1
theorem dksJ18_checkFromIndexSize_0 : cJ18_checkFromIndexSize.data.toList.drop 0 = dktJ18_checkFromIndexSize_0 := by decide +kernel
theorem dksJ18_checkFromIndexSize_1 : cJ18_checkFromIndexSize.data.toList.drop 24 = dktJ18_checkFromIndexSize_1 := dk_seg dksJ18_checkFromIndexSize_0 24 rfl rfl
theorem dJ18_checkFromIndexSize_0 : decode cJ18_checkFromIndexSize 0 = .ok (.iload_n 2, 1) := dk_28 (dk_at dksJ18_checkFromIndexSize_0 0 rfl rfl)
theorem dJ18_checkFromIndexSize_1 : decode cJ18_checkFromIndexSize 1 = .ok (.iload_n 0, 1) := dk_26 (dk_at dksJ18_checkFromIndexSize_0 1 rfl rfl)
theorem dJ18_checkFromIndexSize_2 : decode cJ18_checkFromIndexSize 2 = .ok (.ior, 1) := dk_128 (dk_at dksJ18_checkFromIndexSize_0 2 rfl rfl)
theorem dJ18_checkFromIndexSize_3 : decode cJ18_checkFromIndexSize 3 = .ok (.iload_n 1, 1) := dk_27 (dk_at dksJ18_checkFromIndexSize_0 3 rfl rfl)
theorem dJ18_checkFromIndexSize_4 : decode cJ18_checkFromIndexSize 4 = .ok (.ior, 1) := dk_128 (dk_at dksJ18_checkFromIndexSize_0 4 rfl rfl)
theorem dJ18_checkFromIndexSize_5 : decode cJ18_checkFromIndexSize 5 = .ok (.ifCond .lt 10, 3) := dk_155 0 10 (dk_at dksJ18_checkFromIndexSize_0 5 rfl rfl)
theorem dJ18_checkFromIndexSize_8 : decode cJ18_checkFromIndexSize 8 = .ok (.iload_n 1, 1) := dk_27 (dk_at dksJ18_checkFromIndexSize_0 8 rfl rfl)
theorem dJ18_checkFromIndexSize_9 : decode cJ18_checkFromIndexSize 9 = .ok (.iload_n 2, 1) := dk_28 (dk_at dksJ18_checkFromIndexSize_0 9 rfl rfl)
theorem dJ18_checkFromIndexSize_10 : decode cJ18_checkFromIndexSize 10 = .ok (.iload_n 0, 1) := dk_26 (dk_at dksJ18_checkFromIndexSize_0 10 rfl rfl)
theorem dJ18_checkFromIndexSize_11 : decode cJ18_checkFromIndexSize 11 = .ok (.isub, 1) := dk_100 (dk_at dksJ18_checkFromIndexSize_0 11 rfl rfl)
theorem dJ18_checkFromIndexSize_12 : decode cJ18_checkFromIndexSize 12 = .ok (.if_icmp .le 11, 3) := dk_164 0 11 (dk_at dksJ18_checkFromIndexSize_0 12 rfl rfl)
theorem dJ18_checkFromIndexSize_15 : decode cJ18_checkFromIndexSize 15 = .ok (.aload_n 3, 1) := dk_45 (dk_at dksJ18_checkFromIndexSize_0 15 rfl rfl)
theorem dJ18_checkFromIndexSize_16 : decode cJ18_checkFromIndexSize 16 = .ok (.iload_n 0, 1) := dk_26 (dk_at dksJ18_checkFromIndexSize_0 16 rfl rfl)
theorem dJ18_checkFromIndexSize_17 : decode cJ18_checkFromIndexSize 17 = .ok (.iload_n 1, 1) := dk_27 (dk_at dksJ18_checkFromIndexSize_0 17 rfl rfl)
theorem dJ18_checkFromIndexSize_18 : decode cJ18_checkFromIndexSize 18 = .ok (.iload_n 2, 1) := dk_28 (dk_at dksJ18_checkFromIndexSize_0 18 rfl rfl)
theorem dJ18_checkFromIndexSize_19 : decode cJ18_checkFromIndexSize 19 = .ok (.invokestatic 103, 3) := dk_184 0 103 (dk_at dksJ18_checkFromIndexSize_0 19 rfl rfl)
theorem dJ18_checkFromIndexSize_22 : decode cJ18_checkFromIndexSize 22 = .ok (.athrow, 1) := dk_191 (dk_at dksJ18_checkFromIndexSize_0 22 rfl rfl)
theorem dJ18_checkFromIndexSize_23 : decode cJ18_checkFromIndexSize 23 = .ok (.iload_n 0, 1) := dk_26 (dk_at dksJ18_checkFromIndexSize_0 23 rfl rfl)
theorem dJ18_checkFromIndexSize_24 : decode cJ18_checkFromIndexSize 24 = .ok (.ireturn, 1) := dk_172 (dk_at dksJ18_checkFromIndexSize_1 0 rfl rfl)
theorem q123 : (Jvm.Cond.initialized "jdk/internal/util/Preconditions") ∈ lw_all := lw_g (lw_at lw_m1 29 rfl) rfl
theorem q487 : (Jvm.Cond.static ({ cls := "jdk/internal/util/Preconditions", name := "checkIndex", desc := "(IILjava/util/function/BiFunction;)I" } : Jvm.MethodName)) ∈ lw_all := lw_g (lw_at lw_m2 153 rfl) rfl
theorem q488 : (Jvm.Cond.code ({ cls := "jdk/internal/util/Preconditions", name := "checkIndex", desc := "(IILjava/util/function/BiFunction;)I" } : Jvm.MethodName) prog_86_method_11_code (3 : Nat) (Option.some Jvm.ClassFile.FieldType.int)) ∈ lw_all := lw_g (lw_at lw_m2 154 rfl) rfl
theorem q644 : (Jvm.Cond.laysStatic "jdk/internal/util/Preconditions" "SIOOBE_FORMATTER" "Ljava/util/function/BiFunction;") ∈ lw_tbl := lw_at lw_m3 70 rfl
theorem q646 : (Jvm.Cond.static ({ cls := "jdk/internal/util/Preconditions", name := "checkFromToIndex", desc := "(IIILjava/util/function/BiFunction;)I" } : Jvm.MethodName)) ∈ lw_all := lw_g (lw_at lw_m3 72 rfl) rfl
theorem q647 : (Jvm.Cond.code ({ cls := "jdk/internal/util/Preconditions", name := "checkFromToIndex", desc := "(IIILjava/util/function/BiFunction;)I" } : Jvm.MethodName) prog_86_method_12_code (4 : Nat) (Option.some Jvm.ClassFile.FieldType.int)) ∈ lw_all := lw_g (lw_at lw_m3 73 rfl) rfl
theorem q692 : (Jvm.Cond.static ({ cls := "jdk/internal/util/Preconditions", name := "checkFromIndexSize", desc := "(IIILjava/util/function/BiFunction;)I" } : Jvm.MethodName)) ∈ lw_all := lw_g (lw_at lw_m3 118 rfl) rfl
theorem q693 : (Jvm.Cond.code ({ cls := "jdk/internal/util/Preconditions", name := "checkFromIndexSize", desc := "(IIILjava/util/function/BiFunction;)I" } : Jvm.MethodName) prog_86_method_13_code (4 : Nat) (Option.some Jvm.ClassFile.FieldType.int)) ∈ lw_all := lw_g (lw_at lw_m3 119 rfl) rfl

/-! java/lang/Number -/
set_option maxRecDepth 100000
def RJ19 : String := "java/lang/Number"
abbrev cJ19_init : ByteArray := prog_32_method_1_code
def yJ19_init : MethodName := ⟨RJ19, "<init>", "()V"⟩
theorem dJ19_init_0 : decode cJ19_init 0 = .ok (.aload_n 0, 1) := by decide +kernel
theorem dJ19_init_1 : decode cJ19_init 1 = .ok (.invokespecial 1, 3) := by decide +kernel
theorem dJ19_init_4 : decode cJ19_init 4 = .ok (.return_, 1) := by decide +kernel
theorem q124 : (Jvm.Cond.initialized "java/lang/Number") ∈ lw_all := lw_g (lw_at lw_m1 30 rfl) rfl
theorem q1210 : (Jvm.Cond.instanceMethod ({ cls := "java/lang/Number", name := "<init>", desc := "()V" } : Jvm.MethodName)) ∈ lw_all := lw_g (lw_at lw_m5 156 rfl) rfl
theorem q1211 : (Jvm.Cond.code ({ cls := "java/lang/Number", name := "<init>", desc := "()V" } : Jvm.MethodName) prog_32_method_1_code (1 : Nat) (Option.none : Option Jvm.ClassFile.FieldType)) ∈ lw_all := lw_g (lw_at lw_m5 157 rfl) rfl
theorem q1212 : (Jvm.Cond.methodLink "java/lang/Number" (1 : Nat) ({ cls := "java/lang/Object", name := "<init>", desc := "()V" } : Jvm.MethodName)) ∈ lw_all := lw_g (lw_at lw_m5 158 rfl) rfl

/-! java/util/AbstractMap -/
set_option maxRecDepth 100000
def RJ2 : String := "java/util/AbstractMap"
abbrev cJ2_init : ByteArray := prog_47_method_1_code
def yJ2_init : MethodName := ⟨RJ2, "<init>", "()V"⟩
theorem dJ2_init_0 : decode cJ2_init 0 = .ok (.aload_n 0, 1) := by decide +kernel
theorem dJ2_init_1 : decode cJ2_init 1 = .ok (.invokespecial 1, 3) := by decide +kernel
theorem dJ2_init_4 : decode cJ2_init 4 = .ok (.return_, 1) := by decide +kernel
theorem q101 : (Jvm.Cond.initialized "java/util/AbstractMap") ∈ lw_all := lw_g (lw_at lw_m1 7 rfl) rfl
theorem q237 : (Jvm.Cond.instanceMethod ({ cls := "java/util/AbstractMap", name := "<init>", desc := "()V" } : Jvm.MethodName)) ∈ lw_all := lw_g (lw_at lw_m1 143 rfl) rfl
theorem q238 : (Jvm.Cond.code ({ cls := "java/util/AbstractMap", name := "<init>", desc := "()V" } : Jvm.MethodName) prog_47_method_1_code (1 : Nat) (Option.none : Option Jvm.ClassFile.FieldType)) ∈ lw_all := lw_g (lw_at lw_m1 144 rfl) rfl
theorem q239 : (Jvm.Cond.methodLink "java/util/AbstractMap" (1 : Nat) ({ cls := "java/lang/Object", name := "<init>", desc := "()V" } : Jvm.MethodName)) ∈ lw_all := lw_g (lw_at lw_m1 145 rfl) rfl
theorem q259 : (Jvm.Cond.soleField "java/util/AbstractMap" "keySet") ∈ lw_all := lw_g (lw_at lw_m1 165 rfl) rfl
theorem q261 : (Jvm.Cond.soleField "java/util/AbstractMap" "values") ∈ lw_all := lw_g (lw_at lw_m1 167 rfl) rfl

/-! java/lang/Integer -/
set_option maxRecDepth 100000
def RJ20 : String := "java/lang/Integer"
def TJ20 : u_T := fun k => match k with
  | _ => ("java/lang/Integer", "value", "I", true)
def tyJ20 : Nat → FieldType := fun k => match k with
  | _ => .int
abbrev wsJ200 : List Cond := u_ws RJ20 TJ20 1
theorem nmJ20 : ∀ a, a < 1 → ∀ b, b < 1 → a ≠ b → (TJ20 a).2.1 ≠ (TJ20 b).2.1 := by decide +kernel
theorem tyJ20_ok : ∀ k, k < 1 → parseFieldDescriptor (TJ20 k).2.2.1 = some (tyJ20 k) := by decide +kernel
abbrev cJ20_stringSize : ByteArray := prog_27_method_13_code
def yJ20_stringSize : MethodName := ⟨RJ20, "stringSize", "(I)I"⟩
def dkwJ20_stringSize_1 : List UInt8 := [164, 0, 7, 29, 27, 96, 172, 16, 10, 28, 104, 61, 132, 3, 1, 167, 255, 233, 16, 10, 27, 96, 172]
abbrev dktJ20_stringSize_1 : List UInt8 := dkwJ20_stringSize_1 ++ []
def dkwJ20_stringSize_0 : List UInt8 := [4, 60, 26, 155, 0, 8, 3, 60, 26, 116, 59, 16, 246, 61, 4, 62, 29, 16, 10, 162, 0, 23, 26, 28]
abbrev dktJ20_stringSize_0 : List UInt8 := dkwJ20_stringSize_0 ++ dktJ20_stringSize_1
theorem dksJ20_stringSize_0 : cJ20_stringSize.data.toList.drop 0 = dktJ20_stringSize_0 := by decide +kernel
theorem dksJ20_stringSize_1 : cJ20_stringSize.data.toList.drop 24 = dktJ20_stringSize_1 := dk_seg dksJ20_stringSize_0 24 rfl rfl
theorem dJ20_stringSize_0 : decode cJ20_stringSize 0 = .ok (.iconst 1, 1) := dk_4 (dk_at dksJ20_stringSize_0 0 rfl rfl)
theorem dJ20_stringSize_1 : decode cJ20_stringSize 1 = .ok (.istore_n 1, 1) := dk_60 (dk_at dksJ20_stringSize_0 1 rfl rfl)
theorem dJ20_stringSize_2 : decode cJ20_stringSize 2 = .ok (.iload_n 0, 1) := dk_26 (dk_at dksJ20_stringSize_0 2 rfl rfl)
theorem dJ20_stringSize_3 : decode cJ20_stringSize 3 = .ok (.ifCond .lt 8, 3) := dk_155 0 8 (dk_at dksJ20_stringSize_0 3 rfl rfl)
theorem dJ20_stringSize_6 : decode cJ20_stringSize 6 = .ok (.iconst 0, 1) := dk_3 (dk_at dksJ20_stringSize_0 6 rfl rfl)
theorem dJ20_stringSize_7 : decode cJ20_stringSize 7 = .ok (.istore_n 1, 1) := dk_60 (dk_at dksJ20_stringSize_0 7 rfl rfl)
theorem dJ20_stringSize_8 : decode cJ20_stringSize 8 = .ok (.iload_n 0, 1) := dk_26 (dk_at dksJ20_stringSize_0 8 rfl rfl)
theorem dJ20_stringSize_9 : decode cJ20_stringSize 9 = .ok (.ineg, 1) := dk_116 (dk_at dksJ20_stringSize_0 9 rfl rfl)
theorem dJ20_stringSize_10 : decode cJ20_stringSize 10 = .ok (.istore_n 0, 1) := dk_59 (dk_at dksJ20_stringSize_0 10 rfl rfl)
theorem dJ20_stringSize_11 : decode cJ20_stringSize 11 = .ok (.bipush (-10), 2) := dk_16 246 (dk_at dksJ20_stringSize_0 11 rfl rfl)
theorem dJ20_stringSize_13 : decode cJ20_stringSize 13 = .ok (.istore_n 2, 1) := dk_61 (dk_at dksJ20_stringSize_0 13 rfl rfl)
theorem dJ20_stringSize_14 : decode cJ20_stringSize 14 = .ok (.iconst 1, 1) := dk_4 (dk_at dksJ20_stringSize_0 14 rfl rfl)
theorem dJ20_stringSize_15 : decode cJ20_stringSize 15 = .ok (.istore_n 3, 1) := dk_62 (dk_at dksJ20_stringSize_0 15 rfl rfl)
theorem dJ20_stringSize_16 : decode cJ20_stringSize 16 = .ok (.iload_n 3, 1) := dk_29 (dk_at dksJ20_stringSize_0 16 rfl rfl)
theorem dJ20_stringSize_17 : decode cJ20_stringSize 17 = .ok (.bipush 10, 2) := dk_16 10 (dk_at dksJ20_stringSize_0 17 rfl rfl)
theorem dJ20_stringSize_19 : decode cJ20_stringSize 19 = .ok (.if_icmp .ge 23, 3) := dk_162 0 23 (dk_at dksJ20_stringSize_0 19 rfl rfl)
theorem dJ20_stringSize_22 : decode cJ20_stringSize 22 = .ok (.iload_n 0, 1) := dk_26 (dk_at dksJ20_stringSize_0 22 rfl rfl)
theorem dJ20_stringSize_23 : decode cJ20_stringSize 23 = .ok (.iload_n 2, 1) := dk_28 (dk_at dksJ20_stringSize_0 23 rfl rfl)
theorem dJ20_stringSize_24 : decode cJ20_stringSize 24 = .ok (.if_icmp .le 7, 3) := dk_164 0 7 (dk_at dksJ20_stringSize_1 0 rfl rfl)
theorem dJ20_stringSize_27 : decode cJ20_stringSize 27 = .ok (.iload_n 3, 1) := dk_29 (dk_at dksJ20_stringSize_1 3 rfl rfl)
theorem dJ20_stringSize_28 : decode cJ20_stringSize 28 = .ok (.iload_n 1, 1) := dk_27 (dk_at dksJ20_stringSize_1 4 rfl rfl)
theorem dJ20_stringSize_29 : decode cJ20_stringSize 29 = .ok (.iadd, 1) := dk_96 (dk_at dksJ20_stringSize_1 5 rfl rfl)
theorem dJ20_stringSize_30 : decode cJ20_stringSize 30 = .ok (.ireturn, 1) := dk_172 (dk_at dksJ20_stringSize_1 6 rfl rfl)
theorem dJ20_stringSize_31 : decode cJ20_stringSize 31 = .ok (.bipush 10, 2) := dk_16 10 (dk_at dksJ20_stringSize_1 7 rfl rfl)
theorem dJ20_stringSize_33 : decode cJ20_stringSize 33 = .ok (.iload_n 2, 1) := dk_28 (dk_at dksJ20_stringSize_1 9 rfl rfl)
theorem dJ20_stringSize_34 : decode cJ20_stringSize 34 = .ok (.imul, 1) := dk_104 (dk_at dksJ20_stringSize_1 10 rfl rfl)
theorem dJ20_stringSize_35 : decode cJ20_stringSize 35 = .ok (.istore_n 2, 1) := dk_61 (dk_at dksJ20_stringSize_1 11 rfl rfl)
theorem dJ20_stringSize_36 : decode cJ20_stringSize 36 = .ok (.iinc 3 1, 3) := dk_132 3 1 (dk_at dksJ20_stringSize_1 12 rfl rfl)
theorem dJ20_stringSize_39 : decode cJ20_stringSize 39 = .ok (.goto (-23), 3) := dk_167 255 233 (dk_at dksJ20_stringSize_1 15 rfl rfl)
theorem dJ20_stringSize_42 : decode cJ20_stringSize 42 = .ok (.bipush 10, 2) := dk_16 10 (dk_at dksJ20_stringSize_1 18 rfl rfl)
theorem dJ20_stringSize_44 : decode cJ20_stringSize 44 = .ok (.iload_n 1, 1) := dk_27 (dk_at dksJ20_stringSize_1 20 rfl rfl)
theorem dJ20_stringSize_45 : decode cJ20_stringSize 45 = .ok (.iadd, 1) := dk_96 (dk_at dksJ20_stringSize_1 21 rfl rfl)
theorem dJ20_stringSize_46 : decode cJ20_stringSize 46 = .ok (.ireturn, 1) := dk_172 (dk_at dksJ20_stringSize_1 22 rfl rfl)
abbrev cJ20_getChars : ByteArray := prog_27_method_12_code
def yJ20_getChars : MethodName := ⟨RJ20, "getChars", "(II[B)I"⟩
def dkwJ20_getChars_5 : List UInt8 := [16, 45, 84, 21, 5, 172]
abbrev dktJ20_getChars_5 : List UInt8 := dkwJ20_getChars_5 ++ []
def dkwJ20_getChars_4 : List UInt8 := [132, 5, 255, 21, 5, 178, 0, 87, 26, 116, 51, 84, 21, 6, 153, 0, 12, 44, 132, 5, 255, 21, 5]
abbrev dktJ20_getChars_4 : List UInt8 := dkwJ20_getChars_4 ++ dktJ20_getChars_5
def dkwJ20_getChars_3 : List UInt8 := [167, 255, 209, 44, 132, 5, 255, 21, 5, 178, 0, 83, 26, 116, 51, 84, 26, 16, 247, 162, 0, 16, 44]
abbrev dktJ20_getChars_3 : List UInt8 := dkwJ20_getChars_3 ++ dktJ20_getChars_4
def dkwJ20_getChars_2 : List UInt8 := [21, 5, 178, 0, 83, 21, 4, 51, 84, 44, 132, 5, 255, 21, 5, 178, 0, 87, 21, 4, 51, 84]
abbrev dktJ20_getChars_2 : List UInt8 := dkwJ20_getChars_2 ++ dktJ20_getChars_3
def dkwJ20_getChars_1 : List UInt8 := [16, 156, 163, 0, 47, 26, 16, 100, 108, 62, 29, 16, 100, 104, 26, 100, 54, 4, 29, 59, 44, 132, 5, 255]
abbrev dktJ20_getChars_1 : List UInt8 := dkwJ20_getChars_1 ++ dktJ20_getChars_2
def dkwJ20_getChars_0 : List UInt8 := [27, 54, 5, 26, 156, 0, 7, 4, 167, 0, 4, 3, 54, 6, 21, 6, 154, 0, 6, 26, 116, 59, 26]
abbrev dktJ20_getChars_0 : List UInt8 := dkwJ20_getChars_0 ++ dktJ20_getChars_1
theorem dksJ20_getChars_0 : cJ20_getChars.data.toList.drop 0 = dktJ20_getChars_0 := by decide +kernel
theorem dksJ20_getChars_1 : cJ20_getChars.data.toList.drop 23 = dktJ20_getChars_1 := dk_seg dksJ20_getChars_0 23 rfl rfl
theorem dksJ20_getChars_2 : cJ20_getChars.data.toList.drop 47 = dktJ20_getChars_2 := dk_seg dksJ20_getChars_1 24 rfl rfl
theorem dksJ20_getChars_3 : cJ20_getChars.data.toList.drop 69 = dktJ20_getChars_3 := dk_seg dksJ20_getChars_2 22 rfl rfl
theorem dksJ20_getChars_4 : cJ20_getChars.data.toList.drop 92 = dktJ20_getChars_4 := dk_seg dksJ20_getChars_3 23 rfl rfl
theorem dksJ20_getChars_5 : cJ20_getChars.data.toList.drop 115 = dktJ20_getChars_5 := dk_seg dksJ20_getChars_4 23 rfl rfl
theorem dJ20_getChars_0 : decode cJ20_getChars 0 = .ok (.iload_n 1, 1) := dk_27 (dk_at dksJ20_getChars_0 0 rfl rfl)
theorem dJ20_getChars_1 : decode cJ20_getChars 1 = .ok (.istore 5, 2) := dk_54 5 (dk_at dksJ20_getChars_0 1 rfl rfl)
theorem dJ20_getChars_3 : decode cJ20_getChars 3 = .ok (.iload_n 0, 1) := dk_26 (dk_at dksJ20_getChars_0 3 rfl rfl)
theorem dJ20_getChars_4 : decode cJ20_getChars 4 = .ok (.ifCond .ge 7, 3) := dk_156 0 7 (dk_at dksJ20_getChars_0 4 rfl rfl)
theorem dJ20_getChars_7 : decode cJ20_getChars 7 = .ok (.iconst 1, 1) := dk_4 (dk_at dksJ20_getChars_0 7 rfl rfl)
theorem dJ20_getChars_8 : decode cJ20_getChars 8 = .ok (.goto 4, 3) := dk_167 0 4 (dk_at dksJ20_getChars_0 8 rfl rfl)
theorem dJ20_getChars_11 : decode cJ20_getChars 11 = .ok (.iconst 0, 1) := dk_3 (dk_at dksJ20_getChars_0 11 rfl rfl)
theorem dJ20_getChars_12 : decode cJ20_getChars 12 = .ok (.istore 6, 2) := dk_54 6 (dk_at dksJ20_getChars_0 12 rfl rfl)
theorem dJ20_getChars_14 : decode cJ20_getChars 14 = .ok (.iload 6, 2) := dk_21 6 (dk_at dksJ20_getChars_0 14 rfl rfl)
theorem dJ20_getChars_16 : decode cJ20_getChars 16 = .ok (.ifCond .ne 6, 3) := dk_154 0 6 (dk_at dksJ20_getChars_0 16 rfl rfl)
theorem dJ20_getChars_19 : decode cJ20_getChars 19 = .ok (.iload_n 0, 1) := dk_26 (dk_at dksJ20_getChars_0 19 rfl rfl)
theorem dJ20_getChars_20 : decode cJ20_getChars 20 = .ok (.ineg, 1) := dk_116 (dk_at dksJ20_getChars_0 20 rfl rfl)
theorem dJ20_getChars_21 : decode cJ20_getChars 21 = .ok (.istore_n 0, 1) := dk_59 (dk_at dksJ20_getChars_0 21 rfl rfl)
theorem dJ20_getChars_22 : decode cJ20_getChars 22 = .ok (.iload_n 0, 1) := dk_26 (dk_at dksJ20_getChars_0 22 rfl rfl)
theorem dJ20_getChars_23 : decode cJ20_getChars 23 = .ok (.bipush (-100), 2) := dk_16 156 (dk_at dksJ20_getChars_1 0 rfl rfl)
theorem dJ20_getChars_25 : decode cJ20_getChars 25 = .ok (.if_icmp .gt 47, 3) := dk_163 0 47 (dk_at dksJ20_getChars_1 2 rfl rfl)
theorem dJ20_getChars_28 : decode cJ20_getChars 28 = .ok (.iload_n 0, 1) := dk_26 (dk_at dksJ20_getChars_1 5 rfl rfl)
theorem dJ20_getChars_29 : decode cJ20_getChars 29 = .ok (.bipush 100, 2) := dk_16 100 (dk_at dksJ20_getChars_1 6 rfl rfl)
theorem dJ20_getChars_31 : decode cJ20_getChars 31 = .ok (.idiv, 1) := dk_108 (dk_at dksJ20_getChars_1 8 rfl rfl)
theorem dJ20_getChars_32 : decode cJ20_getChars 32 = .ok (.istore_n 3, 1) := dk_62 (dk_at dksJ20_getChars_1 9 rfl rfl)
theorem dJ20_getChars_33 : decode cJ20_getChars 33 = .ok (.iload_n 3, 1) := dk_29 (dk_at dksJ20_getChars_1 10 rfl rfl)
theorem dJ20_getChars_34 : decode cJ20_getChars 34 = .ok (.bipush 100, 2) := dk_16 100 (dk_at dksJ20_getChars_1 11 rfl rfl)
theorem dJ20_getChars_36 : decode cJ20_getChars 36 = .ok (.imul, 1) := dk_104 (dk_at dksJ20_getChars_1 13 rfl rfl)
theorem dJ20_getChars_37 : decode cJ20_getChars 37 = .ok (.iload_n 0, 1) := dk_26 (dk_at dksJ20_getChars_1 14 rfl rfl)
theorem dJ20_getChars_38 : decode cJ20_getChars 38 = .ok (.isub, 1) := dk_100 (dk_at dksJ20_getChars_1 15 rfl rfl)
theorem dJ20_getChars_39 : decode cJ20_getChars 39 = .ok (.istore 4, 2) := dk_54 4 (dk_at dksJ20_getChars_1 16 rfl rfl)
theorem dJ20_getChars_41 : decode cJ20_getChars 41 = .ok (.iload_n 3, 1) := dk_29 (dk_at dksJ20_getChars_1 18 rfl rfl)
theorem dJ20_getChars_42 : decode cJ20_getChars 42 = .ok (.istore_n 0, 1) := dk_59 (dk_at dksJ20_getChars_1 19 rfl rfl)
theorem dJ20_getChars_43 : decode cJ20_getChars 43 = .ok (.aload_n 2, 1) := dk_44 (dk_at dksJ20_getChars_1 20 rfl rfl)
theorem dJ20_getChars_44 : decode cJ20_getChars 44 = .ok (.iinc 5 (-1), 3) := dk_132 5 255 (dk_at dksJ20_getChars_1 21 rfl rfl)
theorem dJ20_getChars_47 : decode cJ20_getChars 47 = .ok (.iload 5, 2) := dk_21 5 (dk_at dksJ20_getChars_2 0 rfl rfl)
theorem dJ20_getChars_49 : decode cJ20_getChars 49 = .ok (.getstatic 83, 3) := dk_178 0 83 (dk_at dksJ20_getChars_2 2 rfl rfl)
theorem dJ20_getChars_52 : decode cJ20_getChars 52 = .ok (.iload 4, 2) := dk_21 4 (dk_at dksJ20_getChars_2 5 rfl rfl)
theorem dJ20_getChars_54 : decode cJ20_getChars 54 = .ok (.baload, 1) := dk_51 (dk_at dksJ20_getChars_2 7 rfl rfl)
theorem dJ20_getChars_55 : decode cJ20_getChars 55 = .ok (.bastore, 1) := dk_84 (dk_at dksJ20_getChars_2 8 rfl rfl)
theorem dJ20_getChars_56 : decode cJ20_getChars 56 = .ok (.aload_n 2, 1) := dk_44 (dk_at dksJ20_getChars_2 9 rfl rfl)
theorem dJ20_getChars_57 : decode cJ20_getChars 57 = .ok (.iinc 5 (-1), 3) := dk_132 5 255 (dk_at dksJ20_getChars_2 10 rfl rfl)
theorem dJ20_getChars_60 : decode cJ20_getChars 60 = .ok (.iload 5, 2) := dk_21 5 (dk_at dksJ20_getChars_2 13 rfl rfl)
theorem dJ20_getChars_62 : decode cJ20_getChars 62 = .ok (.getstatic 87, 3) := dk_178 0 87 (dk_at dksJ20_getChars_2 15 rfl rfl)
theorem dJ20_getChars_65 : decode cJ20_getChars 65 = .ok (.iload 4, 2) := dk_21 4 (dk_at dksJ20_getChars_2 18 rfl rfl)
theorem dJ20_getChars_67 : decode cJ20_getChars 67 = .ok (.baload, 1) := dk_51 (dk_at dksJ20_getChars_2 20 rfl rfl)
theorem dJ20_getChars_68 : decode cJ20_getChars 68 = .ok (.bastore, 1) := dk_84 (dk_at dksJ20_getChars_2 21 rfl rfl)
theorem dJ20_getChars_69 : decode cJ20_getChars 69 = .ok (.goto (-47), 3) := dk_167 255 209 (dk_at dksJ20_getChars_3 0 rfl rfl)
theorem dJ20_getChars_72 : decode cJ20_getChars 72 = .ok (.aload_n 2, 1) := dk_44 (dk_at dksJ20_getChars_3 3 rfl rfl)
theorem dJ20_getChars_73 : decode cJ20_getChars 73 = .ok (.iinc 5 (-1), 3) := dk_132 5 255 (dk_at dksJ20_getChars_3 4 rfl rfl)
theorem dJ20_getChars_76 : decode cJ20_getChars 76 = .ok (.iload 5, 2) := dk_21 5 (dk_at dksJ20_getChars_3 7 rfl rfl)
theorem dJ20_getChars_78 : decode cJ20_getChars 78 = .ok (.getstatic 83, 3) := dk_178 0 83 (dk_at dksJ20_getChars_3 9 rfl rfl)
theorem dJ20_getChars_81 : decode cJ20_getChars 81 = .ok (.iload_n 0, 1) := dk_26 (dk_at dksJ20_getChars_3 12 rfl rfl)
theorem dJ20_getChars_82 : decode cJ20_getChars 82 = .ok (.ineg, 1) := dk_116 (dk_at dksJ20_getChars_3 13 rfl rfl)
theorem dJ20_getChars_83 : decode cJ20_getChars 83 = .ok (.baload, 1) := dk_51 (dk_at dksJ20_getChars_3 14 rfl rfl)
theorem dJ20_getChars_84 : decode cJ20_getChars 84 = .ok (.bastore, 1) := dk_84 (dk_at dksJ20_getChars_3 15 rfl rfl)
theorem dJ20_getChars_85 : decode cJ20_getChars 85 = .ok (.iload_n 0, 1) := dk_26 (dk_at dksJ20_getChars_3 16 rfl rfl)
theorem dJ20_getChars_86 : decode cJ20_getChars 86 = .ok (.bipush (-9), 2) := dk_16 247 (dk_at dksJ20_getChars_3 17 rfl rfl)
theorem dJ20_getChars_88 : decode cJ20_getChars 88 = .ok (.if_icmp .ge 16, 3) := dk_162 0 16 (dk_at dksJ20_getChars_3 19 rfl rfl)
theorem dJ20_getChars_91 : decode cJ20_getChars 91 = .ok (.aload_n 2, 1) := dk_44 (dk_at dksJ20_getChars_3 22 rfl rfl)
theorem dJ20_getChars_92 : decode cJ20_getChars 92 = .ok (.iinc 5 (-1), 3) := dk_132 5 255 (dk_at dksJ20_getChars_4 0 rfl rfl)
theorem dJ20_getChars_95 : decode cJ20_getChars 95 = .ok (.iload 5, 2) := dk_21 5 (dk_at dksJ20_getChars_4 3 rfl rfl)
theorem dJ20_getChars_97 : decode cJ20_getChars 97 = .ok (.getstatic 87, 3) := dk_178 0 87 (dk_at dksJ20_getChars_4 5 rfl rfl)
theorem dJ20_getChars_100 : decode cJ20_getChars 100 = .ok (.iload_n 0, 1) := dk_26 (dk_at dksJ20_getChars_4 8 rfl rfl)
theorem dJ20_getChars_101 : decode cJ20_getChars 101 = .ok (.ineg, 1) := dk_116 (dk_at dksJ20_getChars_4 9 rfl rfl)
theorem dJ20_getChars_102 : decode cJ20_getChars 102 = .ok (.baload, 1) := dk_51 (dk_at dksJ20_getChars_4 10 rfl rfl)
theorem dJ20_getChars_103 : decode cJ20_getChars 103 = .ok (.bastore, 1) := dk_84 (dk_at dksJ20_getChars_4 11 rfl rfl)
theorem dJ20_getChars_104 : decode cJ20_getChars 104 = .ok (.iload 6, 2) := dk_21 6 (dk_at dksJ20_getChars_4 12 rfl rfl)
theorem dJ20_getChars_106 : decode cJ20_getChars 106 = .ok (.ifCond .eq 12, 3) := dk_153 0 12 (dk_at dksJ20_getChars_4 14 rfl rfl)
theorem dJ20_getChars_109 : decode cJ20_getChars 109 = .ok (.aload_n 2, 1) := dk_44 (dk_at dksJ20_getChars_4 17 rfl rfl)
theorem dJ20_getChars_110 : decode cJ20_getChars 110 = .ok (.iinc 5 (-1), 3) := dk_132 5 255 (dk_at dksJ20_getChars_4 18 rfl rfl)
theorem dJ20_getChars_113 : decode cJ20_getChars 113 = .ok (.iload 5, 2) := dk_21 5 (dk_at dksJ20_getChars_4 21 rfl rfl)
theorem dJ20_getChars_115 : decode cJ20_getChars 115 = .ok (.bipush 45, 2) := dk_16 45 (dk_at dksJ20_getChars_5 0 rfl rfl)
theorem dJ20_getChars_117 : decode cJ20_getChars 117 = .ok (.bastore, 1) := dk_84 (dk_at dksJ20_getChars_5 2 rfl rfl)
theorem dJ20_getChars_118 : decode cJ20_getChars 118 = .ok (.iload 5, 2) := dk_21 5 (dk_at dksJ20_getChars_5 3 rfl rfl)
theorem dJ20_getChars_120 : decode cJ20_getChars 120 = .ok (.ireturn, 1) := dk_172 (dk_at dksJ20_getChars_5 5 rfl rfl)
abbrev cJ20_valueOf : ByteArray := prog_27_method_22_code
def yJ20_valueOf : MethodName := ⟨RJ20, "valueOf", "(I)Ljava/lang/Integer;"⟩
def dkwJ20_valueOf_1 : List UInt8 := [187, 0, 1, 89, 26, 183, 0, 199, 176]
abbrev dktJ20_valueOf_1 : List UInt8 := dkwJ20_valueOf_1 ++ []
def dkwJ20_valueOf_0 : List UInt8 := [26, 16, 128, 161, 0, 20, 26, 178, 0, 191, 163, 0, 13, 178, 0, 195, 26, 17, 0, 128, 96, 50, 176]
abbrev dktJ20_valueOf_0 : List UInt8 := dkwJ20_valueOf_0 ++ dktJ20_valueOf_1
theorem dksJ20_valueOf_0 : cJ20_valueOf.data.toList.drop 0 = dktJ20_valueOf_0 := by decide +kernel
theorem dksJ20_valueOf_1 : cJ20_valueOf.data.toList.drop 23 = dktJ20_valueOf_1 := dk_seg dksJ20_valueOf_0 23 rfl rfl
theorem dJ20_valueOf_0 : decode cJ20_valueOf 0 = .ok (.iload_n 0, 1) := dk_26 (dk_at dksJ20_valueOf_0 0 rfl rfl)
theorem dJ20_valueOf_1 : decode cJ20_valueOf 1 = .ok (.bipush (-128), 2) := dk_16 128 (dk_at dksJ20_valueOf_0 1 rfl rfl)
theorem dJ20_valueOf_3 : decode cJ20_valueOf 3 = .ok (.if_icmp .lt 20, 3) := dk_161 0 20 (dk_at dksJ20_valueOf_0 3 rfl rfl)
theorem dJ20_valueOf_6 : decode cJ20_valueOf 6 = .ok (.iload_n 0, 1) := dk_26 (dk_at dksJ20_valueOf_0 6 rfl rfl)
theorem dJ20_valueOf_7 : decode cJ20_valueOf 7 = .ok (.getstatic 191, 3) := dk_178 0 191 (dk_at dksJ20_valueOf_0 7 rfl rfl)
theorem dJ20_valueOf_10 : decode cJ20_valueOf 10 = .ok (.if_icmp .gt 13, 3) := dk_163 0 13 (dk_at dksJ20_valueOf_0 10 rfl rfl)
theorem dJ20_valueOf_13 : decode cJ20_valueOf 13 = .ok (.getstatic 195, 3) := dk_178 0 195 (dk_at dksJ20_valueOf_0 13 rfl rfl)
theorem dJ20_valueOf_16 : decode cJ20_valueOf 16 = .ok (.iload_n 0, 1) := dk_26 (dk_at dksJ20_valueOf_0 16 rfl rfl)
theorem dJ20_valueOf_17 : decode cJ20_valueOf 17 = .ok (.sipush 128, 3) := dk_17 0 128 (dk_at dksJ20_valueOf_0 17 rfl rfl)
theorem dJ20_valueOf_20 : decode cJ20_valueOf 20 = .ok (.iadd, 1) := dk_96 (dk_at dksJ20_valueOf_0 20 rfl rfl)
theorem dJ20_valueOf_21 : decode cJ20_valueOf 21 = .ok (.aaload, 1) := dk_50 (dk_at dksJ20_valueOf_0 21 rfl rfl)
theorem dJ20_valueOf_22 : decode cJ20_valueOf 22 = .ok (.areturn, 1) := dk_176 (dk_at dksJ20_valueOf_0 22 rfl rfl)
theorem dJ20_valueOf_23 : decode cJ20_valueOf 23 = .ok (.new 1, 3) := dk_187 0 1 (dk_at dksJ20_valueOf_1 0 rfl rfl)
theorem dJ20_valueOf_26 : decode cJ20_valueOf 26 = .ok (.dup, 1) := dk_89 (dk_at dksJ20_valueOf_1 3 rfl rfl)
theorem dJ20_valueOf_27 : decode cJ20_valueOf 27 = .ok (.iload_n 0, 1) := dk_26 (dk_at dksJ20_valueOf_1 4 rfl rfl)
theorem dJ20_valueOf_28 : decode cJ20_valueOf 28 = .ok (.invokespecial 199, 3) := dk_183 0 199 (dk_at dksJ20_valueOf_1 5 rfl rfl)
theorem dJ20_valueOf_31 : decode cJ20_valueOf 31 = .ok (.areturn, 1) := dk_176 (dk_at dksJ20_valueOf_1 8 rfl rfl)
abbrev cJ20_init : ByteArray := prog_27_method_23_code
def yJ20_init : MethodName := ⟨RJ20, "<init>", "(I)V"⟩
def dkwJ20_init_0 : List UInt8 := [42, 183, 0, 202, 42, 27, 181, 0, 205, 177]
abbrev dktJ20_init_0 : List UInt8 := dkwJ20_init_0 ++ []
theorem dksJ20_init_0 : cJ20_init.data.toList.drop 0 = dktJ20_init_0 := by decide +kernel
theorem dJ20_init_0 : decode cJ20_init 0 = .ok (.aload_n 0, 1) := dk_42 (dk_at dksJ20_init_0 0 rfl rfl)
theorem dJ20_init_1 : decode cJ20_init 1 = .ok (.invokespecial 202, 3) := dk_183 0 202 (dk_at dksJ20_init_0 1 rfl rfl)
theorem dJ20_init_4 : decode cJ20_init 4 = .ok (.aload_n 0, 1) := dk_42 (dk_at dksJ20_init_0 4 rfl rfl)
theorem dJ20_init_5 : decode cJ20_init 5 = .ok (.iload_n 1, 1) := dk_27 (dk_at dksJ20_init_0 5 rfl rfl)
theorem dJ20_init_6 : decode cJ20_init 6 = .ok (.putfield 205, 3) := dk_181 0 205 (dk_at dksJ20_init_0 6 rfl rfl)
theorem dJ20_init_9 : decode cJ20_init 9 = .ok (.return_, 1) := dk_177 (dk_at dksJ20_init_0 9 rfl rfl)
abbrev cJ20_compareTo : ByteArray := prog_27_method_63_code
def yJ20_compareTo : MethodName := ⟨RJ20, "compareTo", "(Ljava/lang/Object;)I"⟩
def dkwJ20_compareTo_0 : List UInt8 := [42, 43, 192, 0, 1, 182, 1, 28, 172]
abbrev dktJ20_compareTo_0 : List UInt8 := dkwJ20_compareTo_0 ++ []
theorem dksJ20_compareTo_0 : cJ20_compareTo.data.toList.drop 0 = dktJ20_compareTo_0 := by decide +kernel
theorem dJ20_compareTo_0 : decode cJ20_compareTo 0 = .ok (.aload_n 0, 1) := dk_42 (dk_at dksJ20_compareTo_0 0 rfl rfl)
theorem dJ20_compareTo_1 : decode cJ20_compareTo 1 = .ok (.aload_n 1, 1) := dk_43 (dk_at dksJ20_compareTo_0 1 rfl rfl)
theorem dJ20_compareTo_2 : decode cJ20_compareTo 2 = .ok (.checkcast 1, 3) := dk_192 0 1 (dk_at dksJ20_compareTo_0 2 rfl rfl)
theorem dJ20_compareTo_5 : decode cJ20_compareTo 5 = .ok (.invokevirtual 284, 3) := dk_182 1 28 (dk_at dksJ20_compareTo_0 5 rfl rfl)
theorem dJ20_compareTo_8 : decode cJ20_compareTo 8 = .ok (.ireturn, 1) := dk_172 (dk_at dksJ20_compareTo_0 8 rfl rfl)
abbrev cJ20_compareTo_2 : ByteArray := prog_27_method_39_code
def yJ20_compareTo_2 : MethodName := ⟨RJ20, "compareTo", "(Ljava/lang/Integer;)I"⟩
def dkwJ20_compareTo_2_0 : List UInt8 := [42, 180, 0, 205, 43, 180, 0, 205, 184, 1, 3, 172]
abbrev dktJ20_compareTo_2_0 : List UInt8 := dkwJ20_compareTo_2_0 ++ []
theorem dksJ20_compareTo_2_0 : cJ20_compareTo_2.data.toList.drop 0 = dktJ20_compareTo_2_0 := by decide +kernel
theorem dJ20_compareTo_2_0 : decode cJ20_compareTo_2 0 = .ok (.aload_n 0, 1) := dk_42 (dk_at dksJ20_compareTo_2_0 0 rfl rfl)
theorem dJ20_compareTo_2_1 : decode cJ20_compareTo_2 1 = .ok (.getfield 205, 3) := dk_180 0 205 (dk_at dksJ20_compareTo_2_0 1 rfl rfl)
theorem dJ20_compareTo_2_4 : decode cJ20_compareTo_2 4 = .ok (.aload_n 1, 1) := dk_43 (dk_at dksJ20_compareTo_2_0 4 rfl rfl)
theorem dJ20_compareTo_2_5 : decode cJ20_compareTo_2 5 = .ok (.getfield 205, 3) := dk_180 0 205 (dk_at dksJ20_compareTo_2_0 5 rfl rfl)
theorem dJ20_compareTo_2_8 : decode cJ20_compareTo_2 8 = .ok (.invokestatic 259, 3) := dk_184 1 3 (dk_at dksJ20_compareTo_2_0 8 rfl rfl)
theorem dJ20_compareTo_2_11 : decode cJ20_compareTo_2 11 = .ok (.ireturn, 1) := dk_172 (dk_at dksJ20_compareTo_2_0 11 rfl rfl)
abbrev cJ20_compare : ByteArray := prog_27_method_40_code
def yJ20_compare : MethodName := ⟨RJ20, "compare", "(II)I"⟩
def dkwJ20_compare_0 : List UInt8 := [26, 27, 162, 0, 7, 2, 167, 0, 13, 26, 27, 160, 0, 7, 3, 167, 0, 4, 4, 172]
abbrev dktJ20_compare_0 : List UInt8 := dkwJ20_compare_0 ++ []
theorem dksJ20_compare_0 : cJ20_compare.data.toList.drop 0 = dktJ20_compare_0 := by decide +kernel
theorem dJ20_compare_0 : decode cJ20_compare 0 = .ok (.iload_n 0, 1) := dk_26 (dk_at dksJ20_compare_0 0 rfl rfl)
theorem dJ20_compare_1 : decode cJ20_compare 1 = .ok (.iload_n 1, 1) := dk_27 (dk_at dksJ20_compare_0 1 rfl rfl)
theorem dJ20_compare_2 : decode cJ20_compare 2 = .ok (.if_icmp .ge 7, 3) := dk_162 0 7 (dk_at dksJ20_compare_0 2 rfl rfl)
theorem dJ20_compare_5 : decode cJ20_compare 5 = .ok (.iconst (-1), 1) := dk_2 (dk_at dksJ20_compare_0 5 rfl rfl)
theorem dJ20_compare_6 : decode cJ20_compare 6 = .ok (.goto 13, 3) := dk_167 0 13 (dk_at dksJ20_compare_0 6 rfl rfl)
theorem dJ20_compare_9 : decode cJ20_compare 9 = .ok (.iload_n 0, 1) := dk_26 (dk_at dksJ20_compare_0 9 rfl rfl)
theorem dJ20_compare_10 : decode cJ20_compare 10 = .ok (.iload_n 1, 1) := dk_27 (dk_at dksJ20_compare_0 10 rfl rfl)
theorem dJ20_compare_11 : decode cJ20_compare 11 = .ok (.if_icmp .ne 7, 3) := dk_160 0 7 (dk_at dksJ20_compare_0 11 rfl rfl)
theorem dJ20_compare_14 : decode cJ20_compare 14 = .ok (.iconst 0, 1) := dk_3 (dk_at dksJ20_compare_0 14 rfl rfl)
theorem dJ20_compare_15 : decode cJ20_compare 15 = .ok (.goto 4, 3) := dk_167 0 4 (dk_at dksJ20_compare_0 15 rfl rfl)
theorem dJ20_compare_18 : decode cJ20_compare 18 = .ok (.iconst 1, 1) := dk_4 (dk_at dksJ20_compare_0 18 rfl rfl)
theorem dJ20_compare_19 : decode cJ20_compare 19 = .ok (.ireturn, 1) := dk_172 (dk_at dksJ20_compare_0 19 rfl rfl)
abbrev cJ20_numberOfLeadingZeros : ByteArray := prog_27_method_47_code
def yJ20_numberOfLeadingZeros : MethodName := ⟨RJ20, "numberOfLeadingZeros", "(I)I"⟩
def dkwJ20_numberOfLeadingZeros_3 : List UInt8 := [5, 124, 59, 27, 26, 4, 124, 100, 172]
abbrev dktJ20_numberOfLeadingZeros_3 : List UInt8 := dkwJ20_numberOfLeadingZeros_3 ++ []
def dkwJ20_numberOfLeadingZeros_2 : List UInt8 := [124, 59, 26, 16, 16, 161, 0, 10, 132, 1, 252, 26, 7, 124, 59, 26, 7, 161, 0, 10, 132, 1, 254, 26]
abbrev dktJ20_numberOfLeadingZeros_2 : List UInt8 := dkwJ20_numberOfLeadingZeros_2 ++ dktJ20_numberOfLeadingZeros_3
def dkwJ20_numberOfLeadingZeros_1 : List UInt8 := [161, 0, 11, 132, 1, 240, 26, 16, 16, 124, 59, 26, 17, 1, 0, 161, 0, 11, 132, 1, 248, 26, 16, 8]
abbrev dktJ20_numberOfLeadingZeros_1 : List UInt8 := dkwJ20_numberOfLeadingZeros_1 ++ dktJ20_numberOfLeadingZeros_2
def dkwJ20_numberOfLeadingZeros_0 : List UInt8 := [26, 157, 0, 14, 26, 154, 0, 8, 16, 32, 167, 0, 4, 3, 172, 16, 31, 60, 26, 19, 1, 8]
abbrev dktJ20_numberOfLeadingZeros_0 : List UInt8 := dkwJ20_numberOfLeadingZeros_0 ++ dktJ20_numberOfLeadingZeros_1
theorem dksJ20_numberOfLeadingZeros_0 : cJ20_numberOfLeadingZeros.data.toList.drop 0 = dktJ20_numberOfLeadingZeros_0 := by decide +kernel
theorem dksJ20_numberOfLeadingZeros_1 : cJ20_numberOfLeadingZeros.data.toList.drop 22 = dktJ20_numberOfLeadingZeros_1 := dk_seg dksJ20_numberOfLeadingZeros_0 22 rfl rfl
theorem dksJ20_numberOfLeadingZeros_2 : cJ20_numberOfLeadingZeros.data.toList.drop 46 = dktJ20_numberOfLeadingZeros_2 := dk_seg dksJ20_numberOfLeadingZeros_1 24 rfl rfl
theorem dksJ20_numberOfLeadingZeros_3 : cJ20_numberOfLeadingZeros.data.toList.drop 70 = dktJ20_numberOfLeadingZeros_3 := dk_seg dksJ20_numberOfLeadingZeros_2 24 rfl rfl
theorem dJ20_numberOfLeadingZeros_0 : decode cJ20_numberOfLeadingZeros 0 = .ok (.iload_n 0, 1) := dk_26 (dk_at dksJ20_numberOfLeadingZeros_0 0 rfl rfl)
theorem dJ20_numberOfLeadingZeros_1 : decode cJ20_numberOfLeadingZeros 1 = .ok (.ifCond .gt 14, 3) := dk_157 0 14 (dk_at dksJ20_numberOfLeadingZeros_0 1 rfl rfl)
theorem dJ20_numberOfLeadingZeros_4 : decode cJ20_numberOfLeadingZeros 4 = .ok (.iload_n 0, 1) := dk_26 (dk_at dksJ20_numberOfLeadingZeros_0 4 rfl rfl)
theorem dJ20_numberOfLeadingZeros_5 : decode cJ20_numberOfLeadingZeros 5 = .ok (.ifCond .ne 8, 3) := dk_154 0 8 (dk_at dksJ20_numberOfLeadingZeros_0 5 rfl rfl)
theorem dJ20_numberOfLeadingZeros_8 : decode cJ20_numberOfLeadingZeros 8 = .ok (.bipush 32, 2) := dk_16 32 (dk_at dksJ20_numberOfLeadingZeros_0 8 rfl rfl)
theorem dJ20_numberOfLeadingZeros_10 : decode cJ20_numberOfLeadingZeros 10 = .ok (.goto 4, 3) := dk_167 0 4 (dk_at dksJ20_numberOfLeadingZeros_0 10 rfl rfl)
theorem dJ20_numberOfLeadingZeros_13 : decode cJ20_numberOfLeadingZeros 13 = .ok (.iconst 0, 1) := dk_3 (dk_at dksJ20_numberOfLeadingZeros_0 13 rfl rfl)
theorem dJ20_numberOfLeadingZeros_14 : decode cJ20_numberOfLeadingZeros 14 = .ok (.ireturn, 1) := dk_172 (dk_at dksJ20_numberOfLeadingZeros_0 14 rfl rfl)
theorem dJ20_numberOfLeadingZeros_15 : decode cJ20_numberOfLeadingZeros 15 = .ok (.bipush 31, 2) := dk_16 31 (dk_at dksJ20_numberOfLeadingZeros_0 15 rfl rfl)
theorem dJ20_numberOfLeadingZeros_17 : decode cJ20_numberOfLeadingZeros 17 = .ok (.istore_n 1, 1) := dk_60 (dk_at dksJ20_numberOfLeadingZeros_0 17 rfl rfl)
theorem dJ20_numberOfLeadingZeros_18 : decode cJ20_numberOfLeadingZeros 18 = .ok (.iload_n 0, 1) := dk_26 (dk_at dksJ20_numberOfLeadingZeros_0 18 rfl rfl)
theorem dJ20_numberOfLeadingZeros_19 : decode cJ20_numberOfLeadingZeros 19 = .ok (.ldc_w 264, 3) := dk_19 1 8 (dk_at dksJ20_numberOfLeadingZeros_0 19 rfl rfl)
theorem dJ20_numberOfLeadingZeros_22 : decode cJ20_numberOfLeadingZeros 22 = .ok (.if_icmp .lt 11, 3) := dk_161 0 11 (dk_at dksJ20_numberOfLeadingZeros_1 0 rfl rfl)
theorem dJ20_numberOfLeadingZeros_25 : decode cJ20_numberOfLeadingZeros 25 = .ok (.iinc 1 (-16), 3) := dk_132 1 240 (dk_at dksJ20_numberOfLeadingZeros_1 3 rfl rfl)
theorem dJ20_numberOfLeadingZeros_28 : decode cJ20_numberOfLeadingZeros 28 = .ok (.iload_n 0, 1) := dk_26 (dk_at dksJ20_numberOfLeadingZeros_1 6 rfl rfl)
theorem dJ20_numberOfLeadingZeros_29 : decode cJ20_numberOfLeadingZeros 29 = .ok (.bipush 16, 2) := dk_16 16 (dk_at dksJ20_numberOfLeadingZeros_1 7 rfl rfl)
theorem dJ20_numberOfLeadingZeros_31 : decode cJ20_numberOfLeadingZeros 31 = .ok (.iushr, 1) := dk_124 (dk_at dksJ20_numberOfLeadingZeros_1 9 rfl rfl)
theorem dJ20_numberOfLeadingZeros_32 : decode cJ20_numberOfLeadingZeros 32 = .ok (.istore_n 0, 1) := dk_59 (dk_at dksJ20_numberOfLeadingZeros_1 10 rfl rfl)
theorem dJ20_numberOfLeadingZeros_33 : decode cJ20_numberOfLeadingZeros 33 = .ok (.iload_n 0, 1) := dk_26 (dk_at dksJ20_numberOfLeadingZeros_1 11 rfl rfl)
theorem dJ20_numberOfLeadingZeros_34 : decode cJ20_numberOfLeadingZeros 34 = .ok (.sipush 256, 3) := dk_17 1 0 (dk_at dksJ20_numberOfLeadingZeros_1 12 rfl rfl)
theorem dJ20_numberOfLeadingZeros_37 : decode cJ20_numberOfLeadingZeros 37 = .ok (.if_icmp .lt 11, 3) := dk_161 0 11 (dk_at dksJ20_numberOfLeadingZeros_1 15 rfl rfl)
theorem dJ20_numberOfLeadingZeros_40 : decode cJ20_numberOfLeadingZeros 40 = .ok (.iinc 1 (-8), 3) := dk_132 1 248 (dk_at dksJ20_numberOfLeadingZeros_1 18 rfl rfl)
theorem dJ20_numberOfLeadingZeros_43 : decode cJ20_numberOfLeadingZeros 43 = .ok (.iload_n 0, 1) := dk_26 (dk_at dksJ20_numberOfLeadingZeros_1 21 rfl rfl)
theorem dJ20_numberOfLeadingZeros_44 : decode cJ20_numberOfLeadingZeros 44 = .ok (.bipush 8, 2) := dk_16 8 (dk_at dksJ20_numberOfLeadingZeros_1 22 rfl rfl)
theorem dJ20_numberOfLeadingZeros_46 : decode cJ20_numberOfLeadingZeros 46 = .ok (.iushr, 1) := dk_124 (dk_at dksJ20_numberOfLeadingZeros_2 0 rfl rfl)
theorem dJ20_numberOfLeadingZeros_47 : decode cJ20_numberOfLeadingZeros 47 = .ok (.istore_n 0, 1) := dk_59 (dk_at dksJ20_numberOfLeadingZeros_2 1 rfl rfl)
theorem dJ20_numberOfLeadingZeros_48 : decode cJ20_numberOfLeadingZeros 48 = .ok (.iload_n 0, 1) := dk_26 (dk_at dksJ20_numberOfLeadingZeros_2 2 rfl rfl)
theorem dJ20_numberOfLeadingZeros_49 : decode cJ20_numberOfLeadingZeros 49 = .ok (.bipush 16, 2) := dk_16 16 (dk_at dksJ20_numberOfLeadingZeros_2 3 rfl rfl)
theorem dJ20_numberOfLeadingZeros_51 : decode cJ20_numberOfLeadingZeros 51 = .ok (.if_icmp .lt 10, 3) := dk_161 0 10 (dk_at dksJ20_numberOfLeadingZeros_2 5 rfl rfl)
theorem dJ20_numberOfLeadingZeros_54 : decode cJ20_numberOfLeadingZeros 54 = .ok (.iinc 1 (-4), 3) := dk_132 1 252 (dk_at dksJ20_numberOfLeadingZeros_2 8 rfl rfl)
theorem dJ20_numberOfLeadingZeros_57 : decode cJ20_numberOfLeadingZeros 57 = .ok (.iload_n 0, 1) := dk_26 (dk_at dksJ20_numberOfLeadingZeros_2 11 rfl rfl)
theorem dJ20_numberOfLeadingZeros_58 : decode cJ20_numberOfLeadingZeros 58 = .ok (.iconst 4, 1) := dk_7 (dk_at dksJ20_numberOfLeadingZeros_2 12 rfl rfl)
theorem dJ20_numberOfLeadingZeros_59 : decode cJ20_numberOfLeadingZeros 59 = .ok (.iushr, 1) := dk_124 (dk_at dksJ20_numberOfLeadingZeros_2 13 rfl rfl)
theorem dJ20_numberOfLeadingZeros_60 : decode cJ20_numberOfLeadingZeros 60 = .ok (.istore_n 0, 1) := dk_59 (dk_at dksJ20_numberOfLeadingZeros_2 14 rfl rfl)
theorem dJ20_numberOfLeadingZeros_61 : decode cJ20_numberOfLeadingZeros 61 = .ok (.iload_n 0, 1) := dk_26 (dk_at dksJ20_numberOfLeadingZeros_2 15 rfl rfl)
theorem dJ20_numberOfLeadingZeros_62 : decode cJ20_numberOfLeadingZeros 62 = .ok (.iconst 4, 1) := dk_7 (dk_at dksJ20_numberOfLeadingZeros_2 16 rfl rfl)
theorem dJ20_numberOfLeadingZeros_63 : decode cJ20_numberOfLeadingZeros 63 = .ok (.if_icmp .lt 10, 3) := dk_161 0 10 (dk_at dksJ20_numberOfLeadingZeros_2 17 rfl rfl)
theorem dJ20_numberOfLeadingZeros_66 : decode cJ20_numberOfLeadingZeros 66 = .ok (.iinc 1 (-2), 3) := dk_132 1 254 (dk_at dksJ20_numberOfLeadingZeros_2 20 rfl rfl)
theorem dJ20_numberOfLeadingZeros_69 : decode cJ20_numberOfLeadingZeros 69 = .ok (.iload_n 0, 1) := dk_26 (dk_at dksJ20_numberOfLeadingZeros_2 23 rfl rfl)
theorem dJ20_numberOfLeadingZeros_70 : decode cJ20_numberOfLeadingZeros 70 = .ok (.iconst 2, 1) := dk_5 (dk_at dksJ20_numberOfLeadingZeros_3 0 rfl rfl)
theorem dJ20_numberOfLeadingZeros_71 : decode cJ20_numberOfLeadingZeros 71 = .ok (.iushr, 1) := dk_124 (dk_at dksJ20_numberOfLeadingZeros_3 1 rfl rfl)
theorem dJ20_numberOfLeadingZeros_72 : decode cJ20_numberOfLeadingZeros 72 = .ok (.istore_n 0, 1) := dk_59 (dk_at dksJ20_numberOfLeadingZeros_3 2 rfl rfl)
theorem dJ20_numberOfLeadingZeros_73 : decode cJ20_numberOfLeadingZeros 73 = .ok (.iload_n 1, 1) := dk_27 (dk_at dksJ20_numberOfLeadingZeros_3 3 rfl rfl)
theorem dJ20_numberOfLeadingZeros_74 : decode cJ20_numberOfLeadingZeros 74 = .ok (.iload_n 0, 1) := dk_26 (dk_at dksJ20_numberOfLeadingZeros_3 4 rfl rfl)
theorem dJ20_numberOfLeadingZeros_75 : decode cJ20_numberOfLeadingZeros 75 = .ok (.iconst 1, 1) := dk_4 (dk_at dksJ20_numberOfLeadingZeros_3 5 rfl rfl)
theorem dJ20_numberOfLeadingZeros_76 : decode cJ20_numberOfLeadingZeros 76 = .ok (.iushr, 1) := dk_124 (dk_at dksJ20_numberOfLeadingZeros_3 6 rfl rfl)
theorem dJ20_numberOfLeadingZeros_77 : decode cJ20_numberOfLeadingZeros 77 = .ok (.isub, 1) := dk_100 (dk_at dksJ20_numberOfLeadingZeros_3 7 rfl rfl)
theorem dJ20_numberOfLeadingZeros_78 : decode cJ20_numberOfLeadingZeros 78 = .ok (.ireturn, 1) := dk_172 (dk_at dksJ20_numberOfLeadingZeros_3 8 rfl rfl)
abbrev cJ20_numberOfTrailingZeros : ByteArray := prog_27_method_48_code
def yJ20_numberOfTrailingZeros : MethodName := ⟨RJ20, "numberOfTrailingZeros", "(I)I"⟩
def dkwJ20_numberOfTrailingZeros_3 : List UInt8 := [5, 124, 59, 27, 26, 4, 124, 96, 172]
abbrev dktJ20_numberOfTrailingZeros_3 : List UInt8 := dkwJ20_numberOfTrailingZeros_3 ++ []
def dkwJ20_numberOfTrailingZeros_2 : List UInt8 := [124, 59, 26, 16, 16, 164, 0, 10, 132, 1, 4, 26, 7, 124, 59, 26, 7, 164, 0, 10, 132, 1, 2, 26]
abbrev dktJ20_numberOfTrailingZeros_2 : List UInt8 := dkwJ20_numberOfTrailingZeros_2 ++ dktJ20_numberOfTrailingZeros_3
def dkwJ20_numberOfTrailingZeros_1 : List UInt8 := [164, 0, 11, 132, 1, 16, 26, 16, 16, 124, 59, 26, 17, 1, 0, 164, 0, 11, 132, 1, 8, 26, 16, 8]
abbrev dktJ20_numberOfTrailingZeros_1 : List UInt8 := dkwJ20_numberOfTrailingZeros_1 ++ dktJ20_numberOfTrailingZeros_2
def dkwJ20_numberOfTrailingZeros_0 : List UInt8 := [26, 2, 130, 26, 4, 100, 126, 59, 26, 157, 0, 8, 26, 16, 32, 126, 172, 4, 60, 26, 19, 1, 8]
abbrev dktJ20_numberOfTrailingZeros_0 : List UInt8 := dkwJ20_numberOfTrailingZeros_0 ++ dktJ20_numberOfTrailingZeros_1
theorem dksJ20_numberOfTrailingZeros_0 : cJ20_numberOfTrailingZeros.data.toList.drop 0 = dktJ20_numberOfTrailingZeros_0 := by decide +kernel
theorem dksJ20_numberOfTrailingZeros_1 : cJ20_numberOfTrailingZeros.data.toList.drop 23 = dktJ20_numberOfTrailingZeros_1 := dk_seg dksJ20_numberOfTrailingZeros_0 23 rfl rfl
theorem dksJ20_numberOfTrailingZeros_2 : cJ20_numberOfTrailingZeros.data.toList.drop 47 = dktJ20_numberOfTrailingZeros_2 := dk_seg dksJ20_numberOfTrailingZeros_1 24 rfl rfl
theorem dksJ20_numberOfTrailingZeros_3 : cJ20_numberOfTrailingZeros.data.toList.drop 71 = dktJ20_numberOfTrailingZeros_3 := dk_seg dksJ20_numberOfTrailingZeros_2 24 rfl rfl
theorem dJ20_numberOfTrailingZeros_0 : decode cJ20_numberOfTrailingZeros 0 = .ok (.iload_n 0, 1) := dk_26 (dk_at dksJ20_numberOfTrailingZeros_0 0 rfl rfl)
theorem dJ20_numberOfTrailingZeros_1 : decode cJ20_numberOfTrailingZeros 1 = .ok (.iconst (-1), 1) := dk_2 (dk_at dksJ20_numberOfTrailingZeros_0 1 rfl rfl)
theorem dJ20_numberOfTrailingZeros_2 : decode cJ20_numberOfTrailingZeros 2 = .ok (.ixor, 1) := dk_130 (dk_at dksJ20_numberOfTrailingZeros_0 2 rfl rfl)
theorem dJ20_numberOfTrailingZeros_3 : decode cJ20_numberOfTrailingZeros 3 = .ok (.iload_n 0, 1) := dk_26 (dk_at dksJ20_numberOfTrailingZeros_0 3 rfl rfl)
theorem dJ20_numberOfTrailingZeros_4 : decode cJ20_numberOfTrailingZeros 4 = .ok (.iconst 1, 1) := dk_4 (dk_at dksJ20_numberOfTrailingZeros_0 4 rfl rfl)
theorem dJ20_numberOfTrailingZeros_5 : decode cJ20_numberOfTrailingZeros 5 = .ok (.isub, 1) := dk_100 (dk_at dksJ20_numberOfTrailingZeros_0 5 rfl rfl)
theorem dJ20_numberOfTrailingZeros_6 : decode cJ20_numberOfTrailingZeros 6 = .ok (.iand, 1) := dk_126 (dk_at dksJ20_numberOfTrailingZeros_0 6 rfl rfl)
theorem dJ20_numberOfTrailingZeros_7 : decode cJ20_numberOfTrailingZeros 7 = .ok (.istore_n 0, 1) := dk_59 (dk_at dksJ20_numberOfTrailingZeros_0 7 rfl rfl)
theorem dJ20_numberOfTrailingZeros_8 : decode cJ20_numberOfTrailingZeros 8 = .ok (.iload_n 0, 1) := dk_26 (dk_at dksJ20_numberOfTrailingZeros_0 8 rfl rfl)
theorem dJ20_numberOfTrailingZeros_9 : decode cJ20_numberOfTrailingZeros 9 = .ok (.ifCond .gt 8, 3) := dk_157 0 8 (dk_at dksJ20_numberOfTrailingZeros_0 9 rfl rfl)
theorem dJ20_numberOfTrailingZeros_12 : decode cJ20_numberOfTrailingZeros 12 = .ok (.iload_n 0, 1) := dk_26 (dk_at dksJ20_numberOfTrailingZeros_0 12 rfl rfl)
theorem dJ20_numberOfTrailingZeros_13 : decode cJ20_numberOfTrailingZeros 13 = .ok (.bipush 32, 2) := dk_16 32 (dk_at dksJ20_numberOfTrailingZeros_0 13 rfl rfl)
theorem dJ20_numberOfTrailingZeros_15 : decode cJ20_numberOfTrailingZeros 15 = .ok (.iand, 1) := dk_126 (dk_at dksJ20_numberOfTrailingZeros_0 15 rfl rfl)
theorem dJ20_numberOfTrailingZeros_16 : decode cJ20_numberOfTrailingZeros 16 = .ok (.ireturn, 1) := dk_172 (dk_at dksJ20_numberOfTrailingZeros_0 16 rfl rfl)
theorem dJ20_numberOfTrailingZeros_17 : decode cJ20_numberOfTrailingZeros 17 = .ok (.iconst 1, 1) := dk_4 (dk_at dksJ20_numberOfTrailingZeros_0 17 rfl rfl)
theorem dJ20_numberOfTrailingZeros_18 : decode cJ20_numberOfTrailingZeros 18 = .ok (.istore_n 1, 1) := dk_60 (dk_at dksJ20_numberOfTrailingZeros_0 18 rfl rfl)
theorem dJ20_numberOfTrailingZeros_19 : decode cJ20_numberOfTrailingZeros 19 = .ok (.iload_n 0, 1) := dk_26 (dk_at dksJ20_numberOfTrailingZeros_0 19 rfl rfl)
theorem dJ20_numberOfTrailingZeros_20 : decode cJ20_numberOfTrailingZeros 20 = .ok (.ldc_w 264, 3) := dk_19 1 8 (dk_at dksJ20_numberOfTrailingZeros_0 20 rfl rfl)
theorem dJ20_numberOfTrailingZeros_23 : decode cJ20_numberOfTrailingZeros 23 = .ok (.if_icmp .le 11, 3) := dk_164 0 11 (dk_at dksJ20_numberOfTrailingZeros_1 0 rfl rfl)
theorem dJ20_numberOfTrailingZeros_26 : decode cJ20_numberOfTrailingZeros 26 = .ok (.iinc 1 16, 3) := dk_132 1 16 (dk_at dksJ20_numberOfTrailingZeros_1 3 rfl rfl)
theorem dJ20_numberOfTrailingZeros_29 : decode cJ20_numberOfTrailingZeros 29 = .ok (.iload_n 0, 1) := dk_26 (dk_at dksJ20_numberOfTrailingZeros_1 6 rfl rfl)
theorem dJ20_numberOfTrailingZeros_30 : decode cJ20_numberOfTrailingZeros 30 = .ok (.bipush 16, 2) := dk_16 16 (dk_at dksJ20_numberOfTrailingZeros_1 7 rfl rfl)
theorem dJ20_numberOfTrailingZeros_32 : decode cJ20_numberOfTrailingZeros 32 = .ok (.iushr, 1) := dk_124 (dk_at dksJ20_numberOfTrailingZeros_1 9 rfl rfl)
theorem dJ20_numberOfTrailingZeros_33 : decode cJ20_numberOfTrailingZeros 33 = .ok (.istore_n 0, 1) := dk_59 (dk_at dksJ20_numberOfTrailingZeros_1 10 rfl rfl)
theorem dJ20_numberOfTrailingZeros_34 : decode cJ20_numberOfTrailingZeros 34 = .ok (.iload_n 0, 1) := dk_26 (dk_at dksJ20_numberOfTrailingZeros_1 11 rfl rfl)
theorem dJ20_numberOfTrailingZeros_35 : decode cJ20_numberOfTrailingZeros 35 = .ok (.sipush 256, 3) := dk_17 1 0 (dk_at dksJ20_numberOfTrailingZeros_1 12 rfl rfl)
theorem dJ20_numberOfTrailingZeros_38 : decode cJ20_numberOfTrailingZeros 38 = .ok (.if_icmp .le 11, 3) := dk_164 0 11 (dk_at dksJ20_numberOfTrailingZeros_1 15 rfl rfl)
theorem dJ20_numberOfTrailingZeros_41 : decode cJ20_numberOfTrailingZeros 41 = .ok (.iinc 1 8, 3) := dk_132 1 8 (dk_at dksJ20_numberOfTrailingZeros_1 18 rfl rfl)
theorem dJ20_numberOfTrailingZeros_44 : decode cJ20_numberOfTrailingZeros 44 = .ok (.iload_n 0, 1) := dk_26 (dk_at dksJ20_numberOfTrailingZeros_1 21 rfl rfl)
theorem dJ20_numberOfTrailingZeros_45 : decode cJ20_numberOfTrailingZeros 45 = .ok (.bipush 8, 2) := dk_16 8 (dk_at dksJ20_numberOfTrailingZeros_1 22 rfl rfl)
theorem dJ20_numberOfTrailingZeros_47 : decode cJ20_numberOfTrailingZeros 47 = .ok (.iushr, 1) := dk_124 (dk_at dksJ20_numberOfTrailingZeros_2 0 rfl rfl)
theorem dJ20_numberOfTrailingZeros_48 : decode cJ20_numberOfTrailingZeros 48 = .ok (.istore_n 0, 1) := dk_59 (dk_at dksJ20_numberOfTrailingZeros_2 1 rfl rfl)
theorem dJ20_numberOfTrailingZeros_49 : decode cJ20_numberOfTrailingZeros 49 = .ok (.iload_n 0, 1) := dk_26 (dk_at dksJ20_numberOfTrailingZeros_2 2 rfl rfl)
theorem dJ20_numberOfTrailingZeros_50 : decode cJ20_numberOfTrailingZeros 50 = .ok (.bipush 16, 2) := dk_16 16 (dk_at dksJ20_numberOfTrailingZeros_2 3 rfl rfl)
theorem dJ20_numberOfTrailingZeros_52 : decode cJ20_numberOfTrailingZeros 52 = .ok (.if_icmp .le 10, 3) := dk_164 0 10 (dk_at dksJ20_numberOfTrailingZeros_2 5 rfl rfl)
theorem dJ20_numberOfTrailingZeros_55 : decode cJ20_numberOfTrailingZeros 55 = .ok (.iinc 1 4, 3) := dk_132 1 4 (dk_at dksJ20_numberOfTrailingZeros_2 8 rfl rfl)
theorem dJ20_numberOfTrailingZeros_58 : decode cJ20_numberOfTrailingZeros 58 = .ok (.iload_n 0, 1) := dk_26 (dk_at dksJ20_numberOfTrailingZeros_2 11 rfl rfl)
theorem dJ20_numberOfTrailingZeros_59 : decode cJ20_numberOfTrailingZeros 59 = .ok (.iconst 4, 1) := dk_7 (dk_at dksJ20_numberOfTrailingZeros_2 12 rfl rfl)
theorem dJ20_numberOfTrailingZeros_60 : decode cJ20_numberOfTrailingZeros 60 = .ok (.iushr, 1) := dk_124 (dk_at dksJ20_numberOfTrailingZeros_2 13 rfl rfl)
theorem dJ20_numberOfTrailingZeros_61 : decode cJ20_numberOfTrailingZeros 61 = .ok (.istore_n 0, 1) := dk_59 (dk_at dksJ20_numberOfTrailingZeros_2 14 rfl rfl)
theorem dJ20_numberOfTrailingZeros_62 : decode cJ20_numberOfTrailingZeros 62 = .ok (.iload_n 0, 1) := dk_26 (dk_at dksJ20_numberOfTrailingZeros_2 15 rfl rfl)
theorem dJ20_numberOfTrailingZeros_63 : decode cJ20_numberOfTrailingZeros 63 = .ok (.iconst 4, 1) := dk_7 (dk_at dksJ20_numberOfTrailingZeros_2 16 rfl rfl)
theorem dJ20_numberOfTrailingZeros_64 : decode cJ20_numberOfTrailingZeros 64 = .ok (.if_icmp .le 10, 3) := dk_164 0 10 (dk_at dksJ20_numberOfTrailingZeros_2 17 rfl rfl)
theorem dJ20_numberOfTrailingZeros_67 : decode cJ20_numberOfTrailingZeros 67 = .ok (.iinc 1 2, 3) := dk_132 1 2 (dk_at dksJ20_numberOfTrailingZeros_2 20 rfl rfl)
theorem dJ20_numberOfTrailingZeros_70 : decode cJ20_numberOfTrailingZeros 70 = .ok (.iload_n 0, 1) := dk_26 (dk_at dksJ20_numberOfTrailingZeros_2 23 rfl rfl)
theorem dJ20_numberOfTrailingZeros_71 : decode cJ20_numberOfTrailingZeros 71 = .ok (.iconst 2, 1) := dk_5 (dk_at dksJ20_numberOfTrailingZeros_3 0 rfl rfl)
theorem dJ20_numberOfTrailingZeros_72 : decode cJ20_numberOfTrailingZeros 72 = .ok (.iushr, 1) := dk_124 (dk_at dksJ20_numberOfTrailingZeros_3 1 rfl rfl)
theorem dJ20_numberOfTrailingZeros_73 : decode cJ20_numberOfTrailingZeros 73 = .ok (.istore_n 0, 1) := dk_59 (dk_at dksJ20_numberOfTrailingZeros_3 2 rfl rfl)
theorem dJ20_numberOfTrailingZeros_74 : decode cJ20_numberOfTrailingZeros 74 = .ok (.iload_n 1, 1) := dk_27 (dk_at dksJ20_numberOfTrailingZeros_3 3 rfl rfl)
theorem dJ20_numberOfTrailingZeros_75 : decode cJ20_numberOfTrailingZeros 75 = .ok (.iload_n 0, 1) := dk_26 (dk_at dksJ20_numberOfTrailingZeros_3 4 rfl rfl)
theorem dJ20_numberOfTrailingZeros_76 : decode cJ20_numberOfTrailingZeros 76 = .ok (.iconst 1, 1) := dk_4 (dk_at dksJ20_numberOfTrailingZeros_3 5 rfl rfl)
theorem dJ20_numberOfTrailingZeros_77 : decode cJ20_numberOfTrailingZeros 77 = .ok (.iushr, 1) := dk_124 (dk_at dksJ20_numberOfTrailingZeros_3 6 rfl rfl)
theorem dJ20_numberOfTrailingZeros_78 : decode cJ20_numberOfTrailingZeros 78 = .ok (.iadd, 1) := dk_96 (dk_at dksJ20_numberOfTrailingZeros_3 7 rfl rfl)
theorem dJ20_numberOfTrailingZeros_79 : decode cJ20_numberOfTrailingZeros 79 = .ok (.ireturn, 1) := dk_172 (dk_at dksJ20_numberOfTrailingZeros_3 8 rfl rfl)
abbrev cJ20_intValue : ByteArray := prog_27_method_27_code
def yJ20_intValue : MethodName := ⟨RJ20, "intValue", "()I"⟩
theorem dJ20_intValue_0 : decode cJ20_intValue 0 = .ok (.aload_n 0, 1) := by decide +kernel
theorem dJ20_intValue_1 : decode cJ20_intValue 1 = .ok (.getfield 205, 3) := by decide +kernel
theorem dJ20_intValue_4 : decode cJ20_intValue 4 = .ok (.ireturn, 1) := by decide +kernel
abbrev cJ20_equals : ByteArray := prog_27_method_34_code
def yJ20_equals : MethodName := ⟨RJ20, "equals", "(Ljava/lang/Object;)Z"⟩
def dkwJ20_equals_1 : List UInt8 := [167, 0, 4, 3, 172, 3, 172]
abbrev dktJ20_equals_1 : List UInt8 := dkwJ20_equals_1 ++ []
def dkwJ20_equals_0 : List UInt8 := [43, 193, 0, 1, 153, 0, 23, 42, 180, 0, 205, 43, 192, 0, 1, 182, 0, 211, 160, 0, 7, 4]
abbrev dktJ20_equals_0 : List UInt8 := dkwJ20_equals_0 ++ dktJ20_equals_1
theorem dksJ20_equals_0 : cJ20_equals.data.toList.drop 0 = dktJ20_equals_0 := by decide +kernel
theorem dksJ20_equals_1 : cJ20_equals.data.toList.drop 22 = dktJ20_equals_1 := dk_seg dksJ20_equals_0 22 rfl rfl
theorem dJ20_equals_0 : decode cJ20_equals 0 = .ok (.aload_n 1, 1) := dk_43 (dk_at dksJ20_equals_0 0 rfl rfl)
theorem dJ20_equals_1 : decode cJ20_equals 1 = .ok (.instanceof 1, 3) := dk_193 0 1 (dk_at dksJ20_equals_0 1 rfl rfl)
theorem dJ20_equals_4 : decode cJ20_equals 4 = .ok (.ifCond .eq 23, 3) := dk_153 0 23 (dk_at dksJ20_equals_0 4 rfl rfl)
theorem dJ20_equals_7 : decode cJ20_equals 7 = .ok (.aload_n 0, 1) := dk_42 (dk_at dksJ20_equals_0 7 rfl rfl)
theorem dJ20_equals_8 : decode cJ20_equals 8 = .ok (.getfield 205, 3) := dk_180 0 205 (dk_at dksJ20_equals_0 8 rfl rfl)
theorem dJ20_equals_11 : decode cJ20_equals 11 = .ok (.aload_n 1, 1) := dk_43 (dk_at dksJ20_equals_0 11 rfl rfl)
theorem dJ20_equals_12 : decode cJ20_equals 12 = .ok (.checkcast 1, 3) := dk_192 0 1 (dk_at dksJ20_equals_0 12 rfl rfl)
theorem dJ20_equals_15 : decode cJ20_equals 15 = .ok (.invokevirtual 211, 3) := dk_182 0 211 (dk_at dksJ20_equals_0 15 rfl rfl)
theorem dJ20_equals_18 : decode cJ20_equals 18 = .ok (.if_icmp .ne 7, 3) := dk_160 0 7 (dk_at dksJ20_equals_0 18 rfl rfl)
theorem dJ20_equals_21 : decode cJ20_equals 21 = .ok (.iconst 1, 1) := dk_4 (dk_at dksJ20_equals_0 21 rfl rfl)
theorem dJ20_equals_22 : decode cJ20_equals 22 = .ok (.goto 4, 3) := dk_167 0 4 (dk_at dksJ20_equals_1 0 rfl rfl)
theorem dJ20_equals_25 : decode cJ20_equals 25 = .ok (.iconst 0, 1) := dk_3 (dk_at dksJ20_equals_1 3 rfl rfl)
theorem dJ20_equals_26 : decode cJ20_equals 26 = .ok (.ireturn, 1) := dk_172 (dk_at dksJ20_equals_1 4 rfl rfl)
theorem dJ20_equals_27 : decode cJ20_equals 27 = .ok (.iconst 0, 1) := dk_3 (dk_at dksJ20_equals_1 5 rfl rfl)
theorem dJ20_equals_28 : decode cJ20_equals 28 = .ok (.ireturn, 1) := dk_172 (dk_at dksJ20_equals_1 6 rfl rfl)
theorem q125 : (Jvm.Cond.initialized "java/lang/Integer") ∈ lw_all := lw_g (lw_at lw_m1 31 rfl) rfl
theorem q708 : (Jvm.Cond.static ({ cls := "java/lang/Integer", name := "stringSize", desc := "(I)I" } : Jvm.MethodName)) ∈ lw_all := lw_g (lw_at lw_m3 134 rfl) rfl
theorem q709 : (Jvm.Cond.code ({ cls := "java/lang/Integer", name := "stringSize", desc := "(I)I" } : Jvm.MethodName) prog_27_method_13_code (4 : Nat) (Option.some Jvm.ClassFile.FieldType.int)) ∈ lw_all := lw_g (lw_at lw_m3 135 rfl) rfl
theorem q711 : (Jvm.Cond.static ({ cls := "java/lang/Integer", name := "getChars", desc := "(II[B)I" } : Jvm.MethodName)) ∈ lw_all := lw_g (lw_at lw_m3 137 rfl) rfl
theorem q712 : (Jvm.Cond.code ({ cls := "java/lang/Integer", name := "getChars", desc := "(II[B)I" } : Jvm.MethodName) prog_27_method_12_code (7 : Nat) (Option.some Jvm.ClassFile.FieldType.int)) ∈ lw_all := lw_g (lw_at lw_m3 138 rfl) rfl
theorem q713 : (Jvm.Cond.fieldLink "java/lang/Integer" (83 : Nat) "java/lang/Integer" "DigitOnes" "[B") ∈ lw_all := lw_g (lw_at lw_m3 139 rfl) rfl
theorem q714 : (Jvm.Cond.laysStatic "java/lang/Integer" "DigitOnes" "[B") ∈ lw_tbl := lw_at lw_m3 140 rfl
theorem q715 : (Jvm.Cond.fieldLink "java/lang/Integer" (87 : Nat) "java/lang/Integer" "DigitTens" "[B") ∈ lw_all := lw_g (lw_at lw_m3 141 rfl) rfl
theorem q716 : (Jvm.Cond.laysStatic "java/lang/Integer" "DigitTens" "[B") ∈ lw_tbl := lw_at lw_m3 142 rfl
theorem q1198 : (Jvm.Cond.static ({ cls := "java/lang/Integer", name := "valueOf", desc := "(I)Ljava/lang/Integer;" } : Jvm.MethodName)) ∈ lw_all := lw_g (lw_at lw_m5 144 rfl) rfl
theorem q1199 : (Jvm.Cond.code ({ cls := "java/lang/Integer", name := "valueOf", desc := "(I)Ljava/lang/Integer;" } : Jvm.MethodName) prog_27_method_22_code (1 : Nat) (Option.some (Jvm.ClassFile.FieldType.object "java/lang/Integer"))) ∈ lw_all := lw_g (lw_at lw_m5 145 rfl) rfl
theorem q1200 : (Jvm.Cond.fieldLink "java/lang/Integer" (191 : Nat) "java/lang/Integer$IntegerCache" "high" "I") ∈ lw_all := lw_g (lw_at lw_m5 146 rfl) rfl
theorem q1202 : (Jvm.Cond.fieldLink "java/lang/Integer" (195 : Nat) "java/lang/Integer$IntegerCache" "cache" "[Ljava/lang/Integer;") ∈ lw_all := lw_g (lw_at lw_m5 148 rfl) rfl
theorem q1204 : (Jvm.Cond.classLink "java/lang/Integer" (1 : Nat) "java/lang/Integer") ∈ lw_all := lw_g (lw_at lw_m5 150 rfl) rfl
theorem q1205 : (Jvm.Cond.instantiable "java/lang/Integer" (1 : Nat)) ∈ lw_all := lw_g (lw_at lw_m5 151 rfl) rfl
theorem q1206 : (Jvm.Cond.methodLink "java/lang/Integer" (199 : Nat) ({ cls := "java/lang/Integer", name := "<init>", desc := "(I)V" } : Jvm.MethodName)) ∈ lw_all := lw_g (lw_at lw_m5 152 rfl) rfl
theorem q1207 : (Jvm.Cond.instanceMethod ({ cls := "java/lang/Integer", name := "<init>", desc := "(I)V" } : Jvm.MethodName)) ∈ lw_all := lw_g (lw_at lw_m5 153 rfl) rfl
theorem q1208 : (Jvm.Cond.code ({ cls := "java/lang/Integer", name := "<init>", desc := "(I)V" } : Jvm.MethodName) prog_27_method_23_code (2 : Nat) (Option.none : Option Jvm.ClassFile.FieldType)) ∈ lw_all := lw_g (lw_at lw_m5 154 rfl) rfl
theorem q1209 : (Jvm.Cond.methodLink "java/lang/Integer" (202 : Nat) ({ cls := "java/lang/Number", name := "<init>", desc := "()V" } : Jvm.MethodName)) ∈ lw_all := lw_g (lw_at lw_m5 155 rfl) rfl
theorem q1213 : (Jvm.Cond.fieldLink "java/lang/Integer" (205 : Nat) "java/lang/Integer" "value" "I") ∈ lw_all := lw_g (lw_at lw_m5 159 rfl) rfl
theorem q1214 : (Jvm.Cond.laysFinal "java/lang/Integer" "java/lang/Integer" "value" "I") ∈ lw_all := lw_g (lw_at lw_m5 160 rfl) rfl
theorem q1215 : (Jvm.Cond.soleField "java/lang/Integer" "value") ∈ lw_all := lw_g (lw_at lw_m5 161 rfl) rfl
theorem q1216 : (Jvm.Cond.superclass "java/lang/Integer" "java/lang/Number") ∈ lw_all := lw_g (lw_at lw_m5 162 rfl) rfl
theorem q1241 : (Jvm.Cond.castable "java/lang/Integer" "java/lang/Comparable") ∈ lw_tbl := lw_at lw_m5 187 rfl
theorem q1242 : (Jvm.Cond.selects "java/lang/Integer" ({ cls := "java/lang/Comparable", name := "compareTo", desc := "(Ljava/lang/Object;)I" } : Jvm.MethodName) ({ cls := "java/lang/Integer", name := "compareTo", desc := "(Ljava/lang/Object;)I" } : Jvm.MethodName)) ∈ lw_all := lw_g (lw_at lw_m5 188 rfl) rfl
theorem q1243 : (Jvm.Cond.unhidden "java/lang/Integer" "compareTo" "(Ljava/lang/Object;)I") ∈ lw_tbl := lw_at lw_m5 189 rfl
theorem q1244 : (Jvm.Cond.instanceMethod ({ cls := "java/lang/Integer", name := "compareTo", desc := "(Ljava/lang/Object;)I" } : Jvm.MethodName)) ∈ lw_all := lw_g (lw_at lw_m5 190 rfl) rfl
theorem q1245 : (Jvm.Cond.publicMethod ({ cls := "java/lang/Integer", name := "compareTo", desc := "(Ljava/lang/Object;)I" } : Jvm.MethodName)) ∈ lw_tbl := lw_at lw_m5 191 rfl
theorem q1246 : (Jvm.Cond.code ({ cls := "java/lang/Integer", name := "compareTo", desc := "(Ljava/lang/Object;)I" } : Jvm.MethodName) prog_27_method_63_code (2 : Nat) (Option.some Jvm.ClassFile.FieldType.int)) ∈ lw_all := lw_g (lw_at lw_m5 192 rfl) rfl
theorem q1247 : (Jvm.Cond.methodLink "java/lang/Integer" (284 : Nat) ({ cls := "java/lang/Integer", name := "compareTo", desc := "(Ljava/lang/Integer;)I" } : Jvm.MethodName)) ∈ lw_all := lw_g (lw_at lw_m5 193 rfl) rfl
theorem q1248 : (Jvm.Cond.instanceMethod ({ cls := "java/lang/Integer", name := "compareTo", desc := "(Ljava/lang/Integer;)I" } : Jvm.MethodName)) ∈ lw_all := lw_g (lw_at lw_m5 194 rfl) rfl
theorem q1249 : (Jvm.Cond.selects "java/lang/Integer" ({ cls := "java/lang/Integer", name := "compareTo", desc := "(Ljava/lang/Integer;)I" } : Jvm.MethodName) ({ cls := "java/lang/Integer", name := "compareTo", desc := "(Ljava/lang/Integer;)I" } : Jvm.MethodName)) ∈ lw_all := lw_g (lw_at lw_m5 195 rfl) rfl
theorem q1250 : (Jvm.Cond.code ({ cls := "java/lang/Integer", name := "compareTo", desc := "(Ljava/lang/Integer;)I" } : Jvm.MethodName) prog_27_method_39_code (2 : Nat) (Option.some Jvm.ClassFile.FieldType.int)) ∈ lw_all := lw_g (lw_at lw_m5 196 rfl) rfl
theorem q1251 : (Jvm.Cond.methodLink "java/lang/Integer" (259 : Nat) ({ cls := "java/lang/Integer", name := "compare", desc := "(II)I" } : Jvm.MethodName)) ∈ lw_all := lw_g (lw_at lw_m5 197 rfl) rfl
theorem q1252 : (Jvm.Cond.static ({ cls := "java/lang/Integer", name := "compare", desc := "(II)I" } : Jvm.MethodName)) ∈ lw_all := lw_g (lw_at lw_m5 198 rfl) rfl
theorem q1253 : (Jvm.Cond.code ({ cls := "java/lang/Integer", name := "compare", desc := "(II)I" } : Jvm.MethodName) prog_27_method_40_code (2 : Nat) (Option.some Jvm.ClassFile.FieldType.int)) ∈ lw_all := lw_g (lw_at lw_m5 199 rfl) rfl
theorem q1343 : (Jvm.Cond.static ({ cls := "java/lang/Integer", name := "numberOfLeadingZeros", desc := "(I)I" } : Jvm.MethodName)) ∈ lw_all := lw_g (lw_at lw_m6 49 rfl) rfl
theorem q1344 : (Jvm.Cond.code ({ cls := "java/lang/Integer", name := "numberOfLeadingZeros", desc := "(I)I" } : Jvm.MethodName) prog_27_method_47_code (2 : Nat) (Option.some Jvm.ClassFile.FieldType.int)) ∈ lw_all := lw_g (lw_at lw_m6 50 rfl) rfl
theorem q1345 : (Jvm.Cond.constant "java/lang/Integer" (264 : Nat) (65536 : Int32)) ∈ lw_all := lw_g (lw_at lw_m6 51 rfl) rfl
theorem q1352 : (Jvm.Cond.static ({ cls := "java/lang/Integer", name := "numberOfTrailingZeros", desc := "(I)I" } : Jvm.MethodName)) ∈ lw_all := lw_g (lw_at lw_m6 58 rfl) rfl
theorem q1353 : (Jvm.Cond.code ({ cls := "java/lang/Integer", name := "numberOfTrailingZeros", desc := "(I)I" } : Jvm.MethodName) prog_27_method_48_code (2 : Nat) (Option.some Jvm.ClassFile.FieldType.int)) ∈ lw_all := lw_g (lw_at lw_m6 59 rfl) rfl
theorem q1498 : (Jvm.Cond.selects "java/lang/Integer" ({ cls := "java/lang/Object", name := "getClass", desc := "()Ljava/lang/Class;" } : Jvm.MethodName) ({ cls := "java/lang/Object", name := "getClass", desc := "()Ljava/lang/Class;" } : Jvm.MethodName)) ∈ lw_all := lw_g (lw_at lw_m6 204 rfl) rfl
theorem q1622 : (Jvm.Cond.instanceMethod ({ cls := "java/lang/Integer", name := "intValue", desc := "()I" } : Jvm.MethodName)) ∈ lw_all := lw_g (lw_at lw_m7 88 rfl) rfl
theorem q1623 : (Jvm.Cond.selects "java/lang/Integer" ({ cls := "java/lang/Integer", name := "intValue", desc := "()I" } : Jvm.MethodName) ({ cls := "java/lang/Integer", name := "intValue", desc := "()I" } : Jvm.MethodName)) ∈ lw_all := lw_g (lw_at lw_m7 89 rfl) rfl
theorem q1624 : (Jvm.Cond.code ({ cls := "java/lang/Integer", name := "intValue", desc := "()I" } : Jvm.MethodName) prog_27_method_27_code (1 : Nat) (Option.some Jvm.ClassFile.FieldType.int)) ∈ lw_all := lw_g (lw_at lw_m7 90 rfl) rfl
theorem q2391 : (Jvm.Cond.selects "java/lang/Integer" ({ cls := "java/lang/Object", name := "equals", desc := "(Ljava/lang/Object;)Z" } : Jvm.MethodName) ({ cls := "java/lang/Integer", name := "equals", desc := "(Ljava/lang/Object;)Z" } : Jvm.MethodName)) ∈ lw_all := lw_g (lw_at lw_m10 137 rfl) rfl
theorem q2392 : (Jvm.Cond.instanceMethod ({ cls := "java/lang/Integer", name := "equals", desc := "(Ljava/lang/Object;)Z" } : Jvm.MethodName)) ∈ lw_all := lw_g (lw_at lw_m10 138 rfl) rfl
theorem q2393 : (Jvm.Cond.code ({ cls := "java/lang/Integer", name := "equals", desc := "(Ljava/lang/Object;)Z" } : Jvm.MethodName) prog_27_method_34_code (2 : Nat) (Option.some Jvm.ClassFile.FieldType.boolean)) ∈ lw_all := lw_g (lw_at lw_m10 139 rfl) rfl
theorem q2394 : (Jvm.Cond.methodLink "java/lang/Integer" (211 : Nat) ({ cls := "java/lang/Integer", name := "intValue", desc := "()I" } : Jvm.MethodName)) ∈ lw_all := lw_g (lw_at lw_m10 140 rfl) rfl
theorem q3162 : (Jvm.Cond.castable "java/lang/Integer" "java/lang/Object") ∈ lw_tbl := lw_at lw_m13 188 rfl
theorem in_J20 : ∀ w ∈ wsJ200, w ∈ lw_all := lw_in wsJ200 [1214] (by decide +kernel) (by decide +kernel)

/-! java/util/ImmutableCollections -/
set_option maxRecDepth 100000
def RJ21 : String := "java/util/ImmutableCollections"
abbrev cJ21_listFromTrustedArray : ByteArray := prog_58_method_5_code
def yJ21_listFromTrustedArray : MethodName := ⟨RJ21, "listFromTrustedArray", "([Ljava/lang/Object;)Ljava/util/List;"⟩
def dkwJ21_listFromTrustedArray_5 : List UInt8 := [3, 50, 42, 4, 50, 183, 0, 67, 167, 0, 12, 187, 0, 12, 89, 42, 3, 183, 0, 43, 176]
abbrev dktJ21_listFromTrustedArray_5 : List UInt8 := dkwJ21_listFromTrustedArray_5 ++ []
def dkwJ21_listFromTrustedArray_4 : List UInt8 := [178, 0, 60, 167, 0, 41, 187, 0, 10, 89, 42, 3, 50, 183, 0, 64, 167, 0, 28, 187, 0, 10, 89, 42]
abbrev dktJ21_listFromTrustedArray_4 : List UInt8 := dkwJ21_listFromTrustedArray_4 ++ dktJ21_listFromTrustedArray_5
def dkwJ21_listFromTrustedArray_3 : List UInt8 := [170, 0, 0, 0, 0, 61, 0, 0, 0, 0, 0, 0, 0, 2, 0, 0, 0, 26, 0, 0, 0, 32, 0, 0, 0, 45]
abbrev dktJ21_listFromTrustedArray_3 : List UInt8 := dkwJ21_listFromTrustedArray_3 ++ dktJ21_listFromTrustedArray_4
def dkwJ21_listFromTrustedArray_2 : List UInt8 := [132, 3, 1, 167, 255, 237, 42, 190]
abbrev dktJ21_listFromTrustedArray_2 : List UInt8 := dkwJ21_listFromTrustedArray_2 ++ dktJ21_listFromTrustedArray_3
def dkwJ21_listFromTrustedArray_1 : List UInt8 := [76, 43, 190, 61, 3, 62, 29, 28, 162, 0, 20, 43, 29, 50, 58, 4, 25, 4, 184, 0, 37, 87]
abbrev dktJ21_listFromTrustedArray_1 : List UInt8 := dkwJ21_listFromTrustedArray_1 ++ dktJ21_listFromTrustedArray_2
def dkwJ21_listFromTrustedArray_0 : List UInt8 := [178, 0, 46, 154, 0, 20, 42, 182, 0, 51, 18, 55, 165, 0, 11, 187, 0, 57, 89, 183, 0, 59, 191, 42]
abbrev dktJ21_listFromTrustedArray_0 : List UInt8 := dkwJ21_listFromTrustedArray_0 ++ dktJ21_listFromTrustedArray_1
theorem dksJ21_listFromTrustedArray_0 : cJ21_listFromTrustedArray.data.toList.drop 0 = dktJ21_listFromTrustedArray_0 := by decide +kernel
theorem dksJ21_listFromTrustedArray_1 : cJ21_listFromTrustedArray.data.toList.drop 24 = dktJ21_listFromTrustedArray_1 := dk_seg dksJ21_listFromTrustedArray_0 24 rfl rfl
theorem dksJ21_listFromTrustedArray_2 : cJ21_listFromTrustedArray.data.toList.drop 46 = dktJ21_listFromTrustedArray_2 := dk_seg dksJ21_listFromTrustedArray_1 22 rfl rfl
theorem dksJ21_listFromTrustedArray_3 : cJ21_listFromTrustedArray.data.toList.drop 54 = dktJ21_listFromTrustedArray_3 := dk_seg dksJ21_listFromTrustedArray_2 8 rfl rfl
theorem dksJ21_listFromTrustedArray_4 : cJ21_listFromTrustedArray.data.toList.drop 80 = dktJ21_listFromTrustedArray_4 := dk_seg dksJ21_listFromTrustedArray_3 26 rfl rfl
theorem dksJ21_listFromTrustedArray_5 : cJ21_listFromTrustedArray.data.toList.drop 104 = dktJ21_listFromTrustedArray_5 := dk_seg dksJ21_listFromTrustedArray_4 24 rfl rfl
theorem dJ21_listFromTrustedArray_0 : decode cJ21_listFromTrustedArray 0 = .ok (.getstatic 46, 3) := dk_178 0 46 (dk_at dksJ21_listFromTrustedArray_0 0 rfl rfl)
theorem dJ21_listFromTrustedArray_3 : decode cJ21_listFromTrustedArray 3 = .ok (.ifCond .ne 20, 3) := dk_154 0 20 (dk_at dksJ21_listFromTrustedArray_0 3 rfl rfl)
theorem dJ21_listFromTrustedArray_6 : decode cJ21_listFromTrustedArray 6 = .ok (.aload_n 0, 1) := dk_42 (dk_at dksJ21_listFromTrustedArray_0 6 rfl rfl)
theorem dJ21_listFromTrustedArray_7 : decode cJ21_listFromTrustedArray 7 = .ok (.invokevirtual 51, 3) := dk_182 0 51 (dk_at dksJ21_listFromTrustedArray_0 7 rfl rfl)
theorem dJ21_listFromTrustedArray_10 : decode cJ21_listFromTrustedArray 10 = .ok (.ldc 55, 2) := dk_18 55 (dk_at dksJ21_listFromTrustedArray_0 10 rfl rfl)
theorem dJ21_listFromTrustedArray_12 : decode cJ21_listFromTrustedArray 12 = .ok (.if_acmp .eq 11, 3) := dk_165 0 11 (dk_at dksJ21_listFromTrustedArray_0 12 rfl rfl)
theorem dJ21_listFromTrustedArray_15 : decode cJ21_listFromTrustedArray 15 = .ok (.new 57, 3) := dk_187 0 57 (dk_at dksJ21_listFromTrustedArray_0 15 rfl rfl)
theorem dJ21_listFromTrustedArray_18 : decode cJ21_listFromTrustedArray 18 = .ok (.dup, 1) := dk_89 (dk_at dksJ21_listFromTrustedArray_0 18 rfl rfl)
theorem dJ21_listFromTrustedArray_19 : decode cJ21_listFromTrustedArray 19 = .ok (.invokespecial 59, 3) := dk_183 0 59 (dk_at dksJ21_listFromTrustedArray_0 19 rfl rfl)
theorem dJ21_listFromTrustedArray_22 : decode cJ21_listFromTrustedArray 22 = .ok (.athrow, 1) := dk_191 (dk_at dksJ21_listFromTrustedArray_0 22 rfl rfl)
theorem dJ21_listFromTrustedArray_23 : decode cJ21_listFromTrustedArray 23 = .ok (.aload_n 0, 1) := dk_42 (dk_at dksJ21_listFromTrustedArray_0 23 rfl rfl)
theorem dJ21_listFromTrustedArray_24 : decode cJ21_listFromTrustedArray 24 = .ok (.astore_n 1, 1) := dk_76 (dk_at dksJ21_listFromTrustedArray_1 0 rfl rfl)
theorem dJ21_listFromTrustedArray_25 : decode cJ21_listFromTrustedArray 25 = .ok (.aload_n 1, 1) := dk_43 (dk_at dksJ21_listFromTrustedArray_1 1 rfl rfl)
theorem dJ21_listFromTrustedArray_26 : decode cJ21_listFromTrustedArray 26 = .ok (.arraylength, 1) := dk_190 (dk_at dksJ21_listFromTrustedArray_1 2 rfl rfl)
theorem dJ21_listFromTrustedArray_27 : decode cJ21_listFromTrustedArray 27 = .ok (.istore_n 2, 1) := dk_61 (dk_at dksJ21_listFromTrustedArray_1 3 rfl rfl)
theorem dJ21_listFromTrustedArray_28 : decode cJ21_listFromTrustedArray 28 = .ok (.iconst 0, 1) := dk_3 (dk_at dksJ21_listFromTrustedArray_1 4 rfl rfl)
theorem dJ21_listFromTrustedArray_29 : decode cJ21_listFromTrustedArray 29 = .ok (.istore_n 3, 1) := dk_62 (dk_at dksJ21_listFromTrustedArray_1 5 rfl rfl)
theorem dJ21_listFromTrustedArray_30 : decode cJ21_listFromTrustedArray 30 = .ok (.iload_n 3, 1) := dk_29 (dk_at dksJ21_listFromTrustedArray_1 6 rfl rfl)
theorem dJ21_listFromTrustedArray_31 : decode cJ21_listFromTrustedArray 31 = .ok (.iload_n 2, 1) := dk_28 (dk_at dksJ21_listFromTrustedArray_1 7 rfl rfl)
theorem dJ21_listFromTrustedArray_32 : decode cJ21_listFromTrustedArray 32 = .ok (.if_icmp .ge 20, 3) := dk_162 0 20 (dk_at dksJ21_listFromTrustedArray_1 8 rfl rfl)
theorem dJ21_listFromTrustedArray_35 : decode cJ21_listFromTrustedArray 35 = .ok (.aload_n 1, 1) := dk_43 (dk_at dksJ21_listFromTrustedArray_1 11 rfl rfl)
theorem dJ21_listFromTrustedArray_36 : decode cJ21_listFromTrustedArray 36 = .ok (.iload_n 3, 1) := dk_29 (dk_at dksJ21_listFromTrustedArray_1 12 rfl rfl)
theorem dJ21_listFromTrustedArray_37 : decode cJ21_listFromTrustedArray 37 = .ok (.aaload, 1) := dk_50 (dk_at dksJ21_listFromTrustedArray_1 13 rfl rfl)
theorem dJ21_listFromTrustedArray_38 : decode cJ21_listFromTrustedArray 38 = .ok (.astore 4, 2) := dk_58 4 (dk_at dksJ21_listFromTrustedArray_1 14 rfl rfl)
theorem dJ21_listFromTrustedArray_40 : decode cJ21_listFromTrustedArray 40 = .ok (.aload 4, 2) := dk_25 4 (dk_at dksJ21_listFromTrustedArray_1 16 rfl rfl)
theorem dJ21_listFromTrustedArray_42 : decode cJ21_listFromTrustedArray 42 = .ok (.invokestatic 37, 3) := dk_184 0 37 (dk_at dksJ21_listFromTrustedArray_1 18 rfl rfl)
theorem dJ21_listFromTrustedArray_45 : decode cJ21_listFromTrustedArray 45 = .ok (.pop, 1) := dk_87 (dk_at dksJ21_listFromTrustedArray_1 21 rfl rfl)
theorem dJ21_listFromTrustedArray_46 : decode cJ21_listFromTrustedArray 46 = .ok (.iinc 3 1, 3) := dk_132 3 1 (dk_at dksJ21_listFromTrustedArray_2 0 rfl rfl)
theorem dJ21_listFromTrustedArray_49 : decode cJ21_listFromTrustedArray 49 = .ok (.goto (-19), 3) := dk_167 255 237 (dk_at dksJ21_listFromTrustedArray_2 3 rfl rfl)
theorem dJ21_listFromTrustedArray_52 : decode cJ21_listFromTrustedArray 52 = .ok (.aload_n 0, 1) := dk_42 (dk_at dksJ21_listFromTrustedArray_2 6 rfl rfl)
theorem dJ21_listFromTrustedArray_53 : decode cJ21_listFromTrustedArray 53 = .ok (.arraylength, 1) := dk_190 (dk_at dksJ21_listFromTrustedArray_2 7 rfl rfl)
theorem dJ21_listFromTrustedArray_54 : decode cJ21_listFromTrustedArray 54 = .ok (.tableswitch 61 0 2 #[26, 32, 45], 26) := by decide +kernel
theorem dJ21_listFromTrustedArray_80 : decode cJ21_listFromTrustedArray 80 = .ok (.getstatic 60, 3) := dk_178 0 60 (dk_at dksJ21_listFromTrustedArray_4 0 rfl rfl)
theorem dJ21_listFromTrustedArray_83 : decode cJ21_listFromTrustedArray 83 = .ok (.goto 41, 3) := dk_167 0 41 (dk_at dksJ21_listFromTrustedArray_4 3 rfl rfl)
theorem dJ21_listFromTrustedArray_86 : decode cJ21_listFromTrustedArray 86 = .ok (.new 10, 3) := dk_187 0 10 (dk_at dksJ21_listFromTrustedArray_4 6 rfl rfl)
theorem dJ21_listFromTrustedArray_89 : decode cJ21_listFromTrustedArray 89 = .ok (.dup, 1) := dk_89 (dk_at dksJ21_listFromTrustedArray_4 9 rfl rfl)
theorem dJ21_listFromTrustedArray_90 : decode cJ21_listFromTrustedArray 90 = .ok (.aload_n 0, 1) := dk_42 (dk_at dksJ21_listFromTrustedArray_4 10 rfl rfl)
theorem dJ21_listFromTrustedArray_91 : decode cJ21_listFromTrustedArray 91 = .ok (.iconst 0, 1) := dk_3 (dk_at dksJ21_listFromTrustedArray_4 11 rfl rfl)
theorem dJ21_listFromTrustedArray_92 : decode cJ21_listFromTrustedArray 92 = .ok (.aaload, 1) := dk_50 (dk_at dksJ21_listFromTrustedArray_4 12 rfl rfl)
theorem dJ21_listFromTrustedArray_93 : decode cJ21_listFromTrustedArray 93 = .ok (.invokespecial 64, 3) := dk_183 0 64 (dk_at dksJ21_listFromTrustedArray_4 13 rfl rfl)
theorem dJ21_listFromTrustedArray_96 : decode cJ21_listFromTrustedArray 96 = .ok (.goto 28, 3) := dk_167 0 28 (dk_at dksJ21_listFromTrustedArray_4 16 rfl rfl)
theorem dJ21_listFromTrustedArray_99 : decode cJ21_listFromTrustedArray 99 = .ok (.new 10, 3) := dk_187 0 10 (dk_at dksJ21_listFromTrustedArray_4 19 rfl rfl)
theorem dJ21_listFromTrustedArray_102 : decode cJ21_listFromTrustedArray 102 = .ok (.dup, 1) := dk_89 (dk_at dksJ21_listFromTrustedArray_4 22 rfl rfl)
theorem dJ21_listFromTrustedArray_103 : decode cJ21_listFromTrustedArray 103 = .ok (.aload_n 0, 1) := dk_42 (dk_at dksJ21_listFromTrustedArray_4 23 rfl rfl)
theorem dJ21_listFromTrustedArray_104 : decode cJ21_listFromTrustedArray 104 = .ok (.iconst 0, 1) := dk_3 (dk_at dksJ21_listFromTrustedArray_5 0 rfl rfl)
theorem dJ21_listFromTrustedArray_105 : decode cJ21_listFromTrustedArray 105 = .ok (.aaload, 1) := dk_50 (dk_at dksJ21_listFromTrustedArray_5 1 rfl rfl)
theorem dJ21_listFromTrustedArray_106 : decode cJ21_listFromTrustedArray 106 = .ok (.aload_n 0, 1) := dk_42 (dk_at dksJ21_listFromTrustedArray_5 2 rfl rfl)
theorem dJ21_listFromTrustedArray_107 : decode cJ21_listFromTrustedArray 107 = .ok (.iconst 1, 1) := dk_4 (dk_at dksJ21_listFromTrustedArray_5 3 rfl rfl)
theorem dJ21_listFromTrustedArray_108 : decode cJ21_listFromTrustedArray 108 = .ok (.aaload, 1) := dk_50 (dk_at dksJ21_listFromTrustedArray_5 4 rfl rfl)
theorem dJ21_listFromTrustedArray_109 : decode cJ21_listFromTrustedArray 109 = .ok (.invokespecial 67, 3) := dk_183 0 67 (dk_at dksJ21_listFromTrustedArray_5 5 rfl rfl)
theorem dJ21_listFromTrustedArray_112 : decode cJ21_listFromTrustedArray 112 = .ok (.goto 12, 3) := dk_167 0 12 (dk_at dksJ21_listFromTrustedArray_5 8 rfl rfl)
theorem dJ21_listFromTrustedArray_115 : decode cJ21_listFromTrustedArray 115 = .ok (.new 12, 3) := dk_187 0 12 (dk_at dksJ21_listFromTrustedArray_5 11 rfl rfl)
theorem dJ21_listFromTrustedArray_118 : decode cJ21_listFromTrustedArray 118 = .ok (.dup, 1) := dk_89 (dk_at dksJ21_listFromTrustedArray_5 14 rfl rfl)
theorem dJ21_listFromTrustedArray_119 : decode cJ21_listFromTrustedArray 119 = .ok (.aload_n 0, 1) := dk_42 (dk_at dksJ21_listFromTrustedArray_5 15 rfl rfl)
theorem dJ21_listFromTrustedArray_120 : decode cJ21_listFromTrustedArray 120 = .ok (.iconst 0, 1) := dk_3 (dk_at dksJ21_listFromTrustedArray_5 16 rfl rfl)
theorem dJ21_listFromTrustedArray_121 : decode cJ21_listFromTrustedArray 121 = .ok (.invokespecial 43, 3) := dk_183 0 43 (dk_at dksJ21_listFromTrustedArray_5 17 rfl rfl)
theorem dJ21_listFromTrustedArray_124 : decode cJ21_listFromTrustedArray 124 = .ok (.areturn, 1) := dk_176 (dk_at dksJ21_listFromTrustedArray_5 20 rfl rfl)
theorem q127 : (Jvm.Cond.initialized "java/util/ImmutableCollections") ∈ lw_all := lw_g (lw_at lw_m1 33 rfl) rfl
theorem q447 : (Jvm.Cond.laysStatic "java/util/ImmutableCollections" "EMPTY" "Ljava/lang/Object;") ∈ lw_tbl := lw_at lw_m2 113 rfl
theorem q2308 : (Jvm.Cond.static ({ cls := "java/util/ImmutableCollections", name := "listFromTrustedArray", desc := "([Ljava/lang/Object;)Ljava/util/List;" } : Jvm.MethodName)) ∈ lw_all := lw_g (lw_at lw_m10 54 rfl) rfl
theorem q2309 : (Jvm.Cond.code ({ cls := "java/util/ImmutableCollections", name := "listFromTrustedArray", desc := "([Ljava/lang/Object;)Ljava/util/List;" } : Jvm.MethodName) prog_58_method_5_code (5 : Nat) (Option.some (Jvm.ClassFile.FieldType.object "java/util/List"))) ∈ lw_all := lw_g (lw_at lw_m10 55 rfl) rfl
theorem q2310 : (Jvm.Cond.fieldLink "java/util/ImmutableCollections" (46 : Nat) "java/util/ImmutableCollections" "$assertionsDisabled" "Z") ∈ lw_all := lw_g (lw_at lw_m10 56 rfl) rfl
theorem q2311 : (Jvm.Cond.laysStatic "java/util/ImmutableCollections" "$assertionsDisabled" "Z") ∈ lw_tbl := lw_at lw_m10 57 rfl
theorem q2312 : (Jvm.Cond.methodLink "java/util/ImmutableCollections" (51 : Nat) ({ cls := "java/lang/Object", name := "getClass", desc := "()Ljava/lang/Class;" } : Jvm.MethodName)) ∈ lw_all := lw_g (lw_at lw_m10 58 rfl) rfl
theorem q2313 : (Jvm.Cond.classLink "java/util/ImmutableCollections" (55 : Nat) "[Ljava/lang/Object;") ∈ lw_all := lw_g (lw_at lw_m10 59 rfl) rfl
theorem q2314 : (Jvm.Cond.methodLink "java/util/ImmutableCollections" (37 : Nat) ({ cls := "java/util/Objects", name := "requireNonNull", desc := "(Ljava/lang/Object;)Ljava/lang/Object;" } : Jvm.MethodName)) ∈ lw_all := lw_g (lw_at lw_m10 60 rfl) rfl
theorem q2315 : (Jvm.Cond.fieldLink "java/util/ImmutableCollections" (60 : Nat) "java/util/ImmutableCollections" "EMPTY_LIST" "Ljava/util/ImmutableCollections$ListN;") ∈ lw_all := lw_g (lw_at lw_m10 61 rfl) rfl
theorem q2316 : (Jvm.Cond.laysStatic "java/util/ImmutableCollections" "EMPTY_LIST" "Ljava/util/ImmutableCollections$ListN;") ∈ lw_tbl := lw_at lw_m10 62 rfl
theorem q2317 : (Jvm.Cond.classLink "java/util/ImmutableCollections" (10 : Nat) "java/util/ImmutableCollections$List12") ∈ lw_all := lw_g (lw_at lw_m10 63 rfl) rfl
theorem q2319 : (Jvm.Cond.methodLink "java/util/ImmutableCollections" (64 : Nat) ({ cls := "java/util/ImmutableCollections$List12", name := "<init>", desc := "(Ljava/lang/Object;)V" } : Jvm.MethodName)) ∈ lw_all := lw_g (lw_at lw_m10 65 rfl) rfl
theorem q2337 : (Jvm.Cond.methodLink "java/util/ImmutableCollections" (67 : Nat) ({ cls := "java/util/ImmutableCollections$List12", name := "<init>", desc := "(Ljava/lang/Object;Ljava/lang/Object;)V" } : Jvm.MethodName)) ∈ lw_all := lw_g (lw_at lw_m10 83 rfl) rfl
theorem q2340 : (Jvm.Cond.classLink "java/util/ImmutableCollections" (12 : Nat) "java/util/ImmutableCollections$ListN") ∈ lw_all := lw_g (lw_at lw_m10 86 rfl) rfl
theorem q2342 : (Jvm.Cond.methodLinkNest "java/util/ImmutableCollections" (43 : Nat) ({ cls := "java/util/ImmutableCollections$ListN", name := "<init>", desc := "([Ljava/lang/Object;Z)V" } : Jvm.MethodName) "java/util/ImmutableCollections") ∈ lw_tbl := lw_at lw_m10 88 rfl

/-! java/util/BitSet -/
set_option maxRecDepth 100000
def RJ22 : String := "java/util/BitSet"
def TJ22 : u_T := fun k => match k with
  | 0 => ("java/util/BitSet", "words", "[J", false)
  | 1 => ("java/util/BitSet", "wordsInUse", "I", false)
  | _ => ("java/util/BitSet", "sizeIsSticky", "Z", false)
def tyJ22 : Nat → FieldType := fun k => match k with
  | 0 => .array .long
  | 1 => .int
  | _ => .boolean
abbrev wsJ220 : List Cond := u_ws RJ22 TJ22 3
theorem nmJ22 : ∀ a, a < 3 → ∀ b, b < 3 → a ≠ b → (TJ22 a).2.1 ≠ (TJ22 b).2.1 := by decide +kernel
theorem tyJ22_ok : ∀ k, k < 3 → parseFieldDescriptor (TJ22 k).2.2.1 = some (tyJ22 k) := by decide +kernel
abbrev cJ22_init : ByteArray := prog_54_method_4_code
def yJ22_init : MethodName := ⟨RJ22, "<init>", "()V"⟩
def dkwJ22_init_1 : List UInt8 := [181, 0, 24, 177]
abbrev dktJ22_init_1 : List UInt8 := dkwJ22_init_1 ++ []
def dkwJ22_init_0 : List UInt8 := [42, 183, 0, 21, 42, 3, 181, 0, 7, 42, 3, 181, 0, 24, 42, 16, 64, 182, 0, 27, 42, 3]
abbrev dktJ22_init_0 : List UInt8 := dkwJ22_init_0 ++ dktJ22_init_1
theorem dksJ22_init_0 : cJ22_init.data.toList.drop 0 = dktJ22_init_0 := by decide +kernel
theorem dksJ22_init_1 : cJ22_init.data.toList.drop 22 = dktJ22_init_1 := dk_seg dksJ22_init_0 22 rfl rfl
theorem dJ22_init_0 : decode cJ22_init 0 = .ok (.aload_n 0, 1) := dk_42 (dk_at dksJ22_init_0 0 rfl rfl)
theorem dJ22_init_1 : decode cJ22_init 1 = .ok (.invokespecial 21, 3) := dk_183 0 21 (dk_at dksJ22_init_0 1 rfl rfl)
theorem dJ22_init_4 : decode cJ22_init 4 = .ok (.aload_n 0, 1) := dk_42 (dk_at dksJ22_init_0 4 rfl rfl)
theorem dJ22_init_5 : decode cJ22_init 5 = .ok (.iconst 0, 1) := dk_3 (dk_at dksJ22_init_0 5 rfl rfl)
theorem dJ22_init_6 : decode cJ22_init 6 = .ok (.putfield 7, 3) := dk_181 0 7 (dk_at dksJ22_init_0 6 rfl rfl)
theorem dJ22_init_9 : decode cJ22_init 9 = .ok (.aload_n 0, 1) := dk_42 (dk_at dksJ22_init_0 9 rfl rfl)
theorem dJ22_init_10 : decode cJ22_init 10 = .ok (.iconst 0, 1) := dk_3 (dk_at dksJ22_init_0 10 rfl rfl)
theorem dJ22_init_11 : decode cJ22_init 11 = .ok (.putfield 24, 3) := dk_181 0 24 (dk_at dksJ22_init_0 11 rfl rfl)
theorem dJ22_init_14 : decode cJ22_init 14 = .ok (.aload_n 0, 1) := dk_42 (dk_at dksJ22_init_0 14 rfl rfl)
theorem dJ22_init_15 : decode cJ22_init 15 = .ok (.bipush 64, 2) := dk_16 64 (dk_at dksJ22_init_0 15 rfl rfl)
theorem dJ22_init_17 : decode cJ22_init 17 = .ok (.invokevirtual 27, 3) := dk_182 0 27 (dk_at dksJ22_init_0 17 rfl rfl)
theorem dJ22_init_20 : decode cJ22_init 20 = .ok (.aload_n 0, 1) := dk_42 (dk_at dksJ22_init_0 20 rfl rfl)
theorem dJ22_init_21 : decode cJ22_init 21 = .ok (.iconst 0, 1) := dk_3 (dk_at dksJ22_init_0 21 rfl rfl)
theorem dJ22_init_22 : decode cJ22_init 22 = .ok (.putfield 24, 3) := dk_181 0 24 (dk_at dksJ22_init_1 0 rfl rfl)
theorem dJ22_init_25 : decode cJ22_init 25 = .ok (.return_, 1) := dk_177 (dk_at dksJ22_init_1 3 rfl rfl)
abbrev cJ22_initWords : ByteArray := prog_54_method_6_code
def yJ22_initWords : MethodName := ⟨RJ22, "initWords", "(I)V"⟩
def dkwJ22_initWords_0 : List UInt8 := [42, 27, 4, 100, 184, 0, 52, 4, 96, 188, 11, 181, 0, 11, 177]
abbrev dktJ22_initWords_0 : List UInt8 := dkwJ22_initWords_0 ++ []
theorem dksJ22_initWords_0 : cJ22_initWords.data.toList.drop 0 = dktJ22_initWords_0 := by decide +kernel
theorem dJ22_initWords_0 : decode cJ22_initWords 0 = .ok (.aload_n 0, 1) := dk_42 (dk_at dksJ22_initWords_0 0 rfl rfl)
theorem dJ22_initWords_1 : decode cJ22_initWords 1 = .ok (.iload_n 1, 1) := dk_27 (dk_at dksJ22_initWords_0 1 rfl rfl)
theorem dJ22_initWords_2 : decode cJ22_initWords 2 = .ok (.iconst 1, 1) := dk_4 (dk_at dksJ22_initWords_0 2 rfl rfl)
theorem dJ22_initWords_3 : decode cJ22_initWords 3 = .ok (.isub, 1) := dk_100 (dk_at dksJ22_initWords_0 3 rfl rfl)
theorem dJ22_initWords_4 : decode cJ22_initWords 4 = .ok (.invokestatic 52, 3) := dk_184 0 52 (dk_at dksJ22_initWords_0 4 rfl rfl)
theorem dJ22_initWords_7 : decode cJ22_initWords 7 = .ok (.iconst 1, 1) := dk_4 (dk_at dksJ22_initWords_0 7 rfl rfl)
theorem dJ22_initWords_8 : decode cJ22_initWords 8 = .ok (.iadd, 1) := dk_96 (dk_at dksJ22_initWords_0 8 rfl rfl)
theorem dJ22_initWords_9 : decode cJ22_initWords 9 = .ok (.newarray .long, 2) := dk_188_11 (dk_at dksJ22_initWords_0 9 rfl rfl)
theorem dJ22_initWords_11 : decode cJ22_initWords 11 = .ok (.putfield 11, 3) := dk_181 0 11 (dk_at dksJ22_initWords_0 11 rfl rfl)
theorem dJ22_initWords_14 : decode cJ22_initWords 14 = .ok (.return_, 1) := dk_177 (dk_at dksJ22_initWords_0 14 rfl rfl)
abbrev cJ22_wordIndex : ByteArray := prog_54_method_1_code
def yJ22_wordIndex : MethodName := ⟨RJ22, "wordIndex", "(I)I"⟩
def dkwJ22_wordIndex_0 : List UInt8 := [26, 16, 6, 122, 172]
abbrev dktJ22_wordIndex_0 : List UInt8 := dkwJ22_wordIndex_0 ++ []
theorem dksJ22_wordIndex_0 : cJ22_wordIndex.data.toList.drop 0 = dktJ22_wordIndex_0 := by decide +kernel
theorem dJ22_wordIndex_0 : decode cJ22_wordIndex 0 = .ok (.iload_n 0, 1) := dk_26 (dk_at dksJ22_wordIndex_0 0 rfl rfl)
theorem dJ22_wordIndex_1 : decode cJ22_wordIndex 1 = .ok (.bipush 6, 2) := dk_16 6 (dk_at dksJ22_wordIndex_0 1 rfl rfl)
theorem dJ22_wordIndex_3 : decode cJ22_wordIndex 3 = .ok (.ishr, 1) := dk_122 (dk_at dksJ22_wordIndex_0 3 rfl rfl)
theorem dJ22_wordIndex_4 : decode cJ22_wordIndex 4 = .ok (.ireturn, 1) := dk_172 (dk_at dksJ22_wordIndex_0 4 rfl rfl)
abbrev cJ22_get : ByteArray := prog_54_method_26_code
def yJ22_get : MethodName := ⟨RJ22, "get", "(I)Z"⟩
def dkwJ22_get_2 : List UInt8 := [42, 180, 0, 11, 28, 47, 10, 27, 121, 127, 9, 148, 153, 0, 7, 4, 167, 0, 4, 3, 172]
abbrev dktJ22_get_2 : List UInt8 := dkwJ22_get_2 ++ []
def dkwJ22_get_1 : List UInt8 := [182, 0, 45, 183, 0, 146, 191, 42, 182, 0, 56, 27, 184, 0, 52, 61, 28, 42, 180, 0, 7, 162, 0, 22]
abbrev dktJ22_get_1 : List UInt8 := dkwJ22_get_1 ++ dktJ22_get_2
def dkwJ22_get_0 : List UInt8 := [27, 156, 0, 30, 187, 0, 142, 89, 187, 0, 33, 89, 183, 0, 35, 18, 153, 182, 0, 38, 27, 182, 0, 42]
abbrev dktJ22_get_0 : List UInt8 := dkwJ22_get_0 ++ dktJ22_get_1
theorem dksJ22_get_0 : cJ22_get.data.toList.drop 0 = dktJ22_get_0 := by decide +kernel
theorem dksJ22_get_1 : cJ22_get.data.toList.drop 24 = dktJ22_get_1 := dk_seg dksJ22_get_0 24 rfl rfl
theorem dksJ22_get_2 : cJ22_get.data.toList.drop 48 = dktJ22_get_2 := dk_seg dksJ22_get_1 24 rfl rfl
theorem dJ22_get_0 : decode cJ22_get 0 = .ok (.iload_n 1, 1) := dk_27 (dk_at dksJ22_get_0 0 rfl rfl)
theorem dJ22_get_1 : decode cJ22_get 1 = .ok (.ifCond .ge 30, 3) := dk_156 0 30 (dk_at dksJ22_get_0 1 rfl rfl)
theorem dJ22_get_4 : decode cJ22_get 4 = .ok (.new 142, 3) := dk_187 0 142 (dk_at dksJ22_get_0 4 rfl rfl)
theorem dJ22_get_7 : decode cJ22_get 7 = .ok (.dup, 1) := dk_89 (dk_at dksJ22_get_0 7 rfl rfl)
theorem dJ22_get_8 : decode cJ22_get 8 = .ok (.new 33, 3) := dk_187 0 33 (dk_at dksJ22_get_0 8 rfl rfl)
theorem dJ22_get_11 : decode cJ22_get 11 = .ok (.dup, 1) := dk_89 (dk_at dksJ22_get_0 11 rfl rfl)
theorem dJ22_get_12 : decode cJ22_get 12 = .ok (.invokespecial 35, 3) := dk_183 0 35 (dk_at dksJ22_get_0 12 rfl rfl)
theorem dJ22_get_15 : decode cJ22_get 15 = .ok (.ldc 153, 2) := dk_18 153 (dk_at dksJ22_get_0 15 rfl rfl)
theorem dJ22_get_17 : decode cJ22_get 17 = .ok (.invokevirtual 38, 3) := dk_182 0 38 (dk_at dksJ22_get_0 17 rfl rfl)
theorem dJ22_get_20 : decode cJ22_get 20 = .ok (.iload_n 1, 1) := dk_27 (dk_at dksJ22_get_0 20 rfl rfl)
theorem dJ22_get_21 : decode cJ22_get 21 = .ok (.invokevirtual 42, 3) := dk_182 0 42 (dk_at dksJ22_get_0 21 rfl rfl)
theorem dJ22_get_24 : decode cJ22_get 24 = .ok (.invokevirtual 45, 3) := dk_182 0 45 (dk_at dksJ22_get_1 0 rfl rfl)
theorem dJ22_get_27 : decode cJ22_get 27 = .ok (.invokespecial 146, 3) := dk_183 0 146 (dk_at dksJ22_get_1 3 rfl rfl)
theorem dJ22_get_30 : decode cJ22_get 30 = .ok (.athrow, 1) := dk_191 (dk_at dksJ22_get_1 6 rfl rfl)
theorem dJ22_get_31 : decode cJ22_get 31 = .ok (.aload_n 0, 1) := dk_42 (dk_at dksJ22_get_1 7 rfl rfl)
theorem dJ22_get_32 : decode cJ22_get 32 = .ok (.invokevirtual 56, 3) := dk_182 0 56 (dk_at dksJ22_get_1 8 rfl rfl)
theorem dJ22_get_35 : decode cJ22_get 35 = .ok (.iload_n 1, 1) := dk_27 (dk_at dksJ22_get_1 11 rfl rfl)
theorem dJ22_get_36 : decode cJ22_get 36 = .ok (.invokestatic 52, 3) := dk_184 0 52 (dk_at dksJ22_get_1 12 rfl rfl)
theorem dJ22_get_39 : decode cJ22_get 39 = .ok (.istore_n 2, 1) := dk_61 (dk_at dksJ22_get_1 15 rfl rfl)
theorem dJ22_get_40 : decode cJ22_get 40 = .ok (.iload_n 2, 1) := dk_28 (dk_at dksJ22_get_1 16 rfl rfl)
theorem dJ22_get_41 : decode cJ22_get 41 = .ok (.aload_n 0, 1) := dk_42 (dk_at dksJ22_get_1 17 rfl rfl)
theorem dJ22_get_42 : decode cJ22_get 42 = .ok (.getfield 7, 3) := dk_180 0 7 (dk_at dksJ22_get_1 18 rfl rfl)
theorem dJ22_get_45 : decode cJ22_get 45 = .ok (.if_icmp .ge 22, 3) := dk_162 0 22 (dk_at dksJ22_get_1 21 rfl rfl)
theorem dJ22_get_48 : decode cJ22_get 48 = .ok (.aload_n 0, 1) := dk_42 (dk_at dksJ22_get_2 0 rfl rfl)
theorem dJ22_get_49 : decode cJ22_get 49 = .ok (.getfield 11, 3) := dk_180 0 11 (dk_at dksJ22_get_2 1 rfl rfl)
theorem dJ22_get_52 : decode cJ22_get 52 = .ok (.iload_n 2, 1) := dk_28 (dk_at dksJ22_get_2 4 rfl rfl)
theorem dJ22_get_53 : decode cJ22_get 53 = .ok (.laload, 1) := dk_47 (dk_at dksJ22_get_2 5 rfl rfl)
theorem dJ22_get_54 : decode cJ22_get 54 = .ok (.lconst 1, 1) := dk_10 (dk_at dksJ22_get_2 6 rfl rfl)
theorem dJ22_get_55 : decode cJ22_get 55 = .ok (.iload_n 1, 1) := dk_27 (dk_at dksJ22_get_2 7 rfl rfl)
theorem dJ22_get_56 : decode cJ22_get 56 = .ok (.lshl, 1) := dk_121 (dk_at dksJ22_get_2 8 rfl rfl)
theorem dJ22_get_57 : decode cJ22_get 57 = .ok (.land, 1) := dk_127 (dk_at dksJ22_get_2 9 rfl rfl)
theorem dJ22_get_58 : decode cJ22_get 58 = .ok (.lconst 0, 1) := dk_9 (dk_at dksJ22_get_2 10 rfl rfl)
theorem dJ22_get_59 : decode cJ22_get 59 = .ok (.lcmp, 1) := dk_148 (dk_at dksJ22_get_2 11 rfl rfl)
theorem dJ22_get_60 : decode cJ22_get 60 = .ok (.ifCond .eq 7, 3) := dk_153 0 7 (dk_at dksJ22_get_2 12 rfl rfl)
theorem dJ22_get_63 : decode cJ22_get 63 = .ok (.iconst 1, 1) := dk_4 (dk_at dksJ22_get_2 15 rfl rfl)
theorem dJ22_get_64 : decode cJ22_get 64 = .ok (.goto 4, 3) := dk_167 0 4 (dk_at dksJ22_get_2 16 rfl rfl)
theorem dJ22_get_67 : decode cJ22_get 67 = .ok (.iconst 0, 1) := dk_3 (dk_at dksJ22_get_2 19 rfl rfl)
theorem dJ22_get_68 : decode cJ22_get 68 = .ok (.ireturn, 1) := dk_172 (dk_at dksJ22_get_2 20 rfl rfl)
abbrev cJ22_checkInvariants : ByteArray := prog_54_method_2_code
def yJ22_checkInvariants : MethodName := ⟨RJ22, "checkInvariants", "()V"⟩
def dkwJ22_checkInvariants_4 : List UInt8 := [180, 0, 7, 47, 9, 148, 153, 0, 11, 187, 0, 15, 89, 183, 0, 17, 191, 177]
abbrev dktJ22_checkInvariants_4 : List UInt8 := dkwJ22_checkInvariants_4 ++ []
def dkwJ22_checkInvariants_3 : List UInt8 := [178, 0, 3, 154, 0, 37, 42, 180, 0, 7, 42, 180, 0, 11, 190, 159, 0, 25, 42, 180, 0, 11, 42]
abbrev dktJ22_checkInvariants_3 : List UInt8 := dkwJ22_checkInvariants_3 ++ dktJ22_checkInvariants_4
def dkwJ22_checkInvariants_2 : List UInt8 := [155, 0, 15, 42, 180, 0, 7, 42, 180, 0, 11, 190, 164, 0, 11, 187, 0, 15, 89, 183, 0, 17, 191]
abbrev dktJ22_checkInvariants_2 : List UInt8 := dkwJ22_checkInvariants_2 ++ dktJ22_checkInvariants_3
def dkwJ22_checkInvariants_1 : List UInt8 := [9, 148, 154, 0, 11, 187, 0, 15, 89, 183, 0, 17, 191, 178, 0, 3, 154, 0, 30, 42, 180, 0, 7]
abbrev dktJ22_checkInvariants_1 : List UInt8 := dkwJ22_checkInvariants_1 ++ dktJ22_checkInvariants_2
def dkwJ22_checkInvariants_0 : List UInt8 := [178, 0, 3, 154, 0, 34, 42, 180, 0, 7, 153, 0, 27, 42, 180, 0, 11, 42, 180, 0, 7, 4, 100, 47]
abbrev dktJ22_checkInvariants_0 : List UInt8 := dkwJ22_checkInvariants_0 ++ dktJ22_checkInvariants_1
theorem dksJ22_checkInvariants_0 : cJ22_checkInvariants.data.toList.drop 0 = dktJ22_checkInvariants_0 := by decide +kernel
theorem dksJ22_checkInvariants_1 : cJ22_checkInvariants.data.toList.drop 24 = dktJ22_checkInvariants_1 := dk_seg dksJ22_checkInvariants_0 24 rfl rfl
theorem dksJ22_checkInvariants_2 : cJ22_checkInvariants.data.toList.drop 47 = dktJ22_checkInvariants_2 := dk_seg dksJ22_checkInvariants_1 23 rfl rfl
theorem dksJ22_checkInvariants_3 : cJ22_checkInvariants.data.toList.drop 70 = dktJ22_checkInvariants_3 := dk_seg dksJ22_checkInvariants_2 23 rfl rfl
theorem dksJ22_checkInvariants_4 : cJ22_checkInvariants.data.toList.drop 93 = dktJ22_checkInvariants_4 := dk_seg dksJ22_checkInvariants_3 23 rfl rfl
theorem dJ22_checkInvariants_0 : decode cJ22_checkInvariants 0 = .ok (.getstatic 3, 3) := dk_178 0 3 (dk_at dksJ22_checkInvariants_0 0 rfl rfl)
theorem dJ22_checkInvariants_3 : decode cJ22_checkInvariants 3 = .ok (.ifCond .ne 34, 3) := dk_154 0 34 (dk_at dksJ22_checkInvariants_0 3 rfl rfl)
theorem dJ22_checkInvariants_6 : decode cJ22_checkInvariants 6 = .ok (.aload_n 0, 1) := dk_42 (dk_at dksJ22_checkInvariants_0 6 rfl rfl)
theorem dJ22_checkInvariants_7 : decode cJ22_checkInvariants 7 = .ok (.getfield 7, 3) := dk_180 0 7 (dk_at dksJ22_checkInvariants_0 7 rfl rfl)
theorem dJ22_checkInvariants_10 : decode cJ22_checkInvariants 10 = .ok (.ifCond .eq 27, 3) := dk_153 0 27 (dk_at dksJ22_checkInvariants_0 10 rfl rfl)
theorem dJ22_checkInvariants_13 : decode cJ22_checkInvariants 13 = .ok (.aload_n 0, 1) := dk_42 (dk_at dksJ22_checkInvariants_0 13 rfl rfl)
theorem dJ22_checkInvariants_14 : decode cJ22_checkInvariants 14 = .ok (.getfield 11, 3) := dk_180 0 11 (dk_at dksJ22_checkInvariants_0 14 rfl rfl)
theorem dJ22_checkInvariants_17 : decode cJ22_checkInvariants 17 = .ok (.aload_n 0, 1) := dk_42 (dk_at dksJ22_checkInvariants_0 17 rfl rfl)
theorem dJ22_checkInvariants_18 : decode cJ22_checkInvariants 18 = .ok (.getfield 7, 3) := dk_180 0 7 (dk_at dksJ22_checkInvariants_0 18 rfl rfl)
theorem dJ22_checkInvariants_21 : decode cJ22_checkInvariants 21 = .ok (.iconst 1, 1) := dk_4 (dk_at dksJ22_checkInvariants_0 21 rfl rfl)
theorem dJ22_checkInvariants_22 : decode cJ22_checkInvariants 22 = .ok (.isub, 1) := dk_100 (dk_at dksJ22_checkInvariants_0 22 rfl rfl)
theorem dJ22_checkInvariants_23 : decode cJ22_checkInvariants 23 = .ok (.laload, 1) := dk_47 (dk_at dksJ22_checkInvariants_0 23 rfl rfl)
theorem dJ22_checkInvariants_24 : decode cJ22_checkInvariants 24 = .ok (.lconst 0, 1) := dk_9 (dk_at dksJ22_checkInvariants_1 0 rfl rfl)
theorem dJ22_checkInvariants_25 : decode cJ22_checkInvariants 25 = .ok (.lcmp, 1) := dk_148 (dk_at dksJ22_checkInvariants_1 1 rfl rfl)
theorem dJ22_checkInvariants_26 : decode cJ22_checkInvariants 26 = .ok (.ifCond .ne 11, 3) := dk_154 0 11 (dk_at dksJ22_checkInvariants_1 2 rfl rfl)
theorem dJ22_checkInvariants_29 : decode cJ22_checkInvariants 29 = .ok (.new 15, 3) := dk_187 0 15 (dk_at dksJ22_checkInvariants_1 5 rfl rfl)
theorem dJ22_checkInvariants_32 : decode cJ22_checkInvariants 32 = .ok (.dup, 1) := dk_89 (dk_at dksJ22_checkInvariants_1 8 rfl rfl)
theorem dJ22_checkInvariants_33 : decode cJ22_checkInvariants 33 = .ok (.invokespecial 17, 3) := dk_183 0 17 (dk_at dksJ22_checkInvariants_1 9 rfl rfl)
theorem dJ22_checkInvariants_36 : decode cJ22_checkInvariants 36 = .ok (.athrow, 1) := dk_191 (dk_at dksJ22_checkInvariants_1 12 rfl rfl)
theorem dJ22_checkInvariants_37 : decode cJ22_checkInvariants 37 = .ok (.getstatic 3, 3) := dk_178 0 3 (dk_at dksJ22_checkInvariants_1 13 rfl rfl)
theorem dJ22_checkInvariants_40 : decode cJ22_checkInvariants 40 = .ok (.ifCond .ne 30, 3) := dk_154 0 30 (dk_at dksJ22_checkInvariants_1 16 rfl rfl)
theorem dJ22_checkInvariants_43 : decode cJ22_checkInvariants 43 = .ok (.aload_n 0, 1) := dk_42 (dk_at dksJ22_checkInvariants_1 19 rfl rfl)
theorem dJ22_checkInvariants_44 : decode cJ22_checkInvariants 44 = .ok (.getfield 7, 3) := dk_180 0 7 (dk_at dksJ22_checkInvariants_1 20 rfl rfl)
theorem dJ22_checkInvariants_47 : decode cJ22_checkInvariants 47 = .ok (.ifCond .lt 15, 3) := dk_155 0 15 (dk_at dksJ22_checkInvariants_2 0 rfl rfl)
theorem dJ22_checkInvariants_50 : decode cJ22_checkInvariants 50 = .ok (.aload_n 0, 1) := dk_42 (dk_at dksJ22_checkInvariants_2 3 rfl rfl)
theorem dJ22_checkInvariants_51 : decode cJ22_checkInvariants 51 = .ok (.getfield 7, 3) := dk_180 0 7 (dk_at dksJ22_checkInvariants_2 4 rfl rfl)
theorem dJ22_checkInvariants_54 : decode cJ22_checkInvariants 54 = .ok (.aload_n 0, 1) := dk_42 (dk_at dksJ22_checkInvariants_2 7 rfl rfl)
theorem dJ22_checkInvariants_55 : decode cJ22_checkInvariants 55 = .ok (.getfield 11, 3) := dk_180 0 11 (dk_at dksJ22_checkInvariants_2 8 rfl rfl)
theorem dJ22_checkInvariants_58 : decode cJ22_checkInvariants 58 = .ok (.arraylength, 1) := dk_190 (dk_at dksJ22_checkInvariants_2 11 rfl rfl)
theorem dJ22_checkInvariants_59 : decode cJ22_checkInvariants 59 = .ok (.if_icmp .le 11, 3) := dk_164 0 11 (dk_at dksJ22_checkInvariants_2 12 rfl rfl)
theorem dJ22_checkInvariants_62 : decode cJ22_checkInvariants 62 = .ok (.new 15, 3) := dk_187 0 15 (dk_at dksJ22_checkInvariants_2 15 rfl rfl)
theorem dJ22_checkInvariants_65 : decode cJ22_checkInvariants 65 = .ok (.dup, 1) := dk_89 (dk_at dksJ22_checkInvariants_2 18 rfl rfl)
theorem dJ22_checkInvariants_66 : decode cJ22_checkInvariants 66 = .ok (.invokespecial 17, 3) := dk_183 0 17 (dk_at dksJ22_checkInvariants_2 19 rfl rfl)
theorem dJ22_checkInvariants_69 : decode cJ22_checkInvariants 69 = .ok (.athrow, 1) := dk_191 (dk_at dksJ22_checkInvariants_2 22 rfl rfl)
theorem dJ22_checkInvariants_70 : decode cJ22_checkInvariants 70 = .ok (.getstatic 3, 3) := dk_178 0 3 (dk_at dksJ22_checkInvariants_3 0 rfl rfl)
theorem dJ22_checkInvariants_73 : decode cJ22_checkInvariants 73 = .ok (.ifCond .ne 37, 3) := dk_154 0 37 (dk_at dksJ22_checkInvariants_3 3 rfl rfl)
theorem dJ22_checkInvariants_76 : decode cJ22_checkInvariants 76 = .ok (.aload_n 0, 1) := dk_42 (dk_at dksJ22_checkInvariants_3 6 rfl rfl)
theorem dJ22_checkInvariants_77 : decode cJ22_checkInvariants 77 = .ok (.getfield 7, 3) := dk_180 0 7 (dk_at dksJ22_checkInvariants_3 7 rfl rfl)
theorem dJ22_checkInvariants_80 : decode cJ22_checkInvariants 80 = .ok (.aload_n 0, 1) := dk_42 (dk_at dksJ22_checkInvariants_3 10 rfl rfl)
theorem dJ22_checkInvariants_81 : decode cJ22_checkInvariants 81 = .ok (.getfield 11, 3) := dk_180 0 11 (dk_at dksJ22_checkInvariants_3 11 rfl rfl)
theorem dJ22_checkInvariants_84 : decode cJ22_checkInvariants 84 = .ok (.arraylength, 1) := dk_190 (dk_at dksJ22_checkInvariants_3 14 rfl rfl)
theorem dJ22_checkInvariants_85 : decode cJ22_checkInvariants 85 = .ok (.if_icmp .eq 25, 3) := dk_159 0 25 (dk_at dksJ22_checkInvariants_3 15 rfl rfl)
theorem dJ22_checkInvariants_88 : decode cJ22_checkInvariants 88 = .ok (.aload_n 0, 1) := dk_42 (dk_at dksJ22_checkInvariants_3 18 rfl rfl)
theorem dJ22_checkInvariants_89 : decode cJ22_checkInvariants 89 = .ok (.getfield 11, 3) := dk_180 0 11 (dk_at dksJ22_checkInvariants_3 19 rfl rfl)
theorem dJ22_checkInvariants_92 : decode cJ22_checkInvariants 92 = .ok (.aload_n 0, 1) := dk_42 (dk_at dksJ22_checkInvariants_3 22 rfl rfl)
theorem dJ22_checkInvariants_93 : decode cJ22_checkInvariants 93 = .ok (.getfield 7, 3) := dk_180 0 7 (dk_at dksJ22_checkInvariants_4 0 rfl rfl)
theorem dJ22_checkInvariants_96 : decode cJ22_checkInvariants 96 = .ok (.laload, 1) := dk_47 (dk_at dksJ22_checkInvariants_4 3 rfl rfl)
theorem dJ22_checkInvariants_97 : decode cJ22_checkInvariants 97 = .ok (.lconst 0, 1) := dk_9 (dk_at dksJ22_checkInvariants_4 4 rfl rfl)
theorem dJ22_checkInvariants_98 : decode cJ22_checkInvariants 98 = .ok (.lcmp, 1) := dk_148 (dk_at dksJ22_checkInvariants_4 5 rfl rfl)
theorem dJ22_checkInvariants_99 : decode cJ22_checkInvariants 99 = .ok (.ifCond .eq 11, 3) := dk_153 0 11 (dk_at dksJ22_checkInvariants_4 6 rfl rfl)
theorem dJ22_checkInvariants_102 : decode cJ22_checkInvariants 102 = .ok (.new 15, 3) := dk_187 0 15 (dk_at dksJ22_checkInvariants_4 9 rfl rfl)
theorem dJ22_checkInvariants_105 : decode cJ22_checkInvariants 105 = .ok (.dup, 1) := dk_89 (dk_at dksJ22_checkInvariants_4 12 rfl rfl)
theorem dJ22_checkInvariants_106 : decode cJ22_checkInvariants 106 = .ok (.invokespecial 17, 3) := dk_183 0 17 (dk_at dksJ22_checkInvariants_4 13 rfl rfl)
theorem dJ22_checkInvariants_109 : decode cJ22_checkInvariants 109 = .ok (.athrow, 1) := dk_191 (dk_at dksJ22_checkInvariants_4 16 rfl rfl)
theorem dJ22_checkInvariants_110 : decode cJ22_checkInvariants 110 = .ok (.return_, 1) := dk_177 (dk_at dksJ22_checkInvariants_4 17 rfl rfl)
abbrev cJ22_set : ByteArray := prog_54_method_19_code
def yJ22_set : MethodName := ⟨RJ22, "set", "(I)V"⟩
def dkwJ22_set_2 : List UInt8 := [10, 27, 121, 129, 80, 42, 182, 0, 56, 177]
abbrev dktJ22_set_2 : List UInt8 := dkwJ22_set_2 ++ []
def dkwJ22_set_1 : List UInt8 := [182, 0, 45, 183, 0, 146, 191, 27, 184, 0, 52, 61, 42, 28, 182, 0, 155, 42, 180, 0, 11, 28, 92, 47]
abbrev dktJ22_set_1 : List UInt8 := dkwJ22_set_1 ++ dktJ22_set_2
def dkwJ22_set_0 : List UInt8 := [27, 156, 0, 30, 187, 0, 142, 89, 187, 0, 33, 89, 183, 0, 35, 18, 153, 182, 0, 38, 27, 182, 0, 42]
abbrev dktJ22_set_0 : List UInt8 := dkwJ22_set_0 ++ dktJ22_set_1
theorem dksJ22_set_0 : cJ22_set.data.toList.drop 0 = dktJ22_set_0 := by decide +kernel
theorem dksJ22_set_1 : cJ22_set.data.toList.drop 24 = dktJ22_set_1 := dk_seg dksJ22_set_0 24 rfl rfl
theorem dksJ22_set_2 : cJ22_set.data.toList.drop 48 = dktJ22_set_2 := dk_seg dksJ22_set_1 24 rfl rfl
theorem dJ22_set_0 : decode cJ22_set 0 = .ok (.iload_n 1, 1) := dk_27 (dk_at dksJ22_set_0 0 rfl rfl)
theorem dJ22_set_1 : decode cJ22_set 1 = .ok (.ifCond .ge 30, 3) := dk_156 0 30 (dk_at dksJ22_set_0 1 rfl rfl)
theorem dJ22_set_4 : decode cJ22_set 4 = .ok (.new 142, 3) := dk_187 0 142 (dk_at dksJ22_set_0 4 rfl rfl)
theorem dJ22_set_7 : decode cJ22_set 7 = .ok (.dup, 1) := dk_89 (dk_at dksJ22_set_0 7 rfl rfl)
theorem dJ22_set_8 : decode cJ22_set 8 = .ok (.new 33, 3) := dk_187 0 33 (dk_at dksJ22_set_0 8 rfl rfl)
theorem dJ22_set_11 : decode cJ22_set 11 = .ok (.dup, 1) := dk_89 (dk_at dksJ22_set_0 11 rfl rfl)
theorem dJ22_set_12 : decode cJ22_set 12 = .ok (.invokespecial 35, 3) := dk_183 0 35 (dk_at dksJ22_set_0 12 rfl rfl)
theorem dJ22_set_15 : decode cJ22_set 15 = .ok (.ldc 153, 2) := dk_18 153 (dk_at dksJ22_set_0 15 rfl rfl)
theorem dJ22_set_17 : decode cJ22_set 17 = .ok (.invokevirtual 38, 3) := dk_182 0 38 (dk_at dksJ22_set_0 17 rfl rfl)
theorem dJ22_set_20 : decode cJ22_set 20 = .ok (.iload_n 1, 1) := dk_27 (dk_at dksJ22_set_0 20 rfl rfl)
theorem dJ22_set_21 : decode cJ22_set 21 = .ok (.invokevirtual 42, 3) := dk_182 0 42 (dk_at dksJ22_set_0 21 rfl rfl)
theorem dJ22_set_24 : decode cJ22_set 24 = .ok (.invokevirtual 45, 3) := dk_182 0 45 (dk_at dksJ22_set_1 0 rfl rfl)
theorem dJ22_set_27 : decode cJ22_set 27 = .ok (.invokespecial 146, 3) := dk_183 0 146 (dk_at dksJ22_set_1 3 rfl rfl)
theorem dJ22_set_30 : decode cJ22_set 30 = .ok (.athrow, 1) := dk_191 (dk_at dksJ22_set_1 6 rfl rfl)
theorem dJ22_set_31 : decode cJ22_set 31 = .ok (.iload_n 1, 1) := dk_27 (dk_at dksJ22_set_1 7 rfl rfl)
theorem dJ22_set_32 : decode cJ22_set 32 = .ok (.invokestatic 52, 3) := dk_184 0 52 (dk_at dksJ22_set_1 8 rfl rfl)
theorem dJ22_set_35 : decode cJ22_set 35 = .ok (.istore_n 2, 1) := dk_61 (dk_at dksJ22_set_1 11 rfl rfl)
theorem dJ22_set_36 : decode cJ22_set 36 = .ok (.aload_n 0, 1) := dk_42 (dk_at dksJ22_set_1 12 rfl rfl)
theorem dJ22_set_37 : decode cJ22_set 37 = .ok (.iload_n 2, 1) := dk_28 (dk_at dksJ22_set_1 13 rfl rfl)
theorem dJ22_set_38 : decode cJ22_set 38 = .ok (.invokevirtual 155, 3) := dk_182 0 155 (dk_at dksJ22_set_1 14 rfl rfl)
theorem dJ22_set_41 : decode cJ22_set 41 = .ok (.aload_n 0, 1) := dk_42 (dk_at dksJ22_set_1 17 rfl rfl)
theorem dJ22_set_42 : decode cJ22_set 42 = .ok (.getfield 11, 3) := dk_180 0 11 (dk_at dksJ22_set_1 18 rfl rfl)
theorem dJ22_set_45 : decode cJ22_set 45 = .ok (.iload_n 2, 1) := dk_28 (dk_at dksJ22_set_1 21 rfl rfl)
theorem dJ22_set_46 : decode cJ22_set 46 = .ok (.dup2, 1) := dk_92 (dk_at dksJ22_set_1 22 rfl rfl)
theorem dJ22_set_47 : decode cJ22_set 47 = .ok (.laload, 1) := dk_47 (dk_at dksJ22_set_1 23 rfl rfl)
theorem dJ22_set_48 : decode cJ22_set 48 = .ok (.lconst 1, 1) := dk_10 (dk_at dksJ22_set_2 0 rfl rfl)
theorem dJ22_set_49 : decode cJ22_set 49 = .ok (.iload_n 1, 1) := dk_27 (dk_at dksJ22_set_2 1 rfl rfl)
theorem dJ22_set_50 : decode cJ22_set 50 = .ok (.lshl, 1) := dk_121 (dk_at dksJ22_set_2 2 rfl rfl)
theorem dJ22_set_51 : decode cJ22_set 51 = .ok (.lor, 1) := dk_129 (dk_at dksJ22_set_2 3 rfl rfl)
theorem dJ22_set_52 : decode cJ22_set 52 = .ok (.lastore, 1) := dk_80 (dk_at dksJ22_set_2 4 rfl rfl)
theorem dJ22_set_53 : decode cJ22_set 53 = .ok (.aload_n 0, 1) := dk_42 (dk_at dksJ22_set_2 5 rfl rfl)
theorem dJ22_set_54 : decode cJ22_set 54 = .ok (.invokevirtual 56, 3) := dk_182 0 56 (dk_at dksJ22_set_2 6 rfl rfl)
theorem dJ22_set_57 : decode cJ22_set 57 = .ok (.return_, 1) := dk_177 (dk_at dksJ22_set_2 9 rfl rfl)
abbrev cJ22_expandTo : ByteArray := prog_54_method_15_code
def yJ22_expandTo : MethodName := ⟨RJ22, "expandTo", "(I)V"⟩
def dkwJ22_expandTo_0 : List UInt8 := [27, 4, 96, 61, 42, 180, 0, 7, 28, 162, 0, 13, 42, 28, 182, 0, 139, 42, 28, 181, 0, 7, 177]
abbrev dktJ22_expandTo_0 : List UInt8 := dkwJ22_expandTo_0 ++ []
theorem dksJ22_expandTo_0 : cJ22_expandTo.data.toList.drop 0 = dktJ22_expandTo_0 := by decide +kernel
theorem dJ22_expandTo_0 : decode cJ22_expandTo 0 = .ok (.iload_n 1, 1) := dk_27 (dk_at dksJ22_expandTo_0 0 rfl rfl)
theorem dJ22_expandTo_1 : decode cJ22_expandTo 1 = .ok (.iconst 1, 1) := dk_4 (dk_at dksJ22_expandTo_0 1 rfl rfl)
theorem dJ22_expandTo_2 : decode cJ22_expandTo 2 = .ok (.iadd, 1) := dk_96 (dk_at dksJ22_expandTo_0 2 rfl rfl)
theorem dJ22_expandTo_3 : decode cJ22_expandTo 3 = .ok (.istore_n 2, 1) := dk_61 (dk_at dksJ22_expandTo_0 3 rfl rfl)
theorem dJ22_expandTo_4 : decode cJ22_expandTo 4 = .ok (.aload_n 0, 1) := dk_42 (dk_at dksJ22_expandTo_0 4 rfl rfl)
theorem dJ22_expandTo_5 : decode cJ22_expandTo 5 = .ok (.getfield 7, 3) := dk_180 0 7 (dk_at dksJ22_expandTo_0 5 rfl rfl)
theorem dJ22_expandTo_8 : decode cJ22_expandTo 8 = .ok (.iload_n 2, 1) := dk_28 (dk_at dksJ22_expandTo_0 8 rfl rfl)
theorem dJ22_expandTo_9 : decode cJ22_expandTo 9 = .ok (.if_icmp .ge 13, 3) := dk_162 0 13 (dk_at dksJ22_expandTo_0 9 rfl rfl)
theorem dJ22_expandTo_12 : decode cJ22_expandTo 12 = .ok (.aload_n 0, 1) := dk_42 (dk_at dksJ22_expandTo_0 12 rfl rfl)
theorem dJ22_expandTo_13 : decode cJ22_expandTo 13 = .ok (.iload_n 2, 1) := dk_28 (dk_at dksJ22_expandTo_0 13 rfl rfl)
theorem dJ22_expandTo_14 : decode cJ22_expandTo 14 = .ok (.invokevirtual 139, 3) := dk_182 0 139 (dk_at dksJ22_expandTo_0 14 rfl rfl)
theorem dJ22_expandTo_17 : decode cJ22_expandTo 17 = .ok (.aload_n 0, 1) := dk_42 (dk_at dksJ22_expandTo_0 17 rfl rfl)
theorem dJ22_expandTo_18 : decode cJ22_expandTo 18 = .ok (.iload_n 2, 1) := dk_28 (dk_at dksJ22_expandTo_0 18 rfl rfl)
theorem dJ22_expandTo_19 : decode cJ22_expandTo 19 = .ok (.putfield 7, 3) := dk_181 0 7 (dk_at dksJ22_expandTo_0 19 rfl rfl)
theorem dJ22_expandTo_22 : decode cJ22_expandTo 22 = .ok (.return_, 1) := dk_177 (dk_at dksJ22_expandTo_0 22 rfl rfl)
abbrev cJ22_ensureCapacity : ByteArray := prog_54_method_14_code
def yJ22_ensureCapacity : MethodName := ⟨RJ22, "ensureCapacity", "(I)V"⟩
def dkwJ22_ensureCapacity_1 : List UInt8 := [180, 0, 11, 28, 184, 0, 59, 181, 0, 11, 42, 3, 181, 0, 24, 177]
abbrev dktJ22_ensureCapacity_1 : List UInt8 := dkwJ22_ensureCapacity_1 ++ []
def dkwJ22_ensureCapacity_0 : List UInt8 := [42, 180, 0, 11, 190, 27, 162, 0, 32, 5, 42, 180, 0, 11, 190, 104, 27, 184, 0, 133, 61, 42, 42]
abbrev dktJ22_ensureCapacity_0 : List UInt8 := dkwJ22_ensureCapacity_0 ++ dktJ22_ensureCapacity_1
theorem dksJ22_ensureCapacity_0 : cJ22_ensureCapacity.data.toList.drop 0 = dktJ22_ensureCapacity_0 := by decide +kernel
theorem dksJ22_ensureCapacity_1 : cJ22_ensureCapacity.data.toList.drop 23 = dktJ22_ensureCapacity_1 := dk_seg dksJ22_ensureCapacity_0 23 rfl rfl
theorem dJ22_ensureCapacity_0 : decode cJ22_ensureCapacity 0 = .ok (.aload_n 0, 1) := dk_42 (dk_at dksJ22_ensureCapacity_0 0 rfl rfl)
theorem dJ22_ensureCapacity_1 : decode cJ22_ensureCapacity 1 = .ok (.getfield 11, 3) := dk_180 0 11 (dk_at dksJ22_ensureCapacity_0 1 rfl rfl)
theorem dJ22_ensureCapacity_4 : decode cJ22_ensureCapacity 4 = .ok (.arraylength, 1) := dk_190 (dk_at dksJ22_ensureCapacity_0 4 rfl rfl)
theorem dJ22_ensureCapacity_5 : decode cJ22_ensureCapacity 5 = .ok (.iload_n 1, 1) := dk_27 (dk_at dksJ22_ensureCapacity_0 5 rfl rfl)
theorem dJ22_ensureCapacity_6 : decode cJ22_ensureCapacity 6 = .ok (.if_icmp .ge 32, 3) := dk_162 0 32 (dk_at dksJ22_ensureCapacity_0 6 rfl rfl)
theorem dJ22_ensureCapacity_9 : decode cJ22_ensureCapacity 9 = .ok (.iconst 2, 1) := dk_5 (dk_at dksJ22_ensureCapacity_0 9 rfl rfl)
theorem dJ22_ensureCapacity_10 : decode cJ22_ensureCapacity 10 = .ok (.aload_n 0, 1) := dk_42 (dk_at dksJ22_ensureCapacity_0 10 rfl rfl)
theorem dJ22_ensureCapacity_11 : decode cJ22_ensureCapacity 11 = .ok (.getfield 11, 3) := dk_180 0 11 (dk_at dksJ22_ensureCapacity_0 11 rfl rfl)
theorem dJ22_ensureCapacity_14 : decode cJ22_ensureCapacity 14 = .ok (.arraylength, 1) := dk_190 (dk_at dksJ22_ensureCapacity_0 14 rfl rfl)
theorem dJ22_ensureCapacity_15 : decode cJ22_ensureCapacity 15 = .ok (.imul, 1) := dk_104 (dk_at dksJ22_ensureCapacity_0 15 rfl rfl)
theorem dJ22_ensureCapacity_16 : decode cJ22_ensureCapacity 16 = .ok (.iload_n 1, 1) := dk_27 (dk_at dksJ22_ensureCapacity_0 16 rfl rfl)
theorem dJ22_ensureCapacity_17 : decode cJ22_ensureCapacity 17 = .ok (.invokestatic 133, 3) := dk_184 0 133 (dk_at dksJ22_ensureCapacity_0 17 rfl rfl)
theorem dJ22_ensureCapacity_20 : decode cJ22_ensureCapacity 20 = .ok (.istore_n 2, 1) := dk_61 (dk_at dksJ22_ensureCapacity_0 20 rfl rfl)
theorem dJ22_ensureCapacity_21 : decode cJ22_ensureCapacity 21 = .ok (.aload_n 0, 1) := dk_42 (dk_at dksJ22_ensureCapacity_0 21 rfl rfl)
theorem dJ22_ensureCapacity_22 : decode cJ22_ensureCapacity 22 = .ok (.aload_n 0, 1) := dk_42 (dk_at dksJ22_ensureCapacity_0 22 rfl rfl)
theorem dJ22_ensureCapacity_23 : decode cJ22_ensureCapacity 23 = .ok (.getfield 11, 3) := dk_180 0 11 (dk_at dksJ22_ensureCapacity_1 0 rfl rfl)
theorem dJ22_ensureCapacity_26 : decode cJ22_ensureCapacity 26 = .ok (.iload_n 2, 1) := dk_28 (dk_at dksJ22_ensureCapacity_1 3 rfl rfl)
theorem dJ22_ensureCapacity_27 : decode cJ22_ensureCapacity 27 = .ok (.invokestatic 59, 3) := dk_184 0 59 (dk_at dksJ22_ensureCapacity_1 4 rfl rfl)
theorem dJ22_ensureCapacity_30 : decode cJ22_ensureCapacity 30 = .ok (.putfield 11, 3) := dk_181 0 11 (dk_at dksJ22_ensureCapacity_1 7 rfl rfl)
theorem dJ22_ensureCapacity_33 : decode cJ22_ensureCapacity 33 = .ok (.aload_n 0, 1) := dk_42 (dk_at dksJ22_ensureCapacity_1 10 rfl rfl)
theorem dJ22_ensureCapacity_34 : decode cJ22_ensureCapacity 34 = .ok (.iconst 0, 1) := dk_3 (dk_at dksJ22_ensureCapacity_1 11 rfl rfl)
theorem dJ22_ensureCapacity_35 : decode cJ22_ensureCapacity 35 = .ok (.putfield 24, 3) := dk_181 0 24 (dk_at dksJ22_ensureCapacity_1 12 rfl rfl)
theorem dJ22_ensureCapacity_38 : decode cJ22_ensureCapacity 38 = .ok (.return_, 1) := dk_177 (dk_at dksJ22_ensureCapacity_1 15 rfl rfl)
theorem q129 : (Jvm.Cond.initialized "java/util/BitSet") ∈ lw_all := lw_g (lw_at lw_m1 35 rfl) rfl
theorem q1025 : (Jvm.Cond.instantiable "java/util/BitSet" (3 : Nat)) ∈ lw_all := lw_g (lw_at lw_m4 211 rfl) rfl
theorem q1027 : (Jvm.Cond.instanceMethod ({ cls := "java/util/BitSet", name := "<init>", desc := "()V" } : Jvm.MethodName)) ∈ lw_all := lw_g (lw_at lw_m4 213 rfl) rfl
theorem q1028 : (Jvm.Cond.code ({ cls := "java/util/BitSet", name := "<init>", desc := "()V" } : Jvm.MethodName) prog_54_method_4_code (1 : Nat) (Option.none : Option Jvm.ClassFile.FieldType)) ∈ lw_all := lw_g (lw_at lw_m4 214 rfl) rfl
theorem q1029 : (Jvm.Cond.methodLink "java/util/BitSet" (21 : Nat) ({ cls := "java/lang/Object", name := "<init>", desc := "()V" } : Jvm.MethodName)) ∈ lw_all := lw_g (lw_at lw_m4 215 rfl) rfl
theorem q1030 : (Jvm.Cond.methodLink "java/util/BitSet" (27 : Nat) ({ cls := "java/util/BitSet", name := "initWords", desc := "(I)V" } : Jvm.MethodName)) ∈ lw_all := lw_g (lw_at lw_m4 216 rfl) rfl
theorem q1031 : (Jvm.Cond.privateMethod ({ cls := "java/util/BitSet", name := "initWords", desc := "(I)V" } : Jvm.MethodName)) ∈ lw_tbl := lw_at lw_m4 217 rfl
theorem q1032 : (Jvm.Cond.instanceMethod ({ cls := "java/util/BitSet", name := "initWords", desc := "(I)V" } : Jvm.MethodName)) ∈ lw_all := lw_g (lw_at lw_m4 218 rfl) rfl
theorem q1033 : (Jvm.Cond.code ({ cls := "java/util/BitSet", name := "initWords", desc := "(I)V" } : Jvm.MethodName) prog_54_method_6_code (2 : Nat) (Option.none : Option Jvm.ClassFile.FieldType)) ∈ lw_all := lw_g (lw_at lw_m4 219 rfl) rfl
theorem q1034 : (Jvm.Cond.methodLink "java/util/BitSet" (52 : Nat) ({ cls := "java/util/BitSet", name := "wordIndex", desc := "(I)I" } : Jvm.MethodName)) ∈ lw_all := lw_g (lw_at lw_m4 220 rfl) rfl
theorem q1035 : (Jvm.Cond.static ({ cls := "java/util/BitSet", name := "wordIndex", desc := "(I)I" } : Jvm.MethodName)) ∈ lw_all := lw_g (lw_at lw_m4 221 rfl) rfl
theorem q1036 : (Jvm.Cond.code ({ cls := "java/util/BitSet", name := "wordIndex", desc := "(I)I" } : Jvm.MethodName) prog_54_method_1_code (1 : Nat) (Option.some Jvm.ClassFile.FieldType.int)) ∈ lw_all := lw_g (lw_at lw_m4 222 rfl) rfl
theorem q1037 : (Jvm.Cond.fieldLink "java/util/BitSet" (11 : Nat) "java/util/BitSet" "words" "[J") ∈ lw_all := lw_g (lw_at lw_m4 223 rfl) rfl
theorem q1038 : (Jvm.Cond.fieldLink "java/util/BitSet" (7 : Nat) "java/util/BitSet" "wordsInUse" "I") ∈ lw_all := lw_g (lw_at lw_m4 224 rfl) rfl
theorem q1039 : (Jvm.Cond.fieldLink "java/util/BitSet" (24 : Nat) "java/util/BitSet" "sizeIsSticky" "Z") ∈ lw_all := lw_g (lw_at lw_m4 225 rfl) rfl
theorem q1040 : (Jvm.Cond.lays "java/util/BitSet" "java/util/BitSet" "words" "[J") ∈ lw_all := lw_g (lw_at lw_m4 226 rfl) rfl
theorem q1041 : (Jvm.Cond.soleField "java/util/BitSet" "words") ∈ lw_all := lw_g (lw_at lw_m4 227 rfl) rfl
theorem q1042 : (Jvm.Cond.lays "java/util/BitSet" "java/util/BitSet" "wordsInUse" "I") ∈ lw_all := lw_g (lw_at lw_m4 228 rfl) rfl
theorem q1043 : (Jvm.Cond.soleField "java/util/BitSet" "wordsInUse") ∈ lw_all := lw_g (lw_at lw_m4 229 rfl) rfl
theorem q1044 : (Jvm.Cond.lays "java/util/BitSet" "java/util/BitSet" "sizeIsSticky" "Z") ∈ lw_all := lw_g (lw_at lw_m4 230 rfl) rfl
theorem q1045 : (Jvm.Cond.soleField "java/util/BitSet" "sizeIsSticky") ∈ lw_all := lw_g (lw_at lw_m4 231 rfl) rfl
theorem q1046 : (Jvm.Cond.superclass "java/util/BitSet" "java/lang/Object") ∈ lw_all := lw_g (lw_at lw_m4 232 rfl) rfl
theorem q1073 : (Jvm.Cond.instanceMethod ({ cls := "java/util/BitSet", name := "get", desc := "(I)Z" } : Jvm.MethodName)) ∈ lw_all := lw_g (lw_at lw_m5 19 rfl) rfl
theorem q1074 : (Jvm.Cond.selects "java/util/BitSet" ({ cls := "java/util/BitSet", name := "get", desc := "(I)Z" } : Jvm.MethodName) ({ cls := "java/util/BitSet", name := "get", desc := "(I)Z" } : Jvm.MethodName)) ∈ lw_all := lw_g (lw_at lw_m5 20 rfl) rfl
theorem q1075 : (Jvm.Cond.code ({ cls := "java/util/BitSet", name := "get", desc := "(I)Z" } : Jvm.MethodName) prog_54_method_26_code (3 : Nat) (Option.some Jvm.ClassFile.FieldType.boolean)) ∈ lw_all := lw_g (lw_at lw_m5 21 rfl) rfl
theorem q1076 : (Jvm.Cond.classLink "java/util/BitSet" (142 : Nat) "java/lang/IndexOutOfBoundsException") ∈ lw_all := lw_g (lw_at lw_m5 22 rfl) rfl
theorem q1077 : (Jvm.Cond.classLink "java/util/BitSet" (33 : Nat) "java/lang/StringBuilder") ∈ lw_all := lw_g (lw_at lw_m5 23 rfl) rfl
theorem q1078 : (Jvm.Cond.methodLink "java/util/BitSet" (35 : Nat) ({ cls := "java/lang/StringBuilder", name := "<init>", desc := "()V" } : Jvm.MethodName)) ∈ lw_all := lw_g (lw_at lw_m5 24 rfl) rfl
theorem q1079 : (Jvm.Cond.stringRef "java/util/BitSet" (153 : Nat) "bitIndex < 0: ") ∈ lw_tbl := lw_at lw_m5 25 rfl
theorem q1080 : (Jvm.Cond.methodLink "java/util/BitSet" (38 : Nat) ({ cls := "java/lang/StringBuilder", name := "append", desc := "(Ljava/lang/String;)Ljava/lang/StringBuilder;" } : Jvm.MethodName)) ∈ lw_all := lw_g (lw_at lw_m5 26 rfl) rfl
theorem q1081 : (Jvm.Cond.methodLink "java/util/BitSet" (42 : Nat) ({ cls := "java/lang/StringBuilder", name := "append", desc := "(I)Ljava/lang/StringBuilder;" } : Jvm.MethodName)) ∈ lw_all := lw_g (lw_at lw_m5 27 rfl) rfl
theorem q1082 : (Jvm.Cond.methodLink "java/util/BitSet" (45 : Nat) ({ cls := "java/lang/StringBuilder", name := "toString", desc := "()Ljava/lang/String;" } : Jvm.MethodName)) ∈ lw_all := lw_g (lw_at lw_m5 28 rfl) rfl
theorem q1083 : (Jvm.Cond.methodLink "java/util/BitSet" (146 : Nat) ({ cls := "java/lang/IndexOutOfBoundsException", name := "<init>", desc := "(Ljava/lang/String;)V" } : Jvm.MethodName)) ∈ lw_all := lw_g (lw_at lw_m5 29 rfl) rfl
theorem q1084 : (Jvm.Cond.methodLink "java/util/BitSet" (56 : Nat) ({ cls := "java/util/BitSet", name := "checkInvariants", desc := "()V" } : Jvm.MethodName)) ∈ lw_all := lw_g (lw_at lw_m5 30 rfl) rfl
theorem q1085 : (Jvm.Cond.privateMethod ({ cls := "java/util/BitSet", name := "checkInvariants", desc := "()V" } : Jvm.MethodName)) ∈ lw_tbl := lw_at lw_m5 31 rfl
theorem q1086 : (Jvm.Cond.instanceMethod ({ cls := "java/util/BitSet", name := "checkInvariants", desc := "()V" } : Jvm.MethodName)) ∈ lw_all := lw_g (lw_at lw_m5 32 rfl) rfl
theorem q1087 : (Jvm.Cond.code ({ cls := "java/util/BitSet", name := "checkInvariants", desc := "()V" } : Jvm.MethodName) prog_54_method_2_code (1 : Nat) (Option.none : Option Jvm.ClassFile.FieldType)) ∈ lw_all := lw_g (lw_at lw_m5 33 rfl) rfl
theorem q1088 : (Jvm.Cond.fieldLink "java/util/BitSet" (3 : Nat) "java/util/BitSet" "$assertionsDisabled" "Z") ∈ lw_all := lw_g (lw_at lw_m5 34 rfl) rfl
theorem q1089 : (Jvm.Cond.laysStatic "java/util/BitSet" "$assertionsDisabled" "Z") ∈ lw_tbl := lw_at lw_m5 35 rfl
theorem q1157 : (Jvm.Cond.instanceMethod ({ cls := "java/util/BitSet", name := "set", desc := "(I)V" } : Jvm.MethodName)) ∈ lw_all := lw_g (lw_at lw_m5 103 rfl) rfl
theorem q1158 : (Jvm.Cond.selects "java/util/BitSet" ({ cls := "java/util/BitSet", name := "set", desc := "(I)V" } : Jvm.MethodName) ({ cls := "java/util/BitSet", name := "set", desc := "(I)V" } : Jvm.MethodName)) ∈ lw_all := lw_g (lw_at lw_m5 104 rfl) rfl
theorem q1159 : (Jvm.Cond.code ({ cls := "java/util/BitSet", name := "set", desc := "(I)V" } : Jvm.MethodName) prog_54_method_19_code (3 : Nat) (Option.none : Option Jvm.ClassFile.FieldType)) ∈ lw_all := lw_g (lw_at lw_m5 105 rfl) rfl
theorem q1160 : (Jvm.Cond.methodLink "java/util/BitSet" (155 : Nat) ({ cls := "java/util/BitSet", name := "expandTo", desc := "(I)V" } : Jvm.MethodName)) ∈ lw_all := lw_g (lw_at lw_m5 106 rfl) rfl
theorem q1161 : (Jvm.Cond.privateMethod ({ cls := "java/util/BitSet", name := "expandTo", desc := "(I)V" } : Jvm.MethodName)) ∈ lw_tbl := lw_at lw_m5 107 rfl
theorem q1162 : (Jvm.Cond.instanceMethod ({ cls := "java/util/BitSet", name := "expandTo", desc := "(I)V" } : Jvm.MethodName)) ∈ lw_all := lw_g (lw_at lw_m5 108 rfl) rfl
theorem q1163 : (Jvm.Cond.code ({ cls := "java/util/BitSet", name := "expandTo", desc := "(I)V" } : Jvm.MethodName) prog_54_method_15_code (3 : Nat) (Option.none : Option Jvm.ClassFile.FieldType)) ∈ lw_all := lw_g (lw_at lw_m5 109 rfl) rfl
theorem q1164 : (Jvm.Cond.methodLink "java/util/BitSet" (139 : Nat) ({ cls := "java/util/BitSet", name := "ensureCapacity", desc := "(I)V" } : Jvm.MethodName)) ∈ lw_all := lw_g (lw_at lw_m5 110 rfl) rfl
theorem q1165 : (Jvm.Cond.privateMethod ({ cls := "java/util/BitSet", name := "ensureCapacity", desc := "(I)V" } : Jvm.MethodName)) ∈ lw_tbl := lw_at lw_m5 111 rfl
theorem q1166 : (Jvm.Cond.instanceMethod ({ cls := "java/util/BitSet", name := "ensureCapacity", desc := "(I)V" } : Jvm.MethodName)) ∈ lw_all := lw_g (lw_at lw_m5 112 rfl) rfl
theorem q1167 : (Jvm.Cond.code ({ cls := "java/util/BitSet", name := "ensureCapacity", desc := "(I)V" } : Jvm.MethodName) prog_54_method_14_code (3 : Nat) (Option.none : Option Jvm.ClassFile.FieldType)) ∈ lw_all := lw_g (lw_at lw_m5 113 rfl) rfl
theorem q1168 : (Jvm.Cond.methodLink "java/util/BitSet" (133 : Nat) ({ cls := "java/lang/Math", name := "max", desc := "(II)I" } : Jvm.MethodName)) ∈ lw_all := lw_g (lw_at lw_m5 114 rfl) rfl
theorem q1169 : (Jvm.Cond.methodLink "java/util/BitSet" (59 : Nat) ({ cls := "java/util/Arrays", name := "copyOf", desc := "([JI)[J" } : Jvm.MethodName)) ∈ lw_all := lw_g (lw_at lw_m5 115 rfl) rfl
theorem q1507 : (Jvm.Cond.selects "java/util/BitSet" ({ cls := "java/lang/Object", name := "getClass", desc := "()Ljava/lang/Class;" } : Jvm.MethodName) ({ cls := "java/lang/Object", name := "getClass", desc := "()Ljava/lang/Class;" } : Jvm.MethodName)) ∈ lw_all := lw_g (lw_at lw_m6 213 rfl) rfl
theorem q3160 : (Jvm.Cond.castable "java/util/BitSet" "java/lang/Object") ∈ lw_tbl := lw_at lw_m13 186 rfl
theorem in_J22 : ∀ w ∈ wsJ220, w ∈ lw_all := lw_in wsJ220 [1040, 1042, 1044] (by decide +kernel) (by decide +kernel)

/-! java/lang/IndexOutOfBoundsException -/
set_option maxRecDepth 100000
def RJ23 : String := "java/lang/IndexOutOfBoundsException"
def TJ23 : u_T := fun k => match k with
  | 0 => ("java/lang/Throwable", "cause", "Ljava/lang/Throwable;", false)
  | 1 => ("java/lang/Throwable", "stackTrace", "[Ljava/lang/StackTraceElement;", false)
  | 2 => ("java/lang/Throwable", "suppressedExceptions", "Ljava/util/List;", false)
  | 3 => ("java/lang/Throwable", "detailMessage", "Ljava/lang/String;", false)
  | 4 => ("java/lang/Throwable", "backtrace", "Ljava/lang/Object;", false)
  | _ => ("java/lang/Throwable", "depth", "I", false)
def tyJ23 : Nat → FieldType := fun k => match k with
  | 0 => .object "java/lang/Throwable"
  | 1 => .array (.object "java/lang/StackTraceElement")
  | 2 => .object "java/util/List"
  | 3 => .object "java/lang/String"
  | 4 => .object "java/lang/Object"
  | _ => .int
abbrev wsJ230 : List Cond := u_ws RJ23 TJ23 6
theorem nmJ23 : ∀ a, a < 6 → ∀ b, b < 6 → a ≠ b → (TJ23 a).2.1 ≠ (TJ23 b).2.1 := by decide +kernel
theorem tyJ23_ok : ∀ k, k < 6 → parseFieldDescriptor (TJ23 k).2.2.1 = some (tyJ23 k) := by decide +kernel
abbrev cJ23_init : ByteArray := prog_26_method_2_code
def yJ23_init : MethodName := ⟨RJ23, "<init>", "(Ljava/lang/String;)V"⟩
def dkwJ23_init_0 : List UInt8 := [42, 43, 183, 0, 7, 177]
abbrev dktJ23_init_0 : List UInt8 := dkwJ23_init_0 ++ []
theorem dksJ23_init_0 : cJ23_init.data.toList.drop 0 = dktJ23_init_0 := by decide +kernel
theorem dJ23_init_0 : decode cJ23_init 0 = .ok (.aload_n 0, 1) := dk_42 (dk_at dksJ23_init_0 0 rfl rfl)
theorem dJ23_init_1 : decode cJ23_init 1 = .ok (.aload_n 1, 1) := dk_43 (dk_at dksJ23_init_0 1 rfl rfl)
theorem dJ23_init_2 : decode cJ23_init 2 = .ok (.invokespecial 7, 3) := dk_183 0 7 (dk_at dksJ23_init_0 2 rfl rfl)
theorem dJ23_init_5 : decode cJ23_init 5 = .ok (.return_, 1) := dk_177 (dk_at dksJ23_init_0 5 rfl rfl)
abbrev cJ23_init_2 : ByteArray := prog_26_method_1_code
def yJ23_init_2 : MethodName := ⟨RJ23, "<init>", "()V"⟩
theorem dJ23_init_2_0 : decode cJ23_init_2 0 = .ok (.aload_n 0, 1) := by decide +kernel
theorem dJ23_init_2_1 : decode cJ23_init_2 1 = .ok (.invokespecial 1, 3) := by decide +kernel
theorem dJ23_init_2_4 : decode cJ23_init_2 4 = .ok (.return_, 1) := by decide +kernel
theorem q130 : (Jvm.Cond.initialized "java/lang/IndexOutOfBoundsException") ∈ lw_all := lw_g (lw_at lw_m1 36 rfl) rfl
theorem q505 : (Jvm.Cond.instantiable "java/lang/IndexOutOfBoundsException" (6 : Nat)) ∈ lw_all := lw_g (lw_at lw_m2 171 rfl) rfl
theorem q506 : (Jvm.Cond.castable "java/lang/IndexOutOfBoundsException" "java/lang/IndexOutOfBoundsException") ∈ lw_tbl := lw_at lw_m2 172 rfl
theorem q513 : (Jvm.Cond.selects "java/lang/IndexOutOfBoundsException" ({ cls := "java/lang/Throwable", name := "fillInStackTrace", desc := "(I)Ljava/lang/Throwable;" } : Jvm.MethodName) ({ cls := "java/lang/Throwable", name := "fillInStackTrace", desc := "(I)Ljava/lang/Throwable;" } : Jvm.MethodName)) ∈ lw_all := lw_g (lw_at lw_m2 179 rfl) rfl
theorem q514 : (Jvm.Cond.selects "java/lang/IndexOutOfBoundsException" ({ cls := "java/lang/Throwable", name := "fillInStackTrace", desc := "()Ljava/lang/Throwable;" } : Jvm.MethodName) ({ cls := "java/lang/Throwable", name := "fillInStackTrace", desc := "()Ljava/lang/Throwable;" } : Jvm.MethodName)) ∈ lw_all := lw_g (lw_at lw_m2 180 rfl) rfl
theorem q515 : (Jvm.Cond.lays "java/lang/IndexOutOfBoundsException" "java/lang/Throwable" "cause" "Ljava/lang/Throwable;") ∈ lw_all := lw_g (lw_at lw_m2 181 rfl) rfl
theorem q517 : (Jvm.Cond.lays "java/lang/IndexOutOfBoundsException" "java/lang/Throwable" "stackTrace" "[Ljava/lang/StackTraceElement;") ∈ lw_all := lw_g (lw_at lw_m2 183 rfl) rfl
theorem q519 : (Jvm.Cond.lays "java/lang/IndexOutOfBoundsException" "java/lang/Throwable" "suppressedExceptions" "Ljava/util/List;") ∈ lw_all := lw_g (lw_at lw_m2 185 rfl) rfl
theorem q521 : (Jvm.Cond.lays "java/lang/IndexOutOfBoundsException" "java/lang/Throwable" "detailMessage" "Ljava/lang/String;") ∈ lw_all := lw_g (lw_at lw_m2 187 rfl) rfl
theorem q523 : (Jvm.Cond.lays "java/lang/IndexOutOfBoundsException" "java/lang/Throwable" "backtrace" "Ljava/lang/Object;") ∈ lw_all := lw_g (lw_at lw_m2 189 rfl) rfl
theorem q834 : (Jvm.Cond.instanceMethod ({ cls := "java/lang/IndexOutOfBoundsException", name := "<init>", desc := "(Ljava/lang/String;)V" } : Jvm.MethodName)) ∈ lw_all := lw_g (lw_at lw_m4 20 rfl) rfl
theorem q835 : (Jvm.Cond.code ({ cls := "java/lang/IndexOutOfBoundsException", name := "<init>", desc := "(Ljava/lang/String;)V" } : Jvm.MethodName) prog_26_method_2_code (2 : Nat) (Option.none : Option Jvm.ClassFile.FieldType)) ∈ lw_all := lw_g (lw_at lw_m4 21 rfl) rfl
theorem q836 : (Jvm.Cond.methodLink "java/lang/IndexOutOfBoundsException" (7 : Nat) ({ cls := "java/lang/RuntimeException", name := "<init>", desc := "(Ljava/lang/String;)V" } : Jvm.MethodName)) ∈ lw_all := lw_g (lw_at lw_m4 22 rfl) rfl
theorem q837 : (Jvm.Cond.lays "java/lang/IndexOutOfBoundsException" "java/lang/Throwable" "depth" "I") ∈ lw_all := lw_g (lw_at lw_m4 23 rfl) rfl
theorem q838 : (Jvm.Cond.superclass "java/lang/IndexOutOfBoundsException" "java/lang/RuntimeException") ∈ lw_all := lw_g (lw_at lw_m4 24 rfl) rfl
theorem q1475 : (Jvm.Cond.selects "java/lang/IndexOutOfBoundsException" ({ cls := "java/lang/Throwable", name := "toString", desc := "()Ljava/lang/String;" } : Jvm.MethodName) ({ cls := "java/lang/Throwable", name := "toString", desc := "()Ljava/lang/String;" } : Jvm.MethodName)) ∈ lw_all := lw_g (lw_at lw_m6 181 rfl) rfl
theorem q1497 : (Jvm.Cond.selects "java/lang/IndexOutOfBoundsException" ({ cls := "java/lang/Object", name := "getClass", desc := "()Ljava/lang/Class;" } : Jvm.MethodName) ({ cls := "java/lang/Object", name := "getClass", desc := "()Ljava/lang/Class;" } : Jvm.MethodName)) ∈ lw_all := lw_g (lw_at lw_m6 203 rfl) rfl
theorem q1526 : (Jvm.Cond.selects "java/lang/IndexOutOfBoundsException" ({ cls := "java/lang/Throwable", name := "getLocalizedMessage", desc := "()Ljava/lang/String;" } : Jvm.MethodName) ({ cls := "java/lang/Throwable", name := "getLocalizedMessage", desc := "()Ljava/lang/String;" } : Jvm.MethodName)) ∈ lw_all := lw_g (lw_at lw_m6 232 rfl) rfl
theorem q1536 : (Jvm.Cond.selects "java/lang/IndexOutOfBoundsException" ({ cls := "java/lang/Throwable", name := "getMessage", desc := "()Ljava/lang/String;" } : Jvm.MethodName) ({ cls := "java/lang/Throwable", name := "getMessage", desc := "()Ljava/lang/String;" } : Jvm.MethodName)) ∈ lw_all := lw_g (lw_at lw_m7 2 rfl) rfl
theorem q2390 : (Jvm.Cond.selects "java/lang/IndexOutOfBoundsException" ({ cls := "java/lang/Object", name := "equals", desc := "(Ljava/lang/Object;)Z" } : Jvm.MethodName) ({ cls := "java/lang/Object", name := "equals", desc := "(Ljava/lang/Object;)Z" } : Jvm.MethodName)) ∈ lw_all := lw_g (lw_at lw_m10 136 rfl) rfl
theorem q2493 : (Jvm.Cond.declares ({ cls := "java/lang/IndexOutOfBoundsException", name := "<init>", desc := "()V" } : Jvm.MethodName)) ∈ lw_tbl := lw_at lw_m10 239 rfl
theorem q2494 : (Jvm.Cond.declares ({ cls := "java/lang/IndexOutOfBoundsException", name := "<init>", desc := "(Ljava/lang/String;)V" } : Jvm.MethodName)) ∈ lw_tbl := lw_at lw_m11 0 rfl
theorem q2509 : (Jvm.Cond.instanceMethod ({ cls := "java/lang/IndexOutOfBoundsException", name := "<init>", desc := "()V" } : Jvm.MethodName)) ∈ lw_all := lw_g (lw_at lw_m11 15 rfl) rfl
theorem q2510 : (Jvm.Cond.code ({ cls := "java/lang/IndexOutOfBoundsException", name := "<init>", desc := "()V" } : Jvm.MethodName) prog_26_method_1_code (1 : Nat) (Option.none : Option Jvm.ClassFile.FieldType)) ∈ lw_all := lw_g (lw_at lw_m11 16 rfl) rfl
theorem q2511 : (Jvm.Cond.methodLink "java/lang/IndexOutOfBoundsException" (1 : Nat) ({ cls := "java/lang/RuntimeException", name := "<init>", desc := "()V" } : Jvm.MethodName)) ∈ lw_all := lw_g (lw_at lw_m11 17 rfl) rfl
theorem q3161 : (Jvm.Cond.castable "java/lang/IndexOutOfBoundsException" "java/lang/Object") ∈ lw_tbl := lw_at lw_m13 187 rfl
theorem in_J23 : ∀ w ∈ wsJ230, w ∈ lw_all := lw_in wsJ230 [515, 517, 519, 521, 523, 837] (by decide +kernel) (by decide +kernel)

/-! java/util/LinkedList$Node -/
set_option maxRecDepth 100000
def RJ24 : String := "java/util/LinkedList$Node"
def TJ24 : u_T := fun k => match k with
  | 0 => ("java/util/LinkedList$Node", "item", "Ljava/lang/Object;", false)
  | 1 => ("java/util/LinkedList$Node", "next", "Ljava/util/LinkedList$Node;", false)
  | _ => ("java/util/LinkedList$Node", "prev", "Ljava/util/LinkedList$Node;", false)
def tyJ24 : Nat → FieldType := fun k => match k with
  | 0 => .object "java/lang/Object"
  | 1 => .object "java/util/LinkedList$Node"
  | _ => .object "java/util/LinkedList$Node"
abbrev wsJ240 : List Cond := u_ws RJ24 TJ24 3
theorem nmJ24 : ∀ a, a < 3 → ∀ b, b < 3 → a ≠ b → (TJ24 a).2.1 ≠ (TJ24 b).2.1 := by decide +kernel
theorem tyJ24_ok : ∀ k, k < 3 → parseFieldDescriptor (TJ24 k).2.2.1 = some (tyJ24 k) := by decide +kernel
abbrev cJ24_init : ByteArray := prog_67_method_1_code
def yJ24_init : MethodName := ⟨RJ24, "<init>", "(Ljava/util/LinkedList$Node;Ljava/lang/Object;Ljava/util/LinkedList$Node;)V"⟩
def dkwJ24_init_0 : List UInt8 := [42, 183, 0, 1, 42, 44, 181, 0, 7, 42, 45, 181, 0, 13, 42, 43, 181, 0, 17, 177]
abbrev dktJ24_init_0 : List UInt8 := dkwJ24_init_0 ++ []
theorem dksJ24_init_0 : cJ24_init.data.toList.drop 0 = dktJ24_init_0 := by decide +kernel
theorem dJ24_init_0 : decode cJ24_init 0 = .ok (.aload_n 0, 1) := dk_42 (dk_at dksJ24_init_0 0 rfl rfl)
theorem dJ24_init_1 : decode cJ24_init 1 = .ok (.invokespecial 1, 3) := dk_183 0 1 (dk_at dksJ24_init_0 1 rfl rfl)
theorem dJ24_init_4 : decode cJ24_init 4 = .ok (.aload_n 0, 1) := dk_42 (dk_at dksJ24_init_0 4 rfl rfl)
theorem dJ24_init_5 : decode cJ24_init 5 = .ok (.aload_n 2, 1) := dk_44 (dk_at dksJ24_init_0 5 rfl rfl)
theorem dJ24_init_6 : decode cJ24_init 6 = .ok (.putfield 7, 3) := dk_181 0 7 (dk_at dksJ24_init_0 6 rfl rfl)
theorem dJ24_init_9 : decode cJ24_init 9 = .ok (.aload_n 0, 1) := dk_42 (dk_at dksJ24_init_0 9 rfl rfl)
theorem dJ24_init_10 : decode cJ24_init 10 = .ok (.aload_n 3, 1) := dk_45 (dk_at dksJ24_init_0 10 rfl rfl)
theorem dJ24_init_11 : decode cJ24_init 11 = .ok (.putfield 13, 3) := dk_181 0 13 (dk_at dksJ24_init_0 11 rfl rfl)
theorem dJ24_init_14 : decode cJ24_init 14 = .ok (.aload_n 0, 1) := dk_42 (dk_at dksJ24_init_0 14 rfl rfl)
theorem dJ24_init_15 : decode cJ24_init 15 = .ok (.aload_n 1, 1) := dk_43 (dk_at dksJ24_init_0 15 rfl rfl)
theorem dJ24_init_16 : decode cJ24_init 16 = .ok (.putfield 17, 3) := dk_181 0 17 (dk_at dksJ24_init_0 16 rfl rfl)
theorem dJ24_init_19 : decode cJ24_init 19 = .ok (.return_, 1) := dk_177 (dk_at dksJ24_init_0 19 rfl rfl)
theorem q131 : (Jvm.Cond.initialized "java/util/LinkedList$Node") ∈ lw_all := lw_g (lw_at lw_m1 37 rfl) rfl
theorem q1513 : (Jvm.Cond.selects "java/util/LinkedList$Node" ({ cls := "java/lang/Object", name := "getClass", desc := "()Ljava/lang/Class;" } : Jvm.MethodName) ({ cls := "java/lang/Object", name := "getClass", desc := "()Ljava/lang/Class;" } : Jvm.MethodName)) ∈ lw_all := lw_g (lw_at lw_m6 219 rfl) rfl
theorem q1590 : (Jvm.Cond.instantiable "java/util/LinkedList$Node" (3 : Nat)) ∈ lw_all := lw_g (lw_at lw_m7 56 rfl) rfl
theorem q1592 : (Jvm.Cond.instanceMethod ({ cls := "java/util/LinkedList$Node", name := "<init>", desc := "(Ljava/util/LinkedList$Node;Ljava/lang/Object;Ljava/util/LinkedList$Node;)V" } : Jvm.MethodName)) ∈ lw_all := lw_g (lw_at lw_m7 58 rfl) rfl
theorem q1593 : (Jvm.Cond.code ({ cls := "java/util/LinkedList$Node", name := "<init>", desc := "(Ljava/util/LinkedList$Node;Ljava/lang/Object;Ljava/util/LinkedList$Node;)V" } : Jvm.MethodName) prog_67_method_1_code (4 : Nat) (Option.none : Option Jvm.ClassFile.FieldType)) ∈ lw_all := lw_g (lw_at lw_m7 59 rfl) rfl
theorem q1594 : (Jvm.Cond.methodLink "java/util/LinkedList$Node" (1 : Nat) ({ cls := "java/lang/Object", name := "<init>", desc := "()V" } : Jvm.MethodName)) ∈ lw_all := lw_g (lw_at lw_m7 60 rfl) rfl
theorem q1595 : (Jvm.Cond.fieldLink "java/util/LinkedList$Node" (7 : Nat) "java/util/LinkedList$Node" "item" "Ljava/lang/Object;") ∈ lw_all := lw_g (lw_at lw_m7 61 rfl) rfl
theorem q1598 : (Jvm.Cond.fieldLink "java/util/LinkedList$Node" (13 : Nat) "java/util/LinkedList$Node" "next" "Ljava/util/LinkedList$Node;") ∈ lw_all := lw_g (lw_at lw_m7 64 rfl) rfl
theorem q1601 : (Jvm.Cond.fieldLink "java/util/LinkedList$Node" (17 : Nat) "java/util/LinkedList$Node" "prev" "Ljava/util/LinkedList$Node;") ∈ lw_all := lw_g (lw_at lw_m7 67 rfl) rfl
theorem q1603 : (Jvm.Cond.lays "java/util/LinkedList$Node" "java/util/LinkedList$Node" "item" "Ljava/lang/Object;") ∈ lw_all := lw_g (lw_at lw_m7 69 rfl) rfl
theorem q1604 : (Jvm.Cond.soleField "java/util/LinkedList$Node" "item") ∈ lw_all := lw_g (lw_at lw_m7 70 rfl) rfl
theorem q1605 : (Jvm.Cond.lays "java/util/LinkedList$Node" "java/util/LinkedList$Node" "next" "Ljava/util/LinkedList$Node;") ∈ lw_all := lw_g (lw_at lw_m7 71 rfl) rfl
theorem q1606 : (Jvm.Cond.soleField "java/util/LinkedList$Node" "next") ∈ lw_all := lw_g (lw_at lw_m7 72 rfl) rfl
theorem q1607 : (Jvm.Cond.lays "java/util/LinkedList$Node" "java/util/LinkedList$Node" "prev" "Ljava/util/LinkedList$Node;") ∈ lw_all := lw_g (lw_at lw_m7 73 rfl) rfl
theorem q1608 : (Jvm.Cond.soleField "java/util/LinkedList$Node" "prev") ∈ lw_all := lw_g (lw_at lw_m7 74 rfl) rfl
theorem q1609 : (Jvm.Cond.superclass "java/util/LinkedList$Node" "java/lang/Object") ∈ lw_all := lw_g (lw_at lw_m7 75 rfl) rfl
theorem q3174 : (Jvm.Cond.castable "java/util/LinkedList$Node" "java/lang/Object") ∈ lw_tbl := lw_at lw_m13 200 rfl
theorem in_J24 : ∀ w ∈ wsJ240, w ∈ lw_all := lw_in wsJ240 [1603, 1605, 1607] (by decide +kernel) (by decide +kernel)

/-! java/util/TreeMap$Entry -/
set_option maxRecDepth 100000
def RJ27 : String := "java/util/TreeMap$Entry"
def TJ27 : u_T := fun k => match k with
  | 0 => ("java/util/TreeMap$Entry", "key", "Ljava/lang/Object;", false)
  | 1 => ("java/util/TreeMap$Entry", "value", "Ljava/lang/Object;", false)
  | 2 => ("java/util/TreeMap$Entry", "left", "Ljava/util/TreeMap$Entry;", false)
  | 3 => ("java/util/TreeMap$Entry", "right", "Ljava/util/TreeMap$Entry;", false)
  | 4 => ("java/util/TreeMap$Entry", "parent", "Ljava/util/TreeMap$Entry;", false)
  | _ => ("java/util/TreeMap$Entry", "color", "Z", false)
def tyJ27 : Nat → FieldType := fun k => match k with
  | 0 => .object "java/lang/Object"
  | 1 => .object "java/lang/Object"
  | 2 => .object "java/util/TreeMap$Entry"
  | 3 => .object "java/util/TreeMap$Entry"
  | 4 => .object "java/util/TreeMap$Entry"
  | _ => .boolean
abbrev wsJ270 : List Cond := u_ws RJ27 TJ27 6
theorem nmJ27 : ∀ a, a < 6 → ∀ b, b < 6 → a ≠ b → (TJ27 a).2.1 ≠ (TJ27 b).2.1 := by decide +kernel
theorem tyJ27_ok : ∀ k, k < 6 → parseFieldDescriptor (TJ27 k).2.2.1 = some (tyJ27 k) := by decide +kernel
abbrev cJ27_init : ByteArray := prog_81_method_1_code
def yJ27_init : MethodName := ⟨RJ27, "<init>", "(Ljava/lang/Object;Ljava/lang/Object;Ljava/util/TreeMap$Entry;)V"⟩
def dkwJ27_init_1 : List UInt8 := [177]
abbrev dktJ27_init_1 : List UInt8 := dkwJ27_init_1 ++ []
def dkwJ27_init_0 : List UInt8 := [42, 183, 0, 3, 42, 4, 181, 0, 9, 42, 43, 181, 0, 15, 42, 44, 181, 0, 19, 42, 45, 181, 0, 22]
abbrev dktJ27_init_0 : List UInt8 := dkwJ27_init_0 ++ dktJ27_init_1
theorem dksJ27_init_0 : cJ27_init.data.toList.drop 0 = dktJ27_init_0 := by decide +kernel
theorem dksJ27_init_1 : cJ27_init.data.toList.drop 24 = dktJ27_init_1 := dk_seg dksJ27_init_0 24 rfl rfl
theorem dJ27_init_0 : decode cJ27_init 0 = .ok (.aload_n 0, 1) := dk_42 (dk_at dksJ27_init_0 0 rfl rfl)
theorem dJ27_init_1 : decode cJ27_init 1 = .ok (.invokespecial 3, 3) := dk_183 0 3 (dk_at dksJ27_init_0 1 rfl rfl)
theorem dJ27_init_4 : decode cJ27_init 4 = .ok (.aload_n 0, 1) := dk_42 (dk_at dksJ27_init_0 4 rfl rfl)
theorem dJ27_init_5 : decode cJ27_init 5 = .ok (.iconst 1, 1) := dk_4 (dk_at dksJ27_init_0 5 rfl rfl)
theorem dJ27_init_6 : decode cJ27_init 6 = .ok (.putfield 9, 3) := dk_181 0 9 (dk_at dksJ27_init_0 6 rfl rfl)
theorem dJ27_init_9 : decode cJ27_init 9 = .ok (.aload_n 0, 1) := dk_42 (dk_at dksJ27_init_0 9 rfl rfl)
theorem dJ27_init_10 : decode cJ27_init 10 = .ok (.aload_n 1, 1) := dk_43 (dk_at dksJ27_init_0 10 rfl rfl)
theorem dJ27_init_11 : decode cJ27_init 11 = .ok (.putfield 15, 3) := dk_181 0 15 (dk_at dksJ27_init_0 11 rfl rfl)
theorem dJ27_init_14 : decode cJ27_init 14 = .ok (.aload_n 0, 1) := dk_42 (dk_at dksJ27_init_0 14 rfl rfl)
theorem dJ27_init_15 : decode cJ27_init 15 = .ok (.aload_n 2, 1) := dk_44 (dk_at dksJ27_init_0 15 rfl rfl)
theorem dJ27_init_16 : decode cJ27_init 16 = .ok (.putfield 19, 3) := dk_181 0 19 (dk_at dksJ27_init_0 16 rfl rfl)
theorem dJ27_init_19 : decode cJ27_init 19 = .ok (.aload_n 0, 1) := dk_42 (dk_at dksJ27_init_0 19 rfl rfl)
theorem dJ27_init_20 : decode cJ27_init 20 = .ok (.aload_n 3, 1) := dk_45 (dk_at dksJ27_init_0 20 rfl rfl)
theorem dJ27_init_21 : decode cJ27_init 21 = .ok (.putfield 22, 3) := dk_181 0 22 (dk_at dksJ27_init_0 21 rfl rfl)
theorem dJ27_init_24 : decode cJ27_init 24 = .ok (.return_, 1) := dk_177 (dk_at dksJ27_init_1 0 rfl rfl)
theorem q136 : (Jvm.Cond.initialized "java/util/TreeMap$Entry") ∈ lw_all := lw_g (lw_at lw_m1 42 rfl) rfl
theorem q1516 : (Jvm.Cond.selects "java/util/TreeMap$Entry" ({ cls := "java/lang/Object", name := "getClass", desc := "()Ljava/lang/Class;" } : Jvm.MethodName) ({ cls := "java/lang/Object", name := "getClass", desc := "()Ljava/lang/Class;" } : Jvm.MethodName)) ∈ lw_all := lw_g (lw_at lw_m6 222 rfl) rfl
theorem q2218 : (Jvm.Cond.instantiable "java/util/TreeMap$Entry" (6 : Nat)) ∈ lw_all := lw_g (lw_at lw_m9 204 rfl) rfl
theorem q2220 : (Jvm.Cond.instanceMethod ({ cls := "java/util/TreeMap$Entry", name := "<init>", desc := "(Ljava/lang/Object;Ljava/lang/Object;Ljava/util/TreeMap$Entry;)V" } : Jvm.MethodName)) ∈ lw_all := lw_g (lw_at lw_m9 206 rfl) rfl
theorem q2221 : (Jvm.Cond.code ({ cls := "java/util/TreeMap$Entry", name := "<init>", desc := "(Ljava/lang/Object;Ljava/lang/Object;Ljava/util/TreeMap$Entry;)V" } : Jvm.MethodName) prog_81_method_1_code (4 : Nat) (Option.none : Option Jvm.ClassFile.FieldType)) ∈ lw_all := lw_g (lw_at lw_m9 207 rfl) rfl
theorem q2222 : (Jvm.Cond.methodLink "java/util/TreeMap$Entry" (3 : Nat) ({ cls := "java/lang/Object", name := "<init>", desc := "()V" } : Jvm.MethodName)) ∈ lw_all := lw_g (lw_at lw_m9 208 rfl) rfl
theorem q2223 : (Jvm.Cond.fieldLink "java/util/TreeMap$Entry" (15 : Nat) "java/util/TreeMap$Entry" "key" "Ljava/lang/Object;") ∈ lw_all := lw_g (lw_at lw_m9 209 rfl) rfl
theorem q2225 : (Jvm.Cond.fieldLink "java/util/TreeMap$Entry" (19 : Nat) "java/util/TreeMap$Entry" "value" "Ljava/lang/Object;") ∈ lw_all := lw_g (lw_at lw_m9 211 rfl) rfl
theorem q2229 : (Jvm.Cond.fieldLink "java/util/TreeMap$Entry" (22 : Nat) "java/util/TreeMap$Entry" "parent" "Ljava/util/TreeMap$Entry;") ∈ lw_all := lw_g (lw_at lw_m9 215 rfl) rfl
theorem q2231 : (Jvm.Cond.fieldLink "java/util/TreeMap$Entry" (9 : Nat) "java/util/TreeMap$Entry" "color" "Z") ∈ lw_all := lw_g (lw_at lw_m9 217 rfl) rfl
theorem q2233 : (Jvm.Cond.lays "java/util/TreeMap$Entry" "java/util/TreeMap$Entry" "key" "Ljava/lang/Object;") ∈ lw_all := lw_g (lw_at lw_m9 219 rfl) rfl
theorem q2234 : (Jvm.Cond.soleField "java/util/TreeMap$Entry" "key") ∈ lw_all := lw_g (lw_at lw_m9 220 rfl) rfl
theorem q2235 : (Jvm.Cond.lays "java/util/TreeMap$Entry" "java/util/TreeMap$Entry" "value" "Ljava/lang/Object;") ∈ lw_all := lw_g (lw_at lw_m9 221 rfl) rfl
theorem q2236 : (Jvm.Cond.soleField "java/util/TreeMap$Entry" "value") ∈ lw_all := lw_g (lw_at lw_m9 222 rfl) rfl
theorem q2237 : (Jvm.Cond.lays "java/util/TreeMap$Entry" "java/util/TreeMap$Entry" "left" "Ljava/util/TreeMap$Entry;") ∈ lw_all := lw_g (lw_at lw_m9 223 rfl) rfl
theorem q2238 : (Jvm.Cond.soleField "java/util/TreeMap$Entry" "left") ∈ lw_all := lw_g (lw_at lw_m9 224 rfl) rfl
theorem q2239 : (Jvm.Cond.lays "java/util/TreeMap$Entry" "java/util/TreeMap$Entry" "right" "Ljava/util/TreeMap$Entry;") ∈ lw_all := lw_g (lw_at lw_m9 225 rfl) rfl
theorem q2240 : (Jvm.Cond.soleField "java/util/TreeMap$Entry" "right") ∈ lw_all := lw_g (lw_at lw_m9 226 rfl) rfl
theorem q2241 : (Jvm.Cond.lays "java/util/TreeMap$Entry" "java/util/TreeMap$Entry" "parent" "Ljava/util/TreeMap$Entry;") ∈ lw_all := lw_g (lw_at lw_m9 227 rfl) rfl
theorem q2242 : (Jvm.Cond.soleField "java/util/TreeMap$Entry" "parent") ∈ lw_all := lw_g (lw_at lw_m9 228 rfl) rfl
theorem q2243 : (Jvm.Cond.lays "java/util/TreeMap$Entry" "java/util/TreeMap$Entry" "color" "Z") ∈ lw_all := lw_g (lw_at lw_m9 229 rfl) rfl
theorem q2244 : (Jvm.Cond.soleField "java/util/TreeMap$Entry" "color") ∈ lw_all := lw_g (lw_at lw_m9 230 rfl) rfl
theorem q2245 : (Jvm.Cond.superclass "java/util/TreeMap$Entry" "java/lang/Object") ∈ lw_all := lw_g (lw_at lw_m9 231 rfl) rfl
theorem q3164 : (Jvm.Cond.castable "java/util/TreeMap$Entry" "java/lang/Object") ∈ lw_tbl := lw_at lw_m13 190 rfl
theorem in_J27 : ∀ w ∈ wsJ270, w ∈ lw_all := lw_in wsJ270 [2233, 2235, 2237, 2239, 2241, 2243] (by decide +kernel) (by decide +kernel)

/-! java/util/Objects -/
set_option maxRecDepth 100000
def RJ28 : String := "java/util/Objects"
abbrev cJ28_checkIndex : ByteArray := prog_74_method_17_code
def yJ28_checkIndex : MethodName := ⟨RJ28, "checkIndex", "(II)I"⟩
def dkwJ28_checkIndex_0 : List UInt8 := [26, 27, 1, 184, 0, 105, 172]
abbrev dktJ28_checkIndex_0 : List UInt8 := dkwJ28_checkIndex_0 ++ []
theorem dksJ28_checkIndex_0 : cJ28_checkIndex.data.toList.drop 0 = dktJ28_checkIndex_0 := by decide +kernel
theorem dJ28_checkIndex_0 : decode cJ28_checkIndex 0 = .ok (.iload_n 0, 1) := dk_26 (dk_at dksJ28_checkIndex_0 0 rfl rfl)
theorem dJ28_checkIndex_1 : decode cJ28_checkIndex 1 = .ok (.iload_n 1, 1) := dk_27 (dk_at dksJ28_checkIndex_0 1 rfl rfl)
theorem dJ28_checkIndex_2 : decode cJ28_checkIndex 2 = .ok (.aconst_null, 1) := dk_1 (dk_at dksJ28_checkIndex_0 2 rfl rfl)
theorem dJ28_checkIndex_3 : decode cJ28_checkIndex 3 = .ok (.invokestatic 105, 3) := dk_184 0 105 (dk_at dksJ28_checkIndex_0 3 rfl rfl)
theorem dJ28_checkIndex_6 : decode cJ28_checkIndex 6 = .ok (.ireturn, 1) := dk_172 (dk_at dksJ28_checkIndex_0 6 rfl rfl)
abbrev cJ28_requireNonNull : ByteArray := prog_74_method_10_code
def yJ28_requireNonNull : MethodName := ⟨RJ28, "requireNonNull", "(Ljava/lang/Object;)Ljava/lang/Object;"⟩
def dkwJ28_requireNonNull_0 : List UInt8 := [42, 199, 0, 11, 187, 0, 84, 89, 183, 0, 86, 191, 42, 176]
abbrev dktJ28_requireNonNull_0 : List UInt8 := dkwJ28_requireNonNull_0 ++ []
theorem dksJ28_requireNonNull_0 : cJ28_requireNonNull.data.toList.drop 0 = dktJ28_requireNonNull_0 := by decide +kernel
theorem dJ28_requireNonNull_0 : decode cJ28_requireNonNull 0 = .ok (.aload_n 0, 1) := dk_42 (dk_at dksJ28_requireNonNull_0 0 rfl rfl)
theorem dJ28_requireNonNull_1 : decode cJ28_requireNonNull 1 = .ok (.ifnonnull 11, 3) := dk_199 0 11 (dk_at dksJ28_requireNonNull_0 1 rfl rfl)
theorem dJ28_requireNonNull_4 : decode cJ28_requireNonNull 4 = .ok (.new 84, 3) := dk_187 0 84 (dk_at dksJ28_requireNonNull_0 4 rfl rfl)
theorem dJ28_requireNonNull_7 : decode cJ28_requireNonNull 7 = .ok (.dup, 1) := dk_89 (dk_at dksJ28_requireNonNull_0 7 rfl rfl)
theorem dJ28_requireNonNull_8 : decode cJ28_requireNonNull 8 = .ok (.invokespecial 86, 3) := dk_183 0 86 (dk_at dksJ28_requireNonNull_0 8 rfl rfl)
theorem dJ28_requireNonNull_11 : decode cJ28_requireNonNull 11 = .ok (.athrow, 1) := dk_191 (dk_at dksJ28_requireNonNull_0 11 rfl rfl)
theorem dJ28_requireNonNull_12 : decode cJ28_requireNonNull 12 = .ok (.aload_n 0, 1) := dk_42 (dk_at dksJ28_requireNonNull_0 12 rfl rfl)
theorem dJ28_requireNonNull_13 : decode cJ28_requireNonNull 13 = .ok (.areturn, 1) := dk_176 (dk_at dksJ28_requireNonNull_0 13 rfl rfl)
abbrev cJ28_equals : ByteArray := prog_74_method_2_code
def yJ28_equals : MethodName := ⟨RJ28, "equals", "(Ljava/lang/Object;Ljava/lang/Object;)Z"⟩
def dkwJ28_equals_0 : List UInt8 := [42, 43, 165, 0, 15, 42, 198, 0, 15, 42, 43, 182, 0, 14, 153, 0, 7, 4, 167, 0, 4, 3, 172]
abbrev dktJ28_equals_0 : List UInt8 := dkwJ28_equals_0 ++ []
theorem dksJ28_equals_0 : cJ28_equals.data.toList.drop 0 = dktJ28_equals_0 := by decide +kernel
theorem dJ28_equals_0 : decode cJ28_equals 0 = .ok (.aload_n 0, 1) := dk_42 (dk_at dksJ28_equals_0 0 rfl rfl)
theorem dJ28_equals_1 : decode cJ28_equals 1 = .ok (.aload_n 1, 1) := dk_43 (dk_at dksJ28_equals_0 1 rfl rfl)
theorem dJ28_equals_2 : decode cJ28_equals 2 = .ok (.if_acmp .eq 15, 3) := dk_165 0 15 (dk_at dksJ28_equals_0 2 rfl rfl)
theorem dJ28_equals_5 : decode cJ28_equals 5 = .ok (.aload_n 0, 1) := dk_42 (dk_at dksJ28_equals_0 5 rfl rfl)
theorem dJ28_equals_6 : decode cJ28_equals 6 = .ok (.ifnull 15, 3) := dk_198 0 15 (dk_at dksJ28_equals_0 6 rfl rfl)
theorem dJ28_equals_9 : decode cJ28_equals 9 = .ok (.aload_n 0, 1) := dk_42 (dk_at dksJ28_equals_0 9 rfl rfl)
theorem dJ28_equals_10 : decode cJ28_equals 10 = .ok (.aload_n 1, 1) := dk_43 (dk_at dksJ28_equals_0 10 rfl rfl)
theorem dJ28_equals_11 : decode cJ28_equals 11 = .ok (.invokevirtual 14, 3) := dk_182 0 14 (dk_at dksJ28_equals_0 11 rfl rfl)
theorem dJ28_equals_14 : decode cJ28_equals 14 = .ok (.ifCond .eq 7, 3) := dk_153 0 7 (dk_at dksJ28_equals_0 14 rfl rfl)
theorem dJ28_equals_17 : decode cJ28_equals 17 = .ok (.iconst 1, 1) := dk_4 (dk_at dksJ28_equals_0 17 rfl rfl)
theorem dJ28_equals_18 : decode cJ28_equals 18 = .ok (.goto 4, 3) := dk_167 0 4 (dk_at dksJ28_equals_0 18 rfl rfl)
theorem dJ28_equals_21 : decode cJ28_equals 21 = .ok (.iconst 0, 1) := dk_3 (dk_at dksJ28_equals_0 21 rfl rfl)
theorem dJ28_equals_22 : decode cJ28_equals 22 = .ok (.ireturn, 1) := dk_172 (dk_at dksJ28_equals_0 22 rfl rfl)
theorem q137 : (Jvm.Cond.initialized "java/util/Objects") ∈ lw_all := lw_g (lw_at lw_m1 43 rfl) rfl
theorem q484 : (Jvm.Cond.static ({ cls := "java/util/Objects", name := "checkIndex", desc := "(II)I" } : Jvm.MethodName)) ∈ lw_all := lw_g (lw_at lw_m2 150 rfl) rfl
theorem q485 : (Jvm.Cond.code ({ cls := "java/util/Objects", name := "checkIndex", desc := "(II)I" } : Jvm.MethodName) prog_74_method_17_code (2 : Nat) (Option.some Jvm.ClassFile.FieldType.int)) ∈ lw_all := lw_g (lw_at lw_m2 151 rfl) rfl
theorem q486 : (Jvm.Cond.methodLink "java/util/Objects" (105 : Nat) ({ cls := "jdk/internal/util/Preconditions", name := "checkIndex", desc := "(IILjava/util/function/BiFunction;)I" } : Jvm.MethodName)) ∈ lw_all := lw_g (lw_at lw_m2 152 rfl) rfl
theorem q1234 : (Jvm.Cond.static ({ cls := "java/util/Objects", name := "requireNonNull", desc := "(Ljava/lang/Object;)Ljava/lang/Object;" } : Jvm.MethodName)) ∈ lw_all := lw_g (lw_at lw_m5 180 rfl) rfl
theorem q1235 : (Jvm.Cond.code ({ cls := "java/util/Objects", name := "requireNonNull", desc := "(Ljava/lang/Object;)Ljava/lang/Object;" } : Jvm.MethodName) prog_74_method_10_code (1 : Nat) (Option.some (Jvm.ClassFile.FieldType.object "java/lang/Object"))) ∈ lw_all := lw_g (lw_at lw_m5 181 rfl) rfl
theorem q2415 : (Jvm.Cond.static ({ cls := "java/util/Objects", name := "equals", desc := "(Ljava/lang/Object;Ljava/lang/Object;)Z" } : Jvm.MethodName)) ∈ lw_all := lw_g (lw_at lw_m10 161 rfl) rfl
theorem q2416 : (Jvm.Cond.code ({ cls := "java/util/Objects", name := "equals", desc := "(Ljava/lang/Object;Ljava/lang/Object;)Z" } : Jvm.MethodName) prog_74_method_2_code (2 : Nat) (Option.some Jvm.ClassFile.FieldType.boolean)) ∈ lw_all := lw_g (lw_at lw_m10 162 rfl) rfl
theorem q2417 : (Jvm.Cond.methodLink "java/util/Objects" (14 : Nat) ({ cls := "java/lang/Object", name := "equals", desc := "(Ljava/lang/Object;)Z" } : Jvm.MethodName)) ∈ lw_all := lw_g (lw_at lw_m10 163 rfl) rfl

/-! java/util/List -/
set_option maxRecDepth 100000
def RJ29 : String := "java/util/List"
abbrev cJ29_of : ByteArray := prog_68_method_40_code
def yJ29_of : MethodName := ⟨RJ29, "of", "(Ljava/lang/Object;Ljava/lang/Object;Ljava/lang/Object;Ljava/lang/Object;)Ljava/util/List;"⟩
def dkwJ29_of_0 : List UInt8 := [7, 189, 0, 103, 89, 3, 42, 83, 89, 4, 43, 83, 89, 5, 44, 83, 89, 6, 45, 83, 184, 0, 105, 176]
abbrev dktJ29_of_0 : List UInt8 := dkwJ29_of_0 ++ []
theorem dksJ29_of_0 : cJ29_of.data.toList.drop 0 = dktJ29_of_0 := by decide +kernel
theorem dJ29_of_0 : decode cJ29_of 0 = .ok (.iconst 4, 1) := dk_7 (dk_at dksJ29_of_0 0 rfl rfl)
theorem dJ29_of_1 : decode cJ29_of 1 = .ok (.anewarray 103, 3) := dk_189 0 103 (dk_at dksJ29_of_0 1 rfl rfl)
theorem dJ29_of_4 : decode cJ29_of 4 = .ok (.dup, 1) := dk_89 (dk_at dksJ29_of_0 4 rfl rfl)
theorem dJ29_of_5 : decode cJ29_of 5 = .ok (.iconst 0, 1) := dk_3 (dk_at dksJ29_of_0 5 rfl rfl)
theorem dJ29_of_6 : decode cJ29_of 6 = .ok (.aload_n 0, 1) := dk_42 (dk_at dksJ29_of_0 6 rfl rfl)
theorem dJ29_of_7 : decode cJ29_of 7 = .ok (.aastore, 1) := dk_83 (dk_at dksJ29_of_0 7 rfl rfl)
theorem dJ29_of_8 : decode cJ29_of 8 = .ok (.dup, 1) := dk_89 (dk_at dksJ29_of_0 8 rfl rfl)
theorem dJ29_of_9 : decode cJ29_of 9 = .ok (.iconst 1, 1) := dk_4 (dk_at dksJ29_of_0 9 rfl rfl)
theorem dJ29_of_10 : decode cJ29_of 10 = .ok (.aload_n 1, 1) := dk_43 (dk_at dksJ29_of_0 10 rfl rfl)
theorem dJ29_of_11 : decode cJ29_of 11 = .ok (.aastore, 1) := dk_83 (dk_at dksJ29_of_0 11 rfl rfl)
theorem dJ29_of_12 : decode cJ29_of 12 = .ok (.dup, 1) := dk_89 (dk_at dksJ29_of_0 12 rfl rfl)
theorem dJ29_of_13 : decode cJ29_of 13 = .ok (.iconst 2, 1) := dk_5 (dk_at dksJ29_of_0 13 rfl rfl)
theorem dJ29_of_14 : decode cJ29_of 14 = .ok (.aload_n 2, 1) := dk_44 (dk_at dksJ29_of_0 14 rfl rfl)
theorem dJ29_of_15 : decode cJ29_of 15 = .ok (.aastore, 1) := dk_83 (dk_at dksJ29_of_0 15 rfl rfl)
theorem dJ29_of_16 : decode cJ29_of 16 = .ok (.dup, 1) := dk_89 (dk_at dksJ29_of_0 16 rfl rfl)
theorem dJ29_of_17 : decode cJ29_of 17 = .ok (.iconst 3, 1) := dk_6 (dk_at dksJ29_of_0 17 rfl rfl)
theorem dJ29_of_18 : decode cJ29_of 18 = .ok (.aload_n 3, 1) := dk_45 (dk_at dksJ29_of_0 18 rfl rfl)
theorem dJ29_of_19 : decode cJ29_of 19 = .ok (.aastore, 1) := dk_83 (dk_at dksJ29_of_0 19 rfl rfl)
theorem dJ29_of_20 : decode cJ29_of 20 = .ok (.invokestatic 105, 3) := dk_184 0 105 (dk_at dksJ29_of_0 20 rfl rfl)
theorem dJ29_of_23 : decode cJ29_of 23 = .ok (.areturn, 1) := dk_176 (dk_at dksJ29_of_0 23 rfl rfl)
theorem q139 : (Jvm.Cond.initialized "java/util/List") ∈ lw_all := lw_g (lw_at lw_m1 45 rfl) rfl
theorem q432 : (Jvm.Cond.interfaceMethod "java/util/List" "java/util/List" "size" "()I") ∈ lw_tbl := lw_at lw_m2 98 rfl
theorem q433 : (Jvm.Cond.declares ({ cls := "java/util/List", name := "size", desc := "()I" } : Jvm.MethodName)) ∈ lw_tbl := lw_at lw_m2 99 rfl
theorem q476 : (Jvm.Cond.interfaceMethod "java/util/List" "java/util/List" "get" "(I)Ljava/lang/Object;") ∈ lw_tbl := lw_at lw_m2 142 rfl
theorem q477 : (Jvm.Cond.declares ({ cls := "java/util/List", name := "get", desc := "(I)Ljava/lang/Object;" } : Jvm.MethodName)) ∈ lw_tbl := lw_at lw_m2 143 rfl
theorem q1628 : (Jvm.Cond.interfaceMethod "java/util/List" "java/util/List" "set" "(ILjava/lang/Object;)Ljava/lang/Object;") ∈ lw_tbl := lw_at lw_m7 94 rfl
theorem q1629 : (Jvm.Cond.declares ({ cls := "java/util/List", name := "set", desc := "(ILjava/lang/Object;)Ljava/lang/Object;" } : Jvm.MethodName)) ∈ lw_tbl := lw_at lw_m7 95 rfl
theorem q1649 : (Jvm.Cond.interfaceMethod "java/util/List" "java/util/List" "add" "(Ljava/lang/Object;)Z") ∈ lw_tbl := lw_at lw_m7 115 rfl
theorem q1650 : (Jvm.Cond.declares ({ cls := "java/util/List", name := "add", desc := "(Ljava/lang/Object;)Z" } : Jvm.MethodName)) ∈ lw_tbl := lw_at lw_m7 116 rfl
theorem q1698 : (Jvm.Cond.interfaceMethod "java/util/List" "java/util/List" "iterator" "()Ljava/util/Iterator;") ∈ lw_tbl := lw_at lw_m7 164 rfl
theorem q1699 : (Jvm.Cond.declares ({ cls := "java/util/List", name := "iterator", desc := "()Ljava/util/Iterator;" } : Jvm.MethodName)) ∈ lw_tbl := lw_at lw_m7 165 rfl
theorem q2304 : (Jvm.Cond.static ({ cls := "java/util/List", name := "of", desc := "(Ljava/lang/Object;Ljava/lang/Object;Ljava/lang/Object;Ljava/lang/Object;)Ljava/util/List;" } : Jvm.MethodName)) ∈ lw_all := lw_g (lw_at lw_m10 50 rfl) rfl
theorem q2305 : (Jvm.Cond.code ({ cls := "java/util/List", name := "of", desc := "(Ljava/lang/Object;Ljava/lang/Object;Ljava/lang/Object;Ljava/lang/Object;)Ljava/util/List;" } : Jvm.MethodName) prog_68_method_40_code (4 : Nat) (Option.some (Jvm.ClassFile.FieldType.object "java/util/List"))) ∈ lw_all := lw_g (lw_at lw_m10 51 rfl) rfl
theorem q2306 : (Jvm.Cond.classLink "java/util/List" (103 : Nat) "java/lang/Object") ∈ lw_all := lw_g (lw_at lw_m10 52 rfl) rfl
theorem q2307 : (Jvm.Cond.methodLink "java/util/List" (105 : Nat) ({ cls := "java/util/ImmutableCollections", name := "listFromTrustedArray", desc := "([Ljava/lang/Object;)Ljava/util/List;" } : Jvm.MethodName)) ∈ lw_all := lw_g (lw_at lw_m10 53 rfl) rfl
theorem q2355 : (Jvm.Cond.interfaceMethod "java/util/List" "java/util/List" "contains" "(Ljava/lang/Object;)Z") ∈ lw_tbl := lw_at lw_m10 101 rfl
theorem q2356 : (Jvm.Cond.declares ({ cls := "java/util/List", name := "contains", desc := "(Ljava/lang/Object;)Z" } : Jvm.MethodName)) ∈ lw_tbl := lw_at lw_m10 102 rfl
theorem q2406 : (Jvm.Cond.declares ({ cls := "java/util/List", name := "indexOf", desc := "(Ljava/lang/Object;)I" } : Jvm.MethodName)) ∈ lw_tbl := lw_at lw_m10 152 rfl
theorem q2450 : (Jvm.Cond.interfaceMethod "java/util/List" "java/util/List" "isEmpty" "()Z") ∈ lw_tbl := lw_at lw_m10 196 rfl
theorem q2451 : (Jvm.Cond.declares ({ cls := "java/util/List", name := "isEmpty", desc := "()Z" } : Jvm.MethodName)) ∈ lw_tbl := lw_at lw_m10 197 rfl

/-! java/util/TreeMap -/
set_option maxRecDepth 100000
def RJ3 : String := "java/util/TreeMap"
def TJ3 : u_T := fun k => match k with
  | 0 => ("java/util/AbstractMap", "keySet", "Ljava/util/Set;", false)
  | 1 => ("java/util/AbstractMap", "values", "Ljava/util/Collection;", false)
  | 2 => ("java/util/TreeMap", "comparator", "Ljava/util/Comparator;", true)
  | 3 => ("java/util/TreeMap", "root", "Ljava/util/TreeMap$Entry;", false)
  | 4 => ("java/util/TreeMap", "size", "I", false)
  | 5 => ("java/util/TreeMap", "modCount", "I", false)
  | 6 => ("java/util/TreeMap", "entrySet", "Ljava/util/TreeMap$EntrySet;", false)
  | 7 => ("java/util/TreeMap", "navigableKeySet", "Ljava/util/TreeMap$KeySet;", false)
  | _ => ("java/util/TreeMap", "descendingMap", "Ljava/util/NavigableMap;", false)
def tyJ3 : Nat → FieldType := fun k => match k with
  | 0 => .object "java/util/Set"
  | 1 => .object "java/util/Collection"
  | 2 => .object "java/util/Comparator"
  | 3 => .object "java/util/TreeMap$Entry"
  | 4 => .int
  | 5 => .int
  | 6 => .object "java/util/TreeMap$EntrySet"
  | 7 => .object "java/util/TreeMap$KeySet"
  | _ => .object "java/util/NavigableMap"
abbrev wsJ30 : List Cond := u_ws RJ3 TJ3 9
theorem nmJ3 : ∀ a, a < 9 → ∀ b, b < 9 → a ≠ b → (TJ3 a).2.1 ≠ (TJ3 b).2.1 := by decide +kernel
theorem tyJ3_ok : ∀ k, k < 9 → parseFieldDescriptor (TJ3 k).2.2.1 = some (tyJ3 k) := by decide +kernel
abbrev cJ3_init : ByteArray := prog_80_method_1_code
def yJ3_init : MethodName := ⟨RJ3, "<init>", "()V"⟩
def dkwJ3_init_0 : List UInt8 := [42, 183, 0, 1, 42, 3, 181, 0, 7, 42, 3, 181, 0, 13, 42, 1, 181, 0, 16, 177]
abbrev dktJ3_init_0 : List UInt8 := dkwJ3_init_0 ++ []
theorem dksJ3_init_0 : cJ3_init.data.toList.drop 0 = dktJ3_init_0 := by decide +kernel
theorem dJ3_init_0 : decode cJ3_init 0 = .ok (.aload_n 0, 1) := dk_42 (dk_at dksJ3_init_0 0 rfl rfl)
theorem dJ3_init_1 : decode cJ3_init 1 = .ok (.invokespecial 1, 3) := dk_183 0 1 (dk_at dksJ3_init_0 1 rfl rfl)
theorem dJ3_init_4 : decode cJ3_init 4 = .ok (.aload_n 0, 1) := dk_42 (dk_at dksJ3_init_0 4 rfl rfl)
theorem dJ3_init_5 : decode cJ3_init 5 = .ok (.iconst 0, 1) := dk_3 (dk_at dksJ3_init_0 5 rfl rfl)
theorem dJ3_init_6 : decode cJ3_init 6 = .ok (.putfield 7, 3) := dk_181 0 7 (dk_at dksJ3_init_0 6 rfl rfl)
theorem dJ3_init_9 : decode cJ3_init 9 = .ok (.aload_n 0, 1) := dk_42 (dk_at dksJ3_init_0 9 rfl rfl)
theorem dJ3_init_10 : decode cJ3_init 10 = .ok (.iconst 0, 1) := dk_3 (dk_at dksJ3_init_0 10 rfl rfl)
theorem dJ3_init_11 : decode cJ3_init 11 = .ok (.putfield 13, 3) := dk_181 0 13 (dk_at dksJ3_init_0 11 rfl rfl)
theorem dJ3_init_14 : decode cJ3_init 14 = .ok (.aload_n 0, 1) := dk_42 (dk_at dksJ3_init_0 14 rfl rfl)
theorem dJ3_init_15 : decode cJ3_init 15 = .ok (.aconst_null, 1) := dk_1 (dk_at dksJ3_init_0 15 rfl rfl)
theorem dJ3_init_16 : decode cJ3_init 16 = .ok (.putfield 16, 3) := dk_181 0 16 (dk_at dksJ3_init_0 16 rfl rfl)
theorem dJ3_init_19 : decode cJ3_init 19 = .ok (.return_, 1) := dk_177 (dk_at dksJ3_init_0 19 rfl rfl)
abbrev cJ3_get : ByteArray := prog_80_method_8_code
def yJ3_get : MethodName := ⟨RJ3, "get", "(Ljava/lang/Object;)Ljava/lang/Object;"⟩
def dkwJ3_get_0 : List UInt8 := [42, 43, 182, 0, 50, 77, 44, 199, 0, 7, 1, 167, 0, 7, 44, 180, 0, 58, 176]
abbrev dktJ3_get_0 : List UInt8 := dkwJ3_get_0 ++ []
theorem dksJ3_get_0 : cJ3_get.data.toList.drop 0 = dktJ3_get_0 := by decide +kernel
theorem dJ3_get_0 : decode cJ3_get 0 = .ok (.aload_n 0, 1) := dk_42 (dk_at dksJ3_get_0 0 rfl rfl)
theorem dJ3_get_1 : decode cJ3_get 1 = .ok (.aload_n 1, 1) := dk_43 (dk_at dksJ3_get_0 1 rfl rfl)
theorem dJ3_get_2 : decode cJ3_get 2 = .ok (.invokevirtual 50, 3) := dk_182 0 50 (dk_at dksJ3_get_0 2 rfl rfl)
theorem dJ3_get_5 : decode cJ3_get 5 = .ok (.astore_n 2, 1) := dk_77 (dk_at dksJ3_get_0 5 rfl rfl)
theorem dJ3_get_6 : decode cJ3_get 6 = .ok (.aload_n 2, 1) := dk_44 (dk_at dksJ3_get_0 6 rfl rfl)
theorem dJ3_get_7 : decode cJ3_get 7 = .ok (.ifnonnull 7, 3) := dk_199 0 7 (dk_at dksJ3_get_0 7 rfl rfl)
theorem dJ3_get_10 : decode cJ3_get 10 = .ok (.aconst_null, 1) := dk_1 (dk_at dksJ3_get_0 10 rfl rfl)
theorem dJ3_get_11 : decode cJ3_get 11 = .ok (.goto 7, 3) := dk_167 0 7 (dk_at dksJ3_get_0 11 rfl rfl)
theorem dJ3_get_14 : decode cJ3_get 14 = .ok (.aload_n 2, 1) := dk_44 (dk_at dksJ3_get_0 14 rfl rfl)
theorem dJ3_get_15 : decode cJ3_get 15 = .ok (.getfield 58, 3) := dk_180 0 58 (dk_at dksJ3_get_0 15 rfl rfl)
theorem dJ3_get_18 : decode cJ3_get 18 = .ok (.areturn, 1) := dk_176 (dk_at dksJ3_get_0 18 rfl rfl)
abbrev cJ3_getEntry : ByteArray := prog_80_method_15_code
def yJ3_getEntry : MethodName := ⟨RJ3, "getEntry", "(Ljava/lang/Object;)Ljava/util/TreeMap$Entry;"⟩
def dkwJ3_getEntry_3 : List UInt8 := [45, 176, 167, 255, 212, 1, 176]
abbrev dktJ3_getEntry_3 : List UInt8 := dkwJ3_getEntry_3 ++ []
def dkwJ3_getEntry_2 : List UInt8 := [156, 0, 11, 45, 180, 0, 111, 78, 167, 0, 18, 21, 4, 158, 0, 11, 45, 180, 0, 114, 78, 167, 0, 5]
abbrev dktJ3_getEntry_2 : List UInt8 := dkwJ3_getEntry_2 ++ dktJ3_getEntry_3
def dkwJ3_getEntry_1 : List UInt8 := [180, 0, 101, 78, 45, 198, 0, 46, 44, 45, 180, 0, 105, 185, 0, 107, 2, 0, 54, 4, 21, 4]
abbrev dktJ3_getEntry_1 : List UInt8 := dkwJ3_getEntry_1 ++ dktJ3_getEntry_2
def dkwJ3_getEntry_0 : List UInt8 := [42, 180, 0, 16, 198, 0, 9, 42, 43, 182, 0, 92, 176, 43, 184, 0, 95, 87, 43, 192, 0, 99, 77, 42]
abbrev dktJ3_getEntry_0 : List UInt8 := dkwJ3_getEntry_0 ++ dktJ3_getEntry_1
theorem dksJ3_getEntry_0 : cJ3_getEntry.data.toList.drop 0 = dktJ3_getEntry_0 := by decide +kernel
theorem dksJ3_getEntry_1 : cJ3_getEntry.data.toList.drop 24 = dktJ3_getEntry_1 := dk_seg dksJ3_getEntry_0 24 rfl rfl
theorem dksJ3_getEntry_2 : cJ3_getEntry.data.toList.drop 46 = dktJ3_getEntry_2 := dk_seg dksJ3_getEntry_1 22 rfl rfl
theorem dksJ3_getEntry_3 : cJ3_getEntry.data.toList.drop 70 = dktJ3_getEntry_3 := dk_seg dksJ3_getEntry_2 24 rfl rfl
theorem dJ3_getEntry_0 : decode cJ3_getEntry 0 = .ok (.aload_n 0, 1) := dk_42 (dk_at dksJ3_getEntry_0 0 rfl rfl)
theorem dJ3_getEntry_1 : decode cJ3_getEntry 1 = .ok (.getfield 16, 3) := dk_180 0 16 (dk_at dksJ3_getEntry_0 1 rfl rfl)
theorem dJ3_getEntry_4 : decode cJ3_getEntry 4 = .ok (.ifnull 9, 3) := dk_198 0 9 (dk_at dksJ3_getEntry_0 4 rfl rfl)
theorem dJ3_getEntry_7 : decode cJ3_getEntry 7 = .ok (.aload_n 0, 1) := dk_42 (dk_at dksJ3_getEntry_0 7 rfl rfl)
theorem dJ3_getEntry_8 : decode cJ3_getEntry 8 = .ok (.aload_n 1, 1) := dk_43 (dk_at dksJ3_getEntry_0 8 rfl rfl)
theorem dJ3_getEntry_9 : decode cJ3_getEntry 9 = .ok (.invokevirtual 92, 3) := dk_182 0 92 (dk_at dksJ3_getEntry_0 9 rfl rfl)
theorem dJ3_getEntry_12 : decode cJ3_getEntry 12 = .ok (.areturn, 1) := dk_176 (dk_at dksJ3_getEntry_0 12 rfl rfl)
theorem dJ3_getEntry_13 : decode cJ3_getEntry 13 = .ok (.aload_n 1, 1) := dk_43 (dk_at dksJ3_getEntry_0 13 rfl rfl)
theorem dJ3_getEntry_14 : decode cJ3_getEntry 14 = .ok (.invokestatic 95, 3) := dk_184 0 95 (dk_at dksJ3_getEntry_0 14 rfl rfl)
theorem dJ3_getEntry_17 : decode cJ3_getEntry 17 = .ok (.pop, 1) := dk_87 (dk_at dksJ3_getEntry_0 17 rfl rfl)
theorem dJ3_getEntry_18 : decode cJ3_getEntry 18 = .ok (.aload_n 1, 1) := dk_43 (dk_at dksJ3_getEntry_0 18 rfl rfl)
theorem dJ3_getEntry_19 : decode cJ3_getEntry 19 = .ok (.checkcast 99, 3) := dk_192 0 99 (dk_at dksJ3_getEntry_0 19 rfl rfl)
theorem dJ3_getEntry_22 : decode cJ3_getEntry 22 = .ok (.astore_n 2, 1) := dk_77 (dk_at dksJ3_getEntry_0 22 rfl rfl)
theorem dJ3_getEntry_23 : decode cJ3_getEntry 23 = .ok (.aload_n 0, 1) := dk_42 (dk_at dksJ3_getEntry_0 23 rfl rfl)
theorem dJ3_getEntry_24 : decode cJ3_getEntry 24 = .ok (.getfield 101, 3) := dk_180 0 101 (dk_at dksJ3_getEntry_1 0 rfl rfl)
theorem dJ3_getEntry_27 : decode cJ3_getEntry 27 = .ok (.astore_n 3, 1) := dk_78 (dk_at dksJ3_getEntry_1 3 rfl rfl)
theorem dJ3_getEntry_28 : decode cJ3_getEntry 28 = .ok (.aload_n 3, 1) := dk_45 (dk_at dksJ3_getEntry_1 4 rfl rfl)
theorem dJ3_getEntry_29 : decode cJ3_getEntry 29 = .ok (.ifnull 46, 3) := dk_198 0 46 (dk_at dksJ3_getEntry_1 5 rfl rfl)
theorem dJ3_getEntry_32 : decode cJ3_getEntry 32 = .ok (.aload_n 2, 1) := dk_44 (dk_at dksJ3_getEntry_1 8 rfl rfl)
theorem dJ3_getEntry_33 : decode cJ3_getEntry 33 = .ok (.aload_n 3, 1) := dk_45 (dk_at dksJ3_getEntry_1 9 rfl rfl)
theorem dJ3_getEntry_34 : decode cJ3_getEntry 34 = .ok (.getfield 105, 3) := dk_180 0 105 (dk_at dksJ3_getEntry_1 10 rfl rfl)
theorem dJ3_getEntry_37 : decode cJ3_getEntry 37 = .ok (.invokeinterface 107 2, 5) := by decide +kernel
theorem dJ3_getEntry_42 : decode cJ3_getEntry 42 = .ok (.istore 4, 2) := dk_54 4 (dk_at dksJ3_getEntry_1 18 rfl rfl)
theorem dJ3_getEntry_44 : decode cJ3_getEntry 44 = .ok (.iload 4, 2) := dk_21 4 (dk_at dksJ3_getEntry_1 20 rfl rfl)
theorem dJ3_getEntry_46 : decode cJ3_getEntry 46 = .ok (.ifCond .ge 11, 3) := dk_156 0 11 (dk_at dksJ3_getEntry_2 0 rfl rfl)
theorem dJ3_getEntry_49 : decode cJ3_getEntry 49 = .ok (.aload_n 3, 1) := dk_45 (dk_at dksJ3_getEntry_2 3 rfl rfl)
theorem dJ3_getEntry_50 : decode cJ3_getEntry 50 = .ok (.getfield 111, 3) := dk_180 0 111 (dk_at dksJ3_getEntry_2 4 rfl rfl)
theorem dJ3_getEntry_53 : decode cJ3_getEntry 53 = .ok (.astore_n 3, 1) := dk_78 (dk_at dksJ3_getEntry_2 7 rfl rfl)
theorem dJ3_getEntry_54 : decode cJ3_getEntry 54 = .ok (.goto 18, 3) := dk_167 0 18 (dk_at dksJ3_getEntry_2 8 rfl rfl)
theorem dJ3_getEntry_57 : decode cJ3_getEntry 57 = .ok (.iload 4, 2) := dk_21 4 (dk_at dksJ3_getEntry_2 11 rfl rfl)
theorem dJ3_getEntry_59 : decode cJ3_getEntry 59 = .ok (.ifCond .le 11, 3) := dk_158 0 11 (dk_at dksJ3_getEntry_2 13 rfl rfl)
theorem dJ3_getEntry_62 : decode cJ3_getEntry 62 = .ok (.aload_n 3, 1) := dk_45 (dk_at dksJ3_getEntry_2 16 rfl rfl)
theorem dJ3_getEntry_63 : decode cJ3_getEntry 63 = .ok (.getfield 114, 3) := dk_180 0 114 (dk_at dksJ3_getEntry_2 17 rfl rfl)
theorem dJ3_getEntry_66 : decode cJ3_getEntry 66 = .ok (.astore_n 3, 1) := dk_78 (dk_at dksJ3_getEntry_2 20 rfl rfl)
theorem dJ3_getEntry_67 : decode cJ3_getEntry 67 = .ok (.goto 5, 3) := dk_167 0 5 (dk_at dksJ3_getEntry_2 21 rfl rfl)
theorem dJ3_getEntry_70 : decode cJ3_getEntry 70 = .ok (.aload_n 3, 1) := dk_45 (dk_at dksJ3_getEntry_3 0 rfl rfl)
theorem dJ3_getEntry_71 : decode cJ3_getEntry 71 = .ok (.areturn, 1) := dk_176 (dk_at dksJ3_getEntry_3 1 rfl rfl)
theorem dJ3_getEntry_72 : decode cJ3_getEntry 72 = .ok (.goto (-44), 3) := dk_167 255 212 (dk_at dksJ3_getEntry_3 2 rfl rfl)
theorem dJ3_getEntry_75 : decode cJ3_getEntry 75 = .ok (.aconst_null, 1) := dk_1 (dk_at dksJ3_getEntry_3 5 rfl rfl)
theorem dJ3_getEntry_76 : decode cJ3_getEntry 76 = .ok (.areturn, 1) := dk_176 (dk_at dksJ3_getEntry_3 6 rfl rfl)
abbrev cJ3_getEntryUsingComparator : ByteArray := prog_80_method_16_code
def yJ3_getEntryUsingComparator : MethodName := ⟨RJ3, "getEntryUsingComparator", "(Ljava/lang/Object;)Ljava/util/TreeMap$Entry;"⟩
def dkwJ3_getEntryUsingComparator_3 : List UInt8 := [1, 176]
abbrev dktJ3_getEntryUsingComparator_3 : List UInt8 := dkwJ3_getEntryUsingComparator_3 ++ []
def dkwJ3_getEntryUsingComparator_2 : List UInt8 := [167, 0, 21, 21, 5, 158, 0, 13, 25, 4, 180, 0, 114, 58, 4, 167, 0, 6, 25, 4, 176, 167, 255, 204]
abbrev dktJ3_getEntryUsingComparator_2 : List UInt8 := dkwJ3_getEntryUsingComparator_2 ++ dktJ3_getEntryUsingComparator_3
def dkwJ3_getEntryUsingComparator_1 : List UInt8 := [25, 4, 180, 0, 105, 185, 0, 117, 3, 0, 54, 5, 21, 5, 156, 0, 13, 25, 4, 180, 0, 111, 58, 4]
abbrev dktJ3_getEntryUsingComparator_1 : List UInt8 := dkwJ3_getEntryUsingComparator_1 ++ dktJ3_getEntryUsingComparator_2
def dkwJ3_getEntryUsingComparator_0 : List UInt8 := [43, 77, 42, 180, 0, 16, 78, 45, 198, 0, 64, 42, 180, 0, 101, 58, 4, 25, 4, 198, 0, 53, 45, 44]
abbrev dktJ3_getEntryUsingComparator_0 : List UInt8 := dkwJ3_getEntryUsingComparator_0 ++ dktJ3_getEntryUsingComparator_1
theorem dksJ3_getEntryUsingComparator_0 : cJ3_getEntryUsingComparator.data.toList.drop 0 = dktJ3_getEntryUsingComparator_0 := by decide +kernel
theorem dksJ3_getEntryUsingComparator_1 : cJ3_getEntryUsingComparator.data.toList.drop 24 = dktJ3_getEntryUsingComparator_1 := dk_seg dksJ3_getEntryUsingComparator_0 24 rfl rfl
theorem dksJ3_getEntryUsingComparator_2 : cJ3_getEntryUsingComparator.data.toList.drop 48 = dktJ3_getEntryUsingComparator_2 := dk_seg dksJ3_getEntryUsingComparator_1 24 rfl rfl
theorem dksJ3_getEntryUsingComparator_3 : cJ3_getEntryUsingComparator.data.toList.drop 72 = dktJ3_getEntryUsingComparator_3 := dk_seg dksJ3_getEntryUsingComparator_2 24 rfl rfl
theorem dJ3_getEntryUsingComparator_0 : decode cJ3_getEntryUsingComparator 0 = .ok (.aload_n 1, 1) := dk_43 (dk_at dksJ3_getEntryUsingComparator_0 0 rfl rfl)
theorem dJ3_getEntryUsingComparator_1 : decode cJ3_getEntryUsingComparator 1 = .ok (.astore_n 2, 1) := dk_77 (dk_at dksJ3_getEntryUsingComparator_0 1 rfl rfl)
theorem dJ3_getEntryUsingComparator_2 : decode cJ3_getEntryUsingComparator 2 = .ok (.aload_n 0, 1) := dk_42 (dk_at dksJ3_getEntryUsingComparator_0 2 rfl rfl)
theorem dJ3_getEntryUsingComparator_3 : decode cJ3_getEntryUsingComparator 3 = .ok (.getfield 16, 3) := dk_180 0 16 (dk_at dksJ3_getEntryUsingComparator_0 3 rfl rfl)
theorem dJ3_getEntryUsingComparator_6 : decode cJ3_getEntryUsingComparator 6 = .ok (.astore_n 3, 1) := dk_78 (dk_at dksJ3_getEntryUsingComparator_0 6 rfl rfl)
theorem dJ3_getEntryUsingComparator_7 : decode cJ3_getEntryUsingComparator 7 = .ok (.aload_n 3, 1) := dk_45 (dk_at dksJ3_getEntryUsingComparator_0 7 rfl rfl)
theorem dJ3_getEntryUsingComparator_8 : decode cJ3_getEntryUsingComparator 8 = .ok (.ifnull 64, 3) := dk_198 0 64 (dk_at dksJ3_getEntryUsingComparator_0 8 rfl rfl)
theorem dJ3_getEntryUsingComparator_11 : decode cJ3_getEntryUsingComparator 11 = .ok (.aload_n 0, 1) := dk_42 (dk_at dksJ3_getEntryUsingComparator_0 11 rfl rfl)
theorem dJ3_getEntryUsingComparator_12 : decode cJ3_getEntryUsingComparator 12 = .ok (.getfield 101, 3) := dk_180 0 101 (dk_at dksJ3_getEntryUsingComparator_0 12 rfl rfl)
theorem dJ3_getEntryUsingComparator_15 : decode cJ3_getEntryUsingComparator 15 = .ok (.astore 4, 2) := dk_58 4 (dk_at dksJ3_getEntryUsingComparator_0 15 rfl rfl)
theorem dJ3_getEntryUsingComparator_17 : decode cJ3_getEntryUsingComparator 17 = .ok (.aload 4, 2) := dk_25 4 (dk_at dksJ3_getEntryUsingComparator_0 17 rfl rfl)
theorem dJ3_getEntryUsingComparator_19 : decode cJ3_getEntryUsingComparator 19 = .ok (.ifnull 53, 3) := dk_198 0 53 (dk_at dksJ3_getEntryUsingComparator_0 19 rfl rfl)
theorem dJ3_getEntryUsingComparator_22 : decode cJ3_getEntryUsingComparator 22 = .ok (.aload_n 3, 1) := dk_45 (dk_at dksJ3_getEntryUsingComparator_0 22 rfl rfl)
theorem dJ3_getEntryUsingComparator_23 : decode cJ3_getEntryUsingComparator 23 = .ok (.aload_n 2, 1) := dk_44 (dk_at dksJ3_getEntryUsingComparator_0 23 rfl rfl)
theorem dJ3_getEntryUsingComparator_24 : decode cJ3_getEntryUsingComparator 24 = .ok (.aload 4, 2) := dk_25 4 (dk_at dksJ3_getEntryUsingComparator_1 0 rfl rfl)
theorem dJ3_getEntryUsingComparator_26 : decode cJ3_getEntryUsingComparator 26 = .ok (.getfield 105, 3) := dk_180 0 105 (dk_at dksJ3_getEntryUsingComparator_1 2 rfl rfl)
theorem dJ3_getEntryUsingComparator_29 : decode cJ3_getEntryUsingComparator 29 = .ok (.invokeinterface 117 3, 5) := by decide +kernel
theorem dJ3_getEntryUsingComparator_34 : decode cJ3_getEntryUsingComparator 34 = .ok (.istore 5, 2) := dk_54 5 (dk_at dksJ3_getEntryUsingComparator_1 10 rfl rfl)
theorem dJ3_getEntryUsingComparator_36 : decode cJ3_getEntryUsingComparator 36 = .ok (.iload 5, 2) := dk_21 5 (dk_at dksJ3_getEntryUsingComparator_1 12 rfl rfl)
theorem dJ3_getEntryUsingComparator_38 : decode cJ3_getEntryUsingComparator 38 = .ok (.ifCond .ge 13, 3) := dk_156 0 13 (dk_at dksJ3_getEntryUsingComparator_1 14 rfl rfl)
theorem dJ3_getEntryUsingComparator_41 : decode cJ3_getEntryUsingComparator 41 = .ok (.aload 4, 2) := dk_25 4 (dk_at dksJ3_getEntryUsingComparator_1 17 rfl rfl)
theorem dJ3_getEntryUsingComparator_43 : decode cJ3_getEntryUsingComparator 43 = .ok (.getfield 111, 3) := dk_180 0 111 (dk_at dksJ3_getEntryUsingComparator_1 19 rfl rfl)
theorem dJ3_getEntryUsingComparator_46 : decode cJ3_getEntryUsingComparator 46 = .ok (.astore 4, 2) := dk_58 4 (dk_at dksJ3_getEntryUsingComparator_1 22 rfl rfl)
theorem dJ3_getEntryUsingComparator_48 : decode cJ3_getEntryUsingComparator 48 = .ok (.goto 21, 3) := dk_167 0 21 (dk_at dksJ3_getEntryUsingComparator_2 0 rfl rfl)
theorem dJ3_getEntryUsingComparator_51 : decode cJ3_getEntryUsingComparator 51 = .ok (.iload 5, 2) := dk_21 5 (dk_at dksJ3_getEntryUsingComparator_2 3 rfl rfl)
theorem dJ3_getEntryUsingComparator_53 : decode cJ3_getEntryUsingComparator 53 = .ok (.ifCond .le 13, 3) := dk_158 0 13 (dk_at dksJ3_getEntryUsingComparator_2 5 rfl rfl)
theorem dJ3_getEntryUsingComparator_56 : decode cJ3_getEntryUsingComparator 56 = .ok (.aload 4, 2) := dk_25 4 (dk_at dksJ3_getEntryUsingComparator_2 8 rfl rfl)
theorem dJ3_getEntryUsingComparator_58 : decode cJ3_getEntryUsingComparator 58 = .ok (.getfield 114, 3) := dk_180 0 114 (dk_at dksJ3_getEntryUsingComparator_2 10 rfl rfl)
theorem dJ3_getEntryUsingComparator_61 : decode cJ3_getEntryUsingComparator 61 = .ok (.astore 4, 2) := dk_58 4 (dk_at dksJ3_getEntryUsingComparator_2 13 rfl rfl)
theorem dJ3_getEntryUsingComparator_63 : decode cJ3_getEntryUsingComparator 63 = .ok (.goto 6, 3) := dk_167 0 6 (dk_at dksJ3_getEntryUsingComparator_2 15 rfl rfl)
theorem dJ3_getEntryUsingComparator_66 : decode cJ3_getEntryUsingComparator 66 = .ok (.aload 4, 2) := dk_25 4 (dk_at dksJ3_getEntryUsingComparator_2 18 rfl rfl)
theorem dJ3_getEntryUsingComparator_68 : decode cJ3_getEntryUsingComparator 68 = .ok (.areturn, 1) := dk_176 (dk_at dksJ3_getEntryUsingComparator_2 20 rfl rfl)
theorem dJ3_getEntryUsingComparator_69 : decode cJ3_getEntryUsingComparator 69 = .ok (.goto (-52), 3) := dk_167 255 204 (dk_at dksJ3_getEntryUsingComparator_2 21 rfl rfl)
theorem dJ3_getEntryUsingComparator_72 : decode cJ3_getEntryUsingComparator 72 = .ok (.aconst_null, 1) := dk_1 (dk_at dksJ3_getEntryUsingComparator_3 0 rfl rfl)
theorem dJ3_getEntryUsingComparator_73 : decode cJ3_getEntryUsingComparator 73 = .ok (.areturn, 1) := dk_176 (dk_at dksJ3_getEntryUsingComparator_3 1 rfl rfl)
abbrev cJ3_put : ByteArray := prog_80_method_21_code
def yJ3_put : MethodName := ⟨RJ3, "put", "(Ljava/lang/Object;Ljava/lang/Object;)Ljava/lang/Object;"⟩
def dkwJ3_put_0 : List UInt8 := [42, 43, 44, 4, 182, 0, 127, 176]
abbrev dktJ3_put_0 : List UInt8 := dkwJ3_put_0 ++ []
theorem dksJ3_put_0 : cJ3_put.data.toList.drop 0 = dktJ3_put_0 := by decide +kernel
theorem dJ3_put_0 : decode cJ3_put 0 = .ok (.aload_n 0, 1) := dk_42 (dk_at dksJ3_put_0 0 rfl rfl)
theorem dJ3_put_1 : decode cJ3_put 1 = .ok (.aload_n 1, 1) := dk_43 (dk_at dksJ3_put_0 1 rfl rfl)
theorem dJ3_put_2 : decode cJ3_put 2 = .ok (.aload_n 2, 1) := dk_44 (dk_at dksJ3_put_0 2 rfl rfl)
theorem dJ3_put_3 : decode cJ3_put 3 = .ok (.iconst 1, 1) := dk_4 (dk_at dksJ3_put_0 3 rfl rfl)
theorem dJ3_put_4 : decode cJ3_put 4 = .ok (.invokevirtual 127, 3) := dk_182 0 127 (dk_at dksJ3_put_0 4 rfl rfl)
theorem dJ3_put_7 : decode cJ3_put 7 = .ok (.areturn, 1) := dk_176 (dk_at dksJ3_put_0 7 rfl rfl)
abbrev cJ3_put_2 : ByteArray := prog_80_method_31_code
def yJ3_put_2 : MethodName := ⟨RJ3, "put", "(Ljava/lang/Object;Ljava/lang/Object;Z)Ljava/lang/Object;"⟩
def dkwJ3_put_2_9 : List UInt8 := [4, 167, 0, 4, 3, 182, 0, 139, 1, 176]
abbrev dktJ3_put_2_9 : List UInt8 := dkwJ3_put_2_9 ++ []
def dkwJ3_put_2_8 : List UInt8 := [25, 4, 44, 181, 0, 58, 25, 9, 176, 25, 4, 199, 255, 181, 42, 43, 44, 25, 6, 21, 5, 156, 0, 7]
abbrev dktJ3_put_2_8 : List UInt8 := dkwJ3_put_2_8 ++ dktJ3_put_2_9
def dkwJ3_put_2_7 : List UInt8 := [180, 0, 114, 58, 4, 167, 0, 28, 25, 4, 180, 0, 58, 58, 9, 29, 154, 0, 8, 25, 9, 199, 0, 9]
abbrev dktJ3_put_2_7 : List UInt8 := dkwJ3_put_2_7 ++ dktJ3_put_2_8
def dkwJ3_put_2_6 : List UInt8 := [21, 5, 156, 0, 13, 25, 4, 180, 0, 111, 58, 4, 167, 0, 43, 21, 5, 158, 0, 13, 25, 4]
abbrev dktJ3_put_2_6 : List UInt8 := dkwJ3_put_2_6 ++ dktJ3_put_2_7
def dkwJ3_put_2_5 : List UInt8 := [192, 0, 99, 58, 8, 25, 4, 58, 6, 25, 8, 25, 4, 180, 0, 105, 185, 0, 107, 2, 0, 54, 5]
abbrev dktJ3_put_2_5 : List UInt8 := dkwJ3_put_2_5 ++ dktJ3_put_2_6
def dkwJ3_put_2_4 : List UInt8 := [25, 4, 44, 181, 0, 58, 25, 8, 176, 25, 4, 199, 255, 180, 167, 0, 92, 43, 184, 0, 95, 87, 43]
abbrev dktJ3_put_2_4 : List UInt8 := dkwJ3_put_2_4 ++ dktJ3_put_2_5
def dkwJ3_put_2_3 : List UInt8 := [180, 0, 114, 58, 4, 167, 0, 28, 25, 4, 180, 0, 58, 58, 8, 29, 154, 0, 8, 25, 8, 199, 0, 9]
abbrev dktJ3_put_2_3 : List UInt8 := dkwJ3_put_2_3 ++ dktJ3_put_2_4
def dkwJ3_put_2_2 : List UInt8 := [54, 5, 21, 5, 156, 0, 13, 25, 4, 180, 0, 111, 58, 4, 167, 0, 43, 21, 5, 158, 0, 13, 25, 4]
abbrev dktJ3_put_2_2 : List UInt8 := dkwJ3_put_2_2 ++ dktJ3_put_2_3
def dkwJ3_put_2_1 : List UInt8 := [58, 7, 25, 7, 198, 0, 85, 25, 4, 58, 6, 25, 7, 43, 25, 4, 180, 0, 105, 185, 0, 117, 3, 0]
abbrev dktJ3_put_2_1 : List UInt8 := dkwJ3_put_2_1 ++ dktJ3_put_2_2
def dkwJ3_put_2_0 : List UInt8 := [42, 180, 0, 101, 58, 4, 25, 4, 199, 0, 11, 42, 43, 44, 182, 0, 135, 1, 176, 42, 180, 0, 16]
abbrev dktJ3_put_2_0 : List UInt8 := dkwJ3_put_2_0 ++ dktJ3_put_2_1
theorem dksJ3_put_2_0 : cJ3_put_2.data.toList.drop 0 = dktJ3_put_2_0 := by decide +kernel
theorem dksJ3_put_2_1 : cJ3_put_2.data.toList.drop 23 = dktJ3_put_2_1 := dk_seg dksJ3_put_2_0 23 rfl rfl
theorem dksJ3_put_2_2 : cJ3_put_2.data.toList.drop 47 = dktJ3_put_2_2 := dk_seg dksJ3_put_2_1 24 rfl rfl
theorem dksJ3_put_2_3 : cJ3_put_2.data.toList.drop 71 = dktJ3_put_2_3 := dk_seg dksJ3_put_2_2 24 rfl rfl
theorem dksJ3_put_2_4 : cJ3_put_2.data.toList.drop 95 = dktJ3_put_2_4 := dk_seg dksJ3_put_2_3 24 rfl rfl
theorem dksJ3_put_2_5 : cJ3_put_2.data.toList.drop 118 = dktJ3_put_2_5 := dk_seg dksJ3_put_2_4 23 rfl rfl
theorem dksJ3_put_2_6 : cJ3_put_2.data.toList.drop 141 = dktJ3_put_2_6 := dk_seg dksJ3_put_2_5 23 rfl rfl
theorem dksJ3_put_2_7 : cJ3_put_2.data.toList.drop 163 = dktJ3_put_2_7 := dk_seg dksJ3_put_2_6 22 rfl rfl
theorem dksJ3_put_2_8 : cJ3_put_2.data.toList.drop 187 = dktJ3_put_2_8 := dk_seg dksJ3_put_2_7 24 rfl rfl
theorem dksJ3_put_2_9 : cJ3_put_2.data.toList.drop 211 = dktJ3_put_2_9 := dk_seg dksJ3_put_2_8 24 rfl rfl
theorem dJ3_put_2_0 : decode cJ3_put_2 0 = .ok (.aload_n 0, 1) := dk_42 (dk_at dksJ3_put_2_0 0 rfl rfl)
theorem dJ3_put_2_1 : decode cJ3_put_2 1 = .ok (.getfield 101, 3) := dk_180 0 101 (dk_at dksJ3_put_2_0 1 rfl rfl)
theorem dJ3_put_2_4 : decode cJ3_put_2 4 = .ok (.astore 4, 2) := dk_58 4 (dk_at dksJ3_put_2_0 4 rfl rfl)
theorem dJ3_put_2_6 : decode cJ3_put_2 6 = .ok (.aload 4, 2) := dk_25 4 (dk_at dksJ3_put_2_0 6 rfl rfl)
theorem dJ3_put_2_8 : decode cJ3_put_2 8 = .ok (.ifnonnull 11, 3) := dk_199 0 11 (dk_at dksJ3_put_2_0 8 rfl rfl)
theorem dJ3_put_2_11 : decode cJ3_put_2 11 = .ok (.aload_n 0, 1) := dk_42 (dk_at dksJ3_put_2_0 11 rfl rfl)
theorem dJ3_put_2_12 : decode cJ3_put_2 12 = .ok (.aload_n 1, 1) := dk_43 (dk_at dksJ3_put_2_0 12 rfl rfl)
theorem dJ3_put_2_13 : decode cJ3_put_2 13 = .ok (.aload_n 2, 1) := dk_44 (dk_at dksJ3_put_2_0 13 rfl rfl)
theorem dJ3_put_2_14 : decode cJ3_put_2 14 = .ok (.invokevirtual 135, 3) := dk_182 0 135 (dk_at dksJ3_put_2_0 14 rfl rfl)
theorem dJ3_put_2_17 : decode cJ3_put_2 17 = .ok (.aconst_null, 1) := dk_1 (dk_at dksJ3_put_2_0 17 rfl rfl)
theorem dJ3_put_2_18 : decode cJ3_put_2 18 = .ok (.areturn, 1) := dk_176 (dk_at dksJ3_put_2_0 18 rfl rfl)
theorem dJ3_put_2_19 : decode cJ3_put_2 19 = .ok (.aload_n 0, 1) := dk_42 (dk_at dksJ3_put_2_0 19 rfl rfl)
theorem dJ3_put_2_20 : decode cJ3_put_2 20 = .ok (.getfield 16, 3) := dk_180 0 16 (dk_at dksJ3_put_2_0 20 rfl rfl)
theorem dJ3_put_2_23 : decode cJ3_put_2 23 = .ok (.astore 7, 2) := dk_58 7 (dk_at dksJ3_put_2_1 0 rfl rfl)
theorem dJ3_put_2_25 : decode cJ3_put_2 25 = .ok (.aload 7, 2) := dk_25 7 (dk_at dksJ3_put_2_1 2 rfl rfl)
theorem dJ3_put_2_27 : decode cJ3_put_2 27 = .ok (.ifnull 85, 3) := dk_198 0 85 (dk_at dksJ3_put_2_1 4 rfl rfl)
theorem dJ3_put_2_30 : decode cJ3_put_2 30 = .ok (.aload 4, 2) := dk_25 4 (dk_at dksJ3_put_2_1 7 rfl rfl)
theorem dJ3_put_2_32 : decode cJ3_put_2 32 = .ok (.astore 6, 2) := dk_58 6 (dk_at dksJ3_put_2_1 9 rfl rfl)
theorem dJ3_put_2_34 : decode cJ3_put_2 34 = .ok (.aload 7, 2) := dk_25 7 (dk_at dksJ3_put_2_1 11 rfl rfl)
theorem dJ3_put_2_36 : decode cJ3_put_2 36 = .ok (.aload_n 1, 1) := dk_43 (dk_at dksJ3_put_2_1 13 rfl rfl)
theorem dJ3_put_2_37 : decode cJ3_put_2 37 = .ok (.aload 4, 2) := dk_25 4 (dk_at dksJ3_put_2_1 14 rfl rfl)
theorem dJ3_put_2_39 : decode cJ3_put_2 39 = .ok (.getfield 105, 3) := dk_180 0 105 (dk_at dksJ3_put_2_1 16 rfl rfl)
theorem dJ3_put_2_42 : decode cJ3_put_2 42 = .ok (.invokeinterface 117 3, 5) := by decide +kernel
theorem dJ3_put_2_47 : decode cJ3_put_2 47 = .ok (.istore 5, 2) := dk_54 5 (dk_at dksJ3_put_2_2 0 rfl rfl)
theorem dJ3_put_2_49 : decode cJ3_put_2 49 = .ok (.iload 5, 2) := dk_21 5 (dk_at dksJ3_put_2_2 2 rfl rfl)
theorem dJ3_put_2_51 : decode cJ3_put_2 51 = .ok (.ifCond .ge 13, 3) := dk_156 0 13 (dk_at dksJ3_put_2_2 4 rfl rfl)
theorem dJ3_put_2_54 : decode cJ3_put_2 54 = .ok (.aload 4, 2) := dk_25 4 (dk_at dksJ3_put_2_2 7 rfl rfl)
theorem dJ3_put_2_56 : decode cJ3_put_2 56 = .ok (.getfield 111, 3) := dk_180 0 111 (dk_at dksJ3_put_2_2 9 rfl rfl)
theorem dJ3_put_2_59 : decode cJ3_put_2 59 = .ok (.astore 4, 2) := dk_58 4 (dk_at dksJ3_put_2_2 12 rfl rfl)
theorem dJ3_put_2_61 : decode cJ3_put_2 61 = .ok (.goto 43, 3) := dk_167 0 43 (dk_at dksJ3_put_2_2 14 rfl rfl)
theorem dJ3_put_2_64 : decode cJ3_put_2 64 = .ok (.iload 5, 2) := dk_21 5 (dk_at dksJ3_put_2_2 17 rfl rfl)
theorem dJ3_put_2_66 : decode cJ3_put_2 66 = .ok (.ifCond .le 13, 3) := dk_158 0 13 (dk_at dksJ3_put_2_2 19 rfl rfl)
theorem dJ3_put_2_69 : decode cJ3_put_2 69 = .ok (.aload 4, 2) := dk_25 4 (dk_at dksJ3_put_2_2 22 rfl rfl)
theorem dJ3_put_2_71 : decode cJ3_put_2 71 = .ok (.getfield 114, 3) := dk_180 0 114 (dk_at dksJ3_put_2_3 0 rfl rfl)
theorem dJ3_put_2_74 : decode cJ3_put_2 74 = .ok (.astore 4, 2) := dk_58 4 (dk_at dksJ3_put_2_3 3 rfl rfl)
theorem dJ3_put_2_76 : decode cJ3_put_2 76 = .ok (.goto 28, 3) := dk_167 0 28 (dk_at dksJ3_put_2_3 5 rfl rfl)
theorem dJ3_put_2_79 : decode cJ3_put_2 79 = .ok (.aload 4, 2) := dk_25 4 (dk_at dksJ3_put_2_3 8 rfl rfl)
theorem dJ3_put_2_81 : decode cJ3_put_2 81 = .ok (.getfield 58, 3) := dk_180 0 58 (dk_at dksJ3_put_2_3 10 rfl rfl)
theorem dJ3_put_2_84 : decode cJ3_put_2 84 = .ok (.astore 8, 2) := dk_58 8 (dk_at dksJ3_put_2_3 13 rfl rfl)
theorem dJ3_put_2_86 : decode cJ3_put_2 86 = .ok (.iload_n 3, 1) := dk_29 (dk_at dksJ3_put_2_3 15 rfl rfl)
theorem dJ3_put_2_87 : decode cJ3_put_2 87 = .ok (.ifCond .ne 8, 3) := dk_154 0 8 (dk_at dksJ3_put_2_3 16 rfl rfl)
theorem dJ3_put_2_90 : decode cJ3_put_2 90 = .ok (.aload 8, 2) := dk_25 8 (dk_at dksJ3_put_2_3 19 rfl rfl)
theorem dJ3_put_2_92 : decode cJ3_put_2 92 = .ok (.ifnonnull 9, 3) := dk_199 0 9 (dk_at dksJ3_put_2_3 21 rfl rfl)
theorem dJ3_put_2_95 : decode cJ3_put_2 95 = .ok (.aload 4, 2) := dk_25 4 (dk_at dksJ3_put_2_4 0 rfl rfl)
theorem dJ3_put_2_97 : decode cJ3_put_2 97 = .ok (.aload_n 2, 1) := dk_44 (dk_at dksJ3_put_2_4 2 rfl rfl)
theorem dJ3_put_2_98 : decode cJ3_put_2 98 = .ok (.putfield 58, 3) := dk_181 0 58 (dk_at dksJ3_put_2_4 3 rfl rfl)
theorem dJ3_put_2_101 : decode cJ3_put_2 101 = .ok (.aload 8, 2) := dk_25 8 (dk_at dksJ3_put_2_4 6 rfl rfl)
theorem dJ3_put_2_103 : decode cJ3_put_2 103 = .ok (.areturn, 1) := dk_176 (dk_at dksJ3_put_2_4 8 rfl rfl)
theorem dJ3_put_2_104 : decode cJ3_put_2 104 = .ok (.aload 4, 2) := dk_25 4 (dk_at dksJ3_put_2_4 9 rfl rfl)
theorem dJ3_put_2_106 : decode cJ3_put_2 106 = .ok (.ifnonnull (-76), 3) := dk_199 255 180 (dk_at dksJ3_put_2_4 11 rfl rfl)
theorem dJ3_put_2_109 : decode cJ3_put_2 109 = .ok (.goto 92, 3) := dk_167 0 92 (dk_at dksJ3_put_2_4 14 rfl rfl)
theorem dJ3_put_2_112 : decode cJ3_put_2 112 = .ok (.aload_n 1, 1) := dk_43 (dk_at dksJ3_put_2_4 17 rfl rfl)
theorem dJ3_put_2_113 : decode cJ3_put_2 113 = .ok (.invokestatic 95, 3) := dk_184 0 95 (dk_at dksJ3_put_2_4 18 rfl rfl)
theorem dJ3_put_2_116 : decode cJ3_put_2 116 = .ok (.pop, 1) := dk_87 (dk_at dksJ3_put_2_4 21 rfl rfl)
theorem dJ3_put_2_117 : decode cJ3_put_2 117 = .ok (.aload_n 1, 1) := dk_43 (dk_at dksJ3_put_2_4 22 rfl rfl)
theorem dJ3_put_2_118 : decode cJ3_put_2 118 = .ok (.checkcast 99, 3) := dk_192 0 99 (dk_at dksJ3_put_2_5 0 rfl rfl)
theorem dJ3_put_2_121 : decode cJ3_put_2 121 = .ok (.astore 8, 2) := dk_58 8 (dk_at dksJ3_put_2_5 3 rfl rfl)
theorem dJ3_put_2_123 : decode cJ3_put_2 123 = .ok (.aload 4, 2) := dk_25 4 (dk_at dksJ3_put_2_5 5 rfl rfl)
theorem dJ3_put_2_125 : decode cJ3_put_2 125 = .ok (.astore 6, 2) := dk_58 6 (dk_at dksJ3_put_2_5 7 rfl rfl)
theorem dJ3_put_2_127 : decode cJ3_put_2 127 = .ok (.aload 8, 2) := dk_25 8 (dk_at dksJ3_put_2_5 9 rfl rfl)
theorem dJ3_put_2_129 : decode cJ3_put_2 129 = .ok (.aload 4, 2) := dk_25 4 (dk_at dksJ3_put_2_5 11 rfl rfl)
theorem dJ3_put_2_131 : decode cJ3_put_2 131 = .ok (.getfield 105, 3) := dk_180 0 105 (dk_at dksJ3_put_2_5 13 rfl rfl)
theorem dJ3_put_2_134 : decode cJ3_put_2 134 = .ok (.invokeinterface 107 2, 5) := by decide +kernel
theorem dJ3_put_2_139 : decode cJ3_put_2 139 = .ok (.istore 5, 2) := dk_54 5 (dk_at dksJ3_put_2_5 21 rfl rfl)
theorem dJ3_put_2_141 : decode cJ3_put_2 141 = .ok (.iload 5, 2) := dk_21 5 (dk_at dksJ3_put_2_6 0 rfl rfl)
theorem dJ3_put_2_143 : decode cJ3_put_2 143 = .ok (.ifCond .ge 13, 3) := dk_156 0 13 (dk_at dksJ3_put_2_6 2 rfl rfl)
theorem dJ3_put_2_146 : decode cJ3_put_2 146 = .ok (.aload 4, 2) := dk_25 4 (dk_at dksJ3_put_2_6 5 rfl rfl)
theorem dJ3_put_2_148 : decode cJ3_put_2 148 = .ok (.getfield 111, 3) := dk_180 0 111 (dk_at dksJ3_put_2_6 7 rfl rfl)
theorem dJ3_put_2_151 : decode cJ3_put_2 151 = .ok (.astore 4, 2) := dk_58 4 (dk_at dksJ3_put_2_6 10 rfl rfl)
theorem dJ3_put_2_153 : decode cJ3_put_2 153 = .ok (.goto 43, 3) := dk_167 0 43 (dk_at dksJ3_put_2_6 12 rfl rfl)
theorem dJ3_put_2_156 : decode cJ3_put_2 156 = .ok (.iload 5, 2) := dk_21 5 (dk_at dksJ3_put_2_6 15 rfl rfl)
theorem dJ3_put_2_158 : decode cJ3_put_2 158 = .ok (.ifCond .le 13, 3) := dk_158 0 13 (dk_at dksJ3_put_2_6 17 rfl rfl)
theorem dJ3_put_2_161 : decode cJ3_put_2 161 = .ok (.aload 4, 2) := dk_25 4 (dk_at dksJ3_put_2_6 20 rfl rfl)
theorem dJ3_put_2_163 : decode cJ3_put_2 163 = .ok (.getfield 114, 3) := dk_180 0 114 (dk_at dksJ3_put_2_7 0 rfl rfl)
theorem dJ3_put_2_166 : decode cJ3_put_2 166 = .ok (.astore 4, 2) := dk_58 4 (dk_at dksJ3_put_2_7 3 rfl rfl)
theorem dJ3_put_2_168 : decode cJ3_put_2 168 = .ok (.goto 28, 3) := dk_167 0 28 (dk_at dksJ3_put_2_7 5 rfl rfl)
theorem dJ3_put_2_171 : decode cJ3_put_2 171 = .ok (.aload 4, 2) := dk_25 4 (dk_at dksJ3_put_2_7 8 rfl rfl)
theorem dJ3_put_2_173 : decode cJ3_put_2 173 = .ok (.getfield 58, 3) := dk_180 0 58 (dk_at dksJ3_put_2_7 10 rfl rfl)
theorem dJ3_put_2_176 : decode cJ3_put_2 176 = .ok (.astore 9, 2) := dk_58 9 (dk_at dksJ3_put_2_7 13 rfl rfl)
theorem dJ3_put_2_178 : decode cJ3_put_2 178 = .ok (.iload_n 3, 1) := dk_29 (dk_at dksJ3_put_2_7 15 rfl rfl)
theorem dJ3_put_2_179 : decode cJ3_put_2 179 = .ok (.ifCond .ne 8, 3) := dk_154 0 8 (dk_at dksJ3_put_2_7 16 rfl rfl)
theorem dJ3_put_2_182 : decode cJ3_put_2 182 = .ok (.aload 9, 2) := dk_25 9 (dk_at dksJ3_put_2_7 19 rfl rfl)
theorem dJ3_put_2_184 : decode cJ3_put_2 184 = .ok (.ifnonnull 9, 3) := dk_199 0 9 (dk_at dksJ3_put_2_7 21 rfl rfl)
theorem dJ3_put_2_187 : decode cJ3_put_2 187 = .ok (.aload 4, 2) := dk_25 4 (dk_at dksJ3_put_2_8 0 rfl rfl)
theorem dJ3_put_2_189 : decode cJ3_put_2 189 = .ok (.aload_n 2, 1) := dk_44 (dk_at dksJ3_put_2_8 2 rfl rfl)
theorem dJ3_put_2_190 : decode cJ3_put_2 190 = .ok (.putfield 58, 3) := dk_181 0 58 (dk_at dksJ3_put_2_8 3 rfl rfl)
theorem dJ3_put_2_193 : decode cJ3_put_2 193 = .ok (.aload 9, 2) := dk_25 9 (dk_at dksJ3_put_2_8 6 rfl rfl)
theorem dJ3_put_2_195 : decode cJ3_put_2 195 = .ok (.areturn, 1) := dk_176 (dk_at dksJ3_put_2_8 8 rfl rfl)
theorem dJ3_put_2_196 : decode cJ3_put_2 196 = .ok (.aload 4, 2) := dk_25 4 (dk_at dksJ3_put_2_8 9 rfl rfl)
theorem dJ3_put_2_198 : decode cJ3_put_2 198 = .ok (.ifnonnull (-75), 3) := dk_199 255 181 (dk_at dksJ3_put_2_8 11 rfl rfl)
theorem dJ3_put_2_201 : decode cJ3_put_2 201 = .ok (.aload_n 0, 1) := dk_42 (dk_at dksJ3_put_2_8 14 rfl rfl)
theorem dJ3_put_2_202 : decode cJ3_put_2 202 = .ok (.aload_n 1, 1) := dk_43 (dk_at dksJ3_put_2_8 15 rfl rfl)
theorem dJ3_put_2_203 : decode cJ3_put_2 203 = .ok (.aload_n 2, 1) := dk_44 (dk_at dksJ3_put_2_8 16 rfl rfl)
theorem dJ3_put_2_204 : decode cJ3_put_2 204 = .ok (.aload 6, 2) := dk_25 6 (dk_at dksJ3_put_2_8 17 rfl rfl)
theorem dJ3_put_2_206 : decode cJ3_put_2 206 = .ok (.iload 5, 2) := dk_21 5 (dk_at dksJ3_put_2_8 19 rfl rfl)
theorem dJ3_put_2_208 : decode cJ3_put_2 208 = .ok (.ifCond .ge 7, 3) := dk_156 0 7 (dk_at dksJ3_put_2_8 21 rfl rfl)
theorem dJ3_put_2_211 : decode cJ3_put_2 211 = .ok (.iconst 1, 1) := dk_4 (dk_at dksJ3_put_2_9 0 rfl rfl)
theorem dJ3_put_2_212 : decode cJ3_put_2 212 = .ok (.goto 4, 3) := dk_167 0 4 (dk_at dksJ3_put_2_9 1 rfl rfl)
theorem dJ3_put_2_215 : decode cJ3_put_2 215 = .ok (.iconst 0, 1) := dk_3 (dk_at dksJ3_put_2_9 4 rfl rfl)
theorem dJ3_put_2_216 : decode cJ3_put_2 216 = .ok (.invokevirtual 139, 3) := dk_182 0 139 (dk_at dksJ3_put_2_9 5 rfl rfl)
theorem dJ3_put_2_219 : decode cJ3_put_2 219 = .ok (.aconst_null, 1) := dk_1 (dk_at dksJ3_put_2_9 8 rfl rfl)
theorem dJ3_put_2_220 : decode cJ3_put_2 220 = .ok (.areturn, 1) := dk_176 (dk_at dksJ3_put_2_9 9 rfl rfl)
abbrev cJ3_addEntryToEmptyMap : ByteArray := prog_80_method_30_code
def yJ3_addEntryToEmptyMap : MethodName := ⟨RJ3, "addEntryToEmptyMap", "(Ljava/lang/Object;Ljava/lang/Object;)V"⟩
def dkwJ3_addEntryToEmptyMap_1 : List UInt8 := [181, 0, 7, 42, 89, 180, 0, 13, 4, 96, 181, 0, 13, 177]
abbrev dktJ3_addEntryToEmptyMap_1 : List UInt8 := dkwJ3_addEntryToEmptyMap_1 ++ []
def dkwJ3_addEntryToEmptyMap_0 : List UInt8 := [42, 43, 43, 182, 0, 123, 87, 42, 187, 0, 59, 89, 43, 44, 1, 183, 0, 167, 181, 0, 101, 42, 4]
abbrev dktJ3_addEntryToEmptyMap_0 : List UInt8 := dkwJ3_addEntryToEmptyMap_0 ++ dktJ3_addEntryToEmptyMap_1
theorem dksJ3_addEntryToEmptyMap_0 : cJ3_addEntryToEmptyMap.data.toList.drop 0 = dktJ3_addEntryToEmptyMap_0 := by decide +kernel
theorem dksJ3_addEntryToEmptyMap_1 : cJ3_addEntryToEmptyMap.data.toList.drop 23 = dktJ3_addEntryToEmptyMap_1 := dk_seg dksJ3_addEntryToEmptyMap_0 23 rfl rfl
theorem dJ3_addEntryToEmptyMap_0 : decode cJ3_addEntryToEmptyMap 0 = .ok (.aload_n 0, 1) := dk_42 (dk_at dksJ3_addEntryToEmptyMap_0 0 rfl rfl)
theorem dJ3_addEntryToEmptyMap_1 : decode cJ3_addEntryToEmptyMap 1 = .ok (.aload_n 1, 1) := dk_43 (dk_at dksJ3_addEntryToEmptyMap_0 1 rfl rfl)
theorem dJ3_addEntryToEmptyMap_2 : decode cJ3_addEntryToEmptyMap 2 = .ok (.aload_n 1, 1) := dk_43 (dk_at dksJ3_addEntryToEmptyMap_0 2 rfl rfl)
theorem dJ3_addEntryToEmptyMap_3 : decode cJ3_addEntryToEmptyMap 3 = .ok (.invokevirtual 123, 3) := dk_182 0 123 (dk_at dksJ3_addEntryToEmptyMap_0 3 rfl rfl)
theorem dJ3_addEntryToEmptyMap_6 : decode cJ3_addEntryToEmptyMap 6 = .ok (.pop, 1) := dk_87 (dk_at dksJ3_addEntryToEmptyMap_0 6 rfl rfl)
theorem dJ3_addEntryToEmptyMap_7 : decode cJ3_addEntryToEmptyMap 7 = .ok (.aload_n 0, 1) := dk_42 (dk_at dksJ3_addEntryToEmptyMap_0 7 rfl rfl)
theorem dJ3_addEntryToEmptyMap_8 : decode cJ3_addEntryToEmptyMap 8 = .ok (.new 59, 3) := dk_187 0 59 (dk_at dksJ3_addEntryToEmptyMap_0 8 rfl rfl)
theorem dJ3_addEntryToEmptyMap_11 : decode cJ3_addEntryToEmptyMap 11 = .ok (.dup, 1) := dk_89 (dk_at dksJ3_addEntryToEmptyMap_0 11 rfl rfl)
theorem dJ3_addEntryToEmptyMap_12 : decode cJ3_addEntryToEmptyMap 12 = .ok (.aload_n 1, 1) := dk_43 (dk_at dksJ3_addEntryToEmptyMap_0 12 rfl rfl)
theorem dJ3_addEntryToEmptyMap_13 : decode cJ3_addEntryToEmptyMap 13 = .ok (.aload_n 2, 1) := dk_44 (dk_at dksJ3_addEntryToEmptyMap_0 13 rfl rfl)
theorem dJ3_addEntryToEmptyMap_14 : decode cJ3_addEntryToEmptyMap 14 = .ok (.aconst_null, 1) := dk_1 (dk_at dksJ3_addEntryToEmptyMap_0 14 rfl rfl)
theorem dJ3_addEntryToEmptyMap_15 : decode cJ3_addEntryToEmptyMap 15 = .ok (.invokespecial 167, 3) := dk_183 0 167 (dk_at dksJ3_addEntryToEmptyMap_0 15 rfl rfl)
theorem dJ3_addEntryToEmptyMap_18 : decode cJ3_addEntryToEmptyMap 18 = .ok (.putfield 101, 3) := dk_181 0 101 (dk_at dksJ3_addEntryToEmptyMap_0 18 rfl rfl)
theorem dJ3_addEntryToEmptyMap_21 : decode cJ3_addEntryToEmptyMap 21 = .ok (.aload_n 0, 1) := dk_42 (dk_at dksJ3_addEntryToEmptyMap_0 21 rfl rfl)
theorem dJ3_addEntryToEmptyMap_22 : decode cJ3_addEntryToEmptyMap 22 = .ok (.iconst 1, 1) := dk_4 (dk_at dksJ3_addEntryToEmptyMap_0 22 rfl rfl)
theorem dJ3_addEntryToEmptyMap_23 : decode cJ3_addEntryToEmptyMap 23 = .ok (.putfield 7, 3) := dk_181 0 7 (dk_at dksJ3_addEntryToEmptyMap_1 0 rfl rfl)
theorem dJ3_addEntryToEmptyMap_26 : decode cJ3_addEntryToEmptyMap 26 = .ok (.aload_n 0, 1) := dk_42 (dk_at dksJ3_addEntryToEmptyMap_1 3 rfl rfl)
theorem dJ3_addEntryToEmptyMap_27 : decode cJ3_addEntryToEmptyMap 27 = .ok (.dup, 1) := dk_89 (dk_at dksJ3_addEntryToEmptyMap_1 4 rfl rfl)
theorem dJ3_addEntryToEmptyMap_28 : decode cJ3_addEntryToEmptyMap 28 = .ok (.getfield 13, 3) := dk_180 0 13 (dk_at dksJ3_addEntryToEmptyMap_1 5 rfl rfl)
theorem dJ3_addEntryToEmptyMap_31 : decode cJ3_addEntryToEmptyMap 31 = .ok (.iconst 1, 1) := dk_4 (dk_at dksJ3_addEntryToEmptyMap_1 8 rfl rfl)
theorem dJ3_addEntryToEmptyMap_32 : decode cJ3_addEntryToEmptyMap 32 = .ok (.iadd, 1) := dk_96 (dk_at dksJ3_addEntryToEmptyMap_1 9 rfl rfl)
theorem dJ3_addEntryToEmptyMap_33 : decode cJ3_addEntryToEmptyMap 33 = .ok (.putfield 13, 3) := dk_181 0 13 (dk_at dksJ3_addEntryToEmptyMap_1 10 rfl rfl)
theorem dJ3_addEntryToEmptyMap_36 : decode cJ3_addEntryToEmptyMap 36 = .ok (.return_, 1) := dk_177 (dk_at dksJ3_addEntryToEmptyMap_1 13 rfl rfl)
abbrev cJ3_compare : ByteArray := prog_80_method_67_code
def yJ3_compare : MethodName := ⟨RJ3, "compare", "(Ljava/lang/Object;Ljava/lang/Object;)I"⟩
def dkwJ3_compare_1 : List UInt8 := [43, 44, 185, 0, 117, 3, 0, 172]
abbrev dktJ3_compare_1 : List UInt8 := dkwJ3_compare_1 ++ []
def dkwJ3_compare_0 : List UInt8 := [42, 180, 0, 16, 199, 0, 16, 43, 192, 0, 99, 44, 185, 0, 107, 2, 0, 167, 0, 14, 42, 180, 0, 16]
abbrev dktJ3_compare_0 : List UInt8 := dkwJ3_compare_0 ++ dktJ3_compare_1
theorem dksJ3_compare_0 : cJ3_compare.data.toList.drop 0 = dktJ3_compare_0 := by decide +kernel
theorem dksJ3_compare_1 : cJ3_compare.data.toList.drop 24 = dktJ3_compare_1 := dk_seg dksJ3_compare_0 24 rfl rfl
theorem dJ3_compare_0 : decode cJ3_compare 0 = .ok (.aload_n 0, 1) := dk_42 (dk_at dksJ3_compare_0 0 rfl rfl)
theorem dJ3_compare_1 : decode cJ3_compare 1 = .ok (.getfield 16, 3) := dk_180 0 16 (dk_at dksJ3_compare_0 1 rfl rfl)
theorem dJ3_compare_4 : decode cJ3_compare 4 = .ok (.ifnonnull 16, 3) := dk_199 0 16 (dk_at dksJ3_compare_0 4 rfl rfl)
theorem dJ3_compare_7 : decode cJ3_compare 7 = .ok (.aload_n 1, 1) := dk_43 (dk_at dksJ3_compare_0 7 rfl rfl)
theorem dJ3_compare_8 : decode cJ3_compare 8 = .ok (.checkcast 99, 3) := dk_192 0 99 (dk_at dksJ3_compare_0 8 rfl rfl)
theorem dJ3_compare_11 : decode cJ3_compare 11 = .ok (.aload_n 2, 1) := dk_44 (dk_at dksJ3_compare_0 11 rfl rfl)
theorem dJ3_compare_12 : decode cJ3_compare 12 = .ok (.invokeinterface 107 2, 5) := by decide +kernel
theorem dJ3_compare_17 : decode cJ3_compare 17 = .ok (.goto 14, 3) := dk_167 0 14 (dk_at dksJ3_compare_0 17 rfl rfl)
theorem dJ3_compare_20 : decode cJ3_compare 20 = .ok (.aload_n 0, 1) := dk_42 (dk_at dksJ3_compare_0 20 rfl rfl)
theorem dJ3_compare_21 : decode cJ3_compare 21 = .ok (.getfield 16, 3) := dk_180 0 16 (dk_at dksJ3_compare_0 21 rfl rfl)
theorem dJ3_compare_24 : decode cJ3_compare 24 = .ok (.aload_n 1, 1) := dk_43 (dk_at dksJ3_compare_1 0 rfl rfl)
theorem dJ3_compare_25 : decode cJ3_compare 25 = .ok (.aload_n 2, 1) := dk_44 (dk_at dksJ3_compare_1 1 rfl rfl)
theorem dJ3_compare_26 : decode cJ3_compare 26 = .ok (.invokeinterface 117 3, 5) := by decide +kernel
theorem dJ3_compare_31 : decode cJ3_compare 31 = .ok (.ireturn, 1) := dk_172 (dk_at dksJ3_compare_1 7 rfl rfl)
abbrev cJ3_addEntry : ByteArray := prog_80_method_29_code
def yJ3_addEntry : MethodName := ⟨RJ3, "addEntry", "(Ljava/lang/Object;Ljava/lang/Object;Ljava/util/TreeMap$Entry;Z)V"⟩
def dkwJ3_addEntry_2 : List UInt8 := [181, 0, 7, 42, 89, 180, 0, 13, 4, 96, 181, 0, 13, 177]
abbrev dktJ3_addEntry_2 : List UInt8 := dkwJ3_addEntry_2 ++ []
def dkwJ3_addEntry_1 : List UInt8 := [167, 0, 9, 45, 25, 5, 181, 0, 114, 42, 25, 5, 182, 0, 170, 42, 89, 180, 0, 7, 4, 96]
abbrev dktJ3_addEntry_1 : List UInt8 := dkwJ3_addEntry_1 ++ dktJ3_addEntry_2
def dkwJ3_addEntry_0 : List UInt8 := [187, 0, 59, 89, 43, 44, 45, 183, 0, 167, 58, 5, 21, 4, 153, 0, 12, 45, 25, 5, 181, 0, 111]
abbrev dktJ3_addEntry_0 : List UInt8 := dkwJ3_addEntry_0 ++ dktJ3_addEntry_1
theorem dksJ3_addEntry_0 : cJ3_addEntry.data.toList.drop 0 = dktJ3_addEntry_0 := by decide +kernel
theorem dksJ3_addEntry_1 : cJ3_addEntry.data.toList.drop 23 = dktJ3_addEntry_1 := dk_seg dksJ3_addEntry_0 23 rfl rfl
theorem dksJ3_addEntry_2 : cJ3_addEntry.data.toList.drop 45 = dktJ3_addEntry_2 := dk_seg dksJ3_addEntry_1 22 rfl rfl
theorem dJ3_addEntry_0 : decode cJ3_addEntry 0 = .ok (.new 59, 3) := dk_187 0 59 (dk_at dksJ3_addEntry_0 0 rfl rfl)
theorem dJ3_addEntry_3 : decode cJ3_addEntry 3 = .ok (.dup, 1) := dk_89 (dk_at dksJ3_addEntry_0 3 rfl rfl)
theorem dJ3_addEntry_4 : decode cJ3_addEntry 4 = .ok (.aload_n 1, 1) := dk_43 (dk_at dksJ3_addEntry_0 4 rfl rfl)
theorem dJ3_addEntry_5 : decode cJ3_addEntry 5 = .ok (.aload_n 2, 1) := dk_44 (dk_at dksJ3_addEntry_0 5 rfl rfl)
theorem dJ3_addEntry_6 : decode cJ3_addEntry 6 = .ok (.aload_n 3, 1) := dk_45 (dk_at dksJ3_addEntry_0 6 rfl rfl)
theorem dJ3_addEntry_7 : decode cJ3_addEntry 7 = .ok (.invokespecial 167, 3) := dk_183 0 167 (dk_at dksJ3_addEntry_0 7 rfl rfl)
theorem dJ3_addEntry_10 : decode cJ3_addEntry 10 = .ok (.astore 5, 2) := dk_58 5 (dk_at dksJ3_addEntry_0 10 rfl rfl)
theorem dJ3_addEntry_12 : decode cJ3_addEntry 12 = .ok (.iload 4, 2) := dk_21 4 (dk_at dksJ3_addEntry_0 12 rfl rfl)
theorem dJ3_addEntry_14 : decode cJ3_addEntry 14 = .ok (.ifCond .eq 12, 3) := dk_153 0 12 (dk_at dksJ3_addEntry_0 14 rfl rfl)
theorem dJ3_addEntry_17 : decode cJ3_addEntry 17 = .ok (.aload_n 3, 1) := dk_45 (dk_at dksJ3_addEntry_0 17 rfl rfl)
theorem dJ3_addEntry_18 : decode cJ3_addEntry 18 = .ok (.aload 5, 2) := dk_25 5 (dk_at dksJ3_addEntry_0 18 rfl rfl)
theorem dJ3_addEntry_20 : decode cJ3_addEntry 20 = .ok (.putfield 111, 3) := dk_181 0 111 (dk_at dksJ3_addEntry_0 20 rfl rfl)
theorem dJ3_addEntry_23 : decode cJ3_addEntry 23 = .ok (.goto 9, 3) := dk_167 0 9 (dk_at dksJ3_addEntry_1 0 rfl rfl)
theorem dJ3_addEntry_26 : decode cJ3_addEntry 26 = .ok (.aload_n 3, 1) := dk_45 (dk_at dksJ3_addEntry_1 3 rfl rfl)
theorem dJ3_addEntry_27 : decode cJ3_addEntry 27 = .ok (.aload 5, 2) := dk_25 5 (dk_at dksJ3_addEntry_1 4 rfl rfl)
theorem dJ3_addEntry_29 : decode cJ3_addEntry 29 = .ok (.putfield 114, 3) := dk_181 0 114 (dk_at dksJ3_addEntry_1 6 rfl rfl)
theorem dJ3_addEntry_32 : decode cJ3_addEntry 32 = .ok (.aload_n 0, 1) := dk_42 (dk_at dksJ3_addEntry_1 9 rfl rfl)
theorem dJ3_addEntry_33 : decode cJ3_addEntry 33 = .ok (.aload 5, 2) := dk_25 5 (dk_at dksJ3_addEntry_1 10 rfl rfl)
theorem dJ3_addEntry_35 : decode cJ3_addEntry 35 = .ok (.invokevirtual 170, 3) := dk_182 0 170 (dk_at dksJ3_addEntry_1 12 rfl rfl)
theorem dJ3_addEntry_38 : decode cJ3_addEntry 38 = .ok (.aload_n 0, 1) := dk_42 (dk_at dksJ3_addEntry_1 15 rfl rfl)
theorem dJ3_addEntry_39 : decode cJ3_addEntry 39 = .ok (.dup, 1) := dk_89 (dk_at dksJ3_addEntry_1 16 rfl rfl)
theorem dJ3_addEntry_40 : decode cJ3_addEntry 40 = .ok (.getfield 7, 3) := dk_180 0 7 (dk_at dksJ3_addEntry_1 17 rfl rfl)
theorem dJ3_addEntry_43 : decode cJ3_addEntry 43 = .ok (.iconst 1, 1) := dk_4 (dk_at dksJ3_addEntry_1 20 rfl rfl)
theorem dJ3_addEntry_44 : decode cJ3_addEntry 44 = .ok (.iadd, 1) := dk_96 (dk_at dksJ3_addEntry_1 21 rfl rfl)
theorem dJ3_addEntry_45 : decode cJ3_addEntry 45 = .ok (.putfield 7, 3) := dk_181 0 7 (dk_at dksJ3_addEntry_2 0 rfl rfl)
theorem dJ3_addEntry_48 : decode cJ3_addEntry 48 = .ok (.aload_n 0, 1) := dk_42 (dk_at dksJ3_addEntry_2 3 rfl rfl)
theorem dJ3_addEntry_49 : decode cJ3_addEntry 49 = .ok (.dup, 1) := dk_89 (dk_at dksJ3_addEntry_2 4 rfl rfl)
theorem dJ3_addEntry_50 : decode cJ3_addEntry 50 = .ok (.getfield 13, 3) := dk_180 0 13 (dk_at dksJ3_addEntry_2 5 rfl rfl)
theorem dJ3_addEntry_53 : decode cJ3_addEntry 53 = .ok (.iconst 1, 1) := dk_4 (dk_at dksJ3_addEntry_2 8 rfl rfl)
theorem dJ3_addEntry_54 : decode cJ3_addEntry 54 = .ok (.iadd, 1) := dk_96 (dk_at dksJ3_addEntry_2 9 rfl rfl)
theorem dJ3_addEntry_55 : decode cJ3_addEntry 55 = .ok (.putfield 13, 3) := dk_181 0 13 (dk_at dksJ3_addEntry_2 10 rfl rfl)
theorem dJ3_addEntry_58 : decode cJ3_addEntry 58 = .ok (.return_, 1) := dk_177 (dk_at dksJ3_addEntry_2 13 rfl rfl)
abbrev cJ3_fixAfterInsertion : ByteArray := prog_80_method_83_code
def yJ3_fixAfterInsertion : MethodName := ⟨RJ3, "fixAfterInsertion", "(Ljava/util/TreeMap$Entry;)V"⟩
def dkwJ3_fixAfterInsertion_11 : List UInt8 := [42, 180, 0, 101, 4, 181, 1, 34, 177]
abbrev dktJ3_fixAfterInsertion_11 : List UInt8 := dkwJ3_fixAfterInsertion_11 ++ []
def dkwJ3_fixAfterInsertion_10 : List UInt8 := [184, 1, 38, 184, 1, 38, 3, 184, 1, 51, 42, 43, 184, 1, 38, 184, 1, 38, 182, 1, 55, 167, 255, 6]
abbrev dktJ3_fixAfterInsertion_10 : List UInt8 := dkwJ3_fixAfterInsertion_10 ++ dktJ3_fixAfterInsertion_11
def dkwJ3_fixAfterInsertion_9 : List UInt8 := [166, 0, 13, 43, 184, 1, 38, 76, 42, 43, 182, 1, 58, 43, 184, 1, 38, 4, 184, 1, 51, 43]
abbrev dktJ3_fixAfterInsertion_9 : List UInt8 := dkwJ3_fixAfterInsertion_9 ++ dktJ3_fixAfterInsertion_10
def dkwJ3_fixAfterInsertion_8 : List UInt8 := [184, 1, 51, 43, 184, 1, 38, 184, 1, 38, 76, 167, 0, 54, 43, 43, 184, 1, 38, 184, 1, 41]
abbrev dktJ3_fixAfterInsertion_8 : List UInt8 := dkwJ3_fixAfterInsertion_8 ++ dktJ3_fixAfterInsertion_9
def dkwJ3_fixAfterInsertion_7 : List UInt8 := [154, 0, 38, 43, 184, 1, 38, 4, 184, 1, 51, 44, 4, 184, 1, 51, 43, 184, 1, 38, 184, 1, 38, 3]
abbrev dktJ3_fixAfterInsertion_7 : List UInt8 := dkwJ3_fixAfterInsertion_7 ++ dktJ3_fixAfterInsertion_8
def dkwJ3_fixAfterInsertion_6 : List UInt8 := [184, 1, 38, 182, 1, 58, 167, 255, 113, 43, 184, 1, 38, 184, 1, 38, 184, 1, 41, 77, 44, 184, 1, 47]
abbrev dktJ3_fixAfterInsertion_6 : List UInt8 := dkwJ3_fixAfterInsertion_6 ++ dktJ3_fixAfterInsertion_7
def dkwJ3_fixAfterInsertion_5 : List UInt8 := [43, 184, 1, 38, 4, 184, 1, 51, 43, 184, 1, 38, 184, 1, 38, 3, 184, 1, 51, 42, 43, 184, 1, 38]
abbrev dktJ3_fixAfterInsertion_5 : List UInt8 := dkwJ3_fixAfterInsertion_5 ++ dktJ3_fixAfterInsertion_6
def dkwJ3_fixAfterInsertion_4 : List UInt8 := [167, 0, 54, 43, 43, 184, 1, 38, 184, 1, 44, 166, 0, 13, 43, 184, 1, 38, 76, 42, 43, 182, 1, 55]
abbrev dktJ3_fixAfterInsertion_4 : List UInt8 := dkwJ3_fixAfterInsertion_4 ++ dktJ3_fixAfterInsertion_5
def dkwJ3_fixAfterInsertion_3 : List UInt8 := [184, 1, 51, 43, 184, 1, 38, 184, 1, 38, 3, 184, 1, 51, 43, 184, 1, 38, 184, 1, 38, 76]
abbrev dktJ3_fixAfterInsertion_3 : List UInt8 := dkwJ3_fixAfterInsertion_3 ++ dktJ3_fixAfterInsertion_4
def dkwJ3_fixAfterInsertion_2 : List UInt8 := [184, 1, 38, 184, 1, 44, 77, 44, 184, 1, 47, 154, 0, 38, 43, 184, 1, 38, 4, 184, 1, 51, 44, 4]
abbrev dktJ3_fixAfterInsertion_2 : List UInt8 := dkwJ3_fixAfterInsertion_2 ++ dktJ3_fixAfterInsertion_3
def dkwJ3_fixAfterInsertion_1 : List UInt8 := [154, 0, 234, 43, 184, 1, 38, 43, 184, 1, 38, 184, 1, 38, 184, 1, 41, 166, 0, 110, 43, 184, 1, 38]
abbrev dktJ3_fixAfterInsertion_1 : List UInt8 := dkwJ3_fixAfterInsertion_1 ++ dktJ3_fixAfterInsertion_2
def dkwJ3_fixAfterInsertion_0 : List UInt8 := [43, 3, 181, 1, 34, 43, 198, 0, 252, 43, 42, 180, 0, 101, 165, 0, 244, 43, 180, 0, 124, 180, 1, 34]
abbrev dktJ3_fixAfterInsertion_0 : List UInt8 := dkwJ3_fixAfterInsertion_0 ++ dktJ3_fixAfterInsertion_1
theorem dksJ3_fixAfterInsertion_0 : cJ3_fixAfterInsertion.data.toList.drop 0 = dktJ3_fixAfterInsertion_0 := by decide +kernel
theorem dksJ3_fixAfterInsertion_1 : cJ3_fixAfterInsertion.data.toList.drop 24 = dktJ3_fixAfterInsertion_1 := dk_seg dksJ3_fixAfterInsertion_0 24 rfl rfl
theorem dksJ3_fixAfterInsertion_2 : cJ3_fixAfterInsertion.data.toList.drop 48 = dktJ3_fixAfterInsertion_2 := dk_seg dksJ3_fixAfterInsertion_1 24 rfl rfl
theorem dksJ3_fixAfterInsertion_3 : cJ3_fixAfterInsertion.data.toList.drop 72 = dktJ3_fixAfterInsertion_3 := dk_seg dksJ3_fixAfterInsertion_2 24 rfl rfl
theorem dksJ3_fixAfterInsertion_4 : cJ3_fixAfterInsertion.data.toList.drop 94 = dktJ3_fixAfterInsertion_4 := dk_seg dksJ3_fixAfterInsertion_3 22 rfl rfl
theorem dksJ3_fixAfterInsertion_5 : cJ3_fixAfterInsertion.data.toList.drop 118 = dktJ3_fixAfterInsertion_5 := dk_seg dksJ3_fixAfterInsertion_4 24 rfl rfl
theorem dksJ3_fixAfterInsertion_6 : cJ3_fixAfterInsertion.data.toList.drop 142 = dktJ3_fixAfterInsertion_6 := dk_seg dksJ3_fixAfterInsertion_5 24 rfl rfl
theorem dksJ3_fixAfterInsertion_7 : cJ3_fixAfterInsertion.data.toList.drop 166 = dktJ3_fixAfterInsertion_7 := dk_seg dksJ3_fixAfterInsertion_6 24 rfl rfl
theorem dksJ3_fixAfterInsertion_8 : cJ3_fixAfterInsertion.data.toList.drop 190 = dktJ3_fixAfterInsertion_8 := dk_seg dksJ3_fixAfterInsertion_7 24 rfl rfl
theorem dksJ3_fixAfterInsertion_9 : cJ3_fixAfterInsertion.data.toList.drop 212 = dktJ3_fixAfterInsertion_9 := dk_seg dksJ3_fixAfterInsertion_8 22 rfl rfl
theorem dksJ3_fixAfterInsertion_10 : cJ3_fixAfterInsertion.data.toList.drop 234 = dktJ3_fixAfterInsertion_10 := dk_seg dksJ3_fixAfterInsertion_9 22 rfl rfl
theorem dksJ3_fixAfterInsertion_11 : cJ3_fixAfterInsertion.data.toList.drop 258 = dktJ3_fixAfterInsertion_11 := dk_seg dksJ3_fixAfterInsertion_10 24 rfl rfl
theorem dJ3_fixAfterInsertion_0 : decode cJ3_fixAfterInsertion 0 = .ok (.aload_n 1, 1) := dk_43 (dk_at dksJ3_fixAfterInsertion_0 0 rfl rfl)
theorem dJ3_fixAfterInsertion_1 : decode cJ3_fixAfterInsertion 1 = .ok (.iconst 0, 1) := dk_3 (dk_at dksJ3_fixAfterInsertion_0 1 rfl rfl)
theorem dJ3_fixAfterInsertion_2 : decode cJ3_fixAfterInsertion 2 = .ok (.putfield 290, 3) := dk_181 1 34 (dk_at dksJ3_fixAfterInsertion_0 2 rfl rfl)
theorem dJ3_fixAfterInsertion_5 : decode cJ3_fixAfterInsertion 5 = .ok (.aload_n 1, 1) := dk_43 (dk_at dksJ3_fixAfterInsertion_0 5 rfl rfl)
theorem dJ3_fixAfterInsertion_6 : decode cJ3_fixAfterInsertion 6 = .ok (.ifnull 252, 3) := dk_198 0 252 (dk_at dksJ3_fixAfterInsertion_0 6 rfl rfl)
theorem dJ3_fixAfterInsertion_9 : decode cJ3_fixAfterInsertion 9 = .ok (.aload_n 1, 1) := dk_43 (dk_at dksJ3_fixAfterInsertion_0 9 rfl rfl)
theorem dJ3_fixAfterInsertion_10 : decode cJ3_fixAfterInsertion 10 = .ok (.aload_n 0, 1) := dk_42 (dk_at dksJ3_fixAfterInsertion_0 10 rfl rfl)
theorem dJ3_fixAfterInsertion_11 : decode cJ3_fixAfterInsertion 11 = .ok (.getfield 101, 3) := dk_180 0 101 (dk_at dksJ3_fixAfterInsertion_0 11 rfl rfl)
theorem dJ3_fixAfterInsertion_14 : decode cJ3_fixAfterInsertion 14 = .ok (.if_acmp .eq 244, 3) := dk_165 0 244 (dk_at dksJ3_fixAfterInsertion_0 14 rfl rfl)
theorem dJ3_fixAfterInsertion_17 : decode cJ3_fixAfterInsertion 17 = .ok (.aload_n 1, 1) := dk_43 (dk_at dksJ3_fixAfterInsertion_0 17 rfl rfl)
theorem dJ3_fixAfterInsertion_18 : decode cJ3_fixAfterInsertion 18 = .ok (.getfield 124, 3) := dk_180 0 124 (dk_at dksJ3_fixAfterInsertion_0 18 rfl rfl)
theorem dJ3_fixAfterInsertion_21 : decode cJ3_fixAfterInsertion 21 = .ok (.getfield 290, 3) := dk_180 1 34 (dk_at dksJ3_fixAfterInsertion_0 21 rfl rfl)
theorem dJ3_fixAfterInsertion_24 : decode cJ3_fixAfterInsertion 24 = .ok (.ifCond .ne 234, 3) := dk_154 0 234 (dk_at dksJ3_fixAfterInsertion_1 0 rfl rfl)
theorem dJ3_fixAfterInsertion_27 : decode cJ3_fixAfterInsertion 27 = .ok (.aload_n 1, 1) := dk_43 (dk_at dksJ3_fixAfterInsertion_1 3 rfl rfl)
theorem dJ3_fixAfterInsertion_28 : decode cJ3_fixAfterInsertion 28 = .ok (.invokestatic 294, 3) := dk_184 1 38 (dk_at dksJ3_fixAfterInsertion_1 4 rfl rfl)
theorem dJ3_fixAfterInsertion_31 : decode cJ3_fixAfterInsertion 31 = .ok (.aload_n 1, 1) := dk_43 (dk_at dksJ3_fixAfterInsertion_1 7 rfl rfl)
theorem dJ3_fixAfterInsertion_32 : decode cJ3_fixAfterInsertion 32 = .ok (.invokestatic 294, 3) := dk_184 1 38 (dk_at dksJ3_fixAfterInsertion_1 8 rfl rfl)
theorem dJ3_fixAfterInsertion_35 : decode cJ3_fixAfterInsertion 35 = .ok (.invokestatic 294, 3) := dk_184 1 38 (dk_at dksJ3_fixAfterInsertion_1 11 rfl rfl)
theorem dJ3_fixAfterInsertion_38 : decode cJ3_fixAfterInsertion 38 = .ok (.invokestatic 297, 3) := dk_184 1 41 (dk_at dksJ3_fixAfterInsertion_1 14 rfl rfl)
theorem dJ3_fixAfterInsertion_41 : decode cJ3_fixAfterInsertion 41 = .ok (.if_acmp .ne 110, 3) := dk_166 0 110 (dk_at dksJ3_fixAfterInsertion_1 17 rfl rfl)
theorem dJ3_fixAfterInsertion_44 : decode cJ3_fixAfterInsertion 44 = .ok (.aload_n 1, 1) := dk_43 (dk_at dksJ3_fixAfterInsertion_1 20 rfl rfl)
theorem dJ3_fixAfterInsertion_45 : decode cJ3_fixAfterInsertion 45 = .ok (.invokestatic 294, 3) := dk_184 1 38 (dk_at dksJ3_fixAfterInsertion_1 21 rfl rfl)
theorem dJ3_fixAfterInsertion_48 : decode cJ3_fixAfterInsertion 48 = .ok (.invokestatic 294, 3) := dk_184 1 38 (dk_at dksJ3_fixAfterInsertion_2 0 rfl rfl)
theorem dJ3_fixAfterInsertion_51 : decode cJ3_fixAfterInsertion 51 = .ok (.invokestatic 300, 3) := dk_184 1 44 (dk_at dksJ3_fixAfterInsertion_2 3 rfl rfl)
theorem dJ3_fixAfterInsertion_54 : decode cJ3_fixAfterInsertion 54 = .ok (.astore_n 2, 1) := dk_77 (dk_at dksJ3_fixAfterInsertion_2 6 rfl rfl)
theorem dJ3_fixAfterInsertion_55 : decode cJ3_fixAfterInsertion 55 = .ok (.aload_n 2, 1) := dk_44 (dk_at dksJ3_fixAfterInsertion_2 7 rfl rfl)
theorem dJ3_fixAfterInsertion_56 : decode cJ3_fixAfterInsertion 56 = .ok (.invokestatic 303, 3) := dk_184 1 47 (dk_at dksJ3_fixAfterInsertion_2 8 rfl rfl)
theorem dJ3_fixAfterInsertion_59 : decode cJ3_fixAfterInsertion 59 = .ok (.ifCond .ne 38, 3) := dk_154 0 38 (dk_at dksJ3_fixAfterInsertion_2 11 rfl rfl)
theorem dJ3_fixAfterInsertion_62 : decode cJ3_fixAfterInsertion 62 = .ok (.aload_n 1, 1) := dk_43 (dk_at dksJ3_fixAfterInsertion_2 14 rfl rfl)
theorem dJ3_fixAfterInsertion_63 : decode cJ3_fixAfterInsertion 63 = .ok (.invokestatic 294, 3) := dk_184 1 38 (dk_at dksJ3_fixAfterInsertion_2 15 rfl rfl)
theorem dJ3_fixAfterInsertion_66 : decode cJ3_fixAfterInsertion 66 = .ok (.iconst 1, 1) := dk_4 (dk_at dksJ3_fixAfterInsertion_2 18 rfl rfl)
theorem dJ3_fixAfterInsertion_67 : decode cJ3_fixAfterInsertion 67 = .ok (.invokestatic 307, 3) := dk_184 1 51 (dk_at dksJ3_fixAfterInsertion_2 19 rfl rfl)
theorem dJ3_fixAfterInsertion_70 : decode cJ3_fixAfterInsertion 70 = .ok (.aload_n 2, 1) := dk_44 (dk_at dksJ3_fixAfterInsertion_2 22 rfl rfl)
theorem dJ3_fixAfterInsertion_71 : decode cJ3_fixAfterInsertion 71 = .ok (.iconst 1, 1) := dk_4 (dk_at dksJ3_fixAfterInsertion_2 23 rfl rfl)
theorem dJ3_fixAfterInsertion_72 : decode cJ3_fixAfterInsertion 72 = .ok (.invokestatic 307, 3) := dk_184 1 51 (dk_at dksJ3_fixAfterInsertion_3 0 rfl rfl)
theorem dJ3_fixAfterInsertion_75 : decode cJ3_fixAfterInsertion 75 = .ok (.aload_n 1, 1) := dk_43 (dk_at dksJ3_fixAfterInsertion_3 3 rfl rfl)
theorem dJ3_fixAfterInsertion_76 : decode cJ3_fixAfterInsertion 76 = .ok (.invokestatic 294, 3) := dk_184 1 38 (dk_at dksJ3_fixAfterInsertion_3 4 rfl rfl)
theorem dJ3_fixAfterInsertion_79 : decode cJ3_fixAfterInsertion 79 = .ok (.invokestatic 294, 3) := dk_184 1 38 (dk_at dksJ3_fixAfterInsertion_3 7 rfl rfl)
theorem dJ3_fixAfterInsertion_82 : decode cJ3_fixAfterInsertion 82 = .ok (.iconst 0, 1) := dk_3 (dk_at dksJ3_fixAfterInsertion_3 10 rfl rfl)
theorem dJ3_fixAfterInsertion_83 : decode cJ3_fixAfterInsertion 83 = .ok (.invokestatic 307, 3) := dk_184 1 51 (dk_at dksJ3_fixAfterInsertion_3 11 rfl rfl)
theorem dJ3_fixAfterInsertion_86 : decode cJ3_fixAfterInsertion 86 = .ok (.aload_n 1, 1) := dk_43 (dk_at dksJ3_fixAfterInsertion_3 14 rfl rfl)
theorem dJ3_fixAfterInsertion_87 : decode cJ3_fixAfterInsertion 87 = .ok (.invokestatic 294, 3) := dk_184 1 38 (dk_at dksJ3_fixAfterInsertion_3 15 rfl rfl)
theorem dJ3_fixAfterInsertion_90 : decode cJ3_fixAfterInsertion 90 = .ok (.invokestatic 294, 3) := dk_184 1 38 (dk_at dksJ3_fixAfterInsertion_3 18 rfl rfl)
theorem dJ3_fixAfterInsertion_93 : decode cJ3_fixAfterInsertion 93 = .ok (.astore_n 1, 1) := dk_76 (dk_at dksJ3_fixAfterInsertion_3 21 rfl rfl)
theorem dJ3_fixAfterInsertion_94 : decode cJ3_fixAfterInsertion 94 = .ok (.goto 54, 3) := dk_167 0 54 (dk_at dksJ3_fixAfterInsertion_4 0 rfl rfl)
theorem dJ3_fixAfterInsertion_97 : decode cJ3_fixAfterInsertion 97 = .ok (.aload_n 1, 1) := dk_43 (dk_at dksJ3_fixAfterInsertion_4 3 rfl rfl)
theorem dJ3_fixAfterInsertion_98 : decode cJ3_fixAfterInsertion 98 = .ok (.aload_n 1, 1) := dk_43 (dk_at dksJ3_fixAfterInsertion_4 4 rfl rfl)
theorem dJ3_fixAfterInsertion_99 : decode cJ3_fixAfterInsertion 99 = .ok (.invokestatic 294, 3) := dk_184 1 38 (dk_at dksJ3_fixAfterInsertion_4 5 rfl rfl)
theorem dJ3_fixAfterInsertion_102 : decode cJ3_fixAfterInsertion 102 = .ok (.invokestatic 300, 3) := dk_184 1 44 (dk_at dksJ3_fixAfterInsertion_4 8 rfl rfl)
theorem dJ3_fixAfterInsertion_105 : decode cJ3_fixAfterInsertion 105 = .ok (.if_acmp .ne 13, 3) := dk_166 0 13 (dk_at dksJ3_fixAfterInsertion_4 11 rfl rfl)
theorem dJ3_fixAfterInsertion_108 : decode cJ3_fixAfterInsertion 108 = .ok (.aload_n 1, 1) := dk_43 (dk_at dksJ3_fixAfterInsertion_4 14 rfl rfl)
theorem dJ3_fixAfterInsertion_109 : decode cJ3_fixAfterInsertion 109 = .ok (.invokestatic 294, 3) := dk_184 1 38 (dk_at dksJ3_fixAfterInsertion_4 15 rfl rfl)
theorem dJ3_fixAfterInsertion_112 : decode cJ3_fixAfterInsertion 112 = .ok (.astore_n 1, 1) := dk_76 (dk_at dksJ3_fixAfterInsertion_4 18 rfl rfl)
theorem dJ3_fixAfterInsertion_113 : decode cJ3_fixAfterInsertion 113 = .ok (.aload_n 0, 1) := dk_42 (dk_at dksJ3_fixAfterInsertion_4 19 rfl rfl)
theorem dJ3_fixAfterInsertion_114 : decode cJ3_fixAfterInsertion 114 = .ok (.aload_n 1, 1) := dk_43 (dk_at dksJ3_fixAfterInsertion_4 20 rfl rfl)
theorem dJ3_fixAfterInsertion_115 : decode cJ3_fixAfterInsertion 115 = .ok (.invokevirtual 311, 3) := dk_182 1 55 (dk_at dksJ3_fixAfterInsertion_4 21 rfl rfl)
theorem dJ3_fixAfterInsertion_118 : decode cJ3_fixAfterInsertion 118 = .ok (.aload_n 1, 1) := dk_43 (dk_at dksJ3_fixAfterInsertion_5 0 rfl rfl)
theorem dJ3_fixAfterInsertion_119 : decode cJ3_fixAfterInsertion 119 = .ok (.invokestatic 294, 3) := dk_184 1 38 (dk_at dksJ3_fixAfterInsertion_5 1 rfl rfl)
theorem dJ3_fixAfterInsertion_122 : decode cJ3_fixAfterInsertion 122 = .ok (.iconst 1, 1) := dk_4 (dk_at dksJ3_fixAfterInsertion_5 4 rfl rfl)
theorem dJ3_fixAfterInsertion_123 : decode cJ3_fixAfterInsertion 123 = .ok (.invokestatic 307, 3) := dk_184 1 51 (dk_at dksJ3_fixAfterInsertion_5 5 rfl rfl)
theorem dJ3_fixAfterInsertion_126 : decode cJ3_fixAfterInsertion 126 = .ok (.aload_n 1, 1) := dk_43 (dk_at dksJ3_fixAfterInsertion_5 8 rfl rfl)
theorem dJ3_fixAfterInsertion_127 : decode cJ3_fixAfterInsertion 127 = .ok (.invokestatic 294, 3) := dk_184 1 38 (dk_at dksJ3_fixAfterInsertion_5 9 rfl rfl)
theorem dJ3_fixAfterInsertion_130 : decode cJ3_fixAfterInsertion 130 = .ok (.invokestatic 294, 3) := dk_184 1 38 (dk_at dksJ3_fixAfterInsertion_5 12 rfl rfl)
theorem dJ3_fixAfterInsertion_133 : decode cJ3_fixAfterInsertion 133 = .ok (.iconst 0, 1) := dk_3 (dk_at dksJ3_fixAfterInsertion_5 15 rfl rfl)
theorem dJ3_fixAfterInsertion_134 : decode cJ3_fixAfterInsertion 134 = .ok (.invokestatic 307, 3) := dk_184 1 51 (dk_at dksJ3_fixAfterInsertion_5 16 rfl rfl)
theorem dJ3_fixAfterInsertion_137 : decode cJ3_fixAfterInsertion 137 = .ok (.aload_n 0, 1) := dk_42 (dk_at dksJ3_fixAfterInsertion_5 19 rfl rfl)
theorem dJ3_fixAfterInsertion_138 : decode cJ3_fixAfterInsertion 138 = .ok (.aload_n 1, 1) := dk_43 (dk_at dksJ3_fixAfterInsertion_5 20 rfl rfl)
theorem dJ3_fixAfterInsertion_139 : decode cJ3_fixAfterInsertion 139 = .ok (.invokestatic 294, 3) := dk_184 1 38 (dk_at dksJ3_fixAfterInsertion_5 21 rfl rfl)
theorem dJ3_fixAfterInsertion_142 : decode cJ3_fixAfterInsertion 142 = .ok (.invokestatic 294, 3) := dk_184 1 38 (dk_at dksJ3_fixAfterInsertion_6 0 rfl rfl)
theorem dJ3_fixAfterInsertion_145 : decode cJ3_fixAfterInsertion 145 = .ok (.invokevirtual 314, 3) := dk_182 1 58 (dk_at dksJ3_fixAfterInsertion_6 3 rfl rfl)
theorem dJ3_fixAfterInsertion_148 : decode cJ3_fixAfterInsertion 148 = .ok (.goto (-143), 3) := dk_167 255 113 (dk_at dksJ3_fixAfterInsertion_6 6 rfl rfl)
theorem dJ3_fixAfterInsertion_151 : decode cJ3_fixAfterInsertion 151 = .ok (.aload_n 1, 1) := dk_43 (dk_at dksJ3_fixAfterInsertion_6 9 rfl rfl)
theorem dJ3_fixAfterInsertion_152 : decode cJ3_fixAfterInsertion 152 = .ok (.invokestatic 294, 3) := dk_184 1 38 (dk_at dksJ3_fixAfterInsertion_6 10 rfl rfl)
theorem dJ3_fixAfterInsertion_155 : decode cJ3_fixAfterInsertion 155 = .ok (.invokestatic 294, 3) := dk_184 1 38 (dk_at dksJ3_fixAfterInsertion_6 13 rfl rfl)
theorem dJ3_fixAfterInsertion_158 : decode cJ3_fixAfterInsertion 158 = .ok (.invokestatic 297, 3) := dk_184 1 41 (dk_at dksJ3_fixAfterInsertion_6 16 rfl rfl)
theorem dJ3_fixAfterInsertion_161 : decode cJ3_fixAfterInsertion 161 = .ok (.astore_n 2, 1) := dk_77 (dk_at dksJ3_fixAfterInsertion_6 19 rfl rfl)
theorem dJ3_fixAfterInsertion_162 : decode cJ3_fixAfterInsertion 162 = .ok (.aload_n 2, 1) := dk_44 (dk_at dksJ3_fixAfterInsertion_6 20 rfl rfl)
theorem dJ3_fixAfterInsertion_163 : decode cJ3_fixAfterInsertion 163 = .ok (.invokestatic 303, 3) := dk_184 1 47 (dk_at dksJ3_fixAfterInsertion_6 21 rfl rfl)
theorem dJ3_fixAfterInsertion_166 : decode cJ3_fixAfterInsertion 166 = .ok (.ifCond .ne 38, 3) := dk_154 0 38 (dk_at dksJ3_fixAfterInsertion_7 0 rfl rfl)
theorem dJ3_fixAfterInsertion_169 : decode cJ3_fixAfterInsertion 169 = .ok (.aload_n 1, 1) := dk_43 (dk_at dksJ3_fixAfterInsertion_7 3 rfl rfl)
theorem dJ3_fixAfterInsertion_170 : decode cJ3_fixAfterInsertion 170 = .ok (.invokestatic 294, 3) := dk_184 1 38 (dk_at dksJ3_fixAfterInsertion_7 4 rfl rfl)
theorem dJ3_fixAfterInsertion_173 : decode cJ3_fixAfterInsertion 173 = .ok (.iconst 1, 1) := dk_4 (dk_at dksJ3_fixAfterInsertion_7 7 rfl rfl)
theorem dJ3_fixAfterInsertion_174 : decode cJ3_fixAfterInsertion 174 = .ok (.invokestatic 307, 3) := dk_184 1 51 (dk_at dksJ3_fixAfterInsertion_7 8 rfl rfl)
theorem dJ3_fixAfterInsertion_177 : decode cJ3_fixAfterInsertion 177 = .ok (.aload_n 2, 1) := dk_44 (dk_at dksJ3_fixAfterInsertion_7 11 rfl rfl)
theorem dJ3_fixAfterInsertion_178 : decode cJ3_fixAfterInsertion 178 = .ok (.iconst 1, 1) := dk_4 (dk_at dksJ3_fixAfterInsertion_7 12 rfl rfl)
theorem dJ3_fixAfterInsertion_179 : decode cJ3_fixAfterInsertion 179 = .ok (.invokestatic 307, 3) := dk_184 1 51 (dk_at dksJ3_fixAfterInsertion_7 13 rfl rfl)
theorem dJ3_fixAfterInsertion_182 : decode cJ3_fixAfterInsertion 182 = .ok (.aload_n 1, 1) := dk_43 (dk_at dksJ3_fixAfterInsertion_7 16 rfl rfl)
theorem dJ3_fixAfterInsertion_183 : decode cJ3_fixAfterInsertion 183 = .ok (.invokestatic 294, 3) := dk_184 1 38 (dk_at dksJ3_fixAfterInsertion_7 17 rfl rfl)
theorem dJ3_fixAfterInsertion_186 : decode cJ3_fixAfterInsertion 186 = .ok (.invokestatic 294, 3) := dk_184 1 38 (dk_at dksJ3_fixAfterInsertion_7 20 rfl rfl)
theorem dJ3_fixAfterInsertion_189 : decode cJ3_fixAfterInsertion 189 = .ok (.iconst 0, 1) := dk_3 (dk_at dksJ3_fixAfterInsertion_7 23 rfl rfl)
theorem dJ3_fixAfterInsertion_190 : decode cJ3_fixAfterInsertion 190 = .ok (.invokestatic 307, 3) := dk_184 1 51 (dk_at dksJ3_fixAfterInsertion_8 0 rfl rfl)
theorem dJ3_fixAfterInsertion_193 : decode cJ3_fixAfterInsertion 193 = .ok (.aload_n 1, 1) := dk_43 (dk_at dksJ3_fixAfterInsertion_8 3 rfl rfl)
theorem dJ3_fixAfterInsertion_194 : decode cJ3_fixAfterInsertion 194 = .ok (.invokestatic 294, 3) := dk_184 1 38 (dk_at dksJ3_fixAfterInsertion_8 4 rfl rfl)
theorem dJ3_fixAfterInsertion_197 : decode cJ3_fixAfterInsertion 197 = .ok (.invokestatic 294, 3) := dk_184 1 38 (dk_at dksJ3_fixAfterInsertion_8 7 rfl rfl)
theorem dJ3_fixAfterInsertion_200 : decode cJ3_fixAfterInsertion 200 = .ok (.astore_n 1, 1) := dk_76 (dk_at dksJ3_fixAfterInsertion_8 10 rfl rfl)
theorem dJ3_fixAfterInsertion_201 : decode cJ3_fixAfterInsertion 201 = .ok (.goto 54, 3) := dk_167 0 54 (dk_at dksJ3_fixAfterInsertion_8 11 rfl rfl)
theorem dJ3_fixAfterInsertion_204 : decode cJ3_fixAfterInsertion 204 = .ok (.aload_n 1, 1) := dk_43 (dk_at dksJ3_fixAfterInsertion_8 14 rfl rfl)
theorem dJ3_fixAfterInsertion_205 : decode cJ3_fixAfterInsertion 205 = .ok (.aload_n 1, 1) := dk_43 (dk_at dksJ3_fixAfterInsertion_8 15 rfl rfl)
theorem dJ3_fixAfterInsertion_206 : decode cJ3_fixAfterInsertion 206 = .ok (.invokestatic 294, 3) := dk_184 1 38 (dk_at dksJ3_fixAfterInsertion_8 16 rfl rfl)
theorem dJ3_fixAfterInsertion_209 : decode cJ3_fixAfterInsertion 209 = .ok (.invokestatic 297, 3) := dk_184 1 41 (dk_at dksJ3_fixAfterInsertion_8 19 rfl rfl)
theorem dJ3_fixAfterInsertion_212 : decode cJ3_fixAfterInsertion 212 = .ok (.if_acmp .ne 13, 3) := dk_166 0 13 (dk_at dksJ3_fixAfterInsertion_9 0 rfl rfl)
theorem dJ3_fixAfterInsertion_215 : decode cJ3_fixAfterInsertion 215 = .ok (.aload_n 1, 1) := dk_43 (dk_at dksJ3_fixAfterInsertion_9 3 rfl rfl)
theorem dJ3_fixAfterInsertion_216 : decode cJ3_fixAfterInsertion 216 = .ok (.invokestatic 294, 3) := dk_184 1 38 (dk_at dksJ3_fixAfterInsertion_9 4 rfl rfl)
theorem dJ3_fixAfterInsertion_219 : decode cJ3_fixAfterInsertion 219 = .ok (.astore_n 1, 1) := dk_76 (dk_at dksJ3_fixAfterInsertion_9 7 rfl rfl)
theorem dJ3_fixAfterInsertion_220 : decode cJ3_fixAfterInsertion 220 = .ok (.aload_n 0, 1) := dk_42 (dk_at dksJ3_fixAfterInsertion_9 8 rfl rfl)
theorem dJ3_fixAfterInsertion_221 : decode cJ3_fixAfterInsertion 221 = .ok (.aload_n 1, 1) := dk_43 (dk_at dksJ3_fixAfterInsertion_9 9 rfl rfl)
theorem dJ3_fixAfterInsertion_222 : decode cJ3_fixAfterInsertion 222 = .ok (.invokevirtual 314, 3) := dk_182 1 58 (dk_at dksJ3_fixAfterInsertion_9 10 rfl rfl)
theorem dJ3_fixAfterInsertion_225 : decode cJ3_fixAfterInsertion 225 = .ok (.aload_n 1, 1) := dk_43 (dk_at dksJ3_fixAfterInsertion_9 13 rfl rfl)
theorem dJ3_fixAfterInsertion_226 : decode cJ3_fixAfterInsertion 226 = .ok (.invokestatic 294, 3) := dk_184 1 38 (dk_at dksJ3_fixAfterInsertion_9 14 rfl rfl)
theorem dJ3_fixAfterInsertion_229 : decode cJ3_fixAfterInsertion 229 = .ok (.iconst 1, 1) := dk_4 (dk_at dksJ3_fixAfterInsertion_9 17 rfl rfl)
theorem dJ3_fixAfterInsertion_230 : decode cJ3_fixAfterInsertion 230 = .ok (.invokestatic 307, 3) := dk_184 1 51 (dk_at dksJ3_fixAfterInsertion_9 18 rfl rfl)
theorem dJ3_fixAfterInsertion_233 : decode cJ3_fixAfterInsertion 233 = .ok (.aload_n 1, 1) := dk_43 (dk_at dksJ3_fixAfterInsertion_9 21 rfl rfl)
theorem dJ3_fixAfterInsertion_234 : decode cJ3_fixAfterInsertion 234 = .ok (.invokestatic 294, 3) := dk_184 1 38 (dk_at dksJ3_fixAfterInsertion_10 0 rfl rfl)
theorem dJ3_fixAfterInsertion_237 : decode cJ3_fixAfterInsertion 237 = .ok (.invokestatic 294, 3) := dk_184 1 38 (dk_at dksJ3_fixAfterInsertion_10 3 rfl rfl)
theorem dJ3_fixAfterInsertion_240 : decode cJ3_fixAfterInsertion 240 = .ok (.iconst 0, 1) := dk_3 (dk_at dksJ3_fixAfterInsertion_10 6 rfl rfl)
theorem dJ3_fixAfterInsertion_241 : decode cJ3_fixAfterInsertion 241 = .ok (.invokestatic 307, 3) := dk_184 1 51 (dk_at dksJ3_fixAfterInsertion_10 7 rfl rfl)
theorem dJ3_fixAfterInsertion_244 : decode cJ3_fixAfterInsertion 244 = .ok (.aload_n 0, 1) := dk_42 (dk_at dksJ3_fixAfterInsertion_10 10 rfl rfl)
theorem dJ3_fixAfterInsertion_245 : decode cJ3_fixAfterInsertion 245 = .ok (.aload_n 1, 1) := dk_43 (dk_at dksJ3_fixAfterInsertion_10 11 rfl rfl)
theorem dJ3_fixAfterInsertion_246 : decode cJ3_fixAfterInsertion 246 = .ok (.invokestatic 294, 3) := dk_184 1 38 (dk_at dksJ3_fixAfterInsertion_10 12 rfl rfl)
theorem dJ3_fixAfterInsertion_249 : decode cJ3_fixAfterInsertion 249 = .ok (.invokestatic 294, 3) := dk_184 1 38 (dk_at dksJ3_fixAfterInsertion_10 15 rfl rfl)
theorem dJ3_fixAfterInsertion_252 : decode cJ3_fixAfterInsertion 252 = .ok (.invokevirtual 311, 3) := dk_182 1 55 (dk_at dksJ3_fixAfterInsertion_10 18 rfl rfl)
theorem dJ3_fixAfterInsertion_255 : decode cJ3_fixAfterInsertion 255 = .ok (.goto (-250), 3) := dk_167 255 6 (dk_at dksJ3_fixAfterInsertion_10 21 rfl rfl)
theorem dJ3_fixAfterInsertion_258 : decode cJ3_fixAfterInsertion 258 = .ok (.aload_n 0, 1) := dk_42 (dk_at dksJ3_fixAfterInsertion_11 0 rfl rfl)
theorem dJ3_fixAfterInsertion_259 : decode cJ3_fixAfterInsertion 259 = .ok (.getfield 101, 3) := dk_180 0 101 (dk_at dksJ3_fixAfterInsertion_11 1 rfl rfl)
theorem dJ3_fixAfterInsertion_262 : decode cJ3_fixAfterInsertion 262 = .ok (.iconst 1, 1) := dk_4 (dk_at dksJ3_fixAfterInsertion_11 4 rfl rfl)
theorem dJ3_fixAfterInsertion_263 : decode cJ3_fixAfterInsertion 263 = .ok (.putfield 290, 3) := dk_181 1 34 (dk_at dksJ3_fixAfterInsertion_11 5 rfl rfl)
theorem dJ3_fixAfterInsertion_266 : decode cJ3_fixAfterInsertion 266 = .ok (.return_, 1) := dk_177 (dk_at dksJ3_fixAfterInsertion_11 8 rfl rfl)
abbrev cJ3_parentOf : ByteArray := prog_80_method_77_code
def yJ3_parentOf : MethodName := ⟨RJ3, "parentOf", "(Ljava/util/TreeMap$Entry;)Ljava/util/TreeMap$Entry;"⟩
def dkwJ3_parentOf_0 : List UInt8 := [42, 199, 0, 7, 1, 167, 0, 7, 42, 180, 0, 124, 176]
abbrev dktJ3_parentOf_0 : List UInt8 := dkwJ3_parentOf_0 ++ []
theorem dksJ3_parentOf_0 : cJ3_parentOf.data.toList.drop 0 = dktJ3_parentOf_0 := by decide +kernel
theorem dJ3_parentOf_0 : decode cJ3_parentOf 0 = .ok (.aload_n 0, 1) := dk_42 (dk_at dksJ3_parentOf_0 0 rfl rfl)
theorem dJ3_parentOf_1 : decode cJ3_parentOf 1 = .ok (.ifnonnull 7, 3) := dk_199 0 7 (dk_at dksJ3_parentOf_0 1 rfl rfl)
theorem dJ3_parentOf_4 : decode cJ3_parentOf 4 = .ok (.aconst_null, 1) := dk_1 (dk_at dksJ3_parentOf_0 4 rfl rfl)
theorem dJ3_parentOf_5 : decode cJ3_parentOf 5 = .ok (.goto 7, 3) := dk_167 0 7 (dk_at dksJ3_parentOf_0 5 rfl rfl)
theorem dJ3_parentOf_8 : decode cJ3_parentOf 8 = .ok (.aload_n 0, 1) := dk_42 (dk_at dksJ3_parentOf_0 8 rfl rfl)
theorem dJ3_parentOf_9 : decode cJ3_parentOf 9 = .ok (.getfield 124, 3) := dk_180 0 124 (dk_at dksJ3_parentOf_0 9 rfl rfl)
theorem dJ3_parentOf_12 : decode cJ3_parentOf 12 = .ok (.areturn, 1) := dk_176 (dk_at dksJ3_parentOf_0 12 rfl rfl)
abbrev cJ3_leftOf : ByteArray := prog_80_method_79_code
def yJ3_leftOf : MethodName := ⟨RJ3, "leftOf", "(Ljava/util/TreeMap$Entry;)Ljava/util/TreeMap$Entry;"⟩
def dkwJ3_leftOf_0 : List UInt8 := [42, 199, 0, 7, 1, 167, 0, 7, 42, 180, 0, 111, 176]
abbrev dktJ3_leftOf_0 : List UInt8 := dkwJ3_leftOf_0 ++ []
theorem dksJ3_leftOf_0 : cJ3_leftOf.data.toList.drop 0 = dktJ3_leftOf_0 := by decide +kernel
theorem dJ3_leftOf_0 : decode cJ3_leftOf 0 = .ok (.aload_n 0, 1) := dk_42 (dk_at dksJ3_leftOf_0 0 rfl rfl)
theorem dJ3_leftOf_1 : decode cJ3_leftOf 1 = .ok (.ifnonnull 7, 3) := dk_199 0 7 (dk_at dksJ3_leftOf_0 1 rfl rfl)
theorem dJ3_leftOf_4 : decode cJ3_leftOf 4 = .ok (.aconst_null, 1) := dk_1 (dk_at dksJ3_leftOf_0 4 rfl rfl)
theorem dJ3_leftOf_5 : decode cJ3_leftOf 5 = .ok (.goto 7, 3) := dk_167 0 7 (dk_at dksJ3_leftOf_0 5 rfl rfl)
theorem dJ3_leftOf_8 : decode cJ3_leftOf 8 = .ok (.aload_n 0, 1) := dk_42 (dk_at dksJ3_leftOf_0 8 rfl rfl)
theorem dJ3_leftOf_9 : decode cJ3_leftOf 9 = .ok (.getfield 111, 3) := dk_180 0 111 (dk_at dksJ3_leftOf_0 9 rfl rfl)
theorem dJ3_leftOf_12 : decode cJ3_leftOf 12 = .ok (.areturn, 1) := dk_176 (dk_at dksJ3_leftOf_0 12 rfl rfl)
abbrev cJ3_rightOf : ByteArray := prog_80_method_80_code
def yJ3_rightOf : MethodName := ⟨RJ3, "rightOf", "(Ljava/util/TreeMap$Entry;)Ljava/util/TreeMap$Entry;"⟩
def dkwJ3_rightOf_0 : List UInt8 := [42, 199, 0, 7, 1, 167, 0, 7, 42, 180, 0, 114, 176]
abbrev dktJ3_rightOf_0 : List UInt8 := dkwJ3_rightOf_0 ++ []
theorem dksJ3_rightOf_0 : cJ3_rightOf.data.toList.drop 0 = dktJ3_rightOf_0 := by decide +kernel
theorem dJ3_rightOf_0 : decode cJ3_rightOf 0 = .ok (.aload_n 0, 1) := dk_42 (dk_at dksJ3_rightOf_0 0 rfl rfl)
theorem dJ3_rightOf_1 : decode cJ3_rightOf 1 = .ok (.ifnonnull 7, 3) := dk_199 0 7 (dk_at dksJ3_rightOf_0 1 rfl rfl)
theorem dJ3_rightOf_4 : decode cJ3_rightOf 4 = .ok (.aconst_null, 1) := dk_1 (dk_at dksJ3_rightOf_0 4 rfl rfl)
theorem dJ3_rightOf_5 : decode cJ3_rightOf 5 = .ok (.goto 7, 3) := dk_167 0 7 (dk_at dksJ3_rightOf_0 5 rfl rfl)
theorem dJ3_rightOf_8 : decode cJ3_rightOf 8 = .ok (.aload_n 0, 1) := dk_42 (dk_at dksJ3_rightOf_0 8 rfl rfl)
theorem dJ3_rightOf_9 : decode cJ3_rightOf 9 = .ok (.getfield 114, 3) := dk_180 0 114 (dk_at dksJ3_rightOf_0 9 rfl rfl)
theorem dJ3_rightOf_12 : decode cJ3_rightOf 12 = .ok (.areturn, 1) := dk_176 (dk_at dksJ3_rightOf_0 12 rfl rfl)
abbrev cJ3_colorOf : ByteArray := prog_80_method_76_code
def yJ3_colorOf : MethodName := ⟨RJ3, "colorOf", "(Ljava/util/TreeMap$Entry;)Z"⟩
def dkwJ3_colorOf_0 : List UInt8 := [42, 199, 0, 7, 4, 167, 0, 7, 42, 180, 1, 34, 172]
abbrev dktJ3_colorOf_0 : List UInt8 := dkwJ3_colorOf_0 ++ []
theorem dksJ3_colorOf_0 : cJ3_colorOf.data.toList.drop 0 = dktJ3_colorOf_0 := by decide +kernel
theorem dJ3_colorOf_0 : decode cJ3_colorOf 0 = .ok (.aload_n 0, 1) := dk_42 (dk_at dksJ3_colorOf_0 0 rfl rfl)
theorem dJ3_colorOf_1 : decode cJ3_colorOf 1 = .ok (.ifnonnull 7, 3) := dk_199 0 7 (dk_at dksJ3_colorOf_0 1 rfl rfl)
theorem dJ3_colorOf_4 : decode cJ3_colorOf 4 = .ok (.iconst 1, 1) := dk_4 (dk_at dksJ3_colorOf_0 4 rfl rfl)
theorem dJ3_colorOf_5 : decode cJ3_colorOf 5 = .ok (.goto 7, 3) := dk_167 0 7 (dk_at dksJ3_colorOf_0 5 rfl rfl)
theorem dJ3_colorOf_8 : decode cJ3_colorOf 8 = .ok (.aload_n 0, 1) := dk_42 (dk_at dksJ3_colorOf_0 8 rfl rfl)
theorem dJ3_colorOf_9 : decode cJ3_colorOf 9 = .ok (.getfield 290, 3) := dk_180 1 34 (dk_at dksJ3_colorOf_0 9 rfl rfl)
theorem dJ3_colorOf_12 : decode cJ3_colorOf 12 = .ok (.ireturn, 1) := dk_172 (dk_at dksJ3_colorOf_0 12 rfl rfl)
abbrev cJ3_setColor : ByteArray := prog_80_method_78_code
def yJ3_setColor : MethodName := ⟨RJ3, "setColor", "(Ljava/util/TreeMap$Entry;Z)V"⟩
def dkwJ3_setColor_0 : List UInt8 := [42, 198, 0, 8, 42, 27, 181, 1, 34, 177]
abbrev dktJ3_setColor_0 : List UInt8 := dkwJ3_setColor_0 ++ []
theorem dksJ3_setColor_0 : cJ3_setColor.data.toList.drop 0 = dktJ3_setColor_0 := by decide +kernel
theorem dJ3_setColor_0 : decode cJ3_setColor 0 = .ok (.aload_n 0, 1) := dk_42 (dk_at dksJ3_setColor_0 0 rfl rfl)
theorem dJ3_setColor_1 : decode cJ3_setColor 1 = .ok (.ifnull 8, 3) := dk_198 0 8 (dk_at dksJ3_setColor_0 1 rfl rfl)
theorem dJ3_setColor_4 : decode cJ3_setColor 4 = .ok (.aload_n 0, 1) := dk_42 (dk_at dksJ3_setColor_0 4 rfl rfl)
theorem dJ3_setColor_5 : decode cJ3_setColor 5 = .ok (.iload_n 1, 1) := dk_27 (dk_at dksJ3_setColor_0 5 rfl rfl)
theorem dJ3_setColor_6 : decode cJ3_setColor 6 = .ok (.putfield 290, 3) := dk_181 1 34 (dk_at dksJ3_setColor_0 6 rfl rfl)
theorem dJ3_setColor_9 : decode cJ3_setColor 9 = .ok (.return_, 1) := dk_177 (dk_at dksJ3_setColor_0 9 rfl rfl)
abbrev cJ3_rotateLeft : ByteArray := prog_80_method_81_code
def yJ3_rotateLeft : MethodName := ⟨RJ3, "rotateLeft", "(Ljava/util/TreeMap$Entry;)V"⟩
def dkwJ3_rotateLeft_4 : List UInt8 := [177]
abbrev dktJ3_rotateLeft_4 : List UInt8 := dkwJ3_rotateLeft_4 ++ []
def dkwJ3_rotateLeft_3 : List UInt8 := [181, 0, 111, 167, 0, 11, 43, 180, 0, 124, 44, 181, 0, 114, 44, 43, 181, 0, 111, 43, 44, 181, 0, 124]
abbrev dktJ3_rotateLeft_3 : List UInt8 := dkwJ3_rotateLeft_3 ++ dktJ3_rotateLeft_4
def dkwJ3_rotateLeft_2 : List UInt8 := [44, 181, 0, 101, 167, 0, 33, 43, 180, 0, 124, 180, 0, 111, 43, 166, 0, 14, 43, 180, 0, 124, 44]
abbrev dktJ3_rotateLeft_2 : List UInt8 := dkwJ3_rotateLeft_2 ++ dktJ3_rotateLeft_3
def dkwJ3_rotateLeft_1 : List UInt8 := [44, 180, 0, 111, 43, 181, 0, 124, 44, 43, 180, 0, 124, 181, 0, 124, 43, 180, 0, 124, 199, 0, 11, 42]
abbrev dktJ3_rotateLeft_1 : List UInt8 := dkwJ3_rotateLeft_1 ++ dktJ3_rotateLeft_2
def dkwJ3_rotateLeft_0 : List UInt8 := [43, 198, 0, 94, 43, 180, 0, 114, 77, 43, 44, 180, 0, 111, 181, 0, 114, 44, 180, 0, 111, 198, 0, 11]
abbrev dktJ3_rotateLeft_0 : List UInt8 := dkwJ3_rotateLeft_0 ++ dktJ3_rotateLeft_1
theorem dksJ3_rotateLeft_0 : cJ3_rotateLeft.data.toList.drop 0 = dktJ3_rotateLeft_0 := by decide +kernel
theorem dksJ3_rotateLeft_1 : cJ3_rotateLeft.data.toList.drop 24 = dktJ3_rotateLeft_1 := dk_seg dksJ3_rotateLeft_0 24 rfl rfl
theorem dksJ3_rotateLeft_2 : cJ3_rotateLeft.data.toList.drop 48 = dktJ3_rotateLeft_2 := dk_seg dksJ3_rotateLeft_1 24 rfl rfl
theorem dksJ3_rotateLeft_3 : cJ3_rotateLeft.data.toList.drop 71 = dktJ3_rotateLeft_3 := dk_seg dksJ3_rotateLeft_2 23 rfl rfl
theorem dksJ3_rotateLeft_4 : cJ3_rotateLeft.data.toList.drop 95 = dktJ3_rotateLeft_4 := dk_seg dksJ3_rotateLeft_3 24 rfl rfl
theorem dJ3_rotateLeft_0 : decode cJ3_rotateLeft 0 = .ok (.aload_n 1, 1) := dk_43 (dk_at dksJ3_rotateLeft_0 0 rfl rfl)
theorem dJ3_rotateLeft_1 : decode cJ3_rotateLeft 1 = .ok (.ifnull 94, 3) := dk_198 0 94 (dk_at dksJ3_rotateLeft_0 1 rfl rfl)
theorem dJ3_rotateLeft_4 : decode cJ3_rotateLeft 4 = .ok (.aload_n 1, 1) := dk_43 (dk_at dksJ3_rotateLeft_0 4 rfl rfl)
theorem dJ3_rotateLeft_5 : decode cJ3_rotateLeft 5 = .ok (.getfield 114, 3) := dk_180 0 114 (dk_at dksJ3_rotateLeft_0 5 rfl rfl)
theorem dJ3_rotateLeft_8 : decode cJ3_rotateLeft 8 = .ok (.astore_n 2, 1) := dk_77 (dk_at dksJ3_rotateLeft_0 8 rfl rfl)
theorem dJ3_rotateLeft_9 : decode cJ3_rotateLeft 9 = .ok (.aload_n 1, 1) := dk_43 (dk_at dksJ3_rotateLeft_0 9 rfl rfl)
theorem dJ3_rotateLeft_10 : decode cJ3_rotateLeft 10 = .ok (.aload_n 2, 1) := dk_44 (dk_at dksJ3_rotateLeft_0 10 rfl rfl)
theorem dJ3_rotateLeft_11 : decode cJ3_rotateLeft 11 = .ok (.getfield 111, 3) := dk_180 0 111 (dk_at dksJ3_rotateLeft_0 11 rfl rfl)
theorem dJ3_rotateLeft_14 : decode cJ3_rotateLeft 14 = .ok (.putfield 114, 3) := dk_181 0 114 (dk_at dksJ3_rotateLeft_0 14 rfl rfl)
theorem dJ3_rotateLeft_17 : decode cJ3_rotateLeft 17 = .ok (.aload_n 2, 1) := dk_44 (dk_at dksJ3_rotateLeft_0 17 rfl rfl)
theorem dJ3_rotateLeft_18 : decode cJ3_rotateLeft 18 = .ok (.getfield 111, 3) := dk_180 0 111 (dk_at dksJ3_rotateLeft_0 18 rfl rfl)
theorem dJ3_rotateLeft_21 : decode cJ3_rotateLeft 21 = .ok (.ifnull 11, 3) := dk_198 0 11 (dk_at dksJ3_rotateLeft_0 21 rfl rfl)
theorem dJ3_rotateLeft_24 : decode cJ3_rotateLeft 24 = .ok (.aload_n 2, 1) := dk_44 (dk_at dksJ3_rotateLeft_1 0 rfl rfl)
theorem dJ3_rotateLeft_25 : decode cJ3_rotateLeft 25 = .ok (.getfield 111, 3) := dk_180 0 111 (dk_at dksJ3_rotateLeft_1 1 rfl rfl)
theorem dJ3_rotateLeft_28 : decode cJ3_rotateLeft 28 = .ok (.aload_n 1, 1) := dk_43 (dk_at dksJ3_rotateLeft_1 4 rfl rfl)
theorem dJ3_rotateLeft_29 : decode cJ3_rotateLeft 29 = .ok (.putfield 124, 3) := dk_181 0 124 (dk_at dksJ3_rotateLeft_1 5 rfl rfl)
theorem dJ3_rotateLeft_32 : decode cJ3_rotateLeft 32 = .ok (.aload_n 2, 1) := dk_44 (dk_at dksJ3_rotateLeft_1 8 rfl rfl)
theorem dJ3_rotateLeft_33 : decode cJ3_rotateLeft 33 = .ok (.aload_n 1, 1) := dk_43 (dk_at dksJ3_rotateLeft_1 9 rfl rfl)
theorem dJ3_rotateLeft_34 : decode cJ3_rotateLeft 34 = .ok (.getfield 124, 3) := dk_180 0 124 (dk_at dksJ3_rotateLeft_1 10 rfl rfl)
theorem dJ3_rotateLeft_37 : decode cJ3_rotateLeft 37 = .ok (.putfield 124, 3) := dk_181 0 124 (dk_at dksJ3_rotateLeft_1 13 rfl rfl)
theorem dJ3_rotateLeft_40 : decode cJ3_rotateLeft 40 = .ok (.aload_n 1, 1) := dk_43 (dk_at dksJ3_rotateLeft_1 16 rfl rfl)
theorem dJ3_rotateLeft_41 : decode cJ3_rotateLeft 41 = .ok (.getfield 124, 3) := dk_180 0 124 (dk_at dksJ3_rotateLeft_1 17 rfl rfl)
theorem dJ3_rotateLeft_44 : decode cJ3_rotateLeft 44 = .ok (.ifnonnull 11, 3) := dk_199 0 11 (dk_at dksJ3_rotateLeft_1 20 rfl rfl)
theorem dJ3_rotateLeft_47 : decode cJ3_rotateLeft 47 = .ok (.aload_n 0, 1) := dk_42 (dk_at dksJ3_rotateLeft_1 23 rfl rfl)
theorem dJ3_rotateLeft_48 : decode cJ3_rotateLeft 48 = .ok (.aload_n 2, 1) := dk_44 (dk_at dksJ3_rotateLeft_2 0 rfl rfl)
theorem dJ3_rotateLeft_49 : decode cJ3_rotateLeft 49 = .ok (.putfield 101, 3) := dk_181 0 101 (dk_at dksJ3_rotateLeft_2 1 rfl rfl)
theorem dJ3_rotateLeft_52 : decode cJ3_rotateLeft 52 = .ok (.goto 33, 3) := dk_167 0 33 (dk_at dksJ3_rotateLeft_2 4 rfl rfl)
theorem dJ3_rotateLeft_55 : decode cJ3_rotateLeft 55 = .ok (.aload_n 1, 1) := dk_43 (dk_at dksJ3_rotateLeft_2 7 rfl rfl)
theorem dJ3_rotateLeft_56 : decode cJ3_rotateLeft 56 = .ok (.getfield 124, 3) := dk_180 0 124 (dk_at dksJ3_rotateLeft_2 8 rfl rfl)
theorem dJ3_rotateLeft_59 : decode cJ3_rotateLeft 59 = .ok (.getfield 111, 3) := dk_180 0 111 (dk_at dksJ3_rotateLeft_2 11 rfl rfl)
theorem dJ3_rotateLeft_62 : decode cJ3_rotateLeft 62 = .ok (.aload_n 1, 1) := dk_43 (dk_at dksJ3_rotateLeft_2 14 rfl rfl)
theorem dJ3_rotateLeft_63 : decode cJ3_rotateLeft 63 = .ok (.if_acmp .ne 14, 3) := dk_166 0 14 (dk_at dksJ3_rotateLeft_2 15 rfl rfl)
theorem dJ3_rotateLeft_66 : decode cJ3_rotateLeft 66 = .ok (.aload_n 1, 1) := dk_43 (dk_at dksJ3_rotateLeft_2 18 rfl rfl)
theorem dJ3_rotateLeft_67 : decode cJ3_rotateLeft 67 = .ok (.getfield 124, 3) := dk_180 0 124 (dk_at dksJ3_rotateLeft_2 19 rfl rfl)
theorem dJ3_rotateLeft_70 : decode cJ3_rotateLeft 70 = .ok (.aload_n 2, 1) := dk_44 (dk_at dksJ3_rotateLeft_2 22 rfl rfl)
theorem dJ3_rotateLeft_71 : decode cJ3_rotateLeft 71 = .ok (.putfield 111, 3) := dk_181 0 111 (dk_at dksJ3_rotateLeft_3 0 rfl rfl)
theorem dJ3_rotateLeft_74 : decode cJ3_rotateLeft 74 = .ok (.goto 11, 3) := dk_167 0 11 (dk_at dksJ3_rotateLeft_3 3 rfl rfl)
theorem dJ3_rotateLeft_77 : decode cJ3_rotateLeft 77 = .ok (.aload_n 1, 1) := dk_43 (dk_at dksJ3_rotateLeft_3 6 rfl rfl)
theorem dJ3_rotateLeft_78 : decode cJ3_rotateLeft 78 = .ok (.getfield 124, 3) := dk_180 0 124 (dk_at dksJ3_rotateLeft_3 7 rfl rfl)
theorem dJ3_rotateLeft_81 : decode cJ3_rotateLeft 81 = .ok (.aload_n 2, 1) := dk_44 (dk_at dksJ3_rotateLeft_3 10 rfl rfl)
theorem dJ3_rotateLeft_82 : decode cJ3_rotateLeft 82 = .ok (.putfield 114, 3) := dk_181 0 114 (dk_at dksJ3_rotateLeft_3 11 rfl rfl)
theorem dJ3_rotateLeft_85 : decode cJ3_rotateLeft 85 = .ok (.aload_n 2, 1) := dk_44 (dk_at dksJ3_rotateLeft_3 14 rfl rfl)
theorem dJ3_rotateLeft_86 : decode cJ3_rotateLeft 86 = .ok (.aload_n 1, 1) := dk_43 (dk_at dksJ3_rotateLeft_3 15 rfl rfl)
theorem dJ3_rotateLeft_87 : decode cJ3_rotateLeft 87 = .ok (.putfield 111, 3) := dk_181 0 111 (dk_at dksJ3_rotateLeft_3 16 rfl rfl)
theorem dJ3_rotateLeft_90 : decode cJ3_rotateLeft 90 = .ok (.aload_n 1, 1) := dk_43 (dk_at dksJ3_rotateLeft_3 19 rfl rfl)
theorem dJ3_rotateLeft_91 : decode cJ3_rotateLeft 91 = .ok (.aload_n 2, 1) := dk_44 (dk_at dksJ3_rotateLeft_3 20 rfl rfl)
theorem dJ3_rotateLeft_92 : decode cJ3_rotateLeft 92 = .ok (.putfield 124, 3) := dk_181 0 124 (dk_at dksJ3_rotateLeft_3 21 rfl rfl)
theorem dJ3_rotateLeft_95 : decode cJ3_rotateLeft 95 = .ok (.return_, 1) := dk_177 (dk_at dksJ3_rotateLeft_4 0 rfl rfl)
abbrev cJ3_rotateRight : ByteArray := prog_80_method_82_code
def yJ3_rotateRight : MethodName := ⟨RJ3, "rotateRight", "(Ljava/util/TreeMap$Entry;)V"⟩
def dkwJ3_rotateRight_4 : List UInt8 := [177]
abbrev dktJ3_rotateRight_4 : List UInt8 := dkwJ3_rotateRight_4 ++ []
def dkwJ3_rotateRight_3 : List UInt8 := [181, 0, 114, 167, 0, 11, 43, 180, 0, 124, 44, 181, 0, 111, 44, 43, 181, 0, 114, 43, 44, 181, 0, 124]
abbrev dktJ3_rotateRight_3 : List UInt8 := dkwJ3_rotateRight_3 ++ dktJ3_rotateRight_4
def dkwJ3_rotateRight_2 : List UInt8 := [44, 181, 0, 101, 167, 0, 33, 43, 180, 0, 124, 180, 0, 114, 43, 166, 0, 14, 43, 180, 0, 124, 44]
abbrev dktJ3_rotateRight_2 : List UInt8 := dkwJ3_rotateRight_2 ++ dktJ3_rotateRight_3
def dkwJ3_rotateRight_1 : List UInt8 := [44, 180, 0, 114, 43, 181, 0, 124, 44, 43, 180, 0, 124, 181, 0, 124, 43, 180, 0, 124, 199, 0, 11, 42]
abbrev dktJ3_rotateRight_1 : List UInt8 := dkwJ3_rotateRight_1 ++ dktJ3_rotateRight_2
def dkwJ3_rotateRight_0 : List UInt8 := [43, 198, 0, 94, 43, 180, 0, 111, 77, 43, 44, 180, 0, 114, 181, 0, 111, 44, 180, 0, 114, 198, 0, 11]
abbrev dktJ3_rotateRight_0 : List UInt8 := dkwJ3_rotateRight_0 ++ dktJ3_rotateRight_1
theorem dksJ3_rotateRight_0 : cJ3_rotateRight.data.toList.drop 0 = dktJ3_rotateRight_0 := by decide +kernel
theorem dksJ3_rotateRight_1 : cJ3_rotateRight.data.toList.drop 24 = dktJ3_rotateRight_1 := dk_seg dksJ3_rotateRight_0 24 rfl rfl
theorem dksJ3_rotateRight_2 : cJ3_rotateRight.data.toList.drop 48 = dktJ3_rotateRight_2 := dk_seg dksJ3_rotateRight_1 24 rfl rfl
theorem dksJ3_rotateRight_3 : cJ3_rotateRight.data.toList.drop 71 = dktJ3_rotateRight_3 := dk_seg dksJ3_rotateRight_2 23 rfl rfl
theorem dksJ3_rotateRight_4 : cJ3_rotateRight.data.toList.drop 95 = dktJ3_rotateRight_4 := dk_seg dksJ3_rotateRight_3 24 rfl rfl
theorem dJ3_rotateRight_0 : decode cJ3_rotateRight 0 = .ok (.aload_n 1, 1) := dk_43 (dk_at dksJ3_rotateRight_0 0 rfl rfl)
theorem dJ3_rotateRight_1 : decode cJ3_rotateRight 1 = .ok (.ifnull 94, 3) := dk_198 0 94 (dk_at dksJ3_rotateRight_0 1 rfl rfl)
theorem dJ3_rotateRight_4 : decode cJ3_rotateRight 4 = .ok (.aload_n 1, 1) := dk_43 (dk_at dksJ3_rotateRight_0 4 rfl rfl)
theorem dJ3_rotateRight_5 : decode cJ3_rotateRight 5 = .ok (.getfield 111, 3) := dk_180 0 111 (dk_at dksJ3_rotateRight_0 5 rfl rfl)
theorem dJ3_rotateRight_8 : decode cJ3_rotateRight 8 = .ok (.astore_n 2, 1) := dk_77 (dk_at dksJ3_rotateRight_0 8 rfl rfl)
theorem dJ3_rotateRight_9 : decode cJ3_rotateRight 9 = .ok (.aload_n 1, 1) := dk_43 (dk_at dksJ3_rotateRight_0 9 rfl rfl)
theorem dJ3_rotateRight_10 : decode cJ3_rotateRight 10 = .ok (.aload_n 2, 1) := dk_44 (dk_at dksJ3_rotateRight_0 10 rfl rfl)
theorem dJ3_rotateRight_11 : decode cJ3_rotateRight 11 = .ok (.getfield 114, 3) := dk_180 0 114 (dk_at dksJ3_rotateRight_0 11 rfl rfl)
theorem dJ3_rotateRight_14 : decode cJ3_rotateRight 14 = .ok (.putfield 111, 3) := dk_181 0 111 (dk_at dksJ3_rotateRight_0 14 rfl rfl)
theorem dJ3_rotateRight_17 : decode cJ3_rotateRight 17 = .ok (.aload_n 2, 1) := dk_44 (dk_at dksJ3_rotateRight_0 17 rfl rfl)
theorem dJ3_rotateRight_18 : decode cJ3_rotateRight 18 = .ok (.getfield 114, 3) := dk_180 0 114 (dk_at dksJ3_rotateRight_0 18 rfl rfl)
theorem dJ3_rotateRight_21 : decode cJ3_rotateRight 21 = .ok (.ifnull 11, 3) := dk_198 0 11 (dk_at dksJ3_rotateRight_0 21 rfl rfl)
theorem dJ3_rotateRight_24 : decode cJ3_rotateRight 24 = .ok (.aload_n 2, 1) := dk_44 (dk_at dksJ3_rotateRight_1 0 rfl rfl)
theorem dJ3_rotateRight_25 : decode cJ3_rotateRight 25 = .ok (.getfield 114, 3) := dk_180 0 114 (dk_at dksJ3_rotateRight_1 1 rfl rfl)
theorem dJ3_rotateRight_28 : decode cJ3_rotateRight 28 = .ok (.aload_n 1, 1) := dk_43 (dk_at dksJ3_rotateRight_1 4 rfl rfl)
theorem dJ3_rotateRight_29 : decode cJ3_rotateRight 29 = .ok (.putfield 124, 3) := dk_181 0 124 (dk_at dksJ3_rotateRight_1 5 rfl rfl)
theorem dJ3_rotateRight_32 : decode cJ3_rotateRight 32 = .ok (.aload_n 2, 1) := dk_44 (dk_at dksJ3_rotateRight_1 8 rfl rfl)
theorem dJ3_rotateRight_33 : decode cJ3_rotateRight 33 = .ok (.aload_n 1, 1) := dk_43 (dk_at dksJ3_rotateRight_1 9 rfl rfl)
theorem dJ3_rotateRight_34 : decode cJ3_rotateRight 34 = .ok (.getfield 124, 3) := dk_180 0 124 (dk_at dksJ3_rotateRight_1 10 rfl rfl)
theorem dJ3_rotateRight_37 : decode cJ3_rotateRight 37 = .ok (.putfield 124, 3) := dk_181 0 124 (dk_at dksJ3_rotateRight_1 13 rfl rfl)
theorem dJ3_rotateRight_40 : decode cJ3_rotateRight 40 = .ok (.aload_n 1, 1) := dk_43 (dk_at dksJ3_rotateRight_1 16 rfl rfl)
theorem dJ3_rotateRight_41 : decode cJ3_rotateRight 41 = .ok (.getfield 124, 3) := dk_180 0 124 (dk_at dksJ3_rotateRight_1 17 rfl rfl)
theorem dJ3_rotateRight_44 : decode cJ3_rotateRight 44 = .ok (.ifnonnull 11, 3) := dk_199 0 11 (dk_at dksJ3_rotateRight_1 20 rfl rfl)
theorem dJ3_rotateRight_47 : decode cJ3_rotateRight 47 = .ok (.aload_n 0, 1) := dk_42 (dk_at dksJ3_rotateRight_1 23 rfl rfl)
theorem dJ3_rotateRight_48 : decode cJ3_rotateRight 48 = .ok (.aload_n 2, 1) := dk_44 (dk_at dksJ3_rotateRight_2 0 rfl rfl)
theorem dJ3_rotateRight_49 : decode cJ3_rotateRight 49 = .ok (.putfield 101, 3) := dk_181 0 101 (dk_at dksJ3_rotateRight_2 1 rfl rfl)
theorem dJ3_rotateRight_52 : decode cJ3_rotateRight 52 = .ok (.goto 33, 3) := dk_167 0 33 (dk_at dksJ3_rotateRight_2 4 rfl rfl)
theorem dJ3_rotateRight_55 : decode cJ3_rotateRight 55 = .ok (.aload_n 1, 1) := dk_43 (dk_at dksJ3_rotateRight_2 7 rfl rfl)
theorem dJ3_rotateRight_56 : decode cJ3_rotateRight 56 = .ok (.getfield 124, 3) := dk_180 0 124 (dk_at dksJ3_rotateRight_2 8 rfl rfl)
theorem dJ3_rotateRight_59 : decode cJ3_rotateRight 59 = .ok (.getfield 114, 3) := dk_180 0 114 (dk_at dksJ3_rotateRight_2 11 rfl rfl)
theorem dJ3_rotateRight_62 : decode cJ3_rotateRight 62 = .ok (.aload_n 1, 1) := dk_43 (dk_at dksJ3_rotateRight_2 14 rfl rfl)
theorem dJ3_rotateRight_63 : decode cJ3_rotateRight 63 = .ok (.if_acmp .ne 14, 3) := dk_166 0 14 (dk_at dksJ3_rotateRight_2 15 rfl rfl)
theorem dJ3_rotateRight_66 : decode cJ3_rotateRight 66 = .ok (.aload_n 1, 1) := dk_43 (dk_at dksJ3_rotateRight_2 18 rfl rfl)
theorem dJ3_rotateRight_67 : decode cJ3_rotateRight 67 = .ok (.getfield 124, 3) := dk_180 0 124 (dk_at dksJ3_rotateRight_2 19 rfl rfl)
theorem dJ3_rotateRight_70 : decode cJ3_rotateRight 70 = .ok (.aload_n 2, 1) := dk_44 (dk_at dksJ3_rotateRight_2 22 rfl rfl)
theorem dJ3_rotateRight_71 : decode cJ3_rotateRight 71 = .ok (.putfield 114, 3) := dk_181 0 114 (dk_at dksJ3_rotateRight_3 0 rfl rfl)
theorem dJ3_rotateRight_74 : decode cJ3_rotateRight 74 = .ok (.goto 11, 3) := dk_167 0 11 (dk_at dksJ3_rotateRight_3 3 rfl rfl)
theorem dJ3_rotateRight_77 : decode cJ3_rotateRight 77 = .ok (.aload_n 1, 1) := dk_43 (dk_at dksJ3_rotateRight_3 6 rfl rfl)
theorem dJ3_rotateRight_78 : decode cJ3_rotateRight 78 = .ok (.getfield 124, 3) := dk_180 0 124 (dk_at dksJ3_rotateRight_3 7 rfl rfl)
theorem dJ3_rotateRight_81 : decode cJ3_rotateRight 81 = .ok (.aload_n 2, 1) := dk_44 (dk_at dksJ3_rotateRight_3 10 rfl rfl)
theorem dJ3_rotateRight_82 : decode cJ3_rotateRight 82 = .ok (.putfield 111, 3) := dk_181 0 111 (dk_at dksJ3_rotateRight_3 11 rfl rfl)
theorem dJ3_rotateRight_85 : decode cJ3_rotateRight 85 = .ok (.aload_n 2, 1) := dk_44 (dk_at dksJ3_rotateRight_3 14 rfl rfl)
theorem dJ3_rotateRight_86 : decode cJ3_rotateRight 86 = .ok (.aload_n 1, 1) := dk_43 (dk_at dksJ3_rotateRight_3 15 rfl rfl)
theorem dJ3_rotateRight_87 : decode cJ3_rotateRight 87 = .ok (.putfield 114, 3) := dk_181 0 114 (dk_at dksJ3_rotateRight_3 16 rfl rfl)
theorem dJ3_rotateRight_90 : decode cJ3_rotateRight 90 = .ok (.aload_n 1, 1) := dk_43 (dk_at dksJ3_rotateRight_3 19 rfl rfl)
theorem dJ3_rotateRight_91 : decode cJ3_rotateRight 91 = .ok (.aload_n 2, 1) := dk_44 (dk_at dksJ3_rotateRight_3 20 rfl rfl)
theorem dJ3_rotateRight_92 : decode cJ3_rotateRight 92 = .ok (.putfield 124, 3) := dk_181 0 124 (dk_at dksJ3_rotateRight_3 21 rfl rfl)
theorem dJ3_rotateRight_95 : decode cJ3_rotateRight 95 = .ok (.return_, 1) := dk_177 (dk_at dksJ3_rotateRight_4 0 rfl rfl)
theorem q102 : (Jvm.Cond.initialized "java/util/TreeMap") ∈ lw_all := lw_g (lw_at lw_m1 8 rfl) rfl
theorem q232 : (Jvm.Cond.instantiable "java/util/TreeMap" (9 : Nat)) ∈ lw_all := lw_g (lw_at lw_m1 138 rfl) rfl
theorem q234 : (Jvm.Cond.instanceMethod ({ cls := "java/util/TreeMap", name := "<init>", desc := "()V" } : Jvm.MethodName)) ∈ lw_all := lw_g (lw_at lw_m1 140 rfl) rfl
theorem q235 : (Jvm.Cond.code ({ cls := "java/util/TreeMap", name := "<init>", desc := "()V" } : Jvm.MethodName) prog_80_method_1_code (1 : Nat) (Option.none : Option Jvm.ClassFile.FieldType)) ∈ lw_all := lw_g (lw_at lw_m1 141 rfl) rfl
theorem q236 : (Jvm.Cond.methodLink "java/util/TreeMap" (1 : Nat) ({ cls := "java/util/AbstractMap", name := "<init>", desc := "()V" } : Jvm.MethodName)) ∈ lw_all := lw_g (lw_at lw_m1 142 rfl) rfl
theorem q240 : (Jvm.Cond.fieldLink "java/util/TreeMap" (16 : Nat) "java/util/TreeMap" "comparator" "Ljava/util/Comparator;") ∈ lw_all := lw_g (lw_at lw_m1 146 rfl) rfl
theorem q241 : (Jvm.Cond.fieldLink "java/util/TreeMap" (101 : Nat) "java/util/TreeMap" "root" "Ljava/util/TreeMap$Entry;") ∈ lw_all := lw_g (lw_at lw_m1 147 rfl) rfl
theorem q242 : (Jvm.Cond.fieldLink "java/util/TreeMap" (7 : Nat) "java/util/TreeMap" "size" "I") ∈ lw_all := lw_g (lw_at lw_m1 148 rfl) rfl
theorem q243 : (Jvm.Cond.fieldLink "java/util/TreeMap" (13 : Nat) "java/util/TreeMap" "modCount" "I") ∈ lw_all := lw_g (lw_at lw_m1 149 rfl) rfl
theorem q244 : (Jvm.Cond.laysFinal "java/util/TreeMap" "java/util/TreeMap" "comparator" "Ljava/util/Comparator;") ∈ lw_all := lw_g (lw_at lw_m1 150 rfl) rfl
theorem q245 : (Jvm.Cond.soleField "java/util/TreeMap" "comparator") ∈ lw_all := lw_g (lw_at lw_m1 151 rfl) rfl
theorem q246 : (Jvm.Cond.lays "java/util/TreeMap" "java/util/TreeMap" "root" "Ljava/util/TreeMap$Entry;") ∈ lw_all := lw_g (lw_at lw_m1 152 rfl) rfl
theorem q247 : (Jvm.Cond.soleField "java/util/TreeMap" "root") ∈ lw_all := lw_g (lw_at lw_m1 153 rfl) rfl
theorem q248 : (Jvm.Cond.lays "java/util/TreeMap" "java/util/TreeMap" "size" "I") ∈ lw_all := lw_g (lw_at lw_m1 154 rfl) rfl
theorem q249 : (Jvm.Cond.soleField "java/util/TreeMap" "size") ∈ lw_all := lw_g (lw_at lw_m1 155 rfl) rfl
theorem q250 : (Jvm.Cond.lays "java/util/TreeMap" "java/util/TreeMap" "modCount" "I") ∈ lw_all := lw_g (lw_at lw_m1 156 rfl) rfl
theorem q251 : (Jvm.Cond.soleField "java/util/TreeMap" "modCount") ∈ lw_all := lw_g (lw_at lw_m1 157 rfl) rfl
theorem q252 : (Jvm.Cond.lays "java/util/TreeMap" "java/util/TreeMap" "entrySet" "Ljava/util/TreeMap$EntrySet;") ∈ lw_all := lw_g (lw_at lw_m1 158 rfl) rfl
theorem q253 : (Jvm.Cond.soleField "java/util/TreeMap" "entrySet") ∈ lw_all := lw_g (lw_at lw_m1 159 rfl) rfl
theorem q254 : (Jvm.Cond.lays "java/util/TreeMap" "java/util/TreeMap" "navigableKeySet" "Ljava/util/TreeMap$KeySet;") ∈ lw_all := lw_g (lw_at lw_m1 160 rfl) rfl
theorem q255 : (Jvm.Cond.soleField "java/util/TreeMap" "navigableKeySet") ∈ lw_all := lw_g (lw_at lw_m1 161 rfl) rfl
theorem q256 : (Jvm.Cond.lays "java/util/TreeMap" "java/util/TreeMap" "descendingMap" "Ljava/util/NavigableMap;") ∈ lw_all := lw_g (lw_at lw_m1 162 rfl) rfl
theorem q257 : (Jvm.Cond.soleField "java/util/TreeMap" "descendingMap") ∈ lw_all := lw_g (lw_at lw_m1 163 rfl) rfl
theorem q258 : (Jvm.Cond.lays "java/util/TreeMap" "java/util/AbstractMap" "keySet" "Ljava/util/Set;") ∈ lw_all := lw_g (lw_at lw_m1 164 rfl) rfl
theorem q260 : (Jvm.Cond.lays "java/util/TreeMap" "java/util/AbstractMap" "values" "Ljava/util/Collection;") ∈ lw_all := lw_g (lw_at lw_m1 166 rfl) rfl
theorem q262 : (Jvm.Cond.superclass "java/util/TreeMap" "java/util/AbstractMap") ∈ lw_all := lw_g (lw_at lw_m1 168 rfl) rfl
theorem q1218 : (Jvm.Cond.instanceMethod ({ cls := "java/util/TreeMap", name := "get", desc := "(Ljava/lang/Object;)Ljava/lang/Object;" } : Jvm.MethodName)) ∈ lw_all := lw_g (lw_at lw_m5 164 rfl) rfl
theorem q1219 : (Jvm.Cond.selects "java/util/TreeMap" ({ cls := "java/util/TreeMap", name := "get", desc := "(Ljava/lang/Object;)Ljava/lang/Object;" } : Jvm.MethodName) ({ cls := "java/util/TreeMap", name := "get", desc := "(Ljava/lang/Object;)Ljava/lang/Object;" } : Jvm.MethodName)) ∈ lw_all := lw_g (lw_at lw_m5 165 rfl) rfl
theorem q1220 : (Jvm.Cond.code ({ cls := "java/util/TreeMap", name := "get", desc := "(Ljava/lang/Object;)Ljava/lang/Object;" } : Jvm.MethodName) prog_80_method_8_code (3 : Nat) (Option.some (Jvm.ClassFile.FieldType.object "java/lang/Object"))) ∈ lw_all := lw_g (lw_at lw_m5 166 rfl) rfl
theorem q1221 : (Jvm.Cond.methodLink "java/util/TreeMap" (50 : Nat) ({ cls := "java/util/TreeMap", name := "getEntry", desc := "(Ljava/lang/Object;)Ljava/util/TreeMap$Entry;" } : Jvm.MethodName)) ∈ lw_all := lw_g (lw_at lw_m5 167 rfl) rfl
theorem q1222 : (Jvm.Cond.instanceMethod ({ cls := "java/util/TreeMap", name := "getEntry", desc := "(Ljava/lang/Object;)Ljava/util/TreeMap$Entry;" } : Jvm.MethodName)) ∈ lw_all := lw_g (lw_at lw_m5 168 rfl) rfl
theorem q1223 : (Jvm.Cond.selects "java/util/TreeMap" ({ cls := "java/util/TreeMap", name := "getEntry", desc := "(Ljava/lang/Object;)Ljava/util/TreeMap$Entry;" } : Jvm.MethodName) ({ cls := "java/util/TreeMap", name := "getEntry", desc := "(Ljava/lang/Object;)Ljava/util/TreeMap$Entry;" } : Jvm.MethodName)) ∈ lw_all := lw_g (lw_at lw_m5 169 rfl) rfl
theorem q1224 : (Jvm.Cond.code ({ cls := "java/util/TreeMap", name := "getEntry", desc := "(Ljava/lang/Object;)Ljava/util/TreeMap$Entry;" } : Jvm.MethodName) prog_80_method_15_code (5 : Nat) (Option.some (Jvm.ClassFile.FieldType.object "java/util/TreeMap$Entry"))) ∈ lw_all := lw_g (lw_at lw_m5 170 rfl) rfl
theorem q1225 : (Jvm.Cond.methodLink "java/util/TreeMap" (92 : Nat) ({ cls := "java/util/TreeMap", name := "getEntryUsingComparator", desc := "(Ljava/lang/Object;)Ljava/util/TreeMap$Entry;" } : Jvm.MethodName)) ∈ lw_all := lw_g (lw_at lw_m5 171 rfl) rfl
theorem q1226 : (Jvm.Cond.instanceMethod ({ cls := "java/util/TreeMap", name := "getEntryUsingComparator", desc := "(Ljava/lang/Object;)Ljava/util/TreeMap$Entry;" } : Jvm.MethodName)) ∈ lw_all := lw_g (lw_at lw_m5 172 rfl) rfl
theorem q1227 : (Jvm.Cond.selects "java/util/TreeMap" ({ cls := "java/util/TreeMap", name := "getEntryUsingComparator", desc := "(Ljava/lang/Object;)Ljava/util/TreeMap$Entry;" } : Jvm.MethodName) ({ cls := "java/util/TreeMap", name := "getEntryUsingComparator", desc := "(Ljava/lang/Object;)Ljava/util/TreeMap$Entry;" } : Jvm.MethodName)) ∈ lw_all := lw_g (lw_at lw_m5 173 rfl) rfl
theorem q1228 : (Jvm.Cond.code ({ cls := "java/util/TreeMap", name := "getEntryUsingComparator", desc := "(Ljava/lang/Object;)Ljava/util/TreeMap$Entry;" } : Jvm.MethodName) prog_80_method_16_code (6 : Nat) (Option.some (Jvm.ClassFile.FieldType.object "java/util/TreeMap$Entry"))) ∈ lw_all := lw_g (lw_at lw_m5 174 rfl) rfl
theorem q1229 : (Jvm.Cond.interfaceEntry "java/util/TreeMap" (117 : Nat)) ∈ lw_tbl := lw_at lw_m5 175 rfl
theorem q1230 : (Jvm.Cond.methodLink "java/util/TreeMap" (117 : Nat) ({ cls := "java/util/Comparator", name := "compare", desc := "(Ljava/lang/Object;Ljava/lang/Object;)I" } : Jvm.MethodName)) ∈ lw_all := lw_g (lw_at lw_m5 176 rfl) rfl
theorem q1233 : (Jvm.Cond.methodLink "java/util/TreeMap" (95 : Nat) ({ cls := "java/util/Objects", name := "requireNonNull", desc := "(Ljava/lang/Object;)Ljava/lang/Object;" } : Jvm.MethodName)) ∈ lw_all := lw_g (lw_at lw_m5 179 rfl) rfl
theorem q1236 : (Jvm.Cond.classLink "java/util/TreeMap" (99 : Nat) "java/lang/Comparable") ∈ lw_all := lw_g (lw_at lw_m5 182 rfl) rfl
theorem q1237 : (Jvm.Cond.interfaceEntry "java/util/TreeMap" (107 : Nat)) ∈ lw_tbl := lw_at lw_m5 183 rfl
theorem q1238 : (Jvm.Cond.methodLink "java/util/TreeMap" (107 : Nat) ({ cls := "java/lang/Comparable", name := "compareTo", desc := "(Ljava/lang/Object;)I" } : Jvm.MethodName)) ∈ lw_all := lw_g (lw_at lw_m5 184 rfl) rfl
theorem q1515 : (Jvm.Cond.selects "java/util/TreeMap" ({ cls := "java/lang/Object", name := "getClass", desc := "()Ljava/lang/Class;" } : Jvm.MethodName) ({ cls := "java/lang/Object", name := "getClass", desc := "()Ljava/lang/Class;" } : Jvm.MethodName)) ∈ lw_all := lw_g (lw_at lw_m6 221 rfl) rfl
theorem q2202 : (Jvm.Cond.instanceMethod ({ cls := "java/util/TreeMap", name := "put", desc := "(Ljava/lang/Object;Ljava/lang/Object;)Ljava/lang/Object;" } : Jvm.MethodName)) ∈ lw_all := lw_g (lw_at lw_m9 188 rfl) rfl
theorem q2203 : (Jvm.Cond.selects "java/util/TreeMap" ({ cls := "java/util/TreeMap", name := "put", desc := "(Ljava/lang/Object;Ljava/lang/Object;)Ljava/lang/Object;" } : Jvm.MethodName) ({ cls := "java/util/TreeMap", name := "put", desc := "(Ljava/lang/Object;Ljava/lang/Object;)Ljava/lang/Object;" } : Jvm.MethodName)) ∈ lw_all := lw_g (lw_at lw_m9 189 rfl) rfl
theorem q2204 : (Jvm.Cond.code ({ cls := "java/util/TreeMap", name := "put", desc := "(Ljava/lang/Object;Ljava/lang/Object;)Ljava/lang/Object;" } : Jvm.MethodName) prog_80_method_21_code (3 : Nat) (Option.some (Jvm.ClassFile.FieldType.object "java/lang/Object"))) ∈ lw_all := lw_g (lw_at lw_m9 190 rfl) rfl
theorem q2205 : (Jvm.Cond.methodLink "java/util/TreeMap" (127 : Nat) ({ cls := "java/util/TreeMap", name := "put", desc := "(Ljava/lang/Object;Ljava/lang/Object;Z)Ljava/lang/Object;" } : Jvm.MethodName)) ∈ lw_all := lw_g (lw_at lw_m9 191 rfl) rfl
theorem q2206 : (Jvm.Cond.privateMethod ({ cls := "java/util/TreeMap", name := "put", desc := "(Ljava/lang/Object;Ljava/lang/Object;Z)Ljava/lang/Object;" } : Jvm.MethodName)) ∈ lw_tbl := lw_at lw_m9 192 rfl
theorem q2207 : (Jvm.Cond.instanceMethod ({ cls := "java/util/TreeMap", name := "put", desc := "(Ljava/lang/Object;Ljava/lang/Object;Z)Ljava/lang/Object;" } : Jvm.MethodName)) ∈ lw_all := lw_g (lw_at lw_m9 193 rfl) rfl
theorem q2208 : (Jvm.Cond.code ({ cls := "java/util/TreeMap", name := "put", desc := "(Ljava/lang/Object;Ljava/lang/Object;Z)Ljava/lang/Object;" } : Jvm.MethodName) prog_80_method_31_code (10 : Nat) (Option.some (Jvm.ClassFile.FieldType.object "java/lang/Object"))) ∈ lw_all := lw_g (lw_at lw_m9 194 rfl) rfl
theorem q2209 : (Jvm.Cond.methodLink "java/util/TreeMap" (135 : Nat) ({ cls := "java/util/TreeMap", name := "addEntryToEmptyMap", desc := "(Ljava/lang/Object;Ljava/lang/Object;)V" } : Jvm.MethodName)) ∈ lw_all := lw_g (lw_at lw_m9 195 rfl) rfl
theorem q2210 : (Jvm.Cond.privateMethod ({ cls := "java/util/TreeMap", name := "addEntryToEmptyMap", desc := "(Ljava/lang/Object;Ljava/lang/Object;)V" } : Jvm.MethodName)) ∈ lw_tbl := lw_at lw_m9 196 rfl
theorem q2211 : (Jvm.Cond.instanceMethod ({ cls := "java/util/TreeMap", name := "addEntryToEmptyMap", desc := "(Ljava/lang/Object;Ljava/lang/Object;)V" } : Jvm.MethodName)) ∈ lw_all := lw_g (lw_at lw_m9 197 rfl) rfl
theorem q2212 : (Jvm.Cond.code ({ cls := "java/util/TreeMap", name := "addEntryToEmptyMap", desc := "(Ljava/lang/Object;Ljava/lang/Object;)V" } : Jvm.MethodName) prog_80_method_30_code (3 : Nat) (Option.none : Option Jvm.ClassFile.FieldType)) ∈ lw_all := lw_g (lw_at lw_m9 198 rfl) rfl
theorem q2213 : (Jvm.Cond.methodLink "java/util/TreeMap" (123 : Nat) ({ cls := "java/util/TreeMap", name := "compare", desc := "(Ljava/lang/Object;Ljava/lang/Object;)I" } : Jvm.MethodName)) ∈ lw_all := lw_g (lw_at lw_m9 199 rfl) rfl
theorem q2214 : (Jvm.Cond.instanceMethod ({ cls := "java/util/TreeMap", name := "compare", desc := "(Ljava/lang/Object;Ljava/lang/Object;)I" } : Jvm.MethodName)) ∈ lw_all := lw_g (lw_at lw_m9 200 rfl) rfl
theorem q2215 : (Jvm.Cond.selects "java/util/TreeMap" ({ cls := "java/util/TreeMap", name := "compare", desc := "(Ljava/lang/Object;Ljava/lang/Object;)I" } : Jvm.MethodName) ({ cls := "java/util/TreeMap", name := "compare", desc := "(Ljava/lang/Object;Ljava/lang/Object;)I" } : Jvm.MethodName)) ∈ lw_all := lw_g (lw_at lw_m9 201 rfl) rfl
theorem q2216 : (Jvm.Cond.code ({ cls := "java/util/TreeMap", name := "compare", desc := "(Ljava/lang/Object;Ljava/lang/Object;)I" } : Jvm.MethodName) prog_80_method_67_code (3 : Nat) (Option.some Jvm.ClassFile.FieldType.int)) ∈ lw_all := lw_g (lw_at lw_m9 202 rfl) rfl
theorem q2217 : (Jvm.Cond.classLink "java/util/TreeMap" (59 : Nat) "java/util/TreeMap$Entry") ∈ lw_all := lw_g (lw_at lw_m9 203 rfl) rfl
theorem q2219 : (Jvm.Cond.methodLink "java/util/TreeMap" (167 : Nat) ({ cls := "java/util/TreeMap$Entry", name := "<init>", desc := "(Ljava/lang/Object;Ljava/lang/Object;Ljava/util/TreeMap$Entry;)V" } : Jvm.MethodName)) ∈ lw_all := lw_g (lw_at lw_m9 205 rfl) rfl
theorem q2224 : (Jvm.Cond.fieldLink "java/util/TreeMap" (105 : Nat) "java/util/TreeMap$Entry" "key" "Ljava/lang/Object;") ∈ lw_all := lw_g (lw_at lw_m9 210 rfl) rfl
theorem q2226 : (Jvm.Cond.fieldLink "java/util/TreeMap" (58 : Nat) "java/util/TreeMap$Entry" "value" "Ljava/lang/Object;") ∈ lw_all := lw_g (lw_at lw_m9 212 rfl) rfl
theorem q2227 : (Jvm.Cond.fieldLink "java/util/TreeMap" (111 : Nat) "java/util/TreeMap$Entry" "left" "Ljava/util/TreeMap$Entry;") ∈ lw_all := lw_g (lw_at lw_m9 213 rfl) rfl
theorem q2228 : (Jvm.Cond.fieldLink "java/util/TreeMap" (114 : Nat) "java/util/TreeMap$Entry" "right" "Ljava/util/TreeMap$Entry;") ∈ lw_all := lw_g (lw_at lw_m9 214 rfl) rfl
theorem q2230 : (Jvm.Cond.fieldLink "java/util/TreeMap" (124 : Nat) "java/util/TreeMap$Entry" "parent" "Ljava/util/TreeMap$Entry;") ∈ lw_all := lw_g (lw_at lw_m9 216 rfl) rfl
theorem q2232 : (Jvm.Cond.fieldLink "java/util/TreeMap" (290 : Nat) "java/util/TreeMap$Entry" "color" "Z") ∈ lw_all := lw_g (lw_at lw_m9 218 rfl) rfl
theorem q2246 : (Jvm.Cond.methodLink "java/util/TreeMap" (139 : Nat) ({ cls := "java/util/TreeMap", name := "addEntry", desc := "(Ljava/lang/Object;Ljava/lang/Object;Ljava/util/TreeMap$Entry;Z)V" } : Jvm.MethodName)) ∈ lw_all := lw_g (lw_at lw_m9 232 rfl) rfl
theorem q2247 : (Jvm.Cond.privateMethod ({ cls := "java/util/TreeMap", name := "addEntry", desc := "(Ljava/lang/Object;Ljava/lang/Object;Ljava/util/TreeMap$Entry;Z)V" } : Jvm.MethodName)) ∈ lw_tbl := lw_at lw_m9 233 rfl
theorem q2248 : (Jvm.Cond.instanceMethod ({ cls := "java/util/TreeMap", name := "addEntry", desc := "(Ljava/lang/Object;Ljava/lang/Object;Ljava/util/TreeMap$Entry;Z)V" } : Jvm.MethodName)) ∈ lw_all := lw_g (lw_at lw_m9 234 rfl) rfl
theorem q2249 : (Jvm.Cond.code ({ cls := "java/util/TreeMap", name := "addEntry", desc := "(Ljava/lang/Object;Ljava/lang/Object;Ljava/util/TreeMap$Entry;Z)V" } : Jvm.MethodName) prog_80_method_29_code (6 : Nat) (Option.none : Option Jvm.ClassFile.FieldType)) ∈ lw_all := lw_g (lw_at lw_m9 235 rfl) rfl
theorem q2250 : (Jvm.Cond.methodLink "java/util/TreeMap" (170 : Nat) ({ cls := "java/util/TreeMap", name := "fixAfterInsertion", desc := "(Ljava/util/TreeMap$Entry;)V" } : Jvm.MethodName)) ∈ lw_all := lw_g (lw_at lw_m9 236 rfl) rfl
theorem q2251 : (Jvm.Cond.privateMethod ({ cls := "java/util/TreeMap", name := "fixAfterInsertion", desc := "(Ljava/util/TreeMap$Entry;)V" } : Jvm.MethodName)) ∈ lw_tbl := lw_at lw_m9 237 rfl
theorem q2252 : (Jvm.Cond.instanceMethod ({ cls := "java/util/TreeMap", name := "fixAfterInsertion", desc := "(Ljava/util/TreeMap$Entry;)V" } : Jvm.MethodName)) ∈ lw_all := lw_g (lw_at lw_m9 238 rfl) rfl
theorem q2253 : (Jvm.Cond.code ({ cls := "java/util/TreeMap", name := "fixAfterInsertion", desc := "(Ljava/util/TreeMap$Entry;)V" } : Jvm.MethodName) prog_80_method_83_code (3 : Nat) (Option.none : Option Jvm.ClassFile.FieldType)) ∈ lw_all := lw_g (lw_at lw_m9 239 rfl) rfl
theorem q2254 : (Jvm.Cond.methodLink "java/util/TreeMap" (294 : Nat) ({ cls := "java/util/TreeMap", name := "parentOf", desc := "(Ljava/util/TreeMap$Entry;)Ljava/util/TreeMap$Entry;" } : Jvm.MethodName)) ∈ lw_all := lw_g (lw_at lw_m10 0 rfl) rfl
theorem q2255 : (Jvm.Cond.static ({ cls := "java/util/TreeMap", name := "parentOf", desc := "(Ljava/util/TreeMap$Entry;)Ljava/util/TreeMap$Entry;" } : Jvm.MethodName)) ∈ lw_all := lw_g (lw_at lw_m10 1 rfl) rfl
theorem q2256 : (Jvm.Cond.code ({ cls := "java/util/TreeMap", name := "parentOf", desc := "(Ljava/util/TreeMap$Entry;)Ljava/util/TreeMap$Entry;" } : Jvm.MethodName) prog_80_method_77_code (1 : Nat) (Option.some (Jvm.ClassFile.FieldType.object "java/util/TreeMap$Entry"))) ∈ lw_all := lw_g (lw_at lw_m10 2 rfl) rfl
theorem q2257 : (Jvm.Cond.methodLink "java/util/TreeMap" (297 : Nat) ({ cls := "java/util/TreeMap", name := "leftOf", desc := "(Ljava/util/TreeMap$Entry;)Ljava/util/TreeMap$Entry;" } : Jvm.MethodName)) ∈ lw_all := lw_g (lw_at lw_m10 3 rfl) rfl
theorem q2258 : (Jvm.Cond.static ({ cls := "java/util/TreeMap", name := "leftOf", desc := "(Ljava/util/TreeMap$Entry;)Ljava/util/TreeMap$Entry;" } : Jvm.MethodName)) ∈ lw_all := lw_g (lw_at lw_m10 4 rfl) rfl
theorem q2259 : (Jvm.Cond.code ({ cls := "java/util/TreeMap", name := "leftOf", desc := "(Ljava/util/TreeMap$Entry;)Ljava/util/TreeMap$Entry;" } : Jvm.MethodName) prog_80_method_79_code (1 : Nat) (Option.some (Jvm.ClassFile.FieldType.object "java/util/TreeMap$Entry"))) ∈ lw_all := lw_g (lw_at lw_m10 5 rfl) rfl
theorem q2260 : (Jvm.Cond.methodLink "java/util/TreeMap" (300 : Nat) ({ cls := "java/util/TreeMap", name := "rightOf", desc := "(Ljava/util/TreeMap$Entry;)Ljava/util/TreeMap$Entry;" } : Jvm.MethodName)) ∈ lw_all := lw_g (lw_at lw_m10 6 rfl) rfl
theorem q2261 : (Jvm.Cond.static ({ cls := "java/util/TreeMap", name := "rightOf", desc := "(Ljava/util/TreeMap$Entry;)Ljava/util/TreeMap$Entry;" } : Jvm.MethodName)) ∈ lw_all := lw_g (lw_at lw_m10 7 rfl) rfl
theorem q2262 : (Jvm.Cond.code ({ cls := "java/util/TreeMap", name := "rightOf", desc := "(Ljava/util/TreeMap$Entry;)Ljava/util/TreeMap$Entry;" } : Jvm.MethodName) prog_80_method_80_code (1 : Nat) (Option.some (Jvm.ClassFile.FieldType.object "java/util/TreeMap$Entry"))) ∈ lw_all := lw_g (lw_at lw_m10 8 rfl) rfl
theorem q2263 : (Jvm.Cond.methodLink "java/util/TreeMap" (303 : Nat) ({ cls := "java/util/TreeMap", name := "colorOf", desc := "(Ljava/util/TreeMap$Entry;)Z" } : Jvm.MethodName)) ∈ lw_all := lw_g (lw_at lw_m10 9 rfl) rfl
theorem q2264 : (Jvm.Cond.static ({ cls := "java/util/TreeMap", name := "colorOf", desc := "(Ljava/util/TreeMap$Entry;)Z" } : Jvm.MethodName)) ∈ lw_all := lw_g (lw_at lw_m10 10 rfl) rfl
theorem q2265 : (Jvm.Cond.code ({ cls := "java/util/TreeMap", name := "colorOf", desc := "(Ljava/util/TreeMap$Entry;)Z" } : Jvm.MethodName) prog_80_method_76_code (1 : Nat) (Option.some Jvm.ClassFile.FieldType.boolean)) ∈ lw_all := lw_g (lw_at lw_m10 11 rfl) rfl
theorem q2266 : (Jvm.Cond.methodLink "java/util/TreeMap" (307 : Nat) ({ cls := "java/util/TreeMap", name := "setColor", desc := "(Ljava/util/TreeMap$Entry;Z)V" } : Jvm.MethodName)) ∈ lw_all := lw_g (lw_at lw_m10 12 rfl) rfl
theorem q2267 : (Jvm.Cond.static ({ cls := "java/util/TreeMap", name := "setColor", desc := "(Ljava/util/TreeMap$Entry;Z)V" } : Jvm.MethodName)) ∈ lw_all := lw_g (lw_at lw_m10 13 rfl) rfl
theorem q2268 : (Jvm.Cond.code ({ cls := "java/util/TreeMap", name := "setColor", desc := "(Ljava/util/TreeMap$Entry;Z)V" } : Jvm.MethodName) prog_80_method_78_code (2 : Nat) (Option.none : Option Jvm.ClassFile.FieldType)) ∈ lw_all := lw_g (lw_at lw_m10 14 rfl) rfl
theorem q2269 : (Jvm.Cond.methodLink "java/util/TreeMap" (311 : Nat) ({ cls := "java/util/TreeMap", name := "rotateLeft", desc := "(Ljava/util/TreeMap$Entry;)V" } : Jvm.MethodName)) ∈ lw_all := lw_g (lw_at lw_m10 15 rfl) rfl
theorem q2270 : (Jvm.Cond.privateMethod ({ cls := "java/util/TreeMap", name := "rotateLeft", desc := "(Ljava/util/TreeMap$Entry;)V" } : Jvm.MethodName)) ∈ lw_tbl := lw_at lw_m10 16 rfl
theorem q2271 : (Jvm.Cond.instanceMethod ({ cls := "java/util/TreeMap", name := "rotateLeft", desc := "(Ljava/util/TreeMap$Entry;)V" } : Jvm.MethodName)) ∈ lw_all := lw_g (lw_at lw_m10 17 rfl) rfl
theorem q2272 : (Jvm.Cond.code ({ cls := "java/util/TreeMap", name := "rotateLeft", desc := "(Ljava/util/TreeMap$Entry;)V" } : Jvm.MethodName) prog_80_method_81_code (3 : Nat) (Option.none : Option Jvm.ClassFile.FieldType)) ∈ lw_all := lw_g (lw_at lw_m10 18 rfl) rfl
theorem q2273 : (Jvm.Cond.methodLink "java/util/TreeMap" (314 : Nat) ({ cls := "java/util/TreeMap", name := "rotateRight", desc := "(Ljava/util/TreeMap$Entry;)V" } : Jvm.MethodName)) ∈ lw_all := lw_g (lw_at lw_m10 19 rfl) rfl
theorem q2274 : (Jvm.Cond.privateMethod ({ cls := "java/util/TreeMap", name := "rotateRight", desc := "(Ljava/util/TreeMap$Entry;)V" } : Jvm.MethodName)) ∈ lw_tbl := lw_at lw_m10 20 rfl
theorem q2275 : (Jvm.Cond.instanceMethod ({ cls := "java/util/TreeMap", name := "rotateRight", desc := "(Ljava/util/TreeMap$Entry;)V" } : Jvm.MethodName)) ∈ lw_all := lw_g (lw_at lw_m10 21 rfl) rfl
theorem q2276 : (Jvm.Cond.code ({ cls := "java/util/TreeMap", name := "rotateRight", desc := "(Ljava/util/TreeMap$Entry;)V" } : Jvm.MethodName) prog_80_method_82_code (3 : Nat) (Option.none : Option Jvm.ClassFile.FieldType)) ∈ lw_all := lw_g (lw_at lw_m10 22 rfl) rfl
theorem q3148 : (Jvm.Cond.castable "java/util/TreeMap" "java/lang/Object") ∈ lw_tbl := lw_at lw_m13 174 rfl
theorem in_J3 : ∀ w ∈ wsJ30, w ∈ lw_all := lw_in wsJ30 [258, 260, 244, 246, 248, 250, 252, 254, 256] (by decide +kernel) (by decide +kernel)

/-! java/util/ImmutableCollections$AbstractImmutableCollection -/
set_option maxRecDepth 100000
def RJ30 : String := "java/util/ImmutableCollections$AbstractImmutableCollection"
abbrev cJ30_add : ByteArray := prog_59_method_2_code
def yJ30_add : MethodName := ⟨RJ30, "add", "(Ljava/lang/Object;)Z"⟩
theorem dJ30_add_0 : decode cJ30_add 0 = .ok (.invokestatic 7, 3) := by decide +kernel
theorem dJ30_add_3 : decode cJ30_add 3 = .ok (.athrow, 1) := by decide +kernel
abbrev cJ30_init : ByteArray := prog_59_method_1_code
def yJ30_init : MethodName := ⟨RJ30, "<init>", "()V"⟩
theorem dJ30_init_0 : decode cJ30_init 0 = .ok (.aload_n 0, 1) := by decide +kernel
theorem dJ30_init_1 : decode cJ30_init 1 = .ok (.invokespecial 1, 3) := by decide +kernel
theorem dJ30_init_4 : decode cJ30_init 4 = .ok (.return_, 1) := by decide +kernel
theorem q140 : (Jvm.Cond.initialized "java/util/ImmutableCollections$AbstractImmutableCollection") ∈ lw_all := lw_g (lw_at lw_m1 46 rfl) rfl
theorem q1682 : (Jvm.Cond.instanceMethod ({ cls := "java/util/ImmutableCollections$AbstractImmutableCollection", name := "add", desc := "(Ljava/lang/Object;)Z" } : Jvm.MethodName)) ∈ lw_all := lw_g (lw_at lw_m7 148 rfl) rfl
theorem q1683 : (Jvm.Cond.publicMethod ({ cls := "java/util/ImmutableCollections$AbstractImmutableCollection", name := "add", desc := "(Ljava/lang/Object;)Z" } : Jvm.MethodName)) ∈ lw_tbl := lw_at lw_m7 149 rfl
theorem q1684 : (Jvm.Cond.code ({ cls := "java/util/ImmutableCollections$AbstractImmutableCollection", name := "add", desc := "(Ljava/lang/Object;)Z" } : Jvm.MethodName) prog_59_method_2_code (2 : Nat) (Option.some Jvm.ClassFile.FieldType.boolean)) ∈ lw_all := lw_g (lw_at lw_m7 150 rfl) rfl
theorem q2326 : (Jvm.Cond.instanceMethod ({ cls := "java/util/ImmutableCollections$AbstractImmutableCollection", name := "<init>", desc := "()V" } : Jvm.MethodName)) ∈ lw_all := lw_g (lw_at lw_m10 72 rfl) rfl
theorem q2327 : (Jvm.Cond.code ({ cls := "java/util/ImmutableCollections$AbstractImmutableCollection", name := "<init>", desc := "()V" } : Jvm.MethodName) prog_59_method_1_code (1 : Nat) (Option.none : Option Jvm.ClassFile.FieldType)) ∈ lw_all := lw_g (lw_at lw_m10 73 rfl) rfl
theorem q2328 : (Jvm.Cond.methodLink "java/util/ImmutableCollections$AbstractImmutableCollection" (1 : Nat) ({ cls := "java/util/AbstractCollection", name := "<init>", desc := "()V" } : Jvm.MethodName)) ∈ lw_all := lw_g (lw_at lw_m10 74 rfl) rfl

/-! java/util/ImmutableCollections$AbstractImmutableList -/
set_option maxRecDepth 100000
def RJ31 : String := "java/util/ImmutableCollections$AbstractImmutableList"
abbrev cJ31_outOfBounds : ByteArray := prog_60_method_17_code
def yJ31_outOfBounds : MethodName := ⟨RJ31, "outOfBounds", "(I)Ljava/lang/IndexOutOfBoundsException;"⟩
def dkwJ31_outOfBounds_1 : List UInt8 := [182, 0, 36, 42, 182, 0, 13, 182, 0, 40, 182, 0, 43, 183, 0, 47, 176]
abbrev dktJ31_outOfBounds_1 : List UInt8 := dkwJ31_outOfBounds_1 ++ []
def dkwJ31_outOfBounds_0 : List UInt8 := [187, 0, 29, 89, 187, 0, 31, 89, 183, 0, 33, 18, 116, 182, 0, 36, 27, 182, 0, 40, 18, 118]
abbrev dktJ31_outOfBounds_0 : List UInt8 := dkwJ31_outOfBounds_0 ++ dktJ31_outOfBounds_1
theorem dksJ31_outOfBounds_0 : cJ31_outOfBounds.data.toList.drop 0 = dktJ31_outOfBounds_0 := by decide +kernel
theorem dksJ31_outOfBounds_1 : cJ31_outOfBounds.data.toList.drop 22 = dktJ31_outOfBounds_1 := dk_seg dksJ31_outOfBounds_0 22 rfl rfl
theorem dJ31_outOfBounds_0 : decode cJ31_outOfBounds 0 = .ok (.new 29, 3) := dk_187 0 29 (dk_at dksJ31_outOfBounds_0 0 rfl rfl)
theorem dJ31_outOfBounds_3 : decode cJ31_outOfBounds 3 = .ok (.dup, 1) := dk_89 (dk_at dksJ31_outOfBounds_0 3 rfl rfl)
theorem dJ31_outOfBounds_4 : decode cJ31_outOfBounds 4 = .ok (.new 31, 3) := dk_187 0 31 (dk_at dksJ31_outOfBounds_0 4 rfl rfl)
theorem dJ31_outOfBounds_7 : decode cJ31_outOfBounds 7 = .ok (.dup, 1) := dk_89 (dk_at dksJ31_outOfBounds_0 7 rfl rfl)
theorem dJ31_outOfBounds_8 : decode cJ31_outOfBounds 8 = .ok (.invokespecial 33, 3) := dk_183 0 33 (dk_at dksJ31_outOfBounds_0 8 rfl rfl)
theorem dJ31_outOfBounds_11 : decode cJ31_outOfBounds 11 = .ok (.ldc 116, 2) := dk_18 116 (dk_at dksJ31_outOfBounds_0 11 rfl rfl)
theorem dJ31_outOfBounds_13 : decode cJ31_outOfBounds 13 = .ok (.invokevirtual 36, 3) := dk_182 0 36 (dk_at dksJ31_outOfBounds_0 13 rfl rfl)
theorem dJ31_outOfBounds_16 : decode cJ31_outOfBounds 16 = .ok (.iload_n 1, 1) := dk_27 (dk_at dksJ31_outOfBounds_0 16 rfl rfl)
theorem dJ31_outOfBounds_17 : decode cJ31_outOfBounds 17 = .ok (.invokevirtual 40, 3) := dk_182 0 40 (dk_at dksJ31_outOfBounds_0 17 rfl rfl)
theorem dJ31_outOfBounds_20 : decode cJ31_outOfBounds 20 = .ok (.ldc 118, 2) := dk_18 118 (dk_at dksJ31_outOfBounds_0 20 rfl rfl)
theorem dJ31_outOfBounds_22 : decode cJ31_outOfBounds 22 = .ok (.invokevirtual 36, 3) := dk_182 0 36 (dk_at dksJ31_outOfBounds_1 0 rfl rfl)
theorem dJ31_outOfBounds_25 : decode cJ31_outOfBounds 25 = .ok (.aload_n 0, 1) := dk_42 (dk_at dksJ31_outOfBounds_1 3 rfl rfl)
theorem dJ31_outOfBounds_26 : decode cJ31_outOfBounds 26 = .ok (.invokevirtual 13, 3) := dk_182 0 13 (dk_at dksJ31_outOfBounds_1 4 rfl rfl)
theorem dJ31_outOfBounds_29 : decode cJ31_outOfBounds 29 = .ok (.invokevirtual 40, 3) := dk_182 0 40 (dk_at dksJ31_outOfBounds_1 7 rfl rfl)
theorem dJ31_outOfBounds_32 : decode cJ31_outOfBounds 32 = .ok (.invokevirtual 43, 3) := dk_182 0 43 (dk_at dksJ31_outOfBounds_1 10 rfl rfl)
theorem dJ31_outOfBounds_35 : decode cJ31_outOfBounds 35 = .ok (.invokespecial 47, 3) := dk_183 0 47 (dk_at dksJ31_outOfBounds_1 13 rfl rfl)
theorem dJ31_outOfBounds_38 : decode cJ31_outOfBounds 38 = .ok (.areturn, 1) := dk_176 (dk_at dksJ31_outOfBounds_1 16 rfl rfl)
abbrev cJ31_set : ByteArray := prog_60_method_6_code
def yJ31_set : MethodName := ⟨RJ31, "set", "(ILjava/lang/Object;)Ljava/lang/Object;"⟩
theorem dJ31_set_0 : decode cJ31_set 0 = .ok (.invokestatic 7, 3) := by decide +kernel
theorem dJ31_set_3 : decode cJ31_set 3 = .ok (.athrow, 1) := by decide +kernel
abbrev cJ31_iterator : ByteArray := prog_60_method_10_code
def yJ31_iterator : MethodName := ⟨RJ31, "iterator", "()Ljava/util/Iterator;"⟩
def dkwJ31_iterator_0 : List UInt8 := [187, 0, 61, 89, 42, 42, 182, 0, 13, 183, 0, 63, 176]
abbrev dktJ31_iterator_0 : List UInt8 := dkwJ31_iterator_0 ++ []
theorem dksJ31_iterator_0 : cJ31_iterator.data.toList.drop 0 = dktJ31_iterator_0 := by decide +kernel
theorem dJ31_iterator_0 : decode cJ31_iterator 0 = .ok (.new 61, 3) := dk_187 0 61 (dk_at dksJ31_iterator_0 0 rfl rfl)
theorem dJ31_iterator_3 : decode cJ31_iterator 3 = .ok (.dup, 1) := dk_89 (dk_at dksJ31_iterator_0 3 rfl rfl)
theorem dJ31_iterator_4 : decode cJ31_iterator 4 = .ok (.aload_n 0, 1) := dk_42 (dk_at dksJ31_iterator_0 4 rfl rfl)
theorem dJ31_iterator_5 : decode cJ31_iterator 5 = .ok (.aload_n 0, 1) := dk_42 (dk_at dksJ31_iterator_0 5 rfl rfl)
theorem dJ31_iterator_6 : decode cJ31_iterator 6 = .ok (.invokevirtual 13, 3) := dk_182 0 13 (dk_at dksJ31_iterator_0 6 rfl rfl)
theorem dJ31_iterator_9 : decode cJ31_iterator 9 = .ok (.invokespecial 63, 3) := dk_183 0 63 (dk_at dksJ31_iterator_0 9 rfl rfl)
theorem dJ31_iterator_12 : decode cJ31_iterator 12 = .ok (.areturn, 1) := dk_176 (dk_at dksJ31_iterator_0 12 rfl rfl)
abbrev cJ31_init : ByteArray := prog_60_method_1_code
def yJ31_init : MethodName := ⟨RJ31, "<init>", "()V"⟩
theorem dJ31_init_0 : decode cJ31_init 0 = .ok (.aload_n 0, 1) := by decide +kernel
theorem dJ31_init_1 : decode cJ31_init 1 = .ok (.invokespecial 1, 3) := by decide +kernel
theorem dJ31_init_4 : decode cJ31_init 4 = .ok (.return_, 1) := by decide +kernel
abbrev cJ31_contains : ByteArray := prog_60_method_15_code
def yJ31_contains : MethodName := ⟨RJ31, "contains", "(Ljava/lang/Object;)Z"⟩
def dkwJ31_contains_0 : List UInt8 := [42, 43, 182, 0, 107, 155, 0, 7, 4, 167, 0, 4, 3, 172]
abbrev dktJ31_contains_0 : List UInt8 := dkwJ31_contains_0 ++ []
theorem dksJ31_contains_0 : cJ31_contains.data.toList.drop 0 = dktJ31_contains_0 := by decide +kernel
theorem dJ31_contains_0 : decode cJ31_contains 0 = .ok (.aload_n 0, 1) := dk_42 (dk_at dksJ31_contains_0 0 rfl rfl)
theorem dJ31_contains_1 : decode cJ31_contains 1 = .ok (.aload_n 1, 1) := dk_43 (dk_at dksJ31_contains_0 1 rfl rfl)
theorem dJ31_contains_2 : decode cJ31_contains 2 = .ok (.invokevirtual 107, 3) := dk_182 0 107 (dk_at dksJ31_contains_0 2 rfl rfl)
theorem dJ31_contains_5 : decode cJ31_contains 5 = .ok (.ifCond .lt 7, 3) := dk_155 0 7 (dk_at dksJ31_contains_0 5 rfl rfl)
theorem dJ31_contains_8 : decode cJ31_contains 8 = .ok (.iconst 1, 1) := dk_4 (dk_at dksJ31_contains_0 8 rfl rfl)
theorem dJ31_contains_9 : decode cJ31_contains 9 = .ok (.goto 4, 3) := dk_167 0 4 (dk_at dksJ31_contains_0 9 rfl rfl)
theorem dJ31_contains_12 : decode cJ31_contains 12 = .ok (.iconst 0, 1) := dk_3 (dk_at dksJ31_contains_0 12 rfl rfl)
theorem dJ31_contains_13 : decode cJ31_contains 13 = .ok (.ireturn, 1) := dk_172 (dk_at dksJ31_contains_0 13 rfl rfl)
theorem q141 : (Jvm.Cond.initialized "java/util/ImmutableCollections$AbstractImmutableList") ∈ lw_all := lw_g (lw_at lw_m1 47 rfl) rfl
theorem q500 : (Jvm.Cond.declares ({ cls := "java/util/ImmutableCollections$AbstractImmutableList", name := "outOfBounds", desc := "(I)Ljava/lang/IndexOutOfBoundsException;" } : Jvm.MethodName)) ∈ lw_tbl := lw_at lw_m2 166 rfl
theorem q502 : (Jvm.Cond.instanceMethod ({ cls := "java/util/ImmutableCollections$AbstractImmutableList", name := "outOfBounds", desc := "(I)Ljava/lang/IndexOutOfBoundsException;" } : Jvm.MethodName)) ∈ lw_all := lw_g (lw_at lw_m2 168 rfl) rfl
theorem q503 : (Jvm.Cond.code ({ cls := "java/util/ImmutableCollections$AbstractImmutableList", name := "outOfBounds", desc := "(I)Ljava/lang/IndexOutOfBoundsException;" } : Jvm.MethodName) prog_60_method_17_code (2 : Nat) (Option.some (Jvm.ClassFile.FieldType.object "java/lang/IndexOutOfBoundsException"))) ∈ lw_all := lw_g (lw_at lw_m2 169 rfl) rfl
theorem q504 : (Jvm.Cond.classLink "java/util/ImmutableCollections$AbstractImmutableList" (29 : Nat) "java/lang/IndexOutOfBoundsException") ∈ lw_all := lw_g (lw_at lw_m2 170 rfl) rfl
theorem q548 : (Jvm.Cond.classLink "java/util/ImmutableCollections$AbstractImmutableList" (31 : Nat) "java/lang/StringBuilder") ∈ lw_all := lw_g (lw_at lw_m2 214 rfl) rfl
theorem q550 : (Jvm.Cond.methodLink "java/util/ImmutableCollections$AbstractImmutableList" (33 : Nat) ({ cls := "java/lang/StringBuilder", name := "<init>", desc := "()V" } : Jvm.MethodName)) ∈ lw_all := lw_g (lw_at lw_m2 216 rfl) rfl
theorem q579 : (Jvm.Cond.stringRef "java/util/ImmutableCollections$AbstractImmutableList" (116 : Nat) "Index: ") ∈ lw_tbl := lw_at lw_m3 5 rfl
theorem q580 : (Jvm.Cond.methodLink "java/util/ImmutableCollections$AbstractImmutableList" (36 : Nat) ({ cls := "java/lang/StringBuilder", name := "append", desc := "(Ljava/lang/String;)Ljava/lang/StringBuilder;" } : Jvm.MethodName)) ∈ lw_all := lw_g (lw_at lw_m3 6 rfl) rfl
theorem q700 : (Jvm.Cond.methodLink "java/util/ImmutableCollections$AbstractImmutableList" (40 : Nat) ({ cls := "java/lang/StringBuilder", name := "append", desc := "(I)Ljava/lang/StringBuilder;" } : Jvm.MethodName)) ∈ lw_all := lw_g (lw_at lw_m3 126 rfl) rfl
theorem q725 : (Jvm.Cond.stringRef "java/util/ImmutableCollections$AbstractImmutableList" (118 : Nat) " Size: ") ∈ lw_tbl := lw_at lw_m3 151 rfl
theorem q726 : (Jvm.Cond.methodLink "java/util/ImmutableCollections$AbstractImmutableList" (13 : Nat) ({ cls := "java/util/ImmutableCollections$AbstractImmutableList", name := "size", desc := "()I" } : Jvm.MethodName)) ∈ lw_all := lw_g (lw_at lw_m3 152 rfl) rfl
theorem q727 : (Jvm.Cond.sameMethod "java/util/ImmutableCollections$AbstractImmutableList" "java/util/AbstractCollection" "size" "()I") ∈ lw_all := lw_g (lw_at lw_m3 153 rfl) rfl
theorem q731 : (Jvm.Cond.methodLink "java/util/ImmutableCollections$AbstractImmutableList" (43 : Nat) ({ cls := "java/lang/StringBuilder", name := "toString", desc := "()Ljava/lang/String;" } : Jvm.MethodName)) ∈ lw_all := lw_g (lw_at lw_m3 157 rfl) rfl
theorem q833 : (Jvm.Cond.methodLink "java/util/ImmutableCollections$AbstractImmutableList" (47 : Nat) ({ cls := "java/lang/IndexOutOfBoundsException", name := "<init>", desc := "(Ljava/lang/String;)V" } : Jvm.MethodName)) ∈ lw_all := lw_g (lw_at lw_m4 19 rfl) rfl
theorem q1637 : (Jvm.Cond.instanceMethod ({ cls := "java/util/ImmutableCollections$AbstractImmutableList", name := "set", desc := "(ILjava/lang/Object;)Ljava/lang/Object;" } : Jvm.MethodName)) ∈ lw_all := lw_g (lw_at lw_m7 103 rfl) rfl
theorem q1638 : (Jvm.Cond.publicMethod ({ cls := "java/util/ImmutableCollections$AbstractImmutableList", name := "set", desc := "(ILjava/lang/Object;)Ljava/lang/Object;" } : Jvm.MethodName)) ∈ lw_tbl := lw_at lw_m7 104 rfl
theorem q1639 : (Jvm.Cond.code ({ cls := "java/util/ImmutableCollections$AbstractImmutableList", name := "set", desc := "(ILjava/lang/Object;)Ljava/lang/Object;" } : Jvm.MethodName) prog_60_method_6_code (3 : Nat) (Option.some (Jvm.ClassFile.FieldType.object "java/lang/Object"))) ∈ lw_all := lw_g (lw_at lw_m7 105 rfl) rfl
theorem q1728 : (Jvm.Cond.instanceMethod ({ cls := "java/util/ImmutableCollections$AbstractImmutableList", name := "iterator", desc := "()Ljava/util/Iterator;" } : Jvm.MethodName)) ∈ lw_all := lw_g (lw_at lw_m7 194 rfl) rfl
theorem q1729 : (Jvm.Cond.publicMethod ({ cls := "java/util/ImmutableCollections$AbstractImmutableList", name := "iterator", desc := "()Ljava/util/Iterator;" } : Jvm.MethodName)) ∈ lw_tbl := lw_at lw_m7 195 rfl
theorem q1730 : (Jvm.Cond.code ({ cls := "java/util/ImmutableCollections$AbstractImmutableList", name := "iterator", desc := "()Ljava/util/Iterator;" } : Jvm.MethodName) prog_60_method_10_code (1 : Nat) (Option.some (Jvm.ClassFile.FieldType.object "java/util/Iterator"))) ∈ lw_all := lw_g (lw_at lw_m7 196 rfl) rfl
theorem q1731 : (Jvm.Cond.classLink "java/util/ImmutableCollections$AbstractImmutableList" (61 : Nat) "java/util/ImmutableCollections$ListItr") ∈ lw_all := lw_g (lw_at lw_m7 197 rfl) rfl
theorem q1733 : (Jvm.Cond.methodLink "java/util/ImmutableCollections$AbstractImmutableList" (63 : Nat) ({ cls := "java/util/ImmutableCollections$ListItr", name := "<init>", desc := "(Ljava/util/List;I)V" } : Jvm.MethodName)) ∈ lw_all := lw_g (lw_at lw_m7 199 rfl) rfl
theorem q2323 : (Jvm.Cond.instanceMethod ({ cls := "java/util/ImmutableCollections$AbstractImmutableList", name := "<init>", desc := "()V" } : Jvm.MethodName)) ∈ lw_all := lw_g (lw_at lw_m10 69 rfl) rfl
theorem q2324 : (Jvm.Cond.code ({ cls := "java/util/ImmutableCollections$AbstractImmutableList", name := "<init>", desc := "()V" } : Jvm.MethodName) prog_60_method_1_code (1 : Nat) (Option.none : Option Jvm.ClassFile.FieldType)) ∈ lw_all := lw_g (lw_at lw_m10 70 rfl) rfl
theorem q2325 : (Jvm.Cond.methodLink "java/util/ImmutableCollections$AbstractImmutableList" (1 : Nat) ({ cls := "java/util/ImmutableCollections$AbstractImmutableCollection", name := "<init>", desc := "()V" } : Jvm.MethodName)) ∈ lw_all := lw_g (lw_at lw_m10 71 rfl) rfl
theorem q2402 : (Jvm.Cond.instanceMethod ({ cls := "java/util/ImmutableCollections$AbstractImmutableList", name := "contains", desc := "(Ljava/lang/Object;)Z" } : Jvm.MethodName)) ∈ lw_all := lw_g (lw_at lw_m10 148 rfl) rfl
theorem q2403 : (Jvm.Cond.publicMethod ({ cls := "java/util/ImmutableCollections$AbstractImmutableList", name := "contains", desc := "(Ljava/lang/Object;)Z" } : Jvm.MethodName)) ∈ lw_tbl := lw_at lw_m10 149 rfl
theorem q2404 : (Jvm.Cond.code ({ cls := "java/util/ImmutableCollections$AbstractImmutableList", name := "contains", desc := "(Ljava/lang/Object;)Z" } : Jvm.MethodName) prog_60_method_15_code (2 : Nat) (Option.some Jvm.ClassFile.FieldType.boolean)) ∈ lw_all := lw_g (lw_at lw_m10 150 rfl) rfl
theorem q2405 : (Jvm.Cond.superclass "java/util/ImmutableCollections$AbstractImmutableList" "java/util/ImmutableCollections$AbstractImmutableCollection") ∈ lw_all := lw_g (lw_at lw_m10 151 rfl) rfl

/-! java/util/ImmutableCollections$List12 -/
set_option maxRecDepth 100000
def RJ32 : String := "java/util/ImmutableCollections$List12"
def TJ32 : u_T := fun k => match k with
  | 0 => ("java/util/ImmutableCollections$List12", "e0", "Ljava/lang/Object;", true)
  | _ => ("java/util/ImmutableCollections$List12", "e1", "Ljava/lang/Object;", true)
def tyJ32 : Nat → FieldType := fun k => match k with
  | 0 => .object "java/lang/Object"
  | _ => .object "java/lang/Object"
abbrev wsJ320 : List Cond := u_ws RJ32 TJ32 2
theorem nmJ32 : ∀ a, a < 2 → ∀ b, b < 2 → a ≠ b → (TJ32 a).2.1 ≠ (TJ32 b).2.1 := by decide +kernel
theorem tyJ32_ok : ∀ k, k < 2 → parseFieldDescriptor (TJ32 k).2.2.1 = some (tyJ32 k) := by decide +kernel
abbrev cJ32_size : ByteArray := prog_61_method_3_code
def yJ32_size : MethodName := ⟨RJ32, "size", "()I"⟩
def dkwJ32_size_0 : List UInt8 := [42, 180, 0, 24, 178, 0, 19, 165, 0, 7, 5, 167, 0, 4, 4, 172]
abbrev dktJ32_size_0 : List UInt8 := dkwJ32_size_0 ++ []
theorem dksJ32_size_0 : cJ32_size.data.toList.drop 0 = dktJ32_size_0 := by decide +kernel
theorem dJ32_size_0 : decode cJ32_size 0 = .ok (.aload_n 0, 1) := dk_42 (dk_at dksJ32_size_0 0 rfl rfl)
theorem dJ32_size_1 : decode cJ32_size 1 = .ok (.getfield 24, 3) := dk_180 0 24 (dk_at dksJ32_size_0 1 rfl rfl)
theorem dJ32_size_4 : decode cJ32_size 4 = .ok (.getstatic 19, 3) := dk_178 0 19 (dk_at dksJ32_size_0 4 rfl rfl)
theorem dJ32_size_7 : decode cJ32_size 7 = .ok (.if_acmp .eq 7, 3) := dk_165 0 7 (dk_at dksJ32_size_0 7 rfl rfl)
theorem dJ32_size_10 : decode cJ32_size 10 = .ok (.iconst 2, 1) := dk_5 (dk_at dksJ32_size_0 10 rfl rfl)
theorem dJ32_size_11 : decode cJ32_size 11 = .ok (.goto 4, 3) := dk_167 0 4 (dk_at dksJ32_size_0 11 rfl rfl)
theorem dJ32_size_14 : decode cJ32_size 14 = .ok (.iconst 1, 1) := dk_4 (dk_at dksJ32_size_0 14 rfl rfl)
theorem dJ32_size_15 : decode cJ32_size 15 = .ok (.ireturn, 1) := dk_172 (dk_at dksJ32_size_0 15 rfl rfl)
abbrev cJ32_get : ByteArray := prog_61_method_5_code
def yJ32_get : MethodName := ⟨RJ32, "get", "(I)Ljava/lang/Object;"⟩
def dkwJ32_get_1 : List UInt8 := [42, 180, 0, 24, 176, 42, 27, 182, 0, 27, 191]
abbrev dktJ32_get_1 : List UInt8 := dkwJ32_get_1 ++ []
def dkwJ32_get_0 : List UInt8 := [27, 154, 0, 8, 42, 180, 0, 13, 176, 27, 4, 160, 0, 18, 42, 180, 0, 24, 178, 0, 19, 165, 0, 8]
abbrev dktJ32_get_0 : List UInt8 := dkwJ32_get_0 ++ dktJ32_get_1
theorem dksJ32_get_0 : cJ32_get.data.toList.drop 0 = dktJ32_get_0 := by decide +kernel
theorem dksJ32_get_1 : cJ32_get.data.toList.drop 24 = dktJ32_get_1 := dk_seg dksJ32_get_0 24 rfl rfl
theorem dJ32_get_0 : decode cJ32_get 0 = .ok (.iload_n 1, 1) := dk_27 (dk_at dksJ32_get_0 0 rfl rfl)
theorem dJ32_get_1 : decode cJ32_get 1 = .ok (.ifCond .ne 8, 3) := dk_154 0 8 (dk_at dksJ32_get_0 1 rfl rfl)
theorem dJ32_get_4 : decode cJ32_get 4 = .ok (.aload_n 0, 1) := dk_42 (dk_at dksJ32_get_0 4 rfl rfl)
theorem dJ32_get_5 : decode cJ32_get 5 = .ok (.getfield 13, 3) := dk_180 0 13 (dk_at dksJ32_get_0 5 rfl rfl)
theorem dJ32_get_8 : decode cJ32_get 8 = .ok (.areturn, 1) := dk_176 (dk_at dksJ32_get_0 8 rfl rfl)
theorem dJ32_get_9 : decode cJ32_get 9 = .ok (.iload_n 1, 1) := dk_27 (dk_at dksJ32_get_0 9 rfl rfl)
theorem dJ32_get_10 : decode cJ32_get 10 = .ok (.iconst 1, 1) := dk_4 (dk_at dksJ32_get_0 10 rfl rfl)
theorem dJ32_get_11 : decode cJ32_get 11 = .ok (.if_icmp .ne 18, 3) := dk_160 0 18 (dk_at dksJ32_get_0 11 rfl rfl)
theorem dJ32_get_14 : decode cJ32_get 14 = .ok (.aload_n 0, 1) := dk_42 (dk_at dksJ32_get_0 14 rfl rfl)
theorem dJ32_get_15 : decode cJ32_get 15 = .ok (.getfield 24, 3) := dk_180 0 24 (dk_at dksJ32_get_0 15 rfl rfl)
theorem dJ32_get_18 : decode cJ32_get 18 = .ok (.getstatic 19, 3) := dk_178 0 19 (dk_at dksJ32_get_0 18 rfl rfl)
theorem dJ32_get_21 : decode cJ32_get 21 = .ok (.if_acmp .eq 8, 3) := dk_165 0 8 (dk_at dksJ32_get_0 21 rfl rfl)
theorem dJ32_get_24 : decode cJ32_get 24 = .ok (.aload_n 0, 1) := dk_42 (dk_at dksJ32_get_1 0 rfl rfl)
theorem dJ32_get_25 : decode cJ32_get 25 = .ok (.getfield 24, 3) := dk_180 0 24 (dk_at dksJ32_get_1 1 rfl rfl)
theorem dJ32_get_28 : decode cJ32_get 28 = .ok (.areturn, 1) := dk_176 (dk_at dksJ32_get_1 4 rfl rfl)
theorem dJ32_get_29 : decode cJ32_get 29 = .ok (.aload_n 0, 1) := dk_42 (dk_at dksJ32_get_1 5 rfl rfl)
theorem dJ32_get_30 : decode cJ32_get 30 = .ok (.iload_n 1, 1) := dk_27 (dk_at dksJ32_get_1 6 rfl rfl)
theorem dJ32_get_31 : decode cJ32_get 31 = .ok (.invokevirtual 27, 3) := dk_182 0 27 (dk_at dksJ32_get_1 7 rfl rfl)
theorem dJ32_get_34 : decode cJ32_get 34 = .ok (.athrow, 1) := dk_191 (dk_at dksJ32_get_1 10 rfl rfl)
abbrev cJ32_init : ByteArray := prog_61_method_1_code
def yJ32_init : MethodName := ⟨RJ32, "<init>", "(Ljava/lang/Object;)V"⟩
def dkwJ32_init_0 : List UInt8 := [42, 183, 0, 1, 42, 43, 184, 0, 7, 181, 0, 13, 42, 178, 0, 19, 181, 0, 24, 177]
abbrev dktJ32_init_0 : List UInt8 := dkwJ32_init_0 ++ []
theorem dksJ32_init_0 : cJ32_init.data.toList.drop 0 = dktJ32_init_0 := by decide +kernel
theorem dJ32_init_0 : decode cJ32_init 0 = .ok (.aload_n 0, 1) := dk_42 (dk_at dksJ32_init_0 0 rfl rfl)
theorem dJ32_init_1 : decode cJ32_init 1 = .ok (.invokespecial 1, 3) := dk_183 0 1 (dk_at dksJ32_init_0 1 rfl rfl)
theorem dJ32_init_4 : decode cJ32_init 4 = .ok (.aload_n 0, 1) := dk_42 (dk_at dksJ32_init_0 4 rfl rfl)
theorem dJ32_init_5 : decode cJ32_init 5 = .ok (.aload_n 1, 1) := dk_43 (dk_at dksJ32_init_0 5 rfl rfl)
theorem dJ32_init_6 : decode cJ32_init 6 = .ok (.invokestatic 7, 3) := dk_184 0 7 (dk_at dksJ32_init_0 6 rfl rfl)
theorem dJ32_init_9 : decode cJ32_init 9 = .ok (.putfield 13, 3) := dk_181 0 13 (dk_at dksJ32_init_0 9 rfl rfl)
theorem dJ32_init_12 : decode cJ32_init 12 = .ok (.aload_n 0, 1) := dk_42 (dk_at dksJ32_init_0 12 rfl rfl)
theorem dJ32_init_13 : decode cJ32_init 13 = .ok (.getstatic 19, 3) := dk_178 0 19 (dk_at dksJ32_init_0 13 rfl rfl)
theorem dJ32_init_16 : decode cJ32_init 16 = .ok (.putfield 24, 3) := dk_181 0 24 (dk_at dksJ32_init_0 16 rfl rfl)
theorem dJ32_init_19 : decode cJ32_init 19 = .ok (.return_, 1) := dk_177 (dk_at dksJ32_init_0 19 rfl rfl)
abbrev cJ32_init_2 : ByteArray := prog_61_method_2_code
def yJ32_init_2 : MethodName := ⟨RJ32, "<init>", "(Ljava/lang/Object;Ljava/lang/Object;)V"⟩
def dkwJ32_init_2_0 : List UInt8 := [42, 183, 0, 1, 42, 43, 184, 0, 7, 181, 0, 13, 42, 44, 184, 0, 7, 181, 0, 24, 177]
abbrev dktJ32_init_2_0 : List UInt8 := dkwJ32_init_2_0 ++ []
theorem dksJ32_init_2_0 : cJ32_init_2.data.toList.drop 0 = dktJ32_init_2_0 := by decide +kernel
theorem dJ32_init_2_0 : decode cJ32_init_2 0 = .ok (.aload_n 0, 1) := dk_42 (dk_at dksJ32_init_2_0 0 rfl rfl)
theorem dJ32_init_2_1 : decode cJ32_init_2 1 = .ok (.invokespecial 1, 3) := dk_183 0 1 (dk_at dksJ32_init_2_0 1 rfl rfl)
theorem dJ32_init_2_4 : decode cJ32_init_2 4 = .ok (.aload_n 0, 1) := dk_42 (dk_at dksJ32_init_2_0 4 rfl rfl)
theorem dJ32_init_2_5 : decode cJ32_init_2 5 = .ok (.aload_n 1, 1) := dk_43 (dk_at dksJ32_init_2_0 5 rfl rfl)
theorem dJ32_init_2_6 : decode cJ32_init_2 6 = .ok (.invokestatic 7, 3) := dk_184 0 7 (dk_at dksJ32_init_2_0 6 rfl rfl)
theorem dJ32_init_2_9 : decode cJ32_init_2 9 = .ok (.putfield 13, 3) := dk_181 0 13 (dk_at dksJ32_init_2_0 9 rfl rfl)
theorem dJ32_init_2_12 : decode cJ32_init_2 12 = .ok (.aload_n 0, 1) := dk_42 (dk_at dksJ32_init_2_0 12 rfl rfl)
theorem dJ32_init_2_13 : decode cJ32_init_2 13 = .ok (.aload_n 2, 1) := dk_44 (dk_at dksJ32_init_2_0 13 rfl rfl)
theorem dJ32_init_2_14 : decode cJ32_init_2 14 = .ok (.invokestatic 7, 3) := dk_184 0 7 (dk_at dksJ32_init_2_0 14 rfl rfl)
theorem dJ32_init_2_17 : decode cJ32_init_2 17 = .ok (.putfield 24, 3) := dk_181 0 24 (dk_at dksJ32_init_2_0 17 rfl rfl)
theorem dJ32_init_2_20 : decode cJ32_init_2 20 = .ok (.return_, 1) := dk_177 (dk_at dksJ32_init_2_0 20 rfl rfl)
abbrev cJ32_indexOf : ByteArray := prog_61_method_6_code
def yJ32_indexOf : MethodName := ⟨RJ32, "indexOf", "(Ljava/lang/Object;)I"⟩
def dkwJ32_indexOf_1 : List UInt8 := [178, 0, 19, 165, 0, 16, 43, 42, 180, 0, 24, 182, 0, 31, 153, 0, 5, 4, 172, 2, 172]
abbrev dktJ32_indexOf_1 : List UInt8 := dkwJ32_indexOf_1 ++ []
def dkwJ32_indexOf_0 : List UInt8 := [43, 184, 0, 7, 87, 43, 42, 180, 0, 13, 182, 0, 31, 153, 0, 5, 3, 172, 42, 180, 0, 24]
abbrev dktJ32_indexOf_0 : List UInt8 := dkwJ32_indexOf_0 ++ dktJ32_indexOf_1
theorem dksJ32_indexOf_0 : cJ32_indexOf.data.toList.drop 0 = dktJ32_indexOf_0 := by decide +kernel
theorem dksJ32_indexOf_1 : cJ32_indexOf.data.toList.drop 22 = dktJ32_indexOf_1 := dk_seg dksJ32_indexOf_0 22 rfl rfl
theorem dJ32_indexOf_0 : decode cJ32_indexOf 0 = .ok (.aload_n 1, 1) := dk_43 (dk_at dksJ32_indexOf_0 0 rfl rfl)
theorem dJ32_indexOf_1 : decode cJ32_indexOf 1 = .ok (.invokestatic 7, 3) := dk_184 0 7 (dk_at dksJ32_indexOf_0 1 rfl rfl)
theorem dJ32_indexOf_4 : decode cJ32_indexOf 4 = .ok (.pop, 1) := dk_87 (dk_at dksJ32_indexOf_0 4 rfl rfl)
theorem dJ32_indexOf_5 : decode cJ32_indexOf 5 = .ok (.aload_n 1, 1) := dk_43 (dk_at dksJ32_indexOf_0 5 rfl rfl)
theorem dJ32_indexOf_6 : decode cJ32_indexOf 6 = .ok (.aload_n 0, 1) := dk_42 (dk_at dksJ32_indexOf_0 6 rfl rfl)
theorem dJ32_indexOf_7 : decode cJ32_indexOf 7 = .ok (.getfield 13, 3) := dk_180 0 13 (dk_at dksJ32_indexOf_0 7 rfl rfl)
theorem dJ32_indexOf_10 : decode cJ32_indexOf 10 = .ok (.invokevirtual 31, 3) := dk_182 0 31 (dk_at dksJ32_indexOf_0 10 rfl rfl)
theorem dJ32_indexOf_13 : decode cJ32_indexOf 13 = .ok (.ifCond .eq 5, 3) := dk_153 0 5 (dk_at dksJ32_indexOf_0 13 rfl rfl)
theorem dJ32_indexOf_16 : decode cJ32_indexOf 16 = .ok (.iconst 0, 1) := dk_3 (dk_at dksJ32_indexOf_0 16 rfl rfl)
theorem dJ32_indexOf_17 : decode cJ32_indexOf 17 = .ok (.ireturn, 1) := dk_172 (dk_at dksJ32_indexOf_0 17 rfl rfl)
theorem dJ32_indexOf_18 : decode cJ32_indexOf 18 = .ok (.aload_n 0, 1) := dk_42 (dk_at dksJ32_indexOf_0 18 rfl rfl)
theorem dJ32_indexOf_19 : decode cJ32_indexOf 19 = .ok (.getfield 24, 3) := dk_180 0 24 (dk_at dksJ32_indexOf_0 19 rfl rfl)
theorem dJ32_indexOf_22 : decode cJ32_indexOf 22 = .ok (.getstatic 19, 3) := dk_178 0 19 (dk_at dksJ32_indexOf_1 0 rfl rfl)
theorem dJ32_indexOf_25 : decode cJ32_indexOf 25 = .ok (.if_acmp .eq 16, 3) := dk_165 0 16 (dk_at dksJ32_indexOf_1 3 rfl rfl)
theorem dJ32_indexOf_28 : decode cJ32_indexOf 28 = .ok (.aload_n 1, 1) := dk_43 (dk_at dksJ32_indexOf_1 6 rfl rfl)
theorem dJ32_indexOf_29 : decode cJ32_indexOf 29 = .ok (.aload_n 0, 1) := dk_42 (dk_at dksJ32_indexOf_1 7 rfl rfl)
theorem dJ32_indexOf_30 : decode cJ32_indexOf 30 = .ok (.getfield 24, 3) := dk_180 0 24 (dk_at dksJ32_indexOf_1 8 rfl rfl)
theorem dJ32_indexOf_33 : decode cJ32_indexOf 33 = .ok (.invokevirtual 31, 3) := dk_182 0 31 (dk_at dksJ32_indexOf_1 11 rfl rfl)
theorem dJ32_indexOf_36 : decode cJ32_indexOf 36 = .ok (.ifCond .eq 5, 3) := dk_153 0 5 (dk_at dksJ32_indexOf_1 14 rfl rfl)
theorem dJ32_indexOf_39 : decode cJ32_indexOf 39 = .ok (.iconst 1, 1) := dk_4 (dk_at dksJ32_indexOf_1 17 rfl rfl)
theorem dJ32_indexOf_40 : decode cJ32_indexOf 40 = .ok (.ireturn, 1) := dk_172 (dk_at dksJ32_indexOf_1 18 rfl rfl)
theorem dJ32_indexOf_41 : decode cJ32_indexOf 41 = .ok (.iconst (-1), 1) := dk_2 (dk_at dksJ32_indexOf_1 19 rfl rfl)
theorem dJ32_indexOf_42 : decode cJ32_indexOf 42 = .ok (.ireturn, 1) := dk_172 (dk_at dksJ32_indexOf_1 20 rfl rfl)
abbrev cJ32_isEmpty : ByteArray := prog_61_method_4_code
def yJ32_isEmpty : MethodName := ⟨RJ32, "isEmpty", "()Z"⟩
theorem dJ32_isEmpty_0 : decode cJ32_isEmpty 0 = .ok (.iconst 0, 1) := by decide +kernel
theorem dJ32_isEmpty_1 : decode cJ32_isEmpty 1 = .ok (.ireturn, 1) := by decide +kernel
theorem q142 : (Jvm.Cond.initialized "java/util/ImmutableCollections$List12") ∈ lw_all := lw_g (lw_at lw_m1 48 rfl) rfl
theorem q440 : (Jvm.Cond.castable "java/util/ImmutableCollections$List12" "java/util/List") ∈ lw_tbl := lw_at lw_m2 106 rfl
theorem q441 : (Jvm.Cond.selects "java/util/ImmutableCollections$List12" ({ cls := "java/util/List", name := "size", desc := "()I" } : Jvm.MethodName) ({ cls := "java/util/ImmutableCollections$List12", name := "size", desc := "()I" } : Jvm.MethodName)) ∈ lw_all := lw_g (lw_at lw_m2 107 rfl) rfl
theorem q442 : (Jvm.Cond.unhidden "java/util/ImmutableCollections$List12" "size" "()I") ∈ lw_tbl := lw_at lw_m2 108 rfl
theorem q443 : (Jvm.Cond.instanceMethod ({ cls := "java/util/ImmutableCollections$List12", name := "size", desc := "()I" } : Jvm.MethodName)) ∈ lw_all := lw_g (lw_at lw_m2 109 rfl) rfl
theorem q444 : (Jvm.Cond.publicMethod ({ cls := "java/util/ImmutableCollections$List12", name := "size", desc := "()I" } : Jvm.MethodName)) ∈ lw_tbl := lw_at lw_m2 110 rfl
theorem q445 : (Jvm.Cond.code ({ cls := "java/util/ImmutableCollections$List12", name := "size", desc := "()I" } : Jvm.MethodName) prog_61_method_3_code (1 : Nat) (Option.some Jvm.ClassFile.FieldType.int)) ∈ lw_all := lw_g (lw_at lw_m2 111 rfl) rfl
theorem q446 : (Jvm.Cond.fieldLinkNest "java/util/ImmutableCollections$List12" (19 : Nat) "java/util/ImmutableCollections" "EMPTY" "Ljava/lang/Object;" "java/util/ImmutableCollections") ∈ lw_tbl := lw_at lw_m2 112 rfl
theorem q493 : (Jvm.Cond.selects "java/util/ImmutableCollections$List12" ({ cls := "java/util/List", name := "get", desc := "(I)Ljava/lang/Object;" } : Jvm.MethodName) ({ cls := "java/util/ImmutableCollections$List12", name := "get", desc := "(I)Ljava/lang/Object;" } : Jvm.MethodName)) ∈ lw_all := lw_g (lw_at lw_m2 159 rfl) rfl
theorem q494 : (Jvm.Cond.unhidden "java/util/ImmutableCollections$List12" "get" "(I)Ljava/lang/Object;") ∈ lw_tbl := lw_at lw_m2 160 rfl
theorem q495 : (Jvm.Cond.instanceMethod ({ cls := "java/util/ImmutableCollections$List12", name := "get", desc := "(I)Ljava/lang/Object;" } : Jvm.MethodName)) ∈ lw_all := lw_g (lw_at lw_m2 161 rfl) rfl
theorem q496 : (Jvm.Cond.publicMethod ({ cls := "java/util/ImmutableCollections$List12", name := "get", desc := "(I)Ljava/lang/Object;" } : Jvm.MethodName)) ∈ lw_tbl := lw_at lw_m2 162 rfl
theorem q497 : (Jvm.Cond.code ({ cls := "java/util/ImmutableCollections$List12", name := "get", desc := "(I)Ljava/lang/Object;" } : Jvm.MethodName) prog_61_method_5_code (2 : Nat) (Option.some (Jvm.ClassFile.FieldType.object "java/lang/Object"))) ∈ lw_all := lw_g (lw_at lw_m2 163 rfl) rfl
theorem q498 : (Jvm.Cond.methodLink "java/util/ImmutableCollections$List12" (27 : Nat) ({ cls := "java/util/ImmutableCollections$List12", name := "outOfBounds", desc := "(I)Ljava/lang/IndexOutOfBoundsException;" } : Jvm.MethodName)) ∈ lw_all := lw_g (lw_at lw_m2 164 rfl) rfl
theorem q499 : (Jvm.Cond.sameMethod "java/util/ImmutableCollections$List12" "java/util/ImmutableCollections$AbstractImmutableList" "outOfBounds" "(I)Ljava/lang/IndexOutOfBoundsException;") ∈ lw_all := lw_g (lw_at lw_m2 165 rfl) rfl
theorem q501 : (Jvm.Cond.selects "java/util/ImmutableCollections$List12" ({ cls := "java/util/ImmutableCollections$List12", name := "outOfBounds", desc := "(I)Ljava/lang/IndexOutOfBoundsException;" } : Jvm.MethodName) ({ cls := "java/util/ImmutableCollections$AbstractImmutableList", name := "outOfBounds", desc := "(I)Ljava/lang/IndexOutOfBoundsException;" } : Jvm.MethodName)) ∈ lw_all := lw_g (lw_at lw_m2 167 rfl) rfl
theorem q729 : (Jvm.Cond.selects "java/util/ImmutableCollections$List12" ({ cls := "java/util/ImmutableCollections$AbstractImmutableList", name := "size", desc := "()I" } : Jvm.MethodName) ({ cls := "java/util/ImmutableCollections$List12", name := "size", desc := "()I" } : Jvm.MethodName)) ∈ lw_all := lw_g (lw_at lw_m3 155 rfl) rfl
theorem q1508 : (Jvm.Cond.selects "java/util/ImmutableCollections$List12" ({ cls := "java/lang/Object", name := "getClass", desc := "()Ljava/lang/Class;" } : Jvm.MethodName) ({ cls := "java/lang/Object", name := "getClass", desc := "()Ljava/lang/Class;" } : Jvm.MethodName)) ∈ lw_all := lw_g (lw_at lw_m6 214 rfl) rfl
theorem q1635 : (Jvm.Cond.selects "java/util/ImmutableCollections$List12" ({ cls := "java/util/List", name := "set", desc := "(ILjava/lang/Object;)Ljava/lang/Object;" } : Jvm.MethodName) ({ cls := "java/util/ImmutableCollections$AbstractImmutableList", name := "set", desc := "(ILjava/lang/Object;)Ljava/lang/Object;" } : Jvm.MethodName)) ∈ lw_all := lw_g (lw_at lw_m7 101 rfl) rfl
theorem q1636 : (Jvm.Cond.unhidden "java/util/ImmutableCollections$List12" "set" "(ILjava/lang/Object;)Ljava/lang/Object;") ∈ lw_tbl := lw_at lw_m7 102 rfl
theorem q1680 : (Jvm.Cond.selects "java/util/ImmutableCollections$List12" ({ cls := "java/util/List", name := "add", desc := "(Ljava/lang/Object;)Z" } : Jvm.MethodName) ({ cls := "java/util/ImmutableCollections$AbstractImmutableCollection", name := "add", desc := "(Ljava/lang/Object;)Z" } : Jvm.MethodName)) ∈ lw_all := lw_g (lw_at lw_m7 146 rfl) rfl
theorem q1681 : (Jvm.Cond.unhidden "java/util/ImmutableCollections$List12" "add" "(Ljava/lang/Object;)Z") ∈ lw_tbl := lw_at lw_m7 147 rfl
theorem q1726 : (Jvm.Cond.selects "java/util/ImmutableCollections$List12" ({ cls := "java/util/List", name := "iterator", desc := "()Ljava/util/Iterator;" } : Jvm.MethodName) ({ cls := "java/util/ImmutableCollections$AbstractImmutableList", name := "iterator", desc := "()Ljava/util/Iterator;" } : Jvm.MethodName)) ∈ lw_all := lw_g (lw_at lw_m7 192 rfl) rfl
theorem q1727 : (Jvm.Cond.unhidden "java/util/ImmutableCollections$List12" "iterator" "()Ljava/util/Iterator;") ∈ lw_tbl := lw_at lw_m7 193 rfl
theorem q2318 : (Jvm.Cond.instantiable "java/util/ImmutableCollections$List12" (2 : Nat)) ∈ lw_all := lw_g (lw_at lw_m10 64 rfl) rfl
theorem q2320 : (Jvm.Cond.instanceMethod ({ cls := "java/util/ImmutableCollections$List12", name := "<init>", desc := "(Ljava/lang/Object;)V" } : Jvm.MethodName)) ∈ lw_all := lw_g (lw_at lw_m10 66 rfl) rfl
theorem q2321 : (Jvm.Cond.code ({ cls := "java/util/ImmutableCollections$List12", name := "<init>", desc := "(Ljava/lang/Object;)V" } : Jvm.MethodName) prog_61_method_1_code (2 : Nat) (Option.none : Option Jvm.ClassFile.FieldType)) ∈ lw_all := lw_g (lw_at lw_m10 67 rfl) rfl
theorem q2322 : (Jvm.Cond.methodLink "java/util/ImmutableCollections$List12" (1 : Nat) ({ cls := "java/util/ImmutableCollections$AbstractImmutableList", name := "<init>", desc := "()V" } : Jvm.MethodName)) ∈ lw_all := lw_g (lw_at lw_m10 68 rfl) rfl
theorem q2329 : (Jvm.Cond.methodLink "java/util/ImmutableCollections$List12" (7 : Nat) ({ cls := "java/util/Objects", name := "requireNonNull", desc := "(Ljava/lang/Object;)Ljava/lang/Object;" } : Jvm.MethodName)) ∈ lw_all := lw_g (lw_at lw_m10 75 rfl) rfl
theorem q2330 : (Jvm.Cond.fieldLink "java/util/ImmutableCollections$List12" (13 : Nat) "java/util/ImmutableCollections$List12" "e0" "Ljava/lang/Object;") ∈ lw_all := lw_g (lw_at lw_m10 76 rfl) rfl
theorem q2331 : (Jvm.Cond.fieldLink "java/util/ImmutableCollections$List12" (24 : Nat) "java/util/ImmutableCollections$List12" "e1" "Ljava/lang/Object;") ∈ lw_all := lw_g (lw_at lw_m10 77 rfl) rfl
theorem q2332 : (Jvm.Cond.laysFinal "java/util/ImmutableCollections$List12" "java/util/ImmutableCollections$List12" "e0" "Ljava/lang/Object;") ∈ lw_all := lw_g (lw_at lw_m10 78 rfl) rfl
theorem q2333 : (Jvm.Cond.soleField "java/util/ImmutableCollections$List12" "e0") ∈ lw_all := lw_g (lw_at lw_m10 79 rfl) rfl
theorem q2334 : (Jvm.Cond.laysFinal "java/util/ImmutableCollections$List12" "java/util/ImmutableCollections$List12" "e1" "Ljava/lang/Object;") ∈ lw_all := lw_g (lw_at lw_m10 80 rfl) rfl
theorem q2335 : (Jvm.Cond.soleField "java/util/ImmutableCollections$List12" "e1") ∈ lw_all := lw_g (lw_at lw_m10 81 rfl) rfl
theorem q2336 : (Jvm.Cond.superclass "java/util/ImmutableCollections$List12" "java/util/ImmutableCollections$AbstractImmutableList") ∈ lw_all := lw_g (lw_at lw_m10 82 rfl) rfl
theorem q2338 : (Jvm.Cond.instanceMethod ({ cls := "java/util/ImmutableCollections$List12", name := "<init>", desc := "(Ljava/lang/Object;Ljava/lang/Object;)V" } : Jvm.MethodName)) ∈ lw_all := lw_g (lw_at lw_m10 84 rfl) rfl
theorem q2339 : (Jvm.Cond.code ({ cls := "java/util/ImmutableCollections$List12", name := "<init>", desc := "(Ljava/lang/Object;Ljava/lang/Object;)V" } : Jvm.MethodName) prog_61_method_2_code (3 : Nat) (Option.none : Option Jvm.ClassFile.FieldType)) ∈ lw_all := lw_g (lw_at lw_m10 85 rfl) rfl
theorem q2400 : (Jvm.Cond.selects "java/util/ImmutableCollections$List12" ({ cls := "java/util/List", name := "contains", desc := "(Ljava/lang/Object;)Z" } : Jvm.MethodName) ({ cls := "java/util/ImmutableCollections$AbstractImmutableList", name := "contains", desc := "(Ljava/lang/Object;)Z" } : Jvm.MethodName)) ∈ lw_all := lw_g (lw_at lw_m10 146 rfl) rfl
theorem q2401 : (Jvm.Cond.unhidden "java/util/ImmutableCollections$List12" "contains" "(Ljava/lang/Object;)Z") ∈ lw_tbl := lw_at lw_m10 147 rfl
theorem q2407 : (Jvm.Cond.selects "java/util/ImmutableCollections$List12" ({ cls := "java/util/List", name := "indexOf", desc := "(Ljava/lang/Object;)I" } : Jvm.MethodName) ({ cls := "java/util/ImmutableCollections$List12", name := "indexOf", desc := "(Ljava/lang/Object;)I" } : Jvm.MethodName)) ∈ lw_all := lw_g (lw_at lw_m10 153 rfl) rfl
theorem q2408 : (Jvm.Cond.instanceMethod ({ cls := "java/util/ImmutableCollections$List12", name := "indexOf", desc := "(Ljava/lang/Object;)I" } : Jvm.MethodName)) ∈ lw_all := lw_g (lw_at lw_m10 154 rfl) rfl
theorem q2409 : (Jvm.Cond.code ({ cls := "java/util/ImmutableCollections$List12", name := "indexOf", desc := "(Ljava/lang/Object;)I" } : Jvm.MethodName) prog_61_method_6_code (2 : Nat) (Option.some Jvm.ClassFile.FieldType.int)) ∈ lw_all := lw_g (lw_at lw_m10 155 rfl) rfl
theorem q2410 : (Jvm.Cond.methodLink "java/util/ImmutableCollections$List12" (31 : Nat) ({ cls := "java/lang/Object", name := "equals", desc := "(Ljava/lang/Object;)Z" } : Jvm.MethodName)) ∈ lw_all := lw_g (lw_at lw_m10 156 rfl) rfl
theorem q2457 : (Jvm.Cond.selects "java/util/ImmutableCollections$List12" ({ cls := "java/util/List", name := "isEmpty", desc := "()Z" } : Jvm.MethodName) ({ cls := "java/util/ImmutableCollections$List12", name := "isEmpty", desc := "()Z" } : Jvm.MethodName)) ∈ lw_all := lw_g (lw_at lw_m10 203 rfl) rfl
theorem q2458 : (Jvm.Cond.unhidden "java/util/ImmutableCollections$List12" "isEmpty" "()Z") ∈ lw_tbl := lw_at lw_m10 204 rfl
theorem q2459 : (Jvm.Cond.instanceMethod ({ cls := "java/util/ImmutableCollections$List12", name := "isEmpty", desc := "()Z" } : Jvm.MethodName)) ∈ lw_all := lw_g (lw_at lw_m10 205 rfl) rfl
theorem q2460 : (Jvm.Cond.publicMethod ({ cls := "java/util/ImmutableCollections$List12", name := "isEmpty", desc := "()Z" } : Jvm.MethodName)) ∈ lw_tbl := lw_at lw_m10 206 rfl
theorem q2461 : (Jvm.Cond.code ({ cls := "java/util/ImmutableCollections$List12", name := "isEmpty", desc := "()Z" } : Jvm.MethodName) prog_61_method_4_code (1 : Nat) (Option.some Jvm.ClassFile.FieldType.boolean)) ∈ lw_all := lw_g (lw_at lw_m10 207 rfl) rfl
theorem q3136 : (Jvm.Cond.selects "java/util/ImmutableCollections$List12" ({ cls := "java/util/AbstractCollection", name := "size", desc := "()I" } : Jvm.MethodName) ({ cls := "java/util/ImmutableCollections$List12", name := "size", desc := "()I" } : Jvm.MethodName)) ∈ lw_all := lw_g (lw_at lw_m13 162 rfl) rfl
theorem q3167 : (Jvm.Cond.castable "java/util/ImmutableCollections$List12" "java/lang/Object") ∈ lw_tbl := lw_at lw_m13 193 rfl
theorem in_J32 : ∀ w ∈ wsJ320, w ∈ lw_all := lw_in wsJ320 [2332, 2334] (by decide +kernel) (by decide +kernel)

/-! java/util/ImmutableCollections$ListN -/
set_option maxRecDepth 100000
def RJ33 : String := "java/util/ImmutableCollections$ListN"
def TJ33 : u_T := fun k => match k with
  | 0 => ("java/util/ImmutableCollections$ListN", "elements", "[Ljava/lang/Object;", true)
  | _ => ("java/util/ImmutableCollections$ListN", "allowNulls", "Z", true)
def tyJ33 : Nat → FieldType := fun k => match k with
  | 0 => .array (.object "java/lang/Object")
  | _ => .boolean
abbrev wsJ330 : List Cond := u_ws RJ33 TJ33 2
theorem nmJ33 : ∀ a, a < 2 → ∀ b, b < 2 → a ≠ b → (TJ33 a).2.1 ≠ (TJ33 b).2.1 := by decide +kernel
theorem tyJ33_ok : ∀ k, k < 2 → parseFieldDescriptor (TJ33 k).2.2.1 = some (tyJ33 k) := by decide +kernel
abbrev cJ33_size : ByteArray := prog_63_method_3_code
def yJ33_size : MethodName := ⟨RJ33, "size", "()I"⟩
def dkwJ33_size_0 : List UInt8 := [42, 180, 0, 7, 190, 172]
abbrev dktJ33_size_0 : List UInt8 := dkwJ33_size_0 ++ []
theorem dksJ33_size_0 : cJ33_size.data.toList.drop 0 = dktJ33_size_0 := by decide +kernel
theorem dJ33_size_0 : decode cJ33_size 0 = .ok (.aload_n 0, 1) := dk_42 (dk_at dksJ33_size_0 0 rfl rfl)
theorem dJ33_size_1 : decode cJ33_size 1 = .ok (.getfield 7, 3) := dk_180 0 7 (dk_at dksJ33_size_0 1 rfl rfl)
theorem dJ33_size_4 : decode cJ33_size 4 = .ok (.arraylength, 1) := dk_190 (dk_at dksJ33_size_0 4 rfl rfl)
theorem dJ33_size_5 : decode cJ33_size 5 = .ok (.ireturn, 1) := dk_172 (dk_at dksJ33_size_0 5 rfl rfl)
abbrev cJ33_get : ByteArray := prog_63_method_4_code
def yJ33_get : MethodName := ⟨RJ33, "get", "(I)Ljava/lang/Object;"⟩
def dkwJ33_get_0 : List UInt8 := [42, 180, 0, 7, 27, 50, 176]
abbrev dktJ33_get_0 : List UInt8 := dkwJ33_get_0 ++ []
theorem dksJ33_get_0 : cJ33_get.data.toList.drop 0 = dktJ33_get_0 := by decide +kernel
theorem dJ33_get_0 : decode cJ33_get 0 = .ok (.aload_n 0, 1) := dk_42 (dk_at dksJ33_get_0 0 rfl rfl)
theorem dJ33_get_1 : decode cJ33_get 1 = .ok (.getfield 7, 3) := dk_180 0 7 (dk_at dksJ33_get_0 1 rfl rfl)
theorem dJ33_get_4 : decode cJ33_get 4 = .ok (.iload_n 1, 1) := dk_27 (dk_at dksJ33_get_0 4 rfl rfl)
theorem dJ33_get_5 : decode cJ33_get 5 = .ok (.aaload, 1) := dk_50 (dk_at dksJ33_get_0 5 rfl rfl)
theorem dJ33_get_6 : decode cJ33_get 6 = .ok (.areturn, 1) := dk_176 (dk_at dksJ33_get_0 6 rfl rfl)
abbrev cJ33_init : ByteArray := prog_63_method_1_code
def yJ33_init : MethodName := ⟨RJ33, "<init>", "([Ljava/lang/Object;Z)V"⟩
def dkwJ33_init_0 : List UInt8 := [42, 183, 0, 1, 42, 43, 181, 0, 7, 42, 28, 181, 0, 13, 177]
abbrev dktJ33_init_0 : List UInt8 := dkwJ33_init_0 ++ []
theorem dksJ33_init_0 : cJ33_init.data.toList.drop 0 = dktJ33_init_0 := by decide +kernel
theorem dJ33_init_0 : decode cJ33_init 0 = .ok (.aload_n 0, 1) := dk_42 (dk_at dksJ33_init_0 0 rfl rfl)
theorem dJ33_init_1 : decode cJ33_init 1 = .ok (.invokespecial 1, 3) := dk_183 0 1 (dk_at dksJ33_init_0 1 rfl rfl)
theorem dJ33_init_4 : decode cJ33_init 4 = .ok (.aload_n 0, 1) := dk_42 (dk_at dksJ33_init_0 4 rfl rfl)
theorem dJ33_init_5 : decode cJ33_init 5 = .ok (.aload_n 1, 1) := dk_43 (dk_at dksJ33_init_0 5 rfl rfl)
theorem dJ33_init_6 : decode cJ33_init 6 = .ok (.putfield 7, 3) := dk_181 0 7 (dk_at dksJ33_init_0 6 rfl rfl)
theorem dJ33_init_9 : decode cJ33_init 9 = .ok (.aload_n 0, 1) := dk_42 (dk_at dksJ33_init_0 9 rfl rfl)
theorem dJ33_init_10 : decode cJ33_init 10 = .ok (.iload_n 2, 1) := dk_28 (dk_at dksJ33_init_0 10 rfl rfl)
theorem dJ33_init_11 : decode cJ33_init 11 = .ok (.putfield 13, 3) := dk_181 0 13 (dk_at dksJ33_init_0 11 rfl rfl)
theorem dJ33_init_14 : decode cJ33_init 14 = .ok (.return_, 1) := dk_177 (dk_at dksJ33_init_0 14 rfl rfl)
abbrev cJ33_indexOf : ByteArray := prog_63_method_9_code
def yJ33_indexOf : MethodName := ⟨RJ33, "indexOf", "(Ljava/lang/Object;)I"⟩
def dkwJ33_indexOf_2 : List UInt8 := [167, 255, 235, 2, 172]
abbrev dktJ33_indexOf_2 : List UInt8 := dkwJ33_indexOf_2 ++ []
def dkwJ33_indexOf_1 : List UInt8 := [3, 62, 29, 44, 190, 162, 0, 21, 43, 44, 29, 50, 184, 0, 53, 153, 0, 5, 29, 172, 132, 3, 1]
abbrev dktJ33_indexOf_1 : List UInt8 := dkwJ33_indexOf_1 ++ dktJ33_indexOf_2
def dkwJ33_indexOf_0 : List UInt8 := [42, 180, 0, 13, 154, 0, 15, 43, 199, 0, 11, 187, 0, 50, 89, 183, 0, 52, 191, 42, 180, 0, 7, 77]
abbrev dktJ33_indexOf_0 : List UInt8 := dkwJ33_indexOf_0 ++ dktJ33_indexOf_1
theorem dksJ33_indexOf_0 : cJ33_indexOf.data.toList.drop 0 = dktJ33_indexOf_0 := by decide +kernel
theorem dksJ33_indexOf_1 : cJ33_indexOf.data.toList.drop 24 = dktJ33_indexOf_1 := dk_seg dksJ33_indexOf_0 24 rfl rfl
theorem dksJ33_indexOf_2 : cJ33_indexOf.data.toList.drop 47 = dktJ33_indexOf_2 := dk_seg dksJ33_indexOf_1 23 rfl rfl
theorem dJ33_indexOf_0 : decode cJ33_indexOf 0 = .ok (.aload_n 0, 1) := dk_42 (dk_at dksJ33_indexOf_0 0 rfl rfl)
theorem dJ33_indexOf_1 : decode cJ33_indexOf 1 = .ok (.getfield 13, 3) := dk_180 0 13 (dk_at dksJ33_indexOf_0 1 rfl rfl)
theorem dJ33_indexOf_4 : decode cJ33_indexOf 4 = .ok (.ifCond .ne 15, 3) := dk_154 0 15 (dk_at dksJ33_indexOf_0 4 rfl rfl)
theorem dJ33_indexOf_7 : decode cJ33_indexOf 7 = .ok (.aload_n 1, 1) := dk_43 (dk_at dksJ33_indexOf_0 7 rfl rfl)
theorem dJ33_indexOf_8 : decode cJ33_indexOf 8 = .ok (.ifnonnull 11, 3) := dk_199 0 11 (dk_at dksJ33_indexOf_0 8 rfl rfl)
theorem dJ33_indexOf_11 : decode cJ33_indexOf 11 = .ok (.new 50, 3) := dk_187 0 50 (dk_at dksJ33_indexOf_0 11 rfl rfl)
theorem dJ33_indexOf_14 : decode cJ33_indexOf 14 = .ok (.dup, 1) := dk_89 (dk_at dksJ33_indexOf_0 14 rfl rfl)
theorem dJ33_indexOf_15 : decode cJ33_indexOf 15 = .ok (.invokespecial 52, 3) := dk_183 0 52 (dk_at dksJ33_indexOf_0 15 rfl rfl)
theorem dJ33_indexOf_18 : decode cJ33_indexOf 18 = .ok (.athrow, 1) := dk_191 (dk_at dksJ33_indexOf_0 18 rfl rfl)
theorem dJ33_indexOf_19 : decode cJ33_indexOf 19 = .ok (.aload_n 0, 1) := dk_42 (dk_at dksJ33_indexOf_0 19 rfl rfl)
theorem dJ33_indexOf_20 : decode cJ33_indexOf 20 = .ok (.getfield 7, 3) := dk_180 0 7 (dk_at dksJ33_indexOf_0 20 rfl rfl)
theorem dJ33_indexOf_23 : decode cJ33_indexOf 23 = .ok (.astore_n 2, 1) := dk_77 (dk_at dksJ33_indexOf_0 23 rfl rfl)
theorem dJ33_indexOf_24 : decode cJ33_indexOf 24 = .ok (.iconst 0, 1) := dk_3 (dk_at dksJ33_indexOf_1 0 rfl rfl)
theorem dJ33_indexOf_25 : decode cJ33_indexOf 25 = .ok (.istore_n 3, 1) := dk_62 (dk_at dksJ33_indexOf_1 1 rfl rfl)
theorem dJ33_indexOf_26 : decode cJ33_indexOf 26 = .ok (.iload_n 3, 1) := dk_29 (dk_at dksJ33_indexOf_1 2 rfl rfl)
theorem dJ33_indexOf_27 : decode cJ33_indexOf 27 = .ok (.aload_n 2, 1) := dk_44 (dk_at dksJ33_indexOf_1 3 rfl rfl)
theorem dJ33_indexOf_28 : decode cJ33_indexOf 28 = .ok (.arraylength, 1) := dk_190 (dk_at dksJ33_indexOf_1 4 rfl rfl)
theorem dJ33_indexOf_29 : decode cJ33_indexOf 29 = .ok (.if_icmp .ge 21, 3) := dk_162 0 21 (dk_at dksJ33_indexOf_1 5 rfl rfl)
theorem dJ33_indexOf_32 : decode cJ33_indexOf 32 = .ok (.aload_n 1, 1) := dk_43 (dk_at dksJ33_indexOf_1 8 rfl rfl)
theorem dJ33_indexOf_33 : decode cJ33_indexOf 33 = .ok (.aload_n 2, 1) := dk_44 (dk_at dksJ33_indexOf_1 9 rfl rfl)
theorem dJ33_indexOf_34 : decode cJ33_indexOf 34 = .ok (.iload_n 3, 1) := dk_29 (dk_at dksJ33_indexOf_1 10 rfl rfl)
theorem dJ33_indexOf_35 : decode cJ33_indexOf 35 = .ok (.aaload, 1) := dk_50 (dk_at dksJ33_indexOf_1 11 rfl rfl)
theorem dJ33_indexOf_36 : decode cJ33_indexOf 36 = .ok (.invokestatic 53, 3) := dk_184 0 53 (dk_at dksJ33_indexOf_1 12 rfl rfl)
theorem dJ33_indexOf_39 : decode cJ33_indexOf 39 = .ok (.ifCond .eq 5, 3) := dk_153 0 5 (dk_at dksJ33_indexOf_1 15 rfl rfl)
theorem dJ33_indexOf_42 : decode cJ33_indexOf 42 = .ok (.iload_n 3, 1) := dk_29 (dk_at dksJ33_indexOf_1 18 rfl rfl)
theorem dJ33_indexOf_43 : decode cJ33_indexOf 43 = .ok (.ireturn, 1) := dk_172 (dk_at dksJ33_indexOf_1 19 rfl rfl)
theorem dJ33_indexOf_44 : decode cJ33_indexOf 44 = .ok (.iinc 3 1, 3) := dk_132 3 1 (dk_at dksJ33_indexOf_1 20 rfl rfl)
theorem dJ33_indexOf_47 : decode cJ33_indexOf 47 = .ok (.goto (-21), 3) := dk_167 255 235 (dk_at dksJ33_indexOf_2 0 rfl rfl)
theorem dJ33_indexOf_50 : decode cJ33_indexOf 50 = .ok (.iconst (-1), 1) := dk_2 (dk_at dksJ33_indexOf_2 3 rfl rfl)
theorem dJ33_indexOf_51 : decode cJ33_indexOf 51 = .ok (.ireturn, 1) := dk_172 (dk_at dksJ33_indexOf_2 4 rfl rfl)
abbrev cJ33_isEmpty : ByteArray := prog_63_method_2_code
def yJ33_isEmpty : MethodName := ⟨RJ33, "isEmpty", "()Z"⟩
def dkwJ33_isEmpty_0 : List UInt8 := [42, 180, 0, 7, 190, 154, 0, 7, 4, 167, 0, 4, 3, 172]
abbrev dktJ33_isEmpty_0 : List UInt8 := dkwJ33_isEmpty_0 ++ []
theorem dksJ33_isEmpty_0 : cJ33_isEmpty.data.toList.drop 0 = dktJ33_isEmpty_0 := by decide +kernel
theorem dJ33_isEmpty_0 : decode cJ33_isEmpty 0 = .ok (.aload_n 0, 1) := dk_42 (dk_at dksJ33_isEmpty_0 0 rfl rfl)
theorem dJ33_isEmpty_1 : decode cJ33_isEmpty 1 = .ok (.getfield 7, 3) := dk_180 0 7 (dk_at dksJ33_isEmpty_0 1 rfl rfl)
theorem dJ33_isEmpty_4 : decode cJ33_isEmpty 4 = .ok (.arraylength, 1) := dk_190 (dk_at dksJ33_isEmpty_0 4 rfl rfl)
theorem dJ33_isEmpty_5 : decode cJ33_isEmpty 5 = .ok (.ifCond .ne 7, 3) := dk_154 0 7 (dk_at dksJ33_isEmpty_0 5 rfl rfl)
theorem dJ33_isEmpty_8 : decode cJ33_isEmpty 8 = .ok (.iconst 1, 1) := dk_4 (dk_at dksJ33_isEmpty_0 8 rfl rfl)
theorem dJ33_isEmpty_9 : decode cJ33_isEmpty 9 = .ok (.goto 4, 3) := dk_167 0 4 (dk_at dksJ33_isEmpty_0 9 rfl rfl)
theorem dJ33_isEmpty_12 : decode cJ33_isEmpty 12 = .ok (.iconst 0, 1) := dk_3 (dk_at dksJ33_isEmpty_0 12 rfl rfl)
theorem dJ33_isEmpty_13 : decode cJ33_isEmpty 13 = .ok (.ireturn, 1) := dk_172 (dk_at dksJ33_isEmpty_0 13 rfl rfl)
theorem q143 : (Jvm.Cond.initialized "java/util/ImmutableCollections$ListN") ∈ lw_all := lw_g (lw_at lw_m1 49 rfl) rfl
theorem q448 : (Jvm.Cond.castable "java/util/ImmutableCollections$ListN" "java/util/List") ∈ lw_tbl := lw_at lw_m2 114 rfl
theorem q449 : (Jvm.Cond.selects "java/util/ImmutableCollections$ListN" ({ cls := "java/util/List", name := "size", desc := "()I" } : Jvm.MethodName) ({ cls := "java/util/ImmutableCollections$ListN", name := "size", desc := "()I" } : Jvm.MethodName)) ∈ lw_all := lw_g (lw_at lw_m2 115 rfl) rfl
theorem q450 : (Jvm.Cond.unhidden "java/util/ImmutableCollections$ListN" "size" "()I") ∈ lw_tbl := lw_at lw_m2 116 rfl
theorem q451 : (Jvm.Cond.instanceMethod ({ cls := "java/util/ImmutableCollections$ListN", name := "size", desc := "()I" } : Jvm.MethodName)) ∈ lw_all := lw_g (lw_at lw_m2 117 rfl) rfl
theorem q452 : (Jvm.Cond.publicMethod ({ cls := "java/util/ImmutableCollections$ListN", name := "size", desc := "()I" } : Jvm.MethodName)) ∈ lw_tbl := lw_at lw_m2 118 rfl
theorem q453 : (Jvm.Cond.code ({ cls := "java/util/ImmutableCollections$ListN", name := "size", desc := "()I" } : Jvm.MethodName) prog_63_method_3_code (1 : Nat) (Option.some Jvm.ClassFile.FieldType.int)) ∈ lw_all := lw_g (lw_at lw_m2 119 rfl) rfl
theorem q730 : (Jvm.Cond.selects "java/util/ImmutableCollections$ListN" ({ cls := "java/util/ImmutableCollections$AbstractImmutableList", name := "size", desc := "()I" } : Jvm.MethodName) ({ cls := "java/util/ImmutableCollections$ListN", name := "size", desc := "()I" } : Jvm.MethodName)) ∈ lw_all := lw_g (lw_at lw_m3 156 rfl) rfl
theorem q839 : (Jvm.Cond.selects "java/util/ImmutableCollections$ListN" ({ cls := "java/util/List", name := "get", desc := "(I)Ljava/lang/Object;" } : Jvm.MethodName) ({ cls := "java/util/ImmutableCollections$ListN", name := "get", desc := "(I)Ljava/lang/Object;" } : Jvm.MethodName)) ∈ lw_all := lw_g (lw_at lw_m4 25 rfl) rfl
theorem q840 : (Jvm.Cond.unhidden "java/util/ImmutableCollections$ListN" "get" "(I)Ljava/lang/Object;") ∈ lw_tbl := lw_at lw_m4 26 rfl
theorem q841 : (Jvm.Cond.instanceMethod ({ cls := "java/util/ImmutableCollections$ListN", name := "get", desc := "(I)Ljava/lang/Object;" } : Jvm.MethodName)) ∈ lw_all := lw_g (lw_at lw_m4 27 rfl) rfl
theorem q842 : (Jvm.Cond.publicMethod ({ cls := "java/util/ImmutableCollections$ListN", name := "get", desc := "(I)Ljava/lang/Object;" } : Jvm.MethodName)) ∈ lw_tbl := lw_at lw_m4 28 rfl
theorem q843 : (Jvm.Cond.code ({ cls := "java/util/ImmutableCollections$ListN", name := "get", desc := "(I)Ljava/lang/Object;" } : Jvm.MethodName) prog_63_method_4_code (2 : Nat) (Option.some (Jvm.ClassFile.FieldType.object "java/lang/Object"))) ∈ lw_all := lw_g (lw_at lw_m4 29 rfl) rfl
theorem q1510 : (Jvm.Cond.selects "java/util/ImmutableCollections$ListN" ({ cls := "java/lang/Object", name := "getClass", desc := "()Ljava/lang/Class;" } : Jvm.MethodName) ({ cls := "java/lang/Object", name := "getClass", desc := "()Ljava/lang/Class;" } : Jvm.MethodName)) ∈ lw_all := lw_g (lw_at lw_m6 216 rfl) rfl
theorem q1640 : (Jvm.Cond.selects "java/util/ImmutableCollections$ListN" ({ cls := "java/util/List", name := "set", desc := "(ILjava/lang/Object;)Ljava/lang/Object;" } : Jvm.MethodName) ({ cls := "java/util/ImmutableCollections$AbstractImmutableList", name := "set", desc := "(ILjava/lang/Object;)Ljava/lang/Object;" } : Jvm.MethodName)) ∈ lw_all := lw_g (lw_at lw_m7 106 rfl) rfl
theorem q1641 : (Jvm.Cond.unhidden "java/util/ImmutableCollections$ListN" "set" "(ILjava/lang/Object;)Ljava/lang/Object;") ∈ lw_tbl := lw_at lw_m7 107 rfl
theorem q1685 : (Jvm.Cond.selects "java/util/ImmutableCollections$ListN" ({ cls := "java/util/List", name := "add", desc := "(Ljava/lang/Object;)Z" } : Jvm.MethodName) ({ cls := "java/util/ImmutableCollections$AbstractImmutableCollection", name := "add", desc := "(Ljava/lang/Object;)Z" } : Jvm.MethodName)) ∈ lw_all := lw_g (lw_at lw_m7 151 rfl) rfl
theorem q1686 : (Jvm.Cond.unhidden "java/util/ImmutableCollections$ListN" "add" "(Ljava/lang/Object;)Z") ∈ lw_tbl := lw_at lw_m7 152 rfl
theorem q1750 : (Jvm.Cond.selects "java/util/ImmutableCollections$ListN" ({ cls := "java/util/List", name := "iterator", desc := "()Ljava/util/Iterator;" } : Jvm.MethodName) ({ cls := "java/util/ImmutableCollections$AbstractImmutableList", name := "iterator", desc := "()Ljava/util/Iterator;" } : Jvm.MethodName)) ∈ lw_all := lw_g (lw_at lw_m7 216 rfl) rfl
theorem q1751 : (Jvm.Cond.unhidden "java/util/ImmutableCollections$ListN" "iterator" "()Ljava/util/Iterator;") ∈ lw_tbl := lw_at lw_m7 217 rfl
theorem q2341 : (Jvm.Cond.instantiable "java/util/ImmutableCollections$ListN" (2 : Nat)) ∈ lw_all := lw_g (lw_at lw_m10 87 rfl) rfl
theorem q2343 : (Jvm.Cond.instanceMethod ({ cls := "java/util/ImmutableCollections$ListN", name := "<init>", desc := "([Ljava/lang/Object;Z)V" } : Jvm.MethodName)) ∈ lw_all := lw_g (lw_at lw_m10 89 rfl) rfl
theorem q2344 : (Jvm.Cond.code ({ cls := "java/util/ImmutableCollections$ListN", name := "<init>", desc := "([Ljava/lang/Object;Z)V" } : Jvm.MethodName) prog_63_method_1_code (3 : Nat) (Option.none : Option Jvm.ClassFile.FieldType)) ∈ lw_all := lw_g (lw_at lw_m10 90 rfl) rfl
theorem q2345 : (Jvm.Cond.methodLink "java/util/ImmutableCollections$ListN" (1 : Nat) ({ cls := "java/util/ImmutableCollections$AbstractImmutableList", name := "<init>", desc := "()V" } : Jvm.MethodName)) ∈ lw_all := lw_g (lw_at lw_m10 91 rfl) rfl
theorem q2346 : (Jvm.Cond.fieldLink "java/util/ImmutableCollections$ListN" (7 : Nat) "java/util/ImmutableCollections$ListN" "elements" "[Ljava/lang/Object;") ∈ lw_all := lw_g (lw_at lw_m10 92 rfl) rfl
theorem q2347 : (Jvm.Cond.fieldLink "java/util/ImmutableCollections$ListN" (13 : Nat) "java/util/ImmutableCollections$ListN" "allowNulls" "Z") ∈ lw_all := lw_g (lw_at lw_m10 93 rfl) rfl
theorem q2348 : (Jvm.Cond.laysFinal "java/util/ImmutableCollections$ListN" "java/util/ImmutableCollections$ListN" "elements" "[Ljava/lang/Object;") ∈ lw_all := lw_g (lw_at lw_m10 94 rfl) rfl
theorem q2349 : (Jvm.Cond.soleField "java/util/ImmutableCollections$ListN" "elements") ∈ lw_all := lw_g (lw_at lw_m10 95 rfl) rfl
theorem q2350 : (Jvm.Cond.laysFinal "java/util/ImmutableCollections$ListN" "java/util/ImmutableCollections$ListN" "allowNulls" "Z") ∈ lw_all := lw_g (lw_at lw_m10 96 rfl) rfl
theorem q2351 : (Jvm.Cond.soleField "java/util/ImmutableCollections$ListN" "allowNulls") ∈ lw_all := lw_g (lw_at lw_m10 97 rfl) rfl
theorem q2352 : (Jvm.Cond.superclass "java/util/ImmutableCollections$ListN" "java/util/ImmutableCollections$AbstractImmutableList") ∈ lw_all := lw_g (lw_at lw_m10 98 rfl) rfl
theorem q2411 : (Jvm.Cond.selects "java/util/ImmutableCollections$ListN" ({ cls := "java/util/List", name := "indexOf", desc := "(Ljava/lang/Object;)I" } : Jvm.MethodName) ({ cls := "java/util/ImmutableCollections$ListN", name := "indexOf", desc := "(Ljava/lang/Object;)I" } : Jvm.MethodName)) ∈ lw_all := lw_g (lw_at lw_m10 157 rfl) rfl
theorem q2412 : (Jvm.Cond.instanceMethod ({ cls := "java/util/ImmutableCollections$ListN", name := "indexOf", desc := "(Ljava/lang/Object;)I" } : Jvm.MethodName)) ∈ lw_all := lw_g (lw_at lw_m10 158 rfl) rfl
theorem q2413 : (Jvm.Cond.code ({ cls := "java/util/ImmutableCollections$ListN", name := "indexOf", desc := "(Ljava/lang/Object;)I" } : Jvm.MethodName) prog_63_method_9_code (4 : Nat) (Option.some Jvm.ClassFile.FieldType.int)) ∈ lw_all := lw_g (lw_at lw_m10 159 rfl) rfl
theorem q2414 : (Jvm.Cond.methodLink "java/util/ImmutableCollections$ListN" (53 : Nat) ({ cls := "java/util/Objects", name := "equals", desc := "(Ljava/lang/Object;Ljava/lang/Object;)Z" } : Jvm.MethodName)) ∈ lw_all := lw_g (lw_at lw_m10 160 rfl) rfl
theorem q2418 : (Jvm.Cond.selects "java/util/ImmutableCollections$ListN" ({ cls := "java/util/List", name := "contains", desc := "(Ljava/lang/Object;)Z" } : Jvm.MethodName) ({ cls := "java/util/ImmutableCollections$AbstractImmutableList", name := "contains", desc := "(Ljava/lang/Object;)Z" } : Jvm.MethodName)) ∈ lw_all := lw_g (lw_at lw_m10 164 rfl) rfl
theorem q2419 : (Jvm.Cond.unhidden "java/util/ImmutableCollections$ListN" "contains" "(Ljava/lang/Object;)Z") ∈ lw_tbl := lw_at lw_m10 165 rfl
theorem q2462 : (Jvm.Cond.selects "java/util/ImmutableCollections$ListN" ({ cls := "java/util/List", name := "isEmpty", desc := "()Z" } : Jvm.MethodName) ({ cls := "java/util/ImmutableCollections$ListN", name := "isEmpty", desc := "()Z" } : Jvm.MethodName)) ∈ lw_all := lw_g (lw_at lw_m10 208 rfl) rfl
theorem q2463 : (Jvm.Cond.unhidden "java/util/ImmutableCollections$ListN" "isEmpty" "()Z") ∈ lw_tbl := lw_at lw_m10 209 rfl
theorem q2464 : (Jvm.Cond.instanceMethod ({ cls := "java/util/ImmutableCollections$ListN", name := "isEmpty", desc := "()Z" } : Jvm.MethodName)) ∈ lw_all := lw_g (lw_at lw_m10 210 rfl) rfl
theorem q2465 : (Jvm.Cond.publicMethod ({ cls := "java/util/ImmutableCollections$ListN", name := "isEmpty", desc := "()Z" } : Jvm.MethodName)) ∈ lw_tbl := lw_at lw_m10 211 rfl
theorem q2466 : (Jvm.Cond.code ({ cls := "java/util/ImmutableCollections$ListN", name := "isEmpty", desc := "()Z" } : Jvm.MethodName) prog_63_method_2_code (1 : Nat) (Option.some Jvm.ClassFile.FieldType.boolean)) ∈ lw_all := lw_g (lw_at lw_m10 212 rfl) rfl
theorem q3137 : (Jvm.Cond.selects "java/util/ImmutableCollections$ListN" ({ cls := "java/util/AbstractCollection", name := "size", desc := "()I" } : Jvm.MethodName) ({ cls := "java/util/ImmutableCollections$ListN", name := "size", desc := "()I" } : Jvm.MethodName)) ∈ lw_all := lw_g (lw_at lw_m13 163 rfl) rfl
theorem q3166 : (Jvm.Cond.castable "java/util/ImmutableCollections$ListN" "java/lang/Object") ∈ lw_tbl := lw_at lw_m13 192 rfl
theorem in_J33 : ∀ w ∈ wsJ330, w ∈ lw_all := lw_in wsJ330 [2348, 2350] (by decide +kernel) (by decide +kernel)

/-! java/util/NoSuchElementException -/
set_option maxRecDepth 100000
def RJ34 : String := "java/util/NoSuchElementException"
def TJ34 : u_T := fun k => match k with
  | 0 => ("java/lang/Throwable", "cause", "Ljava/lang/Throwable;", false)
  | 1 => ("java/lang/Throwable", "stackTrace", "[Ljava/lang/StackTraceElement;", false)
  | 2 => ("java/lang/Throwable", "suppressedExceptions", "Ljava/util/List;", false)
  | 3 => ("java/lang/Throwable", "detailMessage", "Ljava/lang/String;", false)
  | 4 => ("java/lang/Throwable", "backtrace", "Ljava/lang/Object;", false)
  | _ => ("java/lang/Throwable", "depth", "I", false)
def tyJ34 : Nat → FieldType := fun k => match k with
  | 0 => .object "java/lang/Throwable"
  | 1 => .array (.object "java/lang/StackTraceElement")
  | 2 => .object "java/util/List"
  | 3 => .object "java/lang/String"
  | 4 => .object "java/lang/Object"
  | _ => .int
abbrev wsJ340 : List Cond := u_ws RJ34 TJ34 6
theorem nmJ34 : ∀ a, a < 6 → ∀ b, b < 6 → a ≠ b → (TJ34 a).2.1 ≠ (TJ34 b).2.1 := by decide +kernel
theorem tyJ34_ok : ∀ k, k < 6 → parseFieldDescriptor (TJ34 k).2.2.1 = some (tyJ34 k) := by decide +kernel
abbrev cJ34_init : ByteArray := prog_73_method_1_code
def yJ34_init : MethodName := ⟨RJ34, "<init>", "()V"⟩
theorem dJ34_init_0 : decode cJ34_init 0 = .ok (.aload_n 0, 1) := by decide +kernel
theorem dJ34_init_1 : decode cJ34_init 1 = .ok (.invokespecial 1, 3) := by decide +kernel
theorem dJ34_init_4 : decode cJ34_init 4 = .ok (.return_, 1) := by decide +kernel
abbrev cJ34_init_2 : ByteArray := prog_73_method_3_code
def yJ34_init_2 : MethodName := ⟨RJ34, "<init>", "(Ljava/lang/Throwable;)V"⟩
def dkwJ34_init_2_0 : List UInt8 := [42, 43, 183, 0, 10, 177]
abbrev dktJ34_init_2_0 : List UInt8 := dkwJ34_init_2_0 ++ []
theorem dksJ34_init_2_0 : cJ34_init_2.data.toList.drop 0 = dktJ34_init_2_0 := by decide +kernel
theorem dJ34_init_2_0 : decode cJ34_init_2 0 = .ok (.aload_n 0, 1) := dk_42 (dk_at dksJ34_init_2_0 0 rfl rfl)
theorem dJ34_init_2_1 : decode cJ34_init_2 1 = .ok (.aload_n 1, 1) := dk_43 (dk_at dksJ34_init_2_0 1 rfl rfl)
theorem dJ34_init_2_2 : decode cJ34_init_2 2 = .ok (.invokespecial 10, 3) := dk_183 0 10 (dk_at dksJ34_init_2_0 2 rfl rfl)
theorem dJ34_init_2_5 : decode cJ34_init_2 5 = .ok (.return_, 1) := dk_177 (dk_at dksJ34_init_2_0 5 rfl rfl)
theorem q145 : (Jvm.Cond.initialized "java/util/NoSuchElementException") ∈ lw_all := lw_g (lw_at lw_m1 51 rfl) rfl
theorem q541 : (Jvm.Cond.selects "java/util/NoSuchElementException" ({ cls := "java/lang/Throwable", name := "fillInStackTrace", desc := "()Ljava/lang/Throwable;" } : Jvm.MethodName) ({ cls := "java/lang/Throwable", name := "fillInStackTrace", desc := "()Ljava/lang/Throwable;" } : Jvm.MethodName)) ∈ lw_all := lw_g (lw_at lw_m2 207 rfl) rfl
theorem q1136 : (Jvm.Cond.instantiable "java/util/NoSuchElementException" (6 : Nat)) ∈ lw_all := lw_g (lw_at lw_m5 82 rfl) rfl
theorem q1137 : (Jvm.Cond.castable "java/util/NoSuchElementException" "java/util/NoSuchElementException") ∈ lw_tbl := lw_at lw_m5 83 rfl
theorem q1138 : (Jvm.Cond.selects "java/util/NoSuchElementException" ({ cls := "java/lang/Throwable", name := "fillInStackTrace", desc := "(I)Ljava/lang/Throwable;" } : Jvm.MethodName) ({ cls := "java/lang/Throwable", name := "fillInStackTrace", desc := "(I)Ljava/lang/Throwable;" } : Jvm.MethodName)) ∈ lw_all := lw_g (lw_at lw_m5 84 rfl) rfl
theorem q1139 : (Jvm.Cond.lays "java/util/NoSuchElementException" "java/lang/Throwable" "cause" "Ljava/lang/Throwable;") ∈ lw_all := lw_g (lw_at lw_m5 85 rfl) rfl
theorem q1140 : (Jvm.Cond.lays "java/util/NoSuchElementException" "java/lang/Throwable" "stackTrace" "[Ljava/lang/StackTraceElement;") ∈ lw_all := lw_g (lw_at lw_m5 86 rfl) rfl
theorem q1141 : (Jvm.Cond.lays "java/util/NoSuchElementException" "java/lang/Throwable" "suppressedExceptions" "Ljava/util/List;") ∈ lw_all := lw_g (lw_at lw_m5 87 rfl) rfl
theorem q1142 : (Jvm.Cond.lays "java/util/NoSuchElementException" "java/lang/Throwable" "detailMessage" "Ljava/lang/String;") ∈ lw_all := lw_g (lw_at lw_m5 88 rfl) rfl
theorem q1143 : (Jvm.Cond.lays "java/util/NoSuchElementException" "java/lang/Throwable" "backtrace" "Ljava/lang/Object;") ∈ lw_all := lw_g (lw_at lw_m5 89 rfl) rfl
theorem q1145 : (Jvm.Cond.instanceMethod ({ cls := "java/util/NoSuchElementException", name := "<init>", desc := "()V" } : Jvm.MethodName)) ∈ lw_all := lw_g (lw_at lw_m5 91 rfl) rfl
theorem q1146 : (Jvm.Cond.code ({ cls := "java/util/NoSuchElementException", name := "<init>", desc := "()V" } : Jvm.MethodName) prog_73_method_1_code (1 : Nat) (Option.none : Option Jvm.ClassFile.FieldType)) ∈ lw_all := lw_g (lw_at lw_m5 92 rfl) rfl
theorem q1147 : (Jvm.Cond.methodLink "java/util/NoSuchElementException" (1 : Nat) ({ cls := "java/lang/RuntimeException", name := "<init>", desc := "()V" } : Jvm.MethodName)) ∈ lw_all := lw_g (lw_at lw_m5 93 rfl) rfl
theorem q1154 : (Jvm.Cond.lays "java/util/NoSuchElementException" "java/lang/Throwable" "depth" "I") ∈ lw_all := lw_g (lw_at lw_m5 100 rfl) rfl
theorem q1155 : (Jvm.Cond.superclass "java/util/NoSuchElementException" "java/lang/RuntimeException") ∈ lw_all := lw_g (lw_at lw_m5 101 rfl) rfl
theorem q1457 : (Jvm.Cond.instanceMethod ({ cls := "java/util/NoSuchElementException", name := "<init>", desc := "(Ljava/lang/Throwable;)V" } : Jvm.MethodName)) ∈ lw_all := lw_g (lw_at lw_m6 163 rfl) rfl
theorem q1458 : (Jvm.Cond.code ({ cls := "java/util/NoSuchElementException", name := "<init>", desc := "(Ljava/lang/Throwable;)V" } : Jvm.MethodName) prog_73_method_3_code (2 : Nat) (Option.none : Option Jvm.ClassFile.FieldType)) ∈ lw_all := lw_g (lw_at lw_m6 164 rfl) rfl
theorem q1459 : (Jvm.Cond.methodLink "java/util/NoSuchElementException" (10 : Nat) ({ cls := "java/lang/RuntimeException", name := "<init>", desc := "(Ljava/lang/Throwable;)V" } : Jvm.MethodName)) ∈ lw_all := lw_g (lw_at lw_m6 165 rfl) rfl
theorem q1476 : (Jvm.Cond.selects "java/util/NoSuchElementException" ({ cls := "java/lang/Throwable", name := "toString", desc := "()Ljava/lang/String;" } : Jvm.MethodName) ({ cls := "java/lang/Throwable", name := "toString", desc := "()Ljava/lang/String;" } : Jvm.MethodName)) ∈ lw_all := lw_g (lw_at lw_m6 182 rfl) rfl
theorem q1514 : (Jvm.Cond.selects "java/util/NoSuchElementException" ({ cls := "java/lang/Object", name := "getClass", desc := "()Ljava/lang/Class;" } : Jvm.MethodName) ({ cls := "java/lang/Object", name := "getClass", desc := "()Ljava/lang/Class;" } : Jvm.MethodName)) ∈ lw_all := lw_g (lw_at lw_m6 220 rfl) rfl
theorem q1527 : (Jvm.Cond.selects "java/util/NoSuchElementException" ({ cls := "java/lang/Throwable", name := "getLocalizedMessage", desc := "()Ljava/lang/String;" } : Jvm.MethodName) ({ cls := "java/lang/Throwable", name := "getLocalizedMessage", desc := "()Ljava/lang/String;" } : Jvm.MethodName)) ∈ lw_all := lw_g (lw_at lw_m6 233 rfl) rfl
theorem q1537 : (Jvm.Cond.selects "java/util/NoSuchElementException" ({ cls := "java/lang/Throwable", name := "getMessage", desc := "()Ljava/lang/String;" } : Jvm.MethodName) ({ cls := "java/lang/Throwable", name := "getMessage", desc := "()Ljava/lang/String;" } : Jvm.MethodName)) ∈ lw_all := lw_g (lw_at lw_m7 3 rfl) rfl
theorem q3169 : (Jvm.Cond.castable "java/util/NoSuchElementException" "java/lang/Object") ∈ lw_tbl := lw_at lw_m13 195 rfl
theorem in_J34 : ∀ w ∈ wsJ340, w ∈ lw_all := lw_in wsJ340 [1139, 1140, 1141, 1142, 1143, 1154] (by decide +kernel) (by decide +kernel)

/-! java/lang/IllegalStateException -/
set_option maxRecDepth 100000
def RJ35 : String := "java/lang/IllegalStateException"
def TJ35 : u_T := fun k => match k with
  | 0 => ("java/lang/Throwable", "cause", "Ljava/lang/Throwable;", false)
  | 1 => ("java/lang/Throwable", "stackTrace", "[Ljava/lang/StackTraceElement;", false)
  | 2 => ("java/lang/Throwable", "suppressedExceptions", "Ljava/util/List;", false)
  | 3 => ("java/lang/Throwable", "detailMessage", "Ljava/lang/String;", false)
  | 4 => ("java/lang/Throwable", "backtrace", "Ljava/lang/Object;", false)
  | _ => ("java/lang/Throwable", "depth", "I", false)
def tyJ35 : Nat → FieldType := fun k => match k with
  | 0 => .object "java/lang/Throwable"
  | 1 => .array (.object "java/lang/StackTraceElement")
  | 2 => .object "java/util/List"
  | 3 => .object "java/lang/String"
  | 4 => .object "java/lang/Object"
  | _ => .int
abbrev wsJ350 : List Cond := u_ws RJ35 TJ35 6
theorem nmJ35 : ∀ a, a < 6 → ∀ b, b < 6 → a ≠ b → (TJ35 a).2.1 ≠ (TJ35 b).2.1 := by decide +kernel
theorem tyJ35_ok : ∀ k, k < 6 → parseFieldDescriptor (TJ35 k).2.2.1 = some (tyJ35 k) := by decide +kernel
abbrev cJ35_init : ByteArray := prog_25_method_2_code
def yJ35_init : MethodName := ⟨RJ35, "<init>", "(Ljava/lang/String;)V"⟩
def dkwJ35_init_0 : List UInt8 := [42, 43, 183, 0, 7, 177]
abbrev dktJ35_init_0 : List UInt8 := dkwJ35_init_0 ++ []
theorem dksJ35_init_0 : cJ35_init.data.toList.drop 0 = dktJ35_init_0 := by decide +kernel
theorem dJ35_init_0 : decode cJ35_init 0 = .ok (.aload_n 0, 1) := dk_42 (dk_at dksJ35_init_0 0 rfl rfl)
theorem dJ35_init_1 : decode cJ35_init 1 = .ok (.aload_n 1, 1) := dk_43 (dk_at dksJ35_init_0 1 rfl rfl)
theorem dJ35_init_2 : decode cJ35_init 2 = .ok (.invokespecial 7, 3) := dk_183 0 7 (dk_at dksJ35_init_0 2 rfl rfl)
theorem dJ35_init_5 : decode cJ35_init 5 = .ok (.return_, 1) := dk_177 (dk_at dksJ35_init_0 5 rfl rfl)
abbrev cJ35_init_2 : ByteArray := prog_25_method_1_code
def yJ35_init_2 : MethodName := ⟨RJ35, "<init>", "()V"⟩
theorem dJ35_init_2_0 : decode cJ35_init_2 0 = .ok (.aload_n 0, 1) := by decide +kernel
theorem dJ35_init_2_1 : decode cJ35_init_2 1 = .ok (.invokespecial 1, 3) := by decide +kernel
theorem dJ35_init_2_4 : decode cJ35_init_2 4 = .ok (.return_, 1) := by decide +kernel
theorem q146 : (Jvm.Cond.initialized "java/lang/IllegalStateException") ∈ lw_all := lw_g (lw_at lw_m1 52 rfl) rfl
theorem q540 : (Jvm.Cond.selects "java/lang/IllegalStateException" ({ cls := "java/lang/Throwable", name := "fillInStackTrace", desc := "()Ljava/lang/Throwable;" } : Jvm.MethodName) ({ cls := "java/lang/Throwable", name := "fillInStackTrace", desc := "()Ljava/lang/Throwable;" } : Jvm.MethodName)) ∈ lw_all := lw_g (lw_at lw_m2 206 rfl) rfl
theorem q1474 : (Jvm.Cond.selects "java/lang/IllegalStateException" ({ cls := "java/lang/Throwable", name := "toString", desc := "()Ljava/lang/String;" } : Jvm.MethodName) ({ cls := "java/lang/Throwable", name := "toString", desc := "()Ljava/lang/String;" } : Jvm.MethodName)) ∈ lw_all := lw_g (lw_at lw_m6 180 rfl) rfl
theorem q1496 : (Jvm.Cond.selects "java/lang/IllegalStateException" ({ cls := "java/lang/Object", name := "getClass", desc := "()Ljava/lang/Class;" } : Jvm.MethodName) ({ cls := "java/lang/Object", name := "getClass", desc := "()Ljava/lang/Class;" } : Jvm.MethodName)) ∈ lw_all := lw_g (lw_at lw_m6 202 rfl) rfl
theorem q1525 : (Jvm.Cond.selects "java/lang/IllegalStateException" ({ cls := "java/lang/Throwable", name := "getLocalizedMessage", desc := "()Ljava/lang/String;" } : Jvm.MethodName) ({ cls := "java/lang/Throwable", name := "getLocalizedMessage", desc := "()Ljava/lang/String;" } : Jvm.MethodName)) ∈ lw_all := lw_g (lw_at lw_m6 231 rfl) rfl
theorem q1535 : (Jvm.Cond.selects "java/lang/IllegalStateException" ({ cls := "java/lang/Throwable", name := "getMessage", desc := "()Ljava/lang/String;" } : Jvm.MethodName) ({ cls := "java/lang/Throwable", name := "getMessage", desc := "()Ljava/lang/String;" } : Jvm.MethodName)) ∈ lw_all := lw_g (lw_at lw_m7 1 rfl) rfl
theorem q1955 : (Jvm.Cond.instantiable "java/lang/IllegalStateException" (6 : Nat)) ∈ lw_all := lw_g (lw_at lw_m8 181 rfl) rfl
theorem q1956 : (Jvm.Cond.castable "java/lang/IllegalStateException" "java/lang/IllegalStateException") ∈ lw_tbl := lw_at lw_m8 182 rfl
theorem q1957 : (Jvm.Cond.selects "java/lang/IllegalStateException" ({ cls := "java/lang/Throwable", name := "fillInStackTrace", desc := "(I)Ljava/lang/Throwable;" } : Jvm.MethodName) ({ cls := "java/lang/Throwable", name := "fillInStackTrace", desc := "(I)Ljava/lang/Throwable;" } : Jvm.MethodName)) ∈ lw_all := lw_g (lw_at lw_m8 183 rfl) rfl
theorem q1958 : (Jvm.Cond.lays "java/lang/IllegalStateException" "java/lang/Throwable" "cause" "Ljava/lang/Throwable;") ∈ lw_all := lw_g (lw_at lw_m8 184 rfl) rfl
theorem q1959 : (Jvm.Cond.lays "java/lang/IllegalStateException" "java/lang/Throwable" "stackTrace" "[Ljava/lang/StackTraceElement;") ∈ lw_all := lw_g (lw_at lw_m8 185 rfl) rfl
theorem q1960 : (Jvm.Cond.lays "java/lang/IllegalStateException" "java/lang/Throwable" "suppressedExceptions" "Ljava/util/List;") ∈ lw_all := lw_g (lw_at lw_m8 186 rfl) rfl
theorem q1961 : (Jvm.Cond.lays "java/lang/IllegalStateException" "java/lang/Throwable" "detailMessage" "Ljava/lang/String;") ∈ lw_all := lw_g (lw_at lw_m8 187 rfl) rfl
theorem q1962 : (Jvm.Cond.lays "java/lang/IllegalStateException" "java/lang/Throwable" "backtrace" "Ljava/lang/Object;") ∈ lw_all := lw_g (lw_at lw_m8 188 rfl) rfl
theorem q1965 : (Jvm.Cond.instanceMethod ({ cls := "java/lang/IllegalStateException", name := "<init>", desc := "(Ljava/lang/String;)V" } : Jvm.MethodName)) ∈ lw_all := lw_g (lw_at lw_m8 191 rfl) rfl
theorem q1966 : (Jvm.Cond.code ({ cls := "java/lang/IllegalStateException", name := "<init>", desc := "(Ljava/lang/String;)V" } : Jvm.MethodName) prog_25_method_2_code (2 : Nat) (Option.none : Option Jvm.ClassFile.FieldType)) ∈ lw_all := lw_g (lw_at lw_m8 192 rfl) rfl
theorem q1967 : (Jvm.Cond.methodLink "java/lang/IllegalStateException" (7 : Nat) ({ cls := "java/lang/RuntimeException", name := "<init>", desc := "(Ljava/lang/String;)V" } : Jvm.MethodName)) ∈ lw_all := lw_g (lw_at lw_m8 193 rfl) rfl
theorem q1968 : (Jvm.Cond.lays "java/lang/IllegalStateException" "java/lang/Throwable" "depth" "I") ∈ lw_all := lw_g (lw_at lw_m8 194 rfl) rfl
theorem q1969 : (Jvm.Cond.superclass "java/lang/IllegalStateException" "java/lang/RuntimeException") ∈ lw_all := lw_g (lw_at lw_m8 195 rfl) rfl
theorem q2389 : (Jvm.Cond.selects "java/lang/IllegalStateException" ({ cls := "java/lang/Object", name := "equals", desc := "(Ljava/lang/Object;)Z" } : Jvm.MethodName) ({ cls := "java/lang/Object", name := "equals", desc := "(Ljava/lang/Object;)Z" } : Jvm.MethodName)) ∈ lw_all := lw_g (lw_at lw_m10 135 rfl) rfl
theorem q2635 : (Jvm.Cond.instanceMethod ({ cls := "java/lang/IllegalStateException", name := "<init>", desc := "()V" } : Jvm.MethodName)) ∈ lw_all := lw_g (lw_at lw_m11 141 rfl) rfl
theorem q2636 : (Jvm.Cond.code ({ cls := "java/lang/IllegalStateException", name := "<init>", desc := "()V" } : Jvm.MethodName) prog_25_method_1_code (1 : Nat) (Option.none : Option Jvm.ClassFile.FieldType)) ∈ lw_all := lw_g (lw_at lw_m11 142 rfl) rfl
theorem q2637 : (Jvm.Cond.methodLink "java/lang/IllegalStateException" (1 : Nat) ({ cls := "java/lang/RuntimeException", name := "<init>", desc := "()V" } : Jvm.MethodName)) ∈ lw_all := lw_g (lw_at lw_m11 143 rfl) rfl
theorem q3170 : (Jvm.Cond.castable "java/lang/IllegalStateException" "java/lang/Object") ∈ lw_tbl := lw_at lw_m13 196 rfl
theorem in_J35 : ∀ w ∈ wsJ350, w ∈ lw_all := lw_in wsJ350 [1958, 1959, 1960, 1961, 1962, 1968] (by decide +kernel) (by decide +kernel)

/-! java/lang/ArrayIndexOutOfBoundsException -/
set_option maxRecDepth 100000
def RJ36 : String := "java/lang/ArrayIndexOutOfBoundsException"
def TJ36 : u_T := fun k => match k with
  | 0 => ("java/lang/Throwable", "backtrace", "Ljava/lang/Object;", false)
  | 1 => ("java/lang/Throwable", "detailMessage", "Ljava/lang/String;", false)
  | 2 => ("java/lang/Throwable", "cause", "Ljava/lang/Throwable;", false)
  | 3 => ("java/lang/Throwable", "stackTrace", "[Ljava/lang/StackTraceElement;", false)
  | 4 => ("java/lang/Throwable", "depth", "I", false)
  | _ => ("java/lang/Throwable", "suppressedExceptions", "Ljava/util/List;", false)
def tyJ36 : Nat → FieldType := fun k => match k with
  | 0 => .object "java/lang/Object"
  | 1 => .object "java/lang/String"
  | 2 => .object "java/lang/Throwable"
  | 3 => .array (.object "java/lang/StackTraceElement")
  | 4 => .int
  | _ => .object "java/util/List"
abbrev wsJ360 : List Cond := u_ws RJ36 TJ36 6
theorem nmJ36 : ∀ a, a < 6 → ∀ b, b < 6 → a ≠ b → (TJ36 a).2.1 ≠ (TJ36 b).2.1 := by decide +kernel
theorem tyJ36_ok : ∀ k, k < 6 → parseFieldDescriptor (TJ36 k).2.2.1 = some (tyJ36 k) := by decide +kernel
abbrev cJ36_init : ByteArray := prog_19_method_2_code
def yJ36_init : MethodName := ⟨RJ36, "<init>", "(Ljava/lang/String;)V"⟩
def dkwJ36_init_0 : List UInt8 := [42, 43, 183, 0, 7, 177]
abbrev dktJ36_init_0 : List UInt8 := dkwJ36_init_0 ++ []
theorem dksJ36_init_0 : cJ36_init.data.toList.drop 0 = dktJ36_init_0 := by decide +kernel
theorem dJ36_init_0 : decode cJ36_init 0 = .ok (.aload_n 0, 1) := dk_42 (dk_at dksJ36_init_0 0 rfl rfl)
theorem dJ36_init_1 : decode cJ36_init 1 = .ok (.aload_n 1, 1) := dk_43 (dk_at dksJ36_init_0 1 rfl rfl)
theorem dJ36_init_2 : decode cJ36_init 2 = .ok (.invokespecial 7, 3) := dk_183 0 7 (dk_at dksJ36_init_0 2 rfl rfl)
theorem dJ36_init_5 : decode cJ36_init 5 = .ok (.return_, 1) := dk_177 (dk_at dksJ36_init_0 5 rfl rfl)
theorem q147 : (Jvm.Cond.initialized "java/lang/ArrayIndexOutOfBoundsException") ∈ lw_all := lw_g (lw_at lw_m1 53 rfl) rfl
theorem q538 : (Jvm.Cond.selects "java/lang/ArrayIndexOutOfBoundsException" ({ cls := "java/lang/Throwable", name := "fillInStackTrace", desc := "()Ljava/lang/Throwable;" } : Jvm.MethodName) ({ cls := "java/lang/Throwable", name := "fillInStackTrace", desc := "()Ljava/lang/Throwable;" } : Jvm.MethodName)) ∈ lw_all := lw_g (lw_at lw_m2 204 rfl) rfl
theorem q1472 : (Jvm.Cond.selects "java/lang/ArrayIndexOutOfBoundsException" ({ cls := "java/lang/Throwable", name := "toString", desc := "()Ljava/lang/String;" } : Jvm.MethodName) ({ cls := "java/lang/Throwable", name := "toString", desc := "()Ljava/lang/String;" } : Jvm.MethodName)) ∈ lw_all := lw_g (lw_at lw_m6 178 rfl) rfl
theorem q1494 : (Jvm.Cond.selects "java/lang/ArrayIndexOutOfBoundsException" ({ cls := "java/lang/Object", name := "getClass", desc := "()Ljava/lang/Class;" } : Jvm.MethodName) ({ cls := "java/lang/Object", name := "getClass", desc := "()Ljava/lang/Class;" } : Jvm.MethodName)) ∈ lw_all := lw_g (lw_at lw_m6 200 rfl) rfl
theorem q1523 : (Jvm.Cond.selects "java/lang/ArrayIndexOutOfBoundsException" ({ cls := "java/lang/Throwable", name := "getLocalizedMessage", desc := "()Ljava/lang/String;" } : Jvm.MethodName) ({ cls := "java/lang/Throwable", name := "getLocalizedMessage", desc := "()Ljava/lang/String;" } : Jvm.MethodName)) ∈ lw_all := lw_g (lw_at lw_m6 229 rfl) rfl
theorem q1533 : (Jvm.Cond.selects "java/lang/ArrayIndexOutOfBoundsException" ({ cls := "java/lang/Throwable", name := "getMessage", desc := "()Ljava/lang/String;" } : Jvm.MethodName) ({ cls := "java/lang/Throwable", name := "getMessage", desc := "()Ljava/lang/String;" } : Jvm.MethodName)) ∈ lw_all := lw_g (lw_at lw_m6 239 rfl) rfl
theorem q2387 : (Jvm.Cond.selects "java/lang/ArrayIndexOutOfBoundsException" ({ cls := "java/lang/Object", name := "equals", desc := "(Ljava/lang/Object;)Z" } : Jvm.MethodName) ({ cls := "java/lang/Object", name := "equals", desc := "(Ljava/lang/Object;)Z" } : Jvm.MethodName)) ∈ lw_all := lw_g (lw_at lw_m10 133 rfl) rfl
theorem q2481 : (Jvm.Cond.instantiable "java/lang/ArrayIndexOutOfBoundsException" (6 : Nat)) ∈ lw_all := lw_g (lw_at lw_m10 227 rfl) rfl
theorem q2482 : (Jvm.Cond.instanceMethod ({ cls := "java/lang/ArrayIndexOutOfBoundsException", name := "<init>", desc := "(Ljava/lang/String;)V" } : Jvm.MethodName)) ∈ lw_all := lw_g (lw_at lw_m10 228 rfl) rfl
theorem q2483 : (Jvm.Cond.code ({ cls := "java/lang/ArrayIndexOutOfBoundsException", name := "<init>", desc := "(Ljava/lang/String;)V" } : Jvm.MethodName) prog_19_method_2_code (2 : Nat) (Option.none : Option Jvm.ClassFile.FieldType)) ∈ lw_all := lw_g (lw_at lw_m10 229 rfl) rfl
theorem q2484 : (Jvm.Cond.methodLink "java/lang/ArrayIndexOutOfBoundsException" (7 : Nat) ({ cls := "java/lang/IndexOutOfBoundsException", name := "<init>", desc := "(Ljava/lang/String;)V" } : Jvm.MethodName)) ∈ lw_all := lw_g (lw_at lw_m10 230 rfl) rfl
theorem q2485 : (Jvm.Cond.lays "java/lang/ArrayIndexOutOfBoundsException" "java/lang/Throwable" "backtrace" "Ljava/lang/Object;") ∈ lw_all := lw_g (lw_at lw_m10 231 rfl) rfl
theorem q2486 : (Jvm.Cond.lays "java/lang/ArrayIndexOutOfBoundsException" "java/lang/Throwable" "detailMessage" "Ljava/lang/String;") ∈ lw_all := lw_g (lw_at lw_m10 232 rfl) rfl
theorem q2487 : (Jvm.Cond.lays "java/lang/ArrayIndexOutOfBoundsException" "java/lang/Throwable" "cause" "Ljava/lang/Throwable;") ∈ lw_all := lw_g (lw_at lw_m10 233 rfl) rfl
theorem q2488 : (Jvm.Cond.lays "java/lang/ArrayIndexOutOfBoundsException" "java/lang/Throwable" "stackTrace" "[Ljava/lang/StackTraceElement;") ∈ lw_all := lw_g (lw_at lw_m10 234 rfl) rfl
theorem q2489 : (Jvm.Cond.lays "java/lang/ArrayIndexOutOfBoundsException" "java/lang/Throwable" "depth" "I") ∈ lw_all := lw_g (lw_at lw_m10 235 rfl) rfl
theorem q2490 : (Jvm.Cond.lays "java/lang/ArrayIndexOutOfBoundsException" "java/lang/Throwable" "suppressedExceptions" "Ljava/util/List;") ∈ lw_all := lw_g (lw_at lw_m10 236 rfl) rfl
theorem q2491 : (Jvm.Cond.superclass "java/lang/ArrayIndexOutOfBoundsException" "java/lang/IndexOutOfBoundsException") ∈ lw_all := lw_g (lw_at lw_m10 237 rfl) rfl
theorem q2492 : (Jvm.Cond.castable "java/lang/ArrayIndexOutOfBoundsException" "java/lang/ArrayIndexOutOfBoundsException") ∈ lw_tbl := lw_at lw_m10 238 rfl
theorem q2495 : (Jvm.Cond.selects "java/lang/ArrayIndexOutOfBoundsException" ({ cls := "java/lang/Throwable", name := "fillInStackTrace", desc := "(I)Ljava/lang/Throwable;" } : Jvm.MethodName) ({ cls := "java/lang/Throwable", name := "fillInStackTrace", desc := "(I)Ljava/lang/Throwable;" } : Jvm.MethodName)) ∈ lw_all := lw_g (lw_at lw_m11 1 rfl) rfl
theorem q3141 : (Jvm.Cond.castable "java/lang/ArrayIndexOutOfBoundsException" "java/lang/IndexOutOfBoundsException") ∈ lw_tbl := lw_at lw_m13 167 rfl
theorem q3171 : (Jvm.Cond.castable "java/lang/ArrayIndexOutOfBoundsException" "java/lang/Object") ∈ lw_tbl := lw_at lw_m13 197 rfl
theorem in_J36 : ∀ w ∈ wsJ360, w ∈ lw_all := lw_in wsJ360 [2485, 2486, 2487, 2488, 2489, 2490] (by decide +kernel) (by decide +kernel)

/-! java/util/AbstractSequentialList -/
set_option maxRecDepth 100000
def RJ37 : String := "java/util/AbstractSequentialList"
abbrev cJ37_init : ByteArray := prog_48_method_1_code
def yJ37_init : MethodName := ⟨RJ37, "<init>", "()V"⟩
theorem dJ37_init_0 : decode cJ37_init 0 = .ok (.aload_n 0, 1) := by decide +kernel
theorem dJ37_init_1 : decode cJ37_init 1 = .ok (.invokespecial 1, 3) := by decide +kernel
theorem dJ37_init_4 : decode cJ37_init 4 = .ok (.return_, 1) := by decide +kernel
abbrev cJ37_iterator : ByteArray := prog_48_method_7_code
def yJ37_iterator : MethodName := ⟨RJ37, "iterator", "()Ljava/util/Iterator;"⟩
theorem dJ37_iterator_0 : decode cJ37_iterator 0 = .ok (.aload_n 0, 1) := by decide +kernel
theorem dJ37_iterator_1 : decode cJ37_iterator 1 = .ok (.invokevirtual 65, 3) := by decide +kernel
theorem dJ37_iterator_4 : decode cJ37_iterator 4 = .ok (.areturn, 1) := by decide +kernel
theorem q148 : (Jvm.Cond.initialized "java/util/AbstractSequentialList") ∈ lw_all := lw_g (lw_at lw_m1 54 rfl) rfl
theorem q999 : (Jvm.Cond.instanceMethod ({ cls := "java/util/AbstractSequentialList", name := "<init>", desc := "()V" } : Jvm.MethodName)) ∈ lw_all := lw_g (lw_at lw_m4 185 rfl) rfl
theorem q1000 : (Jvm.Cond.code ({ cls := "java/util/AbstractSequentialList", name := "<init>", desc := "()V" } : Jvm.MethodName) prog_48_method_1_code (1 : Nat) (Option.none : Option Jvm.ClassFile.FieldType)) ∈ lw_all := lw_g (lw_at lw_m4 186 rfl) rfl
theorem q1001 : (Jvm.Cond.methodLink "java/util/AbstractSequentialList" (1 : Nat) ({ cls := "java/util/AbstractList", name := "<init>", desc := "()V" } : Jvm.MethodName)) ∈ lw_all := lw_g (lw_at lw_m4 187 rfl) rfl
theorem q1754 : (Jvm.Cond.instanceMethod ({ cls := "java/util/AbstractSequentialList", name := "iterator", desc := "()Ljava/util/Iterator;" } : Jvm.MethodName)) ∈ lw_all := lw_g (lw_at lw_m7 220 rfl) rfl
theorem q1755 : (Jvm.Cond.publicMethod ({ cls := "java/util/AbstractSequentialList", name := "iterator", desc := "()Ljava/util/Iterator;" } : Jvm.MethodName)) ∈ lw_tbl := lw_at lw_m7 221 rfl
theorem q1756 : (Jvm.Cond.code ({ cls := "java/util/AbstractSequentialList", name := "iterator", desc := "()Ljava/util/Iterator;" } : Jvm.MethodName) prog_48_method_7_code (1 : Nat) (Option.some (Jvm.ClassFile.FieldType.object "java/util/Iterator"))) ∈ lw_all := lw_g (lw_at lw_m7 222 rfl) rfl
theorem q1757 : (Jvm.Cond.methodLink "java/util/AbstractSequentialList" (65 : Nat) ({ cls := "java/util/AbstractSequentialList", name := "listIterator", desc := "()Ljava/util/ListIterator;" } : Jvm.MethodName)) ∈ lw_all := lw_g (lw_at lw_m7 223 rfl) rfl
theorem q1758 : (Jvm.Cond.sameMethod "java/util/AbstractSequentialList" "java/util/AbstractList" "listIterator" "()Ljava/util/ListIterator;") ∈ lw_all := lw_g (lw_at lw_m7 224 rfl) rfl

/-! java/util/LinkedList -/
set_option maxRecDepth 100000
def RJ38 : String := "java/util/LinkedList"
def TJ38 : u_T := fun k => match k with
  | 0 => ("java/util/AbstractList", "modCount", "I", false)
  | 1 => ("java/util/LinkedList", "size", "I", false)
  | 2 => ("java/util/LinkedList", "first", "Ljava/util/LinkedList$Node;", false)
  | _ => ("java/util/LinkedList", "last", "Ljava/util/LinkedList$Node;", false)
def tyJ38 : Nat → FieldType := fun k => match k with
  | 0 => .int
  | 1 => .int
  | 2 => .object "java/util/LinkedList$Node"
  | _ => .object "java/util/LinkedList$Node"
abbrev wsJ380 : List Cond := u_ws RJ38 TJ38 4
theorem nmJ38 : ∀ a, a < 4 → ∀ b, b < 4 → a ≠ b → (TJ38 a).2.1 ≠ (TJ38 b).2.1 := by decide +kernel
theorem tyJ38_ok : ∀ k, k < 4 → parseFieldDescriptor (TJ38 k).2.2.1 = some (tyJ38 k) := by decide +kernel
abbrev cJ38_size : ByteArray := prog_65_method_16_code
def yJ38_size : MethodName := ⟨RJ38, "size", "()I"⟩
theorem dJ38_size_0 : decode cJ38_size 0 = .ok (.aload_n 0, 1) := by decide +kernel
theorem dJ38_size_1 : decode cJ38_size 1 = .ok (.getfield 7, 3) := by decide +kernel
theorem dJ38_size_4 : decode cJ38_size 4 = .ok (.ireturn, 1) := by decide +kernel
abbrev cJ38_get : ByteArray := prog_65_method_22_code
def yJ38_get : MethodName := ⟨RJ38, "get", "(I)Ljava/lang/Object;"⟩
def dkwJ38_get_0 : List UInt8 := [42, 27, 182, 0, 90, 42, 27, 182, 0, 86, 180, 0, 39, 176]
abbrev dktJ38_get_0 : List UInt8 := dkwJ38_get_0 ++ []
theorem dksJ38_get_0 : cJ38_get.data.toList.drop 0 = dktJ38_get_0 := by decide +kernel
theorem dJ38_get_0 : decode cJ38_get 0 = .ok (.aload_n 0, 1) := dk_42 (dk_at dksJ38_get_0 0 rfl rfl)
theorem dJ38_get_1 : decode cJ38_get 1 = .ok (.iload_n 1, 1) := dk_27 (dk_at dksJ38_get_0 1 rfl rfl)
theorem dJ38_get_2 : decode cJ38_get 2 = .ok (.invokevirtual 90, 3) := dk_182 0 90 (dk_at dksJ38_get_0 2 rfl rfl)
theorem dJ38_get_5 : decode cJ38_get 5 = .ok (.aload_n 0, 1) := dk_42 (dk_at dksJ38_get_0 5 rfl rfl)
theorem dJ38_get_6 : decode cJ38_get 6 = .ok (.iload_n 1, 1) := dk_27 (dk_at dksJ38_get_0 6 rfl rfl)
theorem dJ38_get_7 : decode cJ38_get 7 = .ok (.invokevirtual 86, 3) := dk_182 0 86 (dk_at dksJ38_get_0 7 rfl rfl)
theorem dJ38_get_10 : decode cJ38_get 10 = .ok (.getfield 39, 3) := dk_180 0 39 (dk_at dksJ38_get_0 10 rfl rfl)
theorem dJ38_get_13 : decode cJ38_get 13 = .ok (.areturn, 1) := dk_176 (dk_at dksJ38_get_0 13 rfl rfl)
abbrev cJ38_checkElementIndex : ByteArray := prog_65_method_29_code
def yJ38_checkElementIndex : MethodName := ⟨RJ38, "checkElementIndex", "(I)V"⟩
def dkwJ38_checkElementIndex_0 : List UInt8 := [42, 27, 182, 0, 115, 154, 0, 16, 187, 0, 119, 89, 42, 27, 182, 0, 121, 183, 0, 125, 191, 177]
abbrev dktJ38_checkElementIndex_0 : List UInt8 := dkwJ38_checkElementIndex_0 ++ []
theorem dksJ38_checkElementIndex_0 : cJ38_checkElementIndex.data.toList.drop 0 = dktJ38_checkElementIndex_0 := by decide +kernel
theorem dJ38_checkElementIndex_0 : decode cJ38_checkElementIndex 0 = .ok (.aload_n 0, 1) := dk_42 (dk_at dksJ38_checkElementIndex_0 0 rfl rfl)
theorem dJ38_checkElementIndex_1 : decode cJ38_checkElementIndex 1 = .ok (.iload_n 1, 1) := dk_27 (dk_at dksJ38_checkElementIndex_0 1 rfl rfl)
theorem dJ38_checkElementIndex_2 : decode cJ38_checkElementIndex 2 = .ok (.invokevirtual 115, 3) := dk_182 0 115 (dk_at dksJ38_checkElementIndex_0 2 rfl rfl)
theorem dJ38_checkElementIndex_5 : decode cJ38_checkElementIndex 5 = .ok (.ifCond .ne 16, 3) := dk_154 0 16 (dk_at dksJ38_checkElementIndex_0 5 rfl rfl)
theorem dJ38_checkElementIndex_8 : decode cJ38_checkElementIndex 8 = .ok (.new 119, 3) := dk_187 0 119 (dk_at dksJ38_checkElementIndex_0 8 rfl rfl)
theorem dJ38_checkElementIndex_11 : decode cJ38_checkElementIndex 11 = .ok (.dup, 1) := dk_89 (dk_at dksJ38_checkElementIndex_0 11 rfl rfl)
theorem dJ38_checkElementIndex_12 : decode cJ38_checkElementIndex 12 = .ok (.aload_n 0, 1) := dk_42 (dk_at dksJ38_checkElementIndex_0 12 rfl rfl)
theorem dJ38_checkElementIndex_13 : decode cJ38_checkElementIndex 13 = .ok (.iload_n 1, 1) := dk_27 (dk_at dksJ38_checkElementIndex_0 13 rfl rfl)
theorem dJ38_checkElementIndex_14 : decode cJ38_checkElementIndex 14 = .ok (.invokevirtual 121, 3) := dk_182 0 121 (dk_at dksJ38_checkElementIndex_0 14 rfl rfl)
theorem dJ38_checkElementIndex_17 : decode cJ38_checkElementIndex 17 = .ok (.invokespecial 125, 3) := dk_183 0 125 (dk_at dksJ38_checkElementIndex_0 17 rfl rfl)
theorem dJ38_checkElementIndex_20 : decode cJ38_checkElementIndex 20 = .ok (.athrow, 1) := dk_191 (dk_at dksJ38_checkElementIndex_0 20 rfl rfl)
theorem dJ38_checkElementIndex_21 : decode cJ38_checkElementIndex 21 = .ok (.return_, 1) := dk_177 (dk_at dksJ38_checkElementIndex_0 21 rfl rfl)
abbrev cJ38_isElementIndex : ByteArray := prog_65_method_26_code
def yJ38_isElementIndex : MethodName := ⟨RJ38, "isElementIndex", "(I)Z"⟩
def dkwJ38_isElementIndex_0 : List UInt8 := [27, 155, 0, 15, 27, 42, 180, 0, 7, 162, 0, 7, 4, 167, 0, 4, 3, 172]
abbrev dktJ38_isElementIndex_0 : List UInt8 := dkwJ38_isElementIndex_0 ++ []
theorem dksJ38_isElementIndex_0 : cJ38_isElementIndex.data.toList.drop 0 = dktJ38_isElementIndex_0 := by decide +kernel
theorem dJ38_isElementIndex_0 : decode cJ38_isElementIndex 0 = .ok (.iload_n 1, 1) := dk_27 (dk_at dksJ38_isElementIndex_0 0 rfl rfl)
theorem dJ38_isElementIndex_1 : decode cJ38_isElementIndex 1 = .ok (.ifCond .lt 15, 3) := dk_155 0 15 (dk_at dksJ38_isElementIndex_0 1 rfl rfl)
theorem dJ38_isElementIndex_4 : decode cJ38_isElementIndex 4 = .ok (.iload_n 1, 1) := dk_27 (dk_at dksJ38_isElementIndex_0 4 rfl rfl)
theorem dJ38_isElementIndex_5 : decode cJ38_isElementIndex 5 = .ok (.aload_n 0, 1) := dk_42 (dk_at dksJ38_isElementIndex_0 5 rfl rfl)
theorem dJ38_isElementIndex_6 : decode cJ38_isElementIndex 6 = .ok (.getfield 7, 3) := dk_180 0 7 (dk_at dksJ38_isElementIndex_0 6 rfl rfl)
theorem dJ38_isElementIndex_9 : decode cJ38_isElementIndex 9 = .ok (.if_icmp .ge 7, 3) := dk_162 0 7 (dk_at dksJ38_isElementIndex_0 9 rfl rfl)
theorem dJ38_isElementIndex_12 : decode cJ38_isElementIndex 12 = .ok (.iconst 1, 1) := dk_4 (dk_at dksJ38_isElementIndex_0 12 rfl rfl)
theorem dJ38_isElementIndex_13 : decode cJ38_isElementIndex 13 = .ok (.goto 4, 3) := dk_167 0 4 (dk_at dksJ38_isElementIndex_0 13 rfl rfl)
theorem dJ38_isElementIndex_16 : decode cJ38_isElementIndex 16 = .ok (.iconst 0, 1) := dk_3 (dk_at dksJ38_isElementIndex_0 16 rfl rfl)
theorem dJ38_isElementIndex_17 : decode cJ38_isElementIndex 17 = .ok (.ireturn, 1) := dk_172 (dk_at dksJ38_isElementIndex_0 17 rfl rfl)
abbrev cJ38_outOfBoundsMsg : ByteArray := prog_65_method_28_code
def yJ38_outOfBoundsMsg : MethodName := ⟨RJ38, "outOfBoundsMsg", "(I)Ljava/lang/String;"⟩
def dkwJ38_outOfBoundsMsg_1 : List UInt8 := [180, 0, 7, 182, 0, 106, 182, 0, 111, 176]
abbrev dktJ38_outOfBoundsMsg_1 : List UInt8 := dkwJ38_outOfBoundsMsg_1 ++ []
def dkwJ38_outOfBoundsMsg_0 : List UInt8 := [187, 0, 97, 89, 183, 0, 99, 18, 100, 182, 0, 102, 27, 182, 0, 106, 18, 109, 182, 0, 102, 42]
abbrev dktJ38_outOfBoundsMsg_0 : List UInt8 := dkwJ38_outOfBoundsMsg_0 ++ dktJ38_outOfBoundsMsg_1
theorem dksJ38_outOfBoundsMsg_0 : cJ38_outOfBoundsMsg.data.toList.drop 0 = dktJ38_outOfBoundsMsg_0 := by decide +kernel
theorem dksJ38_outOfBoundsMsg_1 : cJ38_outOfBoundsMsg.data.toList.drop 22 = dktJ38_outOfBoundsMsg_1 := dk_seg dksJ38_outOfBoundsMsg_0 22 rfl rfl
theorem dJ38_outOfBoundsMsg_0 : decode cJ38_outOfBoundsMsg 0 = .ok (.new 97, 3) := dk_187 0 97 (dk_at dksJ38_outOfBoundsMsg_0 0 rfl rfl)
theorem dJ38_outOfBoundsMsg_3 : decode cJ38_outOfBoundsMsg 3 = .ok (.dup, 1) := dk_89 (dk_at dksJ38_outOfBoundsMsg_0 3 rfl rfl)
theorem dJ38_outOfBoundsMsg_4 : decode cJ38_outOfBoundsMsg 4 = .ok (.invokespecial 99, 3) := dk_183 0 99 (dk_at dksJ38_outOfBoundsMsg_0 4 rfl rfl)
theorem dJ38_outOfBoundsMsg_7 : decode cJ38_outOfBoundsMsg 7 = .ok (.ldc 100, 2) := dk_18 100 (dk_at dksJ38_outOfBoundsMsg_0 7 rfl rfl)
theorem dJ38_outOfBoundsMsg_9 : decode cJ38_outOfBoundsMsg 9 = .ok (.invokevirtual 102, 3) := dk_182 0 102 (dk_at dksJ38_outOfBoundsMsg_0 9 rfl rfl)
theorem dJ38_outOfBoundsMsg_12 : decode cJ38_outOfBoundsMsg 12 = .ok (.iload_n 1, 1) := dk_27 (dk_at dksJ38_outOfBoundsMsg_0 12 rfl rfl)
theorem dJ38_outOfBoundsMsg_13 : decode cJ38_outOfBoundsMsg 13 = .ok (.invokevirtual 106, 3) := dk_182 0 106 (dk_at dksJ38_outOfBoundsMsg_0 13 rfl rfl)
theorem dJ38_outOfBoundsMsg_16 : decode cJ38_outOfBoundsMsg 16 = .ok (.ldc 109, 2) := dk_18 109 (dk_at dksJ38_outOfBoundsMsg_0 16 rfl rfl)
theorem dJ38_outOfBoundsMsg_18 : decode cJ38_outOfBoundsMsg 18 = .ok (.invokevirtual 102, 3) := dk_182 0 102 (dk_at dksJ38_outOfBoundsMsg_0 18 rfl rfl)
theorem dJ38_outOfBoundsMsg_21 : decode cJ38_outOfBoundsMsg 21 = .ok (.aload_n 0, 1) := dk_42 (dk_at dksJ38_outOfBoundsMsg_0 21 rfl rfl)
theorem dJ38_outOfBoundsMsg_22 : decode cJ38_outOfBoundsMsg 22 = .ok (.getfield 7, 3) := dk_180 0 7 (dk_at dksJ38_outOfBoundsMsg_1 0 rfl rfl)
theorem dJ38_outOfBoundsMsg_25 : decode cJ38_outOfBoundsMsg 25 = .ok (.invokevirtual 106, 3) := dk_182 0 106 (dk_at dksJ38_outOfBoundsMsg_1 3 rfl rfl)
theorem dJ38_outOfBoundsMsg_28 : decode cJ38_outOfBoundsMsg 28 = .ok (.invokevirtual 111, 3) := dk_182 0 111 (dk_at dksJ38_outOfBoundsMsg_1 6 rfl rfl)
theorem dJ38_outOfBoundsMsg_31 : decode cJ38_outOfBoundsMsg 31 = .ok (.areturn, 1) := dk_176 (dk_at dksJ38_outOfBoundsMsg_1 9 rfl rfl)
abbrev cJ38_node : ByteArray := prog_65_method_31_code
def yJ38_node : MethodName := ⟨RJ38, "node", "(I)Ljava/util/LinkedList$Node;"⟩
def dkwJ38_node_2 : List UInt8 := [29, 27, 164, 0, 14, 44, 180, 0, 30, 77, 132, 3, 255, 167, 255, 243, 44, 176]
abbrev dktJ38_node_2 : List UInt8 := dkwJ38_node_2 ++ []
def dkwJ38_node_1 : List UInt8 := [180, 0, 36, 77, 132, 3, 1, 167, 255, 243, 44, 176, 42, 180, 0, 27, 77, 42, 180, 0, 7, 4, 100, 62]
abbrev dktJ38_node_1 : List UInt8 := dkwJ38_node_1 ++ dktJ38_node_2
def dkwJ38_node_0 : List UInt8 := [27, 42, 180, 0, 7, 4, 122, 162, 0, 28, 42, 180, 0, 18, 77, 3, 62, 29, 27, 162, 0, 14, 44]
abbrev dktJ38_node_0 : List UInt8 := dkwJ38_node_0 ++ dktJ38_node_1
theorem dksJ38_node_0 : cJ38_node.data.toList.drop 0 = dktJ38_node_0 := by decide +kernel
theorem dksJ38_node_1 : cJ38_node.data.toList.drop 23 = dktJ38_node_1 := dk_seg dksJ38_node_0 23 rfl rfl
theorem dksJ38_node_2 : cJ38_node.data.toList.drop 47 = dktJ38_node_2 := dk_seg dksJ38_node_1 24 rfl rfl
theorem dJ38_node_0 : decode cJ38_node 0 = .ok (.iload_n 1, 1) := dk_27 (dk_at dksJ38_node_0 0 rfl rfl)
theorem dJ38_node_1 : decode cJ38_node 1 = .ok (.aload_n 0, 1) := dk_42 (dk_at dksJ38_node_0 1 rfl rfl)
theorem dJ38_node_2 : decode cJ38_node 2 = .ok (.getfield 7, 3) := dk_180 0 7 (dk_at dksJ38_node_0 2 rfl rfl)
theorem dJ38_node_5 : decode cJ38_node 5 = .ok (.iconst 1, 1) := dk_4 (dk_at dksJ38_node_0 5 rfl rfl)
theorem dJ38_node_6 : decode cJ38_node 6 = .ok (.ishr, 1) := dk_122 (dk_at dksJ38_node_0 6 rfl rfl)
theorem dJ38_node_7 : decode cJ38_node 7 = .ok (.if_icmp .ge 28, 3) := dk_162 0 28 (dk_at dksJ38_node_0 7 rfl rfl)
theorem dJ38_node_10 : decode cJ38_node 10 = .ok (.aload_n 0, 1) := dk_42 (dk_at dksJ38_node_0 10 rfl rfl)
theorem dJ38_node_11 : decode cJ38_node 11 = .ok (.getfield 18, 3) := dk_180 0 18 (dk_at dksJ38_node_0 11 rfl rfl)
theorem dJ38_node_14 : decode cJ38_node 14 = .ok (.astore_n 2, 1) := dk_77 (dk_at dksJ38_node_0 14 rfl rfl)
theorem dJ38_node_15 : decode cJ38_node 15 = .ok (.iconst 0, 1) := dk_3 (dk_at dksJ38_node_0 15 rfl rfl)
theorem dJ38_node_16 : decode cJ38_node 16 = .ok (.istore_n 3, 1) := dk_62 (dk_at dksJ38_node_0 16 rfl rfl)
theorem dJ38_node_17 : decode cJ38_node 17 = .ok (.iload_n 3, 1) := dk_29 (dk_at dksJ38_node_0 17 rfl rfl)
theorem dJ38_node_18 : decode cJ38_node 18 = .ok (.iload_n 1, 1) := dk_27 (dk_at dksJ38_node_0 18 rfl rfl)
theorem dJ38_node_19 : decode cJ38_node 19 = .ok (.if_icmp .ge 14, 3) := dk_162 0 14 (dk_at dksJ38_node_0 19 rfl rfl)
theorem dJ38_node_22 : decode cJ38_node 22 = .ok (.aload_n 2, 1) := dk_44 (dk_at dksJ38_node_0 22 rfl rfl)
theorem dJ38_node_23 : decode cJ38_node 23 = .ok (.getfield 36, 3) := dk_180 0 36 (dk_at dksJ38_node_1 0 rfl rfl)
theorem dJ38_node_26 : decode cJ38_node 26 = .ok (.astore_n 2, 1) := dk_77 (dk_at dksJ38_node_1 3 rfl rfl)
theorem dJ38_node_27 : decode cJ38_node 27 = .ok (.iinc 3 1, 3) := dk_132 3 1 (dk_at dksJ38_node_1 4 rfl rfl)
theorem dJ38_node_30 : decode cJ38_node 30 = .ok (.goto (-13), 3) := dk_167 255 243 (dk_at dksJ38_node_1 7 rfl rfl)
theorem dJ38_node_33 : decode cJ38_node 33 = .ok (.aload_n 2, 1) := dk_44 (dk_at dksJ38_node_1 10 rfl rfl)
theorem dJ38_node_34 : decode cJ38_node 34 = .ok (.areturn, 1) := dk_176 (dk_at dksJ38_node_1 11 rfl rfl)
theorem dJ38_node_35 : decode cJ38_node 35 = .ok (.aload_n 0, 1) := dk_42 (dk_at dksJ38_node_1 12 rfl rfl)
theorem dJ38_node_36 : decode cJ38_node 36 = .ok (.getfield 27, 3) := dk_180 0 27 (dk_at dksJ38_node_1 13 rfl rfl)
theorem dJ38_node_39 : decode cJ38_node 39 = .ok (.astore_n 2, 1) := dk_77 (dk_at dksJ38_node_1 16 rfl rfl)
theorem dJ38_node_40 : decode cJ38_node 40 = .ok (.aload_n 0, 1) := dk_42 (dk_at dksJ38_node_1 17 rfl rfl)
theorem dJ38_node_41 : decode cJ38_node 41 = .ok (.getfield 7, 3) := dk_180 0 7 (dk_at dksJ38_node_1 18 rfl rfl)
theorem dJ38_node_44 : decode cJ38_node 44 = .ok (.iconst 1, 1) := dk_4 (dk_at dksJ38_node_1 21 rfl rfl)
theorem dJ38_node_45 : decode cJ38_node 45 = .ok (.isub, 1) := dk_100 (dk_at dksJ38_node_1 22 rfl rfl)
theorem dJ38_node_46 : decode cJ38_node 46 = .ok (.istore_n 3, 1) := dk_62 (dk_at dksJ38_node_1 23 rfl rfl)
theorem dJ38_node_47 : decode cJ38_node 47 = .ok (.iload_n 3, 1) := dk_29 (dk_at dksJ38_node_2 0 rfl rfl)
theorem dJ38_node_48 : decode cJ38_node 48 = .ok (.iload_n 1, 1) := dk_27 (dk_at dksJ38_node_2 1 rfl rfl)
theorem dJ38_node_49 : decode cJ38_node 49 = .ok (.if_icmp .le 14, 3) := dk_164 0 14 (dk_at dksJ38_node_2 2 rfl rfl)
theorem dJ38_node_52 : decode cJ38_node 52 = .ok (.aload_n 2, 1) := dk_44 (dk_at dksJ38_node_2 5 rfl rfl)
theorem dJ38_node_53 : decode cJ38_node 53 = .ok (.getfield 30, 3) := dk_180 0 30 (dk_at dksJ38_node_2 6 rfl rfl)
theorem dJ38_node_56 : decode cJ38_node 56 = .ok (.astore_n 2, 1) := dk_77 (dk_at dksJ38_node_2 9 rfl rfl)
theorem dJ38_node_57 : decode cJ38_node 57 = .ok (.iinc 3 (-1), 3) := dk_132 3 255 (dk_at dksJ38_node_2 10 rfl rfl)
theorem dJ38_node_60 : decode cJ38_node 60 = .ok (.goto (-13), 3) := dk_167 255 243 (dk_at dksJ38_node_2 13 rfl rfl)
theorem dJ38_node_63 : decode cJ38_node 63 = .ok (.aload_n 2, 1) := dk_44 (dk_at dksJ38_node_2 16 rfl rfl)
theorem dJ38_node_64 : decode cJ38_node 64 = .ok (.areturn, 1) := dk_176 (dk_at dksJ38_node_2 17 rfl rfl)
abbrev cJ38_init : ByteArray := prog_65_method_1_code
def yJ38_init : MethodName := ⟨RJ38, "<init>", "()V"⟩
def dkwJ38_init_0 : List UInt8 := [42, 183, 0, 1, 42, 3, 181, 0, 7, 177]
abbrev dktJ38_init_0 : List UInt8 := dkwJ38_init_0 ++ []
theorem dksJ38_init_0 : cJ38_init.data.toList.drop 0 = dktJ38_init_0 := by decide +kernel
theorem dJ38_init_0 : decode cJ38_init 0 = .ok (.aload_n 0, 1) := dk_42 (dk_at dksJ38_init_0 0 rfl rfl)
theorem dJ38_init_1 : decode cJ38_init 1 = .ok (.invokespecial 1, 3) := dk_183 0 1 (dk_at dksJ38_init_0 1 rfl rfl)
theorem dJ38_init_4 : decode cJ38_init 4 = .ok (.aload_n 0, 1) := dk_42 (dk_at dksJ38_init_0 4 rfl rfl)
theorem dJ38_init_5 : decode cJ38_init 5 = .ok (.iconst 0, 1) := dk_3 (dk_at dksJ38_init_0 5 rfl rfl)
theorem dJ38_init_6 : decode cJ38_init 6 = .ok (.putfield 7, 3) := dk_181 0 7 (dk_at dksJ38_init_0 6 rfl rfl)
theorem dJ38_init_9 : decode cJ38_init 9 = .ok (.return_, 1) := dk_177 (dk_at dksJ38_init_0 9 rfl rfl)
abbrev cJ38_addLast : ByteArray := prog_65_method_14_code
def yJ38_addLast : MethodName := ⟨RJ38, "addLast", "(Ljava/lang/Object;)V"⟩
def dkwJ38_addLast_0 : List UInt8 := [42, 43, 182, 0, 57, 177]
abbrev dktJ38_addLast_0 : List UInt8 := dkwJ38_addLast_0 ++ []
theorem dksJ38_addLast_0 : cJ38_addLast.data.toList.drop 0 = dktJ38_addLast_0 := by decide +kernel
theorem dJ38_addLast_0 : decode cJ38_addLast 0 = .ok (.aload_n 0, 1) := dk_42 (dk_at dksJ38_addLast_0 0 rfl rfl)
theorem dJ38_addLast_1 : decode cJ38_addLast 1 = .ok (.aload_n 1, 1) := dk_43 (dk_at dksJ38_addLast_0 1 rfl rfl)
theorem dJ38_addLast_2 : decode cJ38_addLast 2 = .ok (.invokevirtual 57, 3) := dk_182 0 57 (dk_at dksJ38_addLast_0 2 rfl rfl)
theorem dJ38_addLast_5 : decode cJ38_addLast 5 = .ok (.return_, 1) := dk_177 (dk_at dksJ38_addLast_0 5 rfl rfl)
abbrev cJ38_linkLast : ByteArray := prog_65_method_4_code
def yJ38_linkLast : MethodName := ⟨RJ38, "linkLast", "(Ljava/lang/Object;)V"⟩
def dkwJ38_linkLast_2 : List UInt8 := [181, 0, 7, 42, 89, 180, 0, 33, 4, 96, 181, 0, 33, 177]
abbrev dktJ38_linkLast_2 : List UInt8 := dkwJ38_linkLast_2 ++ []
def dkwJ38_linkLast_1 : List UInt8 := [199, 0, 11, 42, 45, 181, 0, 18, 167, 0, 8, 44, 45, 181, 0, 36, 42, 89, 180, 0, 7, 4, 96]
abbrev dktJ38_linkLast_1 : List UInt8 := dkwJ38_linkLast_1 ++ dktJ38_linkLast_2
def dkwJ38_linkLast_0 : List UInt8 := [42, 180, 0, 27, 77, 187, 0, 22, 89, 44, 43, 1, 183, 0, 24, 78, 42, 45, 181, 0, 27, 44]
abbrev dktJ38_linkLast_0 : List UInt8 := dkwJ38_linkLast_0 ++ dktJ38_linkLast_1
theorem dksJ38_linkLast_0 : cJ38_linkLast.data.toList.drop 0 = dktJ38_linkLast_0 := by decide +kernel
theorem dksJ38_linkLast_1 : cJ38_linkLast.data.toList.drop 22 = dktJ38_linkLast_1 := dk_seg dksJ38_linkLast_0 22 rfl rfl
theorem dksJ38_linkLast_2 : cJ38_linkLast.data.toList.drop 45 = dktJ38_linkLast_2 := dk_seg dksJ38_linkLast_1 23 rfl rfl
theorem dJ38_linkLast_0 : decode cJ38_linkLast 0 = .ok (.aload_n 0, 1) := dk_42 (dk_at dksJ38_linkLast_0 0 rfl rfl)
theorem dJ38_linkLast_1 : decode cJ38_linkLast 1 = .ok (.getfield 27, 3) := dk_180 0 27 (dk_at dksJ38_linkLast_0 1 rfl rfl)
theorem dJ38_linkLast_4 : decode cJ38_linkLast 4 = .ok (.astore_n 2, 1) := dk_77 (dk_at dksJ38_linkLast_0 4 rfl rfl)
theorem dJ38_linkLast_5 : decode cJ38_linkLast 5 = .ok (.new 22, 3) := dk_187 0 22 (dk_at dksJ38_linkLast_0 5 rfl rfl)
theorem dJ38_linkLast_8 : decode cJ38_linkLast 8 = .ok (.dup, 1) := dk_89 (dk_at dksJ38_linkLast_0 8 rfl rfl)
theorem dJ38_linkLast_9 : decode cJ38_linkLast 9 = .ok (.aload_n 2, 1) := dk_44 (dk_at dksJ38_linkLast_0 9 rfl rfl)
theorem dJ38_linkLast_10 : decode cJ38_linkLast 10 = .ok (.aload_n 1, 1) := dk_43 (dk_at dksJ38_linkLast_0 10 rfl rfl)
theorem dJ38_linkLast_11 : decode cJ38_linkLast 11 = .ok (.aconst_null, 1) := dk_1 (dk_at dksJ38_linkLast_0 11 rfl rfl)
theorem dJ38_linkLast_12 : decode cJ38_linkLast 12 = .ok (.invokespecial 24, 3) := dk_183 0 24 (dk_at dksJ38_linkLast_0 12 rfl rfl)
theorem dJ38_linkLast_15 : decode cJ38_linkLast 15 = .ok (.astore_n 3, 1) := dk_78 (dk_at dksJ38_linkLast_0 15 rfl rfl)
theorem dJ38_linkLast_16 : decode cJ38_linkLast 16 = .ok (.aload_n 0, 1) := dk_42 (dk_at dksJ38_linkLast_0 16 rfl rfl)
theorem dJ38_linkLast_17 : decode cJ38_linkLast 17 = .ok (.aload_n 3, 1) := dk_45 (dk_at dksJ38_linkLast_0 17 rfl rfl)
theorem dJ38_linkLast_18 : decode cJ38_linkLast 18 = .ok (.putfield 27, 3) := dk_181 0 27 (dk_at dksJ38_linkLast_0 18 rfl rfl)
theorem dJ38_linkLast_21 : decode cJ38_linkLast 21 = .ok (.aload_n 2, 1) := dk_44 (dk_at dksJ38_linkLast_0 21 rfl rfl)
theorem dJ38_linkLast_22 : decode cJ38_linkLast 22 = .ok (.ifnonnull 11, 3) := dk_199 0 11 (dk_at dksJ38_linkLast_1 0 rfl rfl)
theorem dJ38_linkLast_25 : decode cJ38_linkLast 25 = .ok (.aload_n 0, 1) := dk_42 (dk_at dksJ38_linkLast_1 3 rfl rfl)
theorem dJ38_linkLast_26 : decode cJ38_linkLast 26 = .ok (.aload_n 3, 1) := dk_45 (dk_at dksJ38_linkLast_1 4 rfl rfl)
theorem dJ38_linkLast_27 : decode cJ38_linkLast 27 = .ok (.putfield 18, 3) := dk_181 0 18 (dk_at dksJ38_linkLast_1 5 rfl rfl)
theorem dJ38_linkLast_30 : decode cJ38_linkLast 30 = .ok (.goto 8, 3) := dk_167 0 8 (dk_at dksJ38_linkLast_1 8 rfl rfl)
theorem dJ38_linkLast_33 : decode cJ38_linkLast 33 = .ok (.aload_n 2, 1) := dk_44 (dk_at dksJ38_linkLast_1 11 rfl rfl)
theorem dJ38_linkLast_34 : decode cJ38_linkLast 34 = .ok (.aload_n 3, 1) := dk_45 (dk_at dksJ38_linkLast_1 12 rfl rfl)
theorem dJ38_linkLast_35 : decode cJ38_linkLast 35 = .ok (.putfield 36, 3) := dk_181 0 36 (dk_at dksJ38_linkLast_1 13 rfl rfl)
theorem dJ38_linkLast_38 : decode cJ38_linkLast 38 = .ok (.aload_n 0, 1) := dk_42 (dk_at dksJ38_linkLast_1 16 rfl rfl)
theorem dJ38_linkLast_39 : decode cJ38_linkLast 39 = .ok (.dup, 1) := dk_89 (dk_at dksJ38_linkLast_1 17 rfl rfl)
theorem dJ38_linkLast_40 : decode cJ38_linkLast 40 = .ok (.getfield 7, 3) := dk_180 0 7 (dk_at dksJ38_linkLast_1 18 rfl rfl)
theorem dJ38_linkLast_43 : decode cJ38_linkLast 43 = .ok (.iconst 1, 1) := dk_4 (dk_at dksJ38_linkLast_1 21 rfl rfl)
theorem dJ38_linkLast_44 : decode cJ38_linkLast 44 = .ok (.iadd, 1) := dk_96 (dk_at dksJ38_linkLast_1 22 rfl rfl)
theorem dJ38_linkLast_45 : decode cJ38_linkLast 45 = .ok (.putfield 7, 3) := dk_181 0 7 (dk_at dksJ38_linkLast_2 0 rfl rfl)
theorem dJ38_linkLast_48 : decode cJ38_linkLast 48 = .ok (.aload_n 0, 1) := dk_42 (dk_at dksJ38_linkLast_2 3 rfl rfl)
theorem dJ38_linkLast_49 : decode cJ38_linkLast 49 = .ok (.dup, 1) := dk_89 (dk_at dksJ38_linkLast_2 4 rfl rfl)
theorem dJ38_linkLast_50 : decode cJ38_linkLast 50 = .ok (.getfield 33, 3) := dk_180 0 33 (dk_at dksJ38_linkLast_2 5 rfl rfl)
theorem dJ38_linkLast_53 : decode cJ38_linkLast 53 = .ok (.iconst 1, 1) := dk_4 (dk_at dksJ38_linkLast_2 8 rfl rfl)
theorem dJ38_linkLast_54 : decode cJ38_linkLast 54 = .ok (.iadd, 1) := dk_96 (dk_at dksJ38_linkLast_2 9 rfl rfl)
theorem dJ38_linkLast_55 : decode cJ38_linkLast 55 = .ok (.putfield 33, 3) := dk_181 0 33 (dk_at dksJ38_linkLast_2 10 rfl rfl)
theorem dJ38_linkLast_58 : decode cJ38_linkLast 58 = .ok (.return_, 1) := dk_177 (dk_at dksJ38_linkLast_2 13 rfl rfl)
abbrev cJ38_set : ByteArray := prog_65_method_23_code
def yJ38_set : MethodName := ⟨RJ38, "set", "(ILjava/lang/Object;)Ljava/lang/Object;"⟩
def dkwJ38_set_1 : List UInt8 := [176]
abbrev dktJ38_set_1 : List UInt8 := dkwJ38_set_1 ++ []
def dkwJ38_set_0 : List UInt8 := [42, 27, 182, 0, 90, 42, 27, 182, 0, 86, 78, 45, 180, 0, 39, 58, 4, 45, 44, 181, 0, 39, 25, 4]
abbrev dktJ38_set_0 : List UInt8 := dkwJ38_set_0 ++ dktJ38_set_1
theorem dksJ38_set_0 : cJ38_set.data.toList.drop 0 = dktJ38_set_0 := by decide +kernel
theorem dksJ38_set_1 : cJ38_set.data.toList.drop 24 = dktJ38_set_1 := dk_seg dksJ38_set_0 24 rfl rfl
theorem dJ38_set_0 : decode cJ38_set 0 = .ok (.aload_n 0, 1) := dk_42 (dk_at dksJ38_set_0 0 rfl rfl)
theorem dJ38_set_1 : decode cJ38_set 1 = .ok (.iload_n 1, 1) := dk_27 (dk_at dksJ38_set_0 1 rfl rfl)
theorem dJ38_set_2 : decode cJ38_set 2 = .ok (.invokevirtual 90, 3) := dk_182 0 90 (dk_at dksJ38_set_0 2 rfl rfl)
theorem dJ38_set_5 : decode cJ38_set 5 = .ok (.aload_n 0, 1) := dk_42 (dk_at dksJ38_set_0 5 rfl rfl)
theorem dJ38_set_6 : decode cJ38_set 6 = .ok (.iload_n 1, 1) := dk_27 (dk_at dksJ38_set_0 6 rfl rfl)
theorem dJ38_set_7 : decode cJ38_set 7 = .ok (.invokevirtual 86, 3) := dk_182 0 86 (dk_at dksJ38_set_0 7 rfl rfl)
theorem dJ38_set_10 : decode cJ38_set 10 = .ok (.astore_n 3, 1) := dk_78 (dk_at dksJ38_set_0 10 rfl rfl)
theorem dJ38_set_11 : decode cJ38_set 11 = .ok (.aload_n 3, 1) := dk_45 (dk_at dksJ38_set_0 11 rfl rfl)
theorem dJ38_set_12 : decode cJ38_set 12 = .ok (.getfield 39, 3) := dk_180 0 39 (dk_at dksJ38_set_0 12 rfl rfl)
theorem dJ38_set_15 : decode cJ38_set 15 = .ok (.astore 4, 2) := dk_58 4 (dk_at dksJ38_set_0 15 rfl rfl)
theorem dJ38_set_17 : decode cJ38_set 17 = .ok (.aload_n 3, 1) := dk_45 (dk_at dksJ38_set_0 17 rfl rfl)
theorem dJ38_set_18 : decode cJ38_set 18 = .ok (.aload_n 2, 1) := dk_44 (dk_at dksJ38_set_0 18 rfl rfl)
theorem dJ38_set_19 : decode cJ38_set 19 = .ok (.putfield 39, 3) := dk_181 0 39 (dk_at dksJ38_set_0 19 rfl rfl)
theorem dJ38_set_22 : decode cJ38_set 22 = .ok (.aload 4, 2) := dk_25 4 (dk_at dksJ38_set_0 22 rfl rfl)
theorem dJ38_set_24 : decode cJ38_set 24 = .ok (.areturn, 1) := dk_176 (dk_at dksJ38_set_1 0 rfl rfl)
abbrev cJ38_add : ByteArray := prog_65_method_17_code
def yJ38_add : MethodName := ⟨RJ38, "add", "(Ljava/lang/Object;)Z"⟩
def dkwJ38_add_0 : List UInt8 := [42, 43, 182, 0, 57, 4, 172]
abbrev dktJ38_add_0 : List UInt8 := dkwJ38_add_0 ++ []
theorem dksJ38_add_0 : cJ38_add.data.toList.drop 0 = dktJ38_add_0 := by decide +kernel
theorem dJ38_add_0 : decode cJ38_add 0 = .ok (.aload_n 0, 1) := dk_42 (dk_at dksJ38_add_0 0 rfl rfl)
theorem dJ38_add_1 : decode cJ38_add 1 = .ok (.aload_n 1, 1) := dk_43 (dk_at dksJ38_add_0 1 rfl rfl)
theorem dJ38_add_2 : decode cJ38_add 2 = .ok (.invokevirtual 57, 3) := dk_182 0 57 (dk_at dksJ38_add_0 2 rfl rfl)
theorem dJ38_add_5 : decode cJ38_add 5 = .ok (.iconst 1, 1) := dk_4 (dk_at dksJ38_add_0 5 rfl rfl)
theorem dJ38_add_6 : decode cJ38_add 6 = .ok (.ireturn, 1) := dk_172 (dk_at dksJ38_add_0 6 rfl rfl)
abbrev cJ38_listIterator : ByteArray := prog_65_method_49_code
def yJ38_listIterator : MethodName := ⟨RJ38, "listIterator", "(I)Ljava/util/ListIterator;"⟩
def dkwJ38_listIterator_0 : List UInt8 := [42, 27, 182, 0, 76, 187, 0, 150, 89, 42, 27, 183, 0, 152, 176]
abbrev dktJ38_listIterator_0 : List UInt8 := dkwJ38_listIterator_0 ++ []
theorem dksJ38_listIterator_0 : cJ38_listIterator.data.toList.drop 0 = dktJ38_listIterator_0 := by decide +kernel
theorem dJ38_listIterator_0 : decode cJ38_listIterator 0 = .ok (.aload_n 0, 1) := dk_42 (dk_at dksJ38_listIterator_0 0 rfl rfl)
theorem dJ38_listIterator_1 : decode cJ38_listIterator 1 = .ok (.iload_n 1, 1) := dk_27 (dk_at dksJ38_listIterator_0 1 rfl rfl)
theorem dJ38_listIterator_2 : decode cJ38_listIterator 2 = .ok (.invokevirtual 76, 3) := dk_182 0 76 (dk_at dksJ38_listIterator_0 2 rfl rfl)
theorem dJ38_listIterator_5 : decode cJ38_listIterator 5 = .ok (.new 150, 3) := dk_187 0 150 (dk_at dksJ38_listIterator_0 5 rfl rfl)
theorem dJ38_listIterator_8 : decode cJ38_listIterator 8 = .ok (.dup, 1) := dk_89 (dk_at dksJ38_listIterator_0 8 rfl rfl)
theorem dJ38_listIterator_9 : decode cJ38_listIterator 9 = .ok (.aload_n 0, 1) := dk_42 (dk_at dksJ38_listIterator_0 9 rfl rfl)
theorem dJ38_listIterator_10 : decode cJ38_listIterator 10 = .ok (.iload_n 1, 1) := dk_27 (dk_at dksJ38_listIterator_0 10 rfl rfl)
theorem dJ38_listIterator_11 : decode cJ38_listIterator 11 = .ok (.invokespecial 152, 3) := dk_183 0 152 (dk_at dksJ38_listIterator_0 11 rfl rfl)
theorem dJ38_listIterator_14 : decode cJ38_listIterator 14 = .ok (.areturn, 1) := dk_176 (dk_at dksJ38_listIterator_0 14 rfl rfl)
abbrev cJ38_checkPositionIndex : ByteArray := prog_65_method_30_code
def yJ38_checkPositionIndex : MethodName := ⟨RJ38, "checkPositionIndex", "(I)V"⟩
def dkwJ38_checkPositionIndex_0 : List UInt8 := [42, 27, 182, 0, 128, 154, 0, 16, 187, 0, 119, 89, 42, 27, 182, 0, 121, 183, 0, 125, 191, 177]
abbrev dktJ38_checkPositionIndex_0 : List UInt8 := dkwJ38_checkPositionIndex_0 ++ []
theorem dksJ38_checkPositionIndex_0 : cJ38_checkPositionIndex.data.toList.drop 0 = dktJ38_checkPositionIndex_0 := by decide +kernel
theorem dJ38_checkPositionIndex_0 : decode cJ38_checkPositionIndex 0 = .ok (.aload_n 0, 1) := dk_42 (dk_at dksJ38_checkPositionIndex_0 0 rfl rfl)
theorem dJ38_checkPositionIndex_1 : decode cJ38_checkPositionIndex 1 = .ok (.iload_n 1, 1) := dk_27 (dk_at dksJ38_checkPositionIndex_0 1 rfl rfl)
theorem dJ38_checkPositionIndex_2 : decode cJ38_checkPositionIndex 2 = .ok (.invokevirtual 128, 3) := dk_182 0 128 (dk_at dksJ38_checkPositionIndex_0 2 rfl rfl)
theorem dJ38_checkPositionIndex_5 : decode cJ38_checkPositionIndex 5 = .ok (.ifCond .ne 16, 3) := dk_154 0 16 (dk_at dksJ38_checkPositionIndex_0 5 rfl rfl)
theorem dJ38_checkPositionIndex_8 : decode cJ38_checkPositionIndex 8 = .ok (.new 119, 3) := dk_187 0 119 (dk_at dksJ38_checkPositionIndex_0 8 rfl rfl)
theorem dJ38_checkPositionIndex_11 : decode cJ38_checkPositionIndex 11 = .ok (.dup, 1) := dk_89 (dk_at dksJ38_checkPositionIndex_0 11 rfl rfl)
theorem dJ38_checkPositionIndex_12 : decode cJ38_checkPositionIndex 12 = .ok (.aload_n 0, 1) := dk_42 (dk_at dksJ38_checkPositionIndex_0 12 rfl rfl)
theorem dJ38_checkPositionIndex_13 : decode cJ38_checkPositionIndex 13 = .ok (.iload_n 1, 1) := dk_27 (dk_at dksJ38_checkPositionIndex_0 13 rfl rfl)
theorem dJ38_checkPositionIndex_14 : decode cJ38_checkPositionIndex 14 = .ok (.invokevirtual 121, 3) := dk_182 0 121 (dk_at dksJ38_checkPositionIndex_0 14 rfl rfl)
theorem dJ38_checkPositionIndex_17 : decode cJ38_checkPositionIndex 17 = .ok (.invokespecial 125, 3) := dk_183 0 125 (dk_at dksJ38_checkPositionIndex_0 17 rfl rfl)
theorem dJ38_checkPositionIndex_20 : decode cJ38_checkPositionIndex 20 = .ok (.athrow, 1) := dk_191 (dk_at dksJ38_checkPositionIndex_0 20 rfl rfl)
theorem dJ38_checkPositionIndex_21 : decode cJ38_checkPositionIndex 21 = .ok (.return_, 1) := dk_177 (dk_at dksJ38_checkPositionIndex_0 21 rfl rfl)
abbrev cJ38_isPositionIndex : ByteArray := prog_65_method_27_code
def yJ38_isPositionIndex : MethodName := ⟨RJ38, "isPositionIndex", "(I)Z"⟩
def dkwJ38_isPositionIndex_0 : List UInt8 := [27, 155, 0, 15, 27, 42, 180, 0, 7, 163, 0, 7, 4, 167, 0, 4, 3, 172]
abbrev dktJ38_isPositionIndex_0 : List UInt8 := dkwJ38_isPositionIndex_0 ++ []
theorem dksJ38_isPositionIndex_0 : cJ38_isPositionIndex.data.toList.drop 0 = dktJ38_isPositionIndex_0 := by decide +kernel
theorem dJ38_isPositionIndex_0 : decode cJ38_isPositionIndex 0 = .ok (.iload_n 1, 1) := dk_27 (dk_at dksJ38_isPositionIndex_0 0 rfl rfl)
theorem dJ38_isPositionIndex_1 : decode cJ38_isPositionIndex 1 = .ok (.ifCond .lt 15, 3) := dk_155 0 15 (dk_at dksJ38_isPositionIndex_0 1 rfl rfl)
theorem dJ38_isPositionIndex_4 : decode cJ38_isPositionIndex 4 = .ok (.iload_n 1, 1) := dk_27 (dk_at dksJ38_isPositionIndex_0 4 rfl rfl)
theorem dJ38_isPositionIndex_5 : decode cJ38_isPositionIndex 5 = .ok (.aload_n 0, 1) := dk_42 (dk_at dksJ38_isPositionIndex_0 5 rfl rfl)
theorem dJ38_isPositionIndex_6 : decode cJ38_isPositionIndex 6 = .ok (.getfield 7, 3) := dk_180 0 7 (dk_at dksJ38_isPositionIndex_0 6 rfl rfl)
theorem dJ38_isPositionIndex_9 : decode cJ38_isPositionIndex 9 = .ok (.if_icmp .gt 7, 3) := dk_163 0 7 (dk_at dksJ38_isPositionIndex_0 9 rfl rfl)
theorem dJ38_isPositionIndex_12 : decode cJ38_isPositionIndex 12 = .ok (.iconst 1, 1) := dk_4 (dk_at dksJ38_isPositionIndex_0 12 rfl rfl)
theorem dJ38_isPositionIndex_13 : decode cJ38_isPositionIndex 13 = .ok (.goto 4, 3) := dk_167 0 4 (dk_at dksJ38_isPositionIndex_0 13 rfl rfl)
theorem dJ38_isPositionIndex_16 : decode cJ38_isPositionIndex 16 = .ok (.iconst 0, 1) := dk_3 (dk_at dksJ38_isPositionIndex_0 16 rfl rfl)
theorem dJ38_isPositionIndex_17 : decode cJ38_isPositionIndex 17 = .ok (.ireturn, 1) := dk_172 (dk_at dksJ38_isPositionIndex_0 17 rfl rfl)
abbrev cJ38_contains : ByteArray := prog_65_method_15_code
def yJ38_contains : MethodName := ⟨RJ38, "contains", "(Ljava/lang/Object;)Z"⟩
def dkwJ38_contains_0 : List UInt8 := [42, 43, 182, 0, 60, 155, 0, 7, 4, 167, 0, 4, 3, 172]
abbrev dktJ38_contains_0 : List UInt8 := dkwJ38_contains_0 ++ []
theorem dksJ38_contains_0 : cJ38_contains.data.toList.drop 0 = dktJ38_contains_0 := by decide +kernel
theorem dJ38_contains_0 : decode cJ38_contains 0 = .ok (.aload_n 0, 1) := dk_42 (dk_at dksJ38_contains_0 0 rfl rfl)
theorem dJ38_contains_1 : decode cJ38_contains 1 = .ok (.aload_n 1, 1) := dk_43 (dk_at dksJ38_contains_0 1 rfl rfl)
theorem dJ38_contains_2 : decode cJ38_contains 2 = .ok (.invokevirtual 60, 3) := dk_182 0 60 (dk_at dksJ38_contains_0 2 rfl rfl)
theorem dJ38_contains_5 : decode cJ38_contains 5 = .ok (.ifCond .lt 7, 3) := dk_155 0 7 (dk_at dksJ38_contains_0 5 rfl rfl)
theorem dJ38_contains_8 : decode cJ38_contains 8 = .ok (.iconst 1, 1) := dk_4 (dk_at dksJ38_contains_0 8 rfl rfl)
theorem dJ38_contains_9 : decode cJ38_contains 9 = .ok (.goto 4, 3) := dk_167 0 4 (dk_at dksJ38_contains_0 9 rfl rfl)
theorem dJ38_contains_12 : decode cJ38_contains 12 = .ok (.iconst 0, 1) := dk_3 (dk_at dksJ38_contains_0 12 rfl rfl)
theorem dJ38_contains_13 : decode cJ38_contains 13 = .ok (.ireturn, 1) := dk_172 (dk_at dksJ38_contains_0 13 rfl rfl)
abbrev cJ38_indexOf : ByteArray := prog_65_method_32_code
def yJ38_indexOf : MethodName := ⟨RJ38, "indexOf", "(Ljava/lang/Object;)I"⟩
def dkwJ38_indexOf_3 : List UInt8 := [172]
abbrev dktJ38_indexOf_3 : List UInt8 := dkwJ38_indexOf_3 ++ []
def dkwJ38_indexOf_2 : List UInt8 := [45, 180, 0, 39, 182, 0, 67, 153, 0, 5, 28, 172, 132, 2, 1, 45, 180, 0, 36, 78, 167, 255, 231, 2]
abbrev dktJ38_indexOf_2 : List UInt8 := dkwJ38_indexOf_2 ++ dktJ38_indexOf_3
def dkwJ38_indexOf_1 : List UInt8 := [132, 2, 1, 45, 180, 0, 36, 78, 167, 255, 235, 167, 0, 36, 42, 180, 0, 18, 78, 45, 198, 0, 27, 43]
abbrev dktJ38_indexOf_1 : List UInt8 := dkwJ38_indexOf_1 ++ dktJ38_indexOf_2
def dkwJ38_indexOf_0 : List UInt8 := [3, 61, 43, 199, 0, 35, 42, 180, 0, 18, 78, 45, 198, 0, 23, 45, 180, 0, 39, 199, 0, 5, 28, 172]
abbrev dktJ38_indexOf_0 : List UInt8 := dkwJ38_indexOf_0 ++ dktJ38_indexOf_1
theorem dksJ38_indexOf_0 : cJ38_indexOf.data.toList.drop 0 = dktJ38_indexOf_0 := by decide +kernel
theorem dksJ38_indexOf_1 : cJ38_indexOf.data.toList.drop 24 = dktJ38_indexOf_1 := dk_seg dksJ38_indexOf_0 24 rfl rfl
theorem dksJ38_indexOf_2 : cJ38_indexOf.data.toList.drop 48 = dktJ38_indexOf_2 := dk_seg dksJ38_indexOf_1 24 rfl rfl
theorem dksJ38_indexOf_3 : cJ38_indexOf.data.toList.drop 72 = dktJ38_indexOf_3 := dk_seg dksJ38_indexOf_2 24 rfl rfl
theorem dJ38_indexOf_0 : decode cJ38_indexOf 0 = .ok (.iconst 0, 1) := dk_3 (dk_at dksJ38_indexOf_0 0 rfl rfl)
theorem dJ38_indexOf_1 : decode cJ38_indexOf 1 = .ok (.istore_n 2, 1) := dk_61 (dk_at dksJ38_indexOf_0 1 rfl rfl)
theorem dJ38_indexOf_2 : decode cJ38_indexOf 2 = .ok (.aload_n 1, 1) := dk_43 (dk_at dksJ38_indexOf_0 2 rfl rfl)
theorem dJ38_indexOf_3 : decode cJ38_indexOf 3 = .ok (.ifnonnull 35, 3) := dk_199 0 35 (dk_at dksJ38_indexOf_0 3 rfl rfl)
theorem dJ38_indexOf_6 : decode cJ38_indexOf 6 = .ok (.aload_n 0, 1) := dk_42 (dk_at dksJ38_indexOf_0 6 rfl rfl)
theorem dJ38_indexOf_7 : decode cJ38_indexOf 7 = .ok (.getfield 18, 3) := dk_180 0 18 (dk_at dksJ38_indexOf_0 7 rfl rfl)
theorem dJ38_indexOf_10 : decode cJ38_indexOf 10 = .ok (.astore_n 3, 1) := dk_78 (dk_at dksJ38_indexOf_0 10 rfl rfl)
theorem dJ38_indexOf_11 : decode cJ38_indexOf 11 = .ok (.aload_n 3, 1) := dk_45 (dk_at dksJ38_indexOf_0 11 rfl rfl)
theorem dJ38_indexOf_12 : decode cJ38_indexOf 12 = .ok (.ifnull 23, 3) := dk_198 0 23 (dk_at dksJ38_indexOf_0 12 rfl rfl)
theorem dJ38_indexOf_15 : decode cJ38_indexOf 15 = .ok (.aload_n 3, 1) := dk_45 (dk_at dksJ38_indexOf_0 15 rfl rfl)
theorem dJ38_indexOf_16 : decode cJ38_indexOf 16 = .ok (.getfield 39, 3) := dk_180 0 39 (dk_at dksJ38_indexOf_0 16 rfl rfl)
theorem dJ38_indexOf_19 : decode cJ38_indexOf 19 = .ok (.ifnonnull 5, 3) := dk_199 0 5 (dk_at dksJ38_indexOf_0 19 rfl rfl)
theorem dJ38_indexOf_22 : decode cJ38_indexOf 22 = .ok (.iload_n 2, 1) := dk_28 (dk_at dksJ38_indexOf_0 22 rfl rfl)
theorem dJ38_indexOf_23 : decode cJ38_indexOf 23 = .ok (.ireturn, 1) := dk_172 (dk_at dksJ38_indexOf_0 23 rfl rfl)
theorem dJ38_indexOf_24 : decode cJ38_indexOf 24 = .ok (.iinc 2 1, 3) := dk_132 2 1 (dk_at dksJ38_indexOf_1 0 rfl rfl)
theorem dJ38_indexOf_27 : decode cJ38_indexOf 27 = .ok (.aload_n 3, 1) := dk_45 (dk_at dksJ38_indexOf_1 3 rfl rfl)
theorem dJ38_indexOf_28 : decode cJ38_indexOf 28 = .ok (.getfield 36, 3) := dk_180 0 36 (dk_at dksJ38_indexOf_1 4 rfl rfl)
theorem dJ38_indexOf_31 : decode cJ38_indexOf 31 = .ok (.astore_n 3, 1) := dk_78 (dk_at dksJ38_indexOf_1 7 rfl rfl)
theorem dJ38_indexOf_32 : decode cJ38_indexOf 32 = .ok (.goto (-21), 3) := dk_167 255 235 (dk_at dksJ38_indexOf_1 8 rfl rfl)
theorem dJ38_indexOf_35 : decode cJ38_indexOf 35 = .ok (.goto 36, 3) := dk_167 0 36 (dk_at dksJ38_indexOf_1 11 rfl rfl)
theorem dJ38_indexOf_38 : decode cJ38_indexOf 38 = .ok (.aload_n 0, 1) := dk_42 (dk_at dksJ38_indexOf_1 14 rfl rfl)
theorem dJ38_indexOf_39 : decode cJ38_indexOf 39 = .ok (.getfield 18, 3) := dk_180 0 18 (dk_at dksJ38_indexOf_1 15 rfl rfl)
theorem dJ38_indexOf_42 : decode cJ38_indexOf 42 = .ok (.astore_n 3, 1) := dk_78 (dk_at dksJ38_indexOf_1 18 rfl rfl)
theorem dJ38_indexOf_43 : decode cJ38_indexOf 43 = .ok (.aload_n 3, 1) := dk_45 (dk_at dksJ38_indexOf_1 19 rfl rfl)
theorem dJ38_indexOf_44 : decode cJ38_indexOf 44 = .ok (.ifnull 27, 3) := dk_198 0 27 (dk_at dksJ38_indexOf_1 20 rfl rfl)
theorem dJ38_indexOf_47 : decode cJ38_indexOf 47 = .ok (.aload_n 1, 1) := dk_43 (dk_at dksJ38_indexOf_1 23 rfl rfl)
theorem dJ38_indexOf_48 : decode cJ38_indexOf 48 = .ok (.aload_n 3, 1) := dk_45 (dk_at dksJ38_indexOf_2 0 rfl rfl)
theorem dJ38_indexOf_49 : decode cJ38_indexOf 49 = .ok (.getfield 39, 3) := dk_180 0 39 (dk_at dksJ38_indexOf_2 1 rfl rfl)
theorem dJ38_indexOf_52 : decode cJ38_indexOf 52 = .ok (.invokevirtual 67, 3) := dk_182 0 67 (dk_at dksJ38_indexOf_2 4 rfl rfl)
theorem dJ38_indexOf_55 : decode cJ38_indexOf 55 = .ok (.ifCond .eq 5, 3) := dk_153 0 5 (dk_at dksJ38_indexOf_2 7 rfl rfl)
theorem dJ38_indexOf_58 : decode cJ38_indexOf 58 = .ok (.iload_n 2, 1) := dk_28 (dk_at dksJ38_indexOf_2 10 rfl rfl)
theorem dJ38_indexOf_59 : decode cJ38_indexOf 59 = .ok (.ireturn, 1) := dk_172 (dk_at dksJ38_indexOf_2 11 rfl rfl)
theorem dJ38_indexOf_60 : decode cJ38_indexOf 60 = .ok (.iinc 2 1, 3) := dk_132 2 1 (dk_at dksJ38_indexOf_2 12 rfl rfl)
theorem dJ38_indexOf_63 : decode cJ38_indexOf 63 = .ok (.aload_n 3, 1) := dk_45 (dk_at dksJ38_indexOf_2 15 rfl rfl)
theorem dJ38_indexOf_64 : decode cJ38_indexOf 64 = .ok (.getfield 36, 3) := dk_180 0 36 (dk_at dksJ38_indexOf_2 16 rfl rfl)
theorem dJ38_indexOf_67 : decode cJ38_indexOf 67 = .ok (.astore_n 3, 1) := dk_78 (dk_at dksJ38_indexOf_2 19 rfl rfl)
theorem dJ38_indexOf_68 : decode cJ38_indexOf 68 = .ok (.goto (-25), 3) := dk_167 255 231 (dk_at dksJ38_indexOf_2 20 rfl rfl)
theorem dJ38_indexOf_71 : decode cJ38_indexOf 71 = .ok (.iconst (-1), 1) := dk_2 (dk_at dksJ38_indexOf_2 23 rfl rfl)
theorem dJ38_indexOf_72 : decode cJ38_indexOf 72 = .ok (.ireturn, 1) := dk_172 (dk_at dksJ38_indexOf_3 0 rfl rfl)
theorem q149 : (Jvm.Cond.initialized "java/util/LinkedList") ∈ lw_all := lw_g (lw_at lw_m1 55 rfl) rfl
theorem q280 : (Jvm.Cond.sameField "java/util/LinkedList" "java/util/AbstractList" "modCount" "I") ∈ lw_all := lw_g (lw_at lw_m1 186 rfl) rfl
theorem q284 : (Jvm.Cond.fieldLink "java/util/LinkedList" (33 : Nat) "java/util/LinkedList" "modCount" "I") ∈ lw_all := lw_g (lw_at lw_m1 190 rfl) rfl
theorem q454 : (Jvm.Cond.castable "java/util/LinkedList" "java/util/List") ∈ lw_tbl := lw_at lw_m2 120 rfl
theorem q455 : (Jvm.Cond.selects "java/util/LinkedList" ({ cls := "java/util/List", name := "size", desc := "()I" } : Jvm.MethodName) ({ cls := "java/util/LinkedList", name := "size", desc := "()I" } : Jvm.MethodName)) ∈ lw_all := lw_g (lw_at lw_m2 121 rfl) rfl
theorem q456 : (Jvm.Cond.unhidden "java/util/LinkedList" "size" "()I") ∈ lw_tbl := lw_at lw_m2 122 rfl
theorem q457 : (Jvm.Cond.instanceMethod ({ cls := "java/util/LinkedList", name := "size", desc := "()I" } : Jvm.MethodName)) ∈ lw_all := lw_g (lw_at lw_m2 123 rfl) rfl
theorem q458 : (Jvm.Cond.publicMethod ({ cls := "java/util/LinkedList", name := "size", desc := "()I" } : Jvm.MethodName)) ∈ lw_tbl := lw_at lw_m2 124 rfl
theorem q459 : (Jvm.Cond.code ({ cls := "java/util/LinkedList", name := "size", desc := "()I" } : Jvm.MethodName) prog_65_method_16_code (1 : Nat) (Option.some Jvm.ClassFile.FieldType.int)) ∈ lw_all := lw_g (lw_at lw_m2 125 rfl) rfl
theorem q844 : (Jvm.Cond.selects "java/util/LinkedList" ({ cls := "java/util/List", name := "get", desc := "(I)Ljava/lang/Object;" } : Jvm.MethodName) ({ cls := "java/util/LinkedList", name := "get", desc := "(I)Ljava/lang/Object;" } : Jvm.MethodName)) ∈ lw_all := lw_g (lw_at lw_m4 30 rfl) rfl
theorem q845 : (Jvm.Cond.unhidden "java/util/LinkedList" "get" "(I)Ljava/lang/Object;") ∈ lw_tbl := lw_at lw_m4 31 rfl
theorem q846 : (Jvm.Cond.instanceMethod ({ cls := "java/util/LinkedList", name := "get", desc := "(I)Ljava/lang/Object;" } : Jvm.MethodName)) ∈ lw_all := lw_g (lw_at lw_m4 32 rfl) rfl
theorem q847 : (Jvm.Cond.publicMethod ({ cls := "java/util/LinkedList", name := "get", desc := "(I)Ljava/lang/Object;" } : Jvm.MethodName)) ∈ lw_tbl := lw_at lw_m4 33 rfl
theorem q848 : (Jvm.Cond.code ({ cls := "java/util/LinkedList", name := "get", desc := "(I)Ljava/lang/Object;" } : Jvm.MethodName) prog_65_method_22_code (2 : Nat) (Option.some (Jvm.ClassFile.FieldType.object "java/lang/Object"))) ∈ lw_all := lw_g (lw_at lw_m4 34 rfl) rfl
theorem q849 : (Jvm.Cond.methodLink "java/util/LinkedList" (90 : Nat) ({ cls := "java/util/LinkedList", name := "checkElementIndex", desc := "(I)V" } : Jvm.MethodName)) ∈ lw_all := lw_g (lw_at lw_m4 35 rfl) rfl
theorem q850 : (Jvm.Cond.privateMethod ({ cls := "java/util/LinkedList", name := "checkElementIndex", desc := "(I)V" } : Jvm.MethodName)) ∈ lw_tbl := lw_at lw_m4 36 rfl
theorem q851 : (Jvm.Cond.instanceMethod ({ cls := "java/util/LinkedList", name := "checkElementIndex", desc := "(I)V" } : Jvm.MethodName)) ∈ lw_all := lw_g (lw_at lw_m4 37 rfl) rfl
theorem q852 : (Jvm.Cond.instantiable "java/util/LinkedList" (4 : Nat)) ∈ lw_all := lw_g (lw_at lw_m4 38 rfl) rfl
theorem q853 : (Jvm.Cond.code ({ cls := "java/util/LinkedList", name := "checkElementIndex", desc := "(I)V" } : Jvm.MethodName) prog_65_method_29_code (2 : Nat) (Option.none : Option Jvm.ClassFile.FieldType)) ∈ lw_all := lw_g (lw_at lw_m4 39 rfl) rfl
theorem q854 : (Jvm.Cond.methodLink "java/util/LinkedList" (115 : Nat) ({ cls := "java/util/LinkedList", name := "isElementIndex", desc := "(I)Z" } : Jvm.MethodName)) ∈ lw_all := lw_g (lw_at lw_m4 40 rfl) rfl
theorem q855 : (Jvm.Cond.privateMethod ({ cls := "java/util/LinkedList", name := "isElementIndex", desc := "(I)Z" } : Jvm.MethodName)) ∈ lw_tbl := lw_at lw_m4 41 rfl
theorem q856 : (Jvm.Cond.instanceMethod ({ cls := "java/util/LinkedList", name := "isElementIndex", desc := "(I)Z" } : Jvm.MethodName)) ∈ lw_all := lw_g (lw_at lw_m4 42 rfl) rfl
theorem q857 : (Jvm.Cond.code ({ cls := "java/util/LinkedList", name := "isElementIndex", desc := "(I)Z" } : Jvm.MethodName) prog_65_method_26_code (2 : Nat) (Option.some Jvm.ClassFile.FieldType.boolean)) ∈ lw_all := lw_g (lw_at lw_m4 43 rfl) rfl
theorem q858 : (Jvm.Cond.classLink "java/util/LinkedList" (119 : Nat) "java/lang/IndexOutOfBoundsException") ∈ lw_all := lw_g (lw_at lw_m4 44 rfl) rfl
theorem q859 : (Jvm.Cond.methodLink "java/util/LinkedList" (121 : Nat) ({ cls := "java/util/LinkedList", name := "outOfBoundsMsg", desc := "(I)Ljava/lang/String;" } : Jvm.MethodName)) ∈ lw_all := lw_g (lw_at lw_m4 45 rfl) rfl
theorem q860 : (Jvm.Cond.privateMethod ({ cls := "java/util/LinkedList", name := "outOfBoundsMsg", desc := "(I)Ljava/lang/String;" } : Jvm.MethodName)) ∈ lw_tbl := lw_at lw_m4 46 rfl
theorem q861 : (Jvm.Cond.instanceMethod ({ cls := "java/util/LinkedList", name := "outOfBoundsMsg", desc := "(I)Ljava/lang/String;" } : Jvm.MethodName)) ∈ lw_all := lw_g (lw_at lw_m4 47 rfl) rfl
theorem q862 : (Jvm.Cond.code ({ cls := "java/util/LinkedList", name := "outOfBoundsMsg", desc := "(I)Ljava/lang/String;" } : Jvm.MethodName) prog_65_method_28_code (2 : Nat) (Option.some (Jvm.ClassFile.FieldType.object "java/lang/String"))) ∈ lw_all := lw_g (lw_at lw_m4 48 rfl) rfl
theorem q863 : (Jvm.Cond.classLink "java/util/LinkedList" (97 : Nat) "java/lang/StringBuilder") ∈ lw_all := lw_g (lw_at lw_m4 49 rfl) rfl
theorem q864 : (Jvm.Cond.methodLink "java/util/LinkedList" (99 : Nat) ({ cls := "java/lang/StringBuilder", name := "<init>", desc := "()V" } : Jvm.MethodName)) ∈ lw_all := lw_g (lw_at lw_m4 50 rfl) rfl
theorem q865 : (Jvm.Cond.stringRef "java/util/LinkedList" (100 : Nat) "Index: ") ∈ lw_tbl := lw_at lw_m4 51 rfl
theorem q866 : (Jvm.Cond.methodLink "java/util/LinkedList" (102 : Nat) ({ cls := "java/lang/StringBuilder", name := "append", desc := "(Ljava/lang/String;)Ljava/lang/StringBuilder;" } : Jvm.MethodName)) ∈ lw_all := lw_g (lw_at lw_m4 52 rfl) rfl
theorem q867 : (Jvm.Cond.methodLink "java/util/LinkedList" (106 : Nat) ({ cls := "java/lang/StringBuilder", name := "append", desc := "(I)Ljava/lang/StringBuilder;" } : Jvm.MethodName)) ∈ lw_all := lw_g (lw_at lw_m4 53 rfl) rfl
theorem q868 : (Jvm.Cond.stringRef "java/util/LinkedList" (109 : Nat) ", Size: ") ∈ lw_tbl := lw_at lw_m4 54 rfl
theorem q869 : (Jvm.Cond.methodLink "java/util/LinkedList" (111 : Nat) ({ cls := "java/lang/StringBuilder", name := "toString", desc := "()Ljava/lang/String;" } : Jvm.MethodName)) ∈ lw_all := lw_g (lw_at lw_m4 55 rfl) rfl
theorem q870 : (Jvm.Cond.methodLink "java/util/LinkedList" (125 : Nat) ({ cls := "java/lang/IndexOutOfBoundsException", name := "<init>", desc := "(Ljava/lang/String;)V" } : Jvm.MethodName)) ∈ lw_all := lw_g (lw_at lw_m4 56 rfl) rfl
theorem q871 : (Jvm.Cond.methodLink "java/util/LinkedList" (86 : Nat) ({ cls := "java/util/LinkedList", name := "node", desc := "(I)Ljava/util/LinkedList$Node;" } : Jvm.MethodName)) ∈ lw_all := lw_g (lw_at lw_m4 57 rfl) rfl
theorem q872 : (Jvm.Cond.instanceMethod ({ cls := "java/util/LinkedList", name := "node", desc := "(I)Ljava/util/LinkedList$Node;" } : Jvm.MethodName)) ∈ lw_all := lw_g (lw_at lw_m4 58 rfl) rfl
theorem q873 : (Jvm.Cond.selects "java/util/LinkedList" ({ cls := "java/util/LinkedList", name := "node", desc := "(I)Ljava/util/LinkedList$Node;" } : Jvm.MethodName) ({ cls := "java/util/LinkedList", name := "node", desc := "(I)Ljava/util/LinkedList$Node;" } : Jvm.MethodName)) ∈ lw_all := lw_g (lw_at lw_m4 59 rfl) rfl
theorem q874 : (Jvm.Cond.code ({ cls := "java/util/LinkedList", name := "node", desc := "(I)Ljava/util/LinkedList$Node;" } : Jvm.MethodName) prog_65_method_31_code (4 : Nat) (Option.some (Jvm.ClassFile.FieldType.object "java/util/LinkedList$Node"))) ∈ lw_all := lw_g (lw_at lw_m4 60 rfl) rfl
theorem q996 : (Jvm.Cond.instanceMethod ({ cls := "java/util/LinkedList", name := "<init>", desc := "()V" } : Jvm.MethodName)) ∈ lw_all := lw_g (lw_at lw_m4 182 rfl) rfl
theorem q997 : (Jvm.Cond.code ({ cls := "java/util/LinkedList", name := "<init>", desc := "()V" } : Jvm.MethodName) prog_65_method_1_code (1 : Nat) (Option.none : Option Jvm.ClassFile.FieldType)) ∈ lw_all := lw_g (lw_at lw_m4 183 rfl) rfl
theorem q998 : (Jvm.Cond.methodLink "java/util/LinkedList" (1 : Nat) ({ cls := "java/util/AbstractSequentialList", name := "<init>", desc := "()V" } : Jvm.MethodName)) ∈ lw_all := lw_g (lw_at lw_m4 184 rfl) rfl
theorem q1002 : (Jvm.Cond.fieldLink "java/util/LinkedList" (7 : Nat) "java/util/LinkedList" "size" "I") ∈ lw_all := lw_g (lw_at lw_m4 188 rfl) rfl
theorem q1004 : (Jvm.Cond.fieldLink "java/util/LinkedList" (18 : Nat) "java/util/LinkedList" "first" "Ljava/util/LinkedList$Node;") ∈ lw_all := lw_g (lw_at lw_m4 190 rfl) rfl
theorem q1005 : (Jvm.Cond.fieldLink "java/util/LinkedList" (27 : Nat) "java/util/LinkedList" "last" "Ljava/util/LinkedList$Node;") ∈ lw_all := lw_g (lw_at lw_m4 191 rfl) rfl
theorem q1006 : (Jvm.Cond.lays "java/util/LinkedList" "java/util/LinkedList" "size" "I") ∈ lw_all := lw_g (lw_at lw_m4 192 rfl) rfl
theorem q1007 : (Jvm.Cond.soleField "java/util/LinkedList" "size") ∈ lw_all := lw_g (lw_at lw_m4 193 rfl) rfl
theorem q1008 : (Jvm.Cond.lays "java/util/LinkedList" "java/util/LinkedList" "first" "Ljava/util/LinkedList$Node;") ∈ lw_all := lw_g (lw_at lw_m4 194 rfl) rfl
theorem q1009 : (Jvm.Cond.soleField "java/util/LinkedList" "first") ∈ lw_all := lw_g (lw_at lw_m4 195 rfl) rfl
theorem q1010 : (Jvm.Cond.lays "java/util/LinkedList" "java/util/LinkedList" "last" "Ljava/util/LinkedList$Node;") ∈ lw_all := lw_g (lw_at lw_m4 196 rfl) rfl
theorem q1011 : (Jvm.Cond.soleField "java/util/LinkedList" "last") ∈ lw_all := lw_g (lw_at lw_m4 197 rfl) rfl
theorem q1012 : (Jvm.Cond.lays "java/util/LinkedList" "java/util/AbstractList" "modCount" "I") ∈ lw_all := lw_g (lw_at lw_m4 198 rfl) rfl
theorem q1013 : (Jvm.Cond.superclass "java/util/LinkedList" "java/util/AbstractSequentialList") ∈ lw_all := lw_g (lw_at lw_m4 199 rfl) rfl
theorem q1099 : (Jvm.Cond.selects "java/util/LinkedList" ({ cls := "java/util/AbstractList", name := "size", desc := "()I" } : Jvm.MethodName) ({ cls := "java/util/LinkedList", name := "size", desc := "()I" } : Jvm.MethodName)) ∈ lw_all := lw_g (lw_at lw_m5 45 rfl) rfl
theorem q1454 : (Jvm.Cond.selects "java/util/LinkedList" ({ cls := "java/util/AbstractList", name := "get", desc := "(I)Ljava/lang/Object;" } : Jvm.MethodName) ({ cls := "java/util/LinkedList", name := "get", desc := "(I)Ljava/lang/Object;" } : Jvm.MethodName)) ∈ lw_all := lw_g (lw_at lw_m6 160 rfl) rfl
theorem q1511 : (Jvm.Cond.selects "java/util/LinkedList" ({ cls := "java/lang/Object", name := "getClass", desc := "()Ljava/lang/Class;" } : Jvm.MethodName) ({ cls := "java/lang/Object", name := "getClass", desc := "()Ljava/lang/Class;" } : Jvm.MethodName)) ∈ lw_all := lw_g (lw_at lw_m6 217 rfl) rfl
theorem q1582 : (Jvm.Cond.instanceMethod ({ cls := "java/util/LinkedList", name := "addLast", desc := "(Ljava/lang/Object;)V" } : Jvm.MethodName)) ∈ lw_all := lw_g (lw_at lw_m7 48 rfl) rfl
theorem q1583 : (Jvm.Cond.selects "java/util/LinkedList" ({ cls := "java/util/LinkedList", name := "addLast", desc := "(Ljava/lang/Object;)V" } : Jvm.MethodName) ({ cls := "java/util/LinkedList", name := "addLast", desc := "(Ljava/lang/Object;)V" } : Jvm.MethodName)) ∈ lw_all := lw_g (lw_at lw_m7 49 rfl) rfl
theorem q1584 : (Jvm.Cond.code ({ cls := "java/util/LinkedList", name := "addLast", desc := "(Ljava/lang/Object;)V" } : Jvm.MethodName) prog_65_method_14_code (2 : Nat) (Option.none : Option Jvm.ClassFile.FieldType)) ∈ lw_all := lw_g (lw_at lw_m7 50 rfl) rfl
theorem q1585 : (Jvm.Cond.methodLink "java/util/LinkedList" (57 : Nat) ({ cls := "java/util/LinkedList", name := "linkLast", desc := "(Ljava/lang/Object;)V" } : Jvm.MethodName)) ∈ lw_all := lw_g (lw_at lw_m7 51 rfl) rfl
theorem q1586 : (Jvm.Cond.instanceMethod ({ cls := "java/util/LinkedList", name := "linkLast", desc := "(Ljava/lang/Object;)V" } : Jvm.MethodName)) ∈ lw_all := lw_g (lw_at lw_m7 52 rfl) rfl
theorem q1587 : (Jvm.Cond.selects "java/util/LinkedList" ({ cls := "java/util/LinkedList", name := "linkLast", desc := "(Ljava/lang/Object;)V" } : Jvm.MethodName) ({ cls := "java/util/LinkedList", name := "linkLast", desc := "(Ljava/lang/Object;)V" } : Jvm.MethodName)) ∈ lw_all := lw_g (lw_at lw_m7 53 rfl) rfl
theorem q1588 : (Jvm.Cond.code ({ cls := "java/util/LinkedList", name := "linkLast", desc := "(Ljava/lang/Object;)V" } : Jvm.MethodName) prog_65_method_4_code (4 : Nat) (Option.none : Option Jvm.ClassFile.FieldType)) ∈ lw_all := lw_g (lw_at lw_m7 54 rfl) rfl
theorem q1589 : (Jvm.Cond.classLink "java/util/LinkedList" (22 : Nat) "java/util/LinkedList$Node") ∈ lw_all := lw_g (lw_at lw_m7 55 rfl) rfl
theorem q1591 : (Jvm.Cond.methodLink "java/util/LinkedList" (24 : Nat) ({ cls := "java/util/LinkedList$Node", name := "<init>", desc := "(Ljava/util/LinkedList$Node;Ljava/lang/Object;Ljava/util/LinkedList$Node;)V" } : Jvm.MethodName)) ∈ lw_all := lw_g (lw_at lw_m7 57 rfl) rfl
theorem q1597 : (Jvm.Cond.fieldLink "java/util/LinkedList" (39 : Nat) "java/util/LinkedList$Node" "item" "Ljava/lang/Object;") ∈ lw_all := lw_g (lw_at lw_m7 63 rfl) rfl
theorem q1600 : (Jvm.Cond.fieldLink "java/util/LinkedList" (36 : Nat) "java/util/LinkedList$Node" "next" "Ljava/util/LinkedList$Node;") ∈ lw_all := lw_g (lw_at lw_m7 66 rfl) rfl
theorem q1602 : (Jvm.Cond.fieldLink "java/util/LinkedList" (30 : Nat) "java/util/LinkedList$Node" "prev" "Ljava/util/LinkedList$Node;") ∈ lw_all := lw_g (lw_at lw_m7 68 rfl) rfl
theorem q1642 : (Jvm.Cond.selects "java/util/LinkedList" ({ cls := "java/util/List", name := "set", desc := "(ILjava/lang/Object;)Ljava/lang/Object;" } : Jvm.MethodName) ({ cls := "java/util/LinkedList", name := "set", desc := "(ILjava/lang/Object;)Ljava/lang/Object;" } : Jvm.MethodName)) ∈ lw_all := lw_g (lw_at lw_m7 108 rfl) rfl
theorem q1643 : (Jvm.Cond.unhidden "java/util/LinkedList" "set" "(ILjava/lang/Object;)Ljava/lang/Object;") ∈ lw_tbl := lw_at lw_m7 109 rfl
theorem q1644 : (Jvm.Cond.instanceMethod ({ cls := "java/util/LinkedList", name := "set", desc := "(ILjava/lang/Object;)Ljava/lang/Object;" } : Jvm.MethodName)) ∈ lw_all := lw_g (lw_at lw_m7 110 rfl) rfl
theorem q1645 : (Jvm.Cond.publicMethod ({ cls := "java/util/LinkedList", name := "set", desc := "(ILjava/lang/Object;)Ljava/lang/Object;" } : Jvm.MethodName)) ∈ lw_tbl := lw_at lw_m7 111 rfl
theorem q1646 : (Jvm.Cond.code ({ cls := "java/util/LinkedList", name := "set", desc := "(ILjava/lang/Object;)Ljava/lang/Object;" } : Jvm.MethodName) prog_65_method_23_code (5 : Nat) (Option.some (Jvm.ClassFile.FieldType.object "java/lang/Object"))) ∈ lw_all := lw_g (lw_at lw_m7 112 rfl) rfl
theorem q1687 : (Jvm.Cond.selects "java/util/LinkedList" ({ cls := "java/util/List", name := "add", desc := "(Ljava/lang/Object;)Z" } : Jvm.MethodName) ({ cls := "java/util/LinkedList", name := "add", desc := "(Ljava/lang/Object;)Z" } : Jvm.MethodName)) ∈ lw_all := lw_g (lw_at lw_m7 153 rfl) rfl
theorem q1688 : (Jvm.Cond.unhidden "java/util/LinkedList" "add" "(Ljava/lang/Object;)Z") ∈ lw_tbl := lw_at lw_m7 154 rfl
theorem q1689 : (Jvm.Cond.instanceMethod ({ cls := "java/util/LinkedList", name := "add", desc := "(Ljava/lang/Object;)Z" } : Jvm.MethodName)) ∈ lw_all := lw_g (lw_at lw_m7 155 rfl) rfl
theorem q1690 : (Jvm.Cond.publicMethod ({ cls := "java/util/LinkedList", name := "add", desc := "(Ljava/lang/Object;)Z" } : Jvm.MethodName)) ∈ lw_tbl := lw_at lw_m7 156 rfl
theorem q1691 : (Jvm.Cond.code ({ cls := "java/util/LinkedList", name := "add", desc := "(Ljava/lang/Object;)Z" } : Jvm.MethodName) prog_65_method_17_code (2 : Nat) (Option.some Jvm.ClassFile.FieldType.boolean)) ∈ lw_all := lw_g (lw_at lw_m7 157 rfl) rfl
theorem q1752 : (Jvm.Cond.selects "java/util/LinkedList" ({ cls := "java/util/List", name := "iterator", desc := "()Ljava/util/Iterator;" } : Jvm.MethodName) ({ cls := "java/util/AbstractSequentialList", name := "iterator", desc := "()Ljava/util/Iterator;" } : Jvm.MethodName)) ∈ lw_all := lw_g (lw_at lw_m7 218 rfl) rfl
theorem q1753 : (Jvm.Cond.unhidden "java/util/LinkedList" "iterator" "()Ljava/util/Iterator;") ∈ lw_tbl := lw_at lw_m7 219 rfl
theorem q1760 : (Jvm.Cond.selects "java/util/LinkedList" ({ cls := "java/util/AbstractSequentialList", name := "listIterator", desc := "()Ljava/util/ListIterator;" } : Jvm.MethodName) ({ cls := "java/util/AbstractList", name := "listIterator", desc := "()Ljava/util/ListIterator;" } : Jvm.MethodName)) ∈ lw_all := lw_g (lw_at lw_m7 226 rfl) rfl
theorem q1800 : (Jvm.Cond.selects "java/util/LinkedList" ({ cls := "java/util/AbstractList", name := "listIterator", desc := "(I)Ljava/util/ListIterator;" } : Jvm.MethodName) ({ cls := "java/util/LinkedList", name := "listIterator", desc := "(I)Ljava/util/ListIterator;" } : Jvm.MethodName)) ∈ lw_all := lw_g (lw_at lw_m8 26 rfl) rfl
theorem q1801 : (Jvm.Cond.instanceMethod ({ cls := "java/util/LinkedList", name := "listIterator", desc := "(I)Ljava/util/ListIterator;" } : Jvm.MethodName)) ∈ lw_all := lw_g (lw_at lw_m8 27 rfl) rfl
theorem q1802 : (Jvm.Cond.code ({ cls := "java/util/LinkedList", name := "listIterator", desc := "(I)Ljava/util/ListIterator;" } : Jvm.MethodName) prog_65_method_49_code (2 : Nat) (Option.some (Jvm.ClassFile.FieldType.object "java/util/ListIterator"))) ∈ lw_all := lw_g (lw_at lw_m8 28 rfl) rfl
theorem q1803 : (Jvm.Cond.methodLink "java/util/LinkedList" (76 : Nat) ({ cls := "java/util/LinkedList", name := "checkPositionIndex", desc := "(I)V" } : Jvm.MethodName)) ∈ lw_all := lw_g (lw_at lw_m8 29 rfl) rfl
theorem q1804 : (Jvm.Cond.privateMethod ({ cls := "java/util/LinkedList", name := "checkPositionIndex", desc := "(I)V" } : Jvm.MethodName)) ∈ lw_tbl := lw_at lw_m8 30 rfl
theorem q1805 : (Jvm.Cond.instanceMethod ({ cls := "java/util/LinkedList", name := "checkPositionIndex", desc := "(I)V" } : Jvm.MethodName)) ∈ lw_all := lw_g (lw_at lw_m8 31 rfl) rfl
theorem q1806 : (Jvm.Cond.code ({ cls := "java/util/LinkedList", name := "checkPositionIndex", desc := "(I)V" } : Jvm.MethodName) prog_65_method_30_code (2 : Nat) (Option.none : Option Jvm.ClassFile.FieldType)) ∈ lw_all := lw_g (lw_at lw_m8 32 rfl) rfl
theorem q1807 : (Jvm.Cond.methodLink "java/util/LinkedList" (128 : Nat) ({ cls := "java/util/LinkedList", name := "isPositionIndex", desc := "(I)Z" } : Jvm.MethodName)) ∈ lw_all := lw_g (lw_at lw_m8 33 rfl) rfl
theorem q1808 : (Jvm.Cond.privateMethod ({ cls := "java/util/LinkedList", name := "isPositionIndex", desc := "(I)Z" } : Jvm.MethodName)) ∈ lw_tbl := lw_at lw_m8 34 rfl
theorem q1809 : (Jvm.Cond.instanceMethod ({ cls := "java/util/LinkedList", name := "isPositionIndex", desc := "(I)Z" } : Jvm.MethodName)) ∈ lw_all := lw_g (lw_at lw_m8 35 rfl) rfl
theorem q1810 : (Jvm.Cond.code ({ cls := "java/util/LinkedList", name := "isPositionIndex", desc := "(I)Z" } : Jvm.MethodName) prog_65_method_27_code (2 : Nat) (Option.some Jvm.ClassFile.FieldType.boolean)) ∈ lw_all := lw_g (lw_at lw_m8 36 rfl) rfl
theorem q1811 : (Jvm.Cond.classLink "java/util/LinkedList" (150 : Nat) "java/util/LinkedList$ListItr") ∈ lw_all := lw_g (lw_at lw_m8 37 rfl) rfl
theorem q1813 : (Jvm.Cond.methodLink "java/util/LinkedList" (152 : Nat) ({ cls := "java/util/LinkedList$ListItr", name := "<init>", desc := "(Ljava/util/LinkedList;I)V" } : Jvm.MethodName)) ∈ lw_all := lw_g (lw_at lw_m8 39 rfl) rfl
theorem q2420 : (Jvm.Cond.selects "java/util/LinkedList" ({ cls := "java/util/List", name := "contains", desc := "(Ljava/lang/Object;)Z" } : Jvm.MethodName) ({ cls := "java/util/LinkedList", name := "contains", desc := "(Ljava/lang/Object;)Z" } : Jvm.MethodName)) ∈ lw_all := lw_g (lw_at lw_m10 166 rfl) rfl
theorem q2421 : (Jvm.Cond.unhidden "java/util/LinkedList" "contains" "(Ljava/lang/Object;)Z") ∈ lw_tbl := lw_at lw_m10 167 rfl
theorem q2422 : (Jvm.Cond.instanceMethod ({ cls := "java/util/LinkedList", name := "contains", desc := "(Ljava/lang/Object;)Z" } : Jvm.MethodName)) ∈ lw_all := lw_g (lw_at lw_m10 168 rfl) rfl
theorem q2423 : (Jvm.Cond.publicMethod ({ cls := "java/util/LinkedList", name := "contains", desc := "(Ljava/lang/Object;)Z" } : Jvm.MethodName)) ∈ lw_tbl := lw_at lw_m10 169 rfl
theorem q2424 : (Jvm.Cond.code ({ cls := "java/util/LinkedList", name := "contains", desc := "(Ljava/lang/Object;)Z" } : Jvm.MethodName) prog_65_method_15_code (2 : Nat) (Option.some Jvm.ClassFile.FieldType.boolean)) ∈ lw_all := lw_g (lw_at lw_m10 170 rfl) rfl
theorem q2425 : (Jvm.Cond.methodLink "java/util/LinkedList" (60 : Nat) ({ cls := "java/util/LinkedList", name := "indexOf", desc := "(Ljava/lang/Object;)I" } : Jvm.MethodName)) ∈ lw_all := lw_g (lw_at lw_m10 171 rfl) rfl
theorem q2426 : (Jvm.Cond.instanceMethod ({ cls := "java/util/LinkedList", name := "indexOf", desc := "(Ljava/lang/Object;)I" } : Jvm.MethodName)) ∈ lw_all := lw_g (lw_at lw_m10 172 rfl) rfl
theorem q2427 : (Jvm.Cond.selects "java/util/LinkedList" ({ cls := "java/util/LinkedList", name := "indexOf", desc := "(Ljava/lang/Object;)I" } : Jvm.MethodName) ({ cls := "java/util/LinkedList", name := "indexOf", desc := "(Ljava/lang/Object;)I" } : Jvm.MethodName)) ∈ lw_all := lw_g (lw_at lw_m10 173 rfl) rfl
theorem q2428 : (Jvm.Cond.code ({ cls := "java/util/LinkedList", name := "indexOf", desc := "(Ljava/lang/Object;)I" } : Jvm.MethodName) prog_65_method_32_code (4 : Nat) (Option.some Jvm.ClassFile.FieldType.int)) ∈ lw_all := lw_g (lw_at lw_m10 174 rfl) rfl
theorem q2429 : (Jvm.Cond.methodLink "java/util/LinkedList" (67 : Nat) ({ cls := "java/lang/Object", name := "equals", desc := "(Ljava/lang/Object;)Z" } : Jvm.MethodName)) ∈ lw_all := lw_g (lw_at lw_m10 175 rfl) rfl
theorem q2467 : (Jvm.Cond.selects "java/util/LinkedList" ({ cls := "java/util/List", name := "isEmpty", desc := "()Z" } : Jvm.MethodName) ({ cls := "java/util/AbstractCollection", name := "isEmpty", desc := "()Z" } : Jvm.MethodName)) ∈ lw_all := lw_g (lw_at lw_m10 213 rfl) rfl
theorem q2468 : (Jvm.Cond.unhidden "java/util/LinkedList" "isEmpty" "()Z") ∈ lw_tbl := lw_at lw_m10 214 rfl
theorem q3131 : (Jvm.Cond.selects "java/util/LinkedList" ({ cls := "java/util/LinkedList", name := "size", desc := "()I" } : Jvm.MethodName) ({ cls := "java/util/LinkedList", name := "size", desc := "()I" } : Jvm.MethodName)) ∈ lw_all := lw_g (lw_at lw_m13 157 rfl) rfl
theorem q3138 : (Jvm.Cond.selects "java/util/LinkedList" ({ cls := "java/util/AbstractCollection", name := "size", desc := "()I" } : Jvm.MethodName) ({ cls := "java/util/LinkedList", name := "size", desc := "()I" } : Jvm.MethodName)) ∈ lw_all := lw_g (lw_at lw_m13 164 rfl) rfl
theorem q3139 : (Jvm.Cond.selects "java/util/LinkedList" ({ cls := "java/util/LinkedList", name := "get", desc := "(I)Ljava/lang/Object;" } : Jvm.MethodName) ({ cls := "java/util/LinkedList", name := "get", desc := "(I)Ljava/lang/Object;" } : Jvm.MethodName)) ∈ lw_all := lw_g (lw_at lw_m13 165 rfl) rfl
theorem q3172 : (Jvm.Cond.castable "java/util/LinkedList" "java/lang/Object") ∈ lw_tbl := lw_at lw_m13 198 rfl
theorem in_J38 : ∀ w ∈ wsJ380, w ∈ lw_all := lw_in wsJ380 [1012, 1006, 1008, 1010] (by decide +kernel) (by decide +kernel)

/-! java/util/ArrayList$Itr -/
set_option maxRecDepth 100000
def RJ39 : String := "java/util/ArrayList$Itr"
def TJ39 : u_T := fun k => match k with
  | 0 => ("java/util/ArrayList$Itr", "cursor", "I", false)
  | 1 => ("java/util/ArrayList$Itr", "lastRet", "I", false)
  | 2 => ("java/util/ArrayList$Itr", "expectedModCount", "I", false)
  | _ => ("java/util/ArrayList$Itr", "this$0", "Ljava/util/ArrayList;", true)
def tyJ39 : Nat → FieldType := fun k => match k with
  | 0 => .int
  | 1 => .int
  | 2 => .int
  | _ => .object "java/util/ArrayList"
abbrev wsJ390 : List Cond := u_ws RJ39 TJ39 4
theorem nmJ39 : ∀ a, a < 4 → ∀ b, b < 4 → a ≠ b → (TJ39 a).2.1 ≠ (TJ39 b).2.1 := by decide +kernel
theorem tyJ39_ok : ∀ k, k < 4 → parseFieldDescriptor (TJ39 k).2.2.1 = some (tyJ39 k) := by decide +kernel
abbrev cJ39_hasNext : ByteArray := prog_51_method_2_code
def yJ39_hasNext : MethodName := ⟨RJ39, "hasNext", "()Z"⟩
def dkwJ39_hasNext_0 : List UInt8 := [42, 180, 0, 25, 42, 180, 0, 1, 180, 0, 28, 159, 0, 7, 4, 167, 0, 4, 3, 172]
abbrev dktJ39_hasNext_0 : List UInt8 := dkwJ39_hasNext_0 ++ []
theorem dksJ39_hasNext_0 : cJ39_hasNext.data.toList.drop 0 = dktJ39_hasNext_0 := by decide +kernel
theorem dJ39_hasNext_0 : decode cJ39_hasNext 0 = .ok (.aload_n 0, 1) := dk_42 (dk_at dksJ39_hasNext_0 0 rfl rfl)
theorem dJ39_hasNext_1 : decode cJ39_hasNext 1 = .ok (.getfield 25, 3) := dk_180 0 25 (dk_at dksJ39_hasNext_0 1 rfl rfl)
theorem dJ39_hasNext_4 : decode cJ39_hasNext 4 = .ok (.aload_n 0, 1) := dk_42 (dk_at dksJ39_hasNext_0 4 rfl rfl)
theorem dJ39_hasNext_5 : decode cJ39_hasNext 5 = .ok (.getfield 1, 3) := dk_180 0 1 (dk_at dksJ39_hasNext_0 5 rfl rfl)
theorem dJ39_hasNext_8 : decode cJ39_hasNext 8 = .ok (.getfield 28, 3) := dk_180 0 28 (dk_at dksJ39_hasNext_0 8 rfl rfl)
theorem dJ39_hasNext_11 : decode cJ39_hasNext 11 = .ok (.if_icmp .eq 7, 3) := dk_159 0 7 (dk_at dksJ39_hasNext_0 11 rfl rfl)
theorem dJ39_hasNext_14 : decode cJ39_hasNext 14 = .ok (.iconst 1, 1) := dk_4 (dk_at dksJ39_hasNext_0 14 rfl rfl)
theorem dJ39_hasNext_15 : decode cJ39_hasNext 15 = .ok (.goto 4, 3) := dk_167 0 4 (dk_at dksJ39_hasNext_0 15 rfl rfl)
theorem dJ39_hasNext_18 : decode cJ39_hasNext 18 = .ok (.iconst 0, 1) := dk_3 (dk_at dksJ39_hasNext_0 18 rfl rfl)
theorem dJ39_hasNext_19 : decode cJ39_hasNext 19 = .ok (.ireturn, 1) := dk_172 (dk_at dksJ39_hasNext_0 19 rfl rfl)
abbrev cJ39_next : ByteArray := prog_51_method_3_code
def yJ39_next : MethodName := ⟨RJ39, "next", "()Ljava/lang/Object;"⟩
def dkwJ39_next_2 : List UInt8 := [183, 0, 43, 191, 42, 27, 4, 96, 181, 0, 25, 44, 42, 27, 90, 181, 0, 13, 50, 176]
abbrev dktJ39_next_2 : List UInt8 := dkwJ39_next_2 ++ []
def dkwJ39_next_1 : List UInt8 := [183, 0, 36, 191, 42, 180, 0, 1, 180, 0, 37, 77, 27, 44, 190, 161, 0, 11, 187, 0, 41, 89]
abbrev dktJ39_next_1 : List UInt8 := dkwJ39_next_1 ++ dktJ39_next_2
def dkwJ39_next_0 : List UInt8 := [42, 182, 0, 31, 42, 180, 0, 25, 60, 27, 42, 180, 0, 1, 180, 0, 28, 161, 0, 11, 187, 0, 34, 89]
abbrev dktJ39_next_0 : List UInt8 := dkwJ39_next_0 ++ dktJ39_next_1
theorem dksJ39_next_0 : cJ39_next.data.toList.drop 0 = dktJ39_next_0 := by decide +kernel
theorem dksJ39_next_1 : cJ39_next.data.toList.drop 24 = dktJ39_next_1 := dk_seg dksJ39_next_0 24 rfl rfl
theorem dksJ39_next_2 : cJ39_next.data.toList.drop 46 = dktJ39_next_2 := dk_seg dksJ39_next_1 22 rfl rfl
theorem dJ39_next_0 : decode cJ39_next 0 = .ok (.aload_n 0, 1) := dk_42 (dk_at dksJ39_next_0 0 rfl rfl)
theorem dJ39_next_1 : decode cJ39_next 1 = .ok (.invokevirtual 31, 3) := dk_182 0 31 (dk_at dksJ39_next_0 1 rfl rfl)
theorem dJ39_next_4 : decode cJ39_next 4 = .ok (.aload_n 0, 1) := dk_42 (dk_at dksJ39_next_0 4 rfl rfl)
theorem dJ39_next_5 : decode cJ39_next 5 = .ok (.getfield 25, 3) := dk_180 0 25 (dk_at dksJ39_next_0 5 rfl rfl)
theorem dJ39_next_8 : decode cJ39_next 8 = .ok (.istore_n 1, 1) := dk_60 (dk_at dksJ39_next_0 8 rfl rfl)
theorem dJ39_next_9 : decode cJ39_next 9 = .ok (.iload_n 1, 1) := dk_27 (dk_at dksJ39_next_0 9 rfl rfl)
theorem dJ39_next_10 : decode cJ39_next 10 = .ok (.aload_n 0, 1) := dk_42 (dk_at dksJ39_next_0 10 rfl rfl)
theorem dJ39_next_11 : decode cJ39_next 11 = .ok (.getfield 1, 3) := dk_180 0 1 (dk_at dksJ39_next_0 11 rfl rfl)
theorem dJ39_next_14 : decode cJ39_next 14 = .ok (.getfield 28, 3) := dk_180 0 28 (dk_at dksJ39_next_0 14 rfl rfl)
theorem dJ39_next_17 : decode cJ39_next 17 = .ok (.if_icmp .lt 11, 3) := dk_161 0 11 (dk_at dksJ39_next_0 17 rfl rfl)
theorem dJ39_next_20 : decode cJ39_next 20 = .ok (.new 34, 3) := dk_187 0 34 (dk_at dksJ39_next_0 20 rfl rfl)
theorem dJ39_next_23 : decode cJ39_next 23 = .ok (.dup, 1) := dk_89 (dk_at dksJ39_next_0 23 rfl rfl)
theorem dJ39_next_24 : decode cJ39_next 24 = .ok (.invokespecial 36, 3) := dk_183 0 36 (dk_at dksJ39_next_1 0 rfl rfl)
theorem dJ39_next_27 : decode cJ39_next 27 = .ok (.athrow, 1) := dk_191 (dk_at dksJ39_next_1 3 rfl rfl)
theorem dJ39_next_28 : decode cJ39_next 28 = .ok (.aload_n 0, 1) := dk_42 (dk_at dksJ39_next_1 4 rfl rfl)
theorem dJ39_next_29 : decode cJ39_next 29 = .ok (.getfield 1, 3) := dk_180 0 1 (dk_at dksJ39_next_1 5 rfl rfl)
theorem dJ39_next_32 : decode cJ39_next 32 = .ok (.getfield 37, 3) := dk_180 0 37 (dk_at dksJ39_next_1 8 rfl rfl)
theorem dJ39_next_35 : decode cJ39_next 35 = .ok (.astore_n 2, 1) := dk_77 (dk_at dksJ39_next_1 11 rfl rfl)
theorem dJ39_next_36 : decode cJ39_next 36 = .ok (.iload_n 1, 1) := dk_27 (dk_at dksJ39_next_1 12 rfl rfl)
theorem dJ39_next_37 : decode cJ39_next 37 = .ok (.aload_n 2, 1) := dk_44 (dk_at dksJ39_next_1 13 rfl rfl)
theorem dJ39_next_38 : decode cJ39_next 38 = .ok (.arraylength, 1) := dk_190 (dk_at dksJ39_next_1 14 rfl rfl)
theorem dJ39_next_39 : decode cJ39_next 39 = .ok (.if_icmp .lt 11, 3) := dk_161 0 11 (dk_at dksJ39_next_1 15 rfl rfl)
theorem dJ39_next_42 : decode cJ39_next 42 = .ok (.new 41, 3) := dk_187 0 41 (dk_at dksJ39_next_1 18 rfl rfl)
theorem dJ39_next_45 : decode cJ39_next 45 = .ok (.dup, 1) := dk_89 (dk_at dksJ39_next_1 21 rfl rfl)
theorem dJ39_next_46 : decode cJ39_next 46 = .ok (.invokespecial 43, 3) := dk_183 0 43 (dk_at dksJ39_next_2 0 rfl rfl)
theorem dJ39_next_49 : decode cJ39_next 49 = .ok (.athrow, 1) := dk_191 (dk_at dksJ39_next_2 3 rfl rfl)
theorem dJ39_next_50 : decode cJ39_next 50 = .ok (.aload_n 0, 1) := dk_42 (dk_at dksJ39_next_2 4 rfl rfl)
theorem dJ39_next_51 : decode cJ39_next 51 = .ok (.iload_n 1, 1) := dk_27 (dk_at dksJ39_next_2 5 rfl rfl)
theorem dJ39_next_52 : decode cJ39_next 52 = .ok (.iconst 1, 1) := dk_4 (dk_at dksJ39_next_2 6 rfl rfl)
theorem dJ39_next_53 : decode cJ39_next 53 = .ok (.iadd, 1) := dk_96 (dk_at dksJ39_next_2 7 rfl rfl)
theorem dJ39_next_54 : decode cJ39_next 54 = .ok (.putfield 25, 3) := dk_181 0 25 (dk_at dksJ39_next_2 8 rfl rfl)
theorem dJ39_next_57 : decode cJ39_next 57 = .ok (.aload_n 2, 1) := dk_44 (dk_at dksJ39_next_2 11 rfl rfl)
theorem dJ39_next_58 : decode cJ39_next 58 = .ok (.aload_n 0, 1) := dk_42 (dk_at dksJ39_next_2 12 rfl rfl)
theorem dJ39_next_59 : decode cJ39_next 59 = .ok (.iload_n 1, 1) := dk_27 (dk_at dksJ39_next_2 13 rfl rfl)
theorem dJ39_next_60 : decode cJ39_next 60 = .ok (.dup_x1, 1) := dk_90 (dk_at dksJ39_next_2 14 rfl rfl)
theorem dJ39_next_61 : decode cJ39_next 61 = .ok (.putfield 13, 3) := dk_181 0 13 (dk_at dksJ39_next_2 15 rfl rfl)
theorem dJ39_next_64 : decode cJ39_next 64 = .ok (.aaload, 1) := dk_50 (dk_at dksJ39_next_2 18 rfl rfl)
theorem dJ39_next_65 : decode cJ39_next 65 = .ok (.areturn, 1) := dk_176 (dk_at dksJ39_next_2 19 rfl rfl)
abbrev cJ39_checkForComodification : ByteArray := prog_51_method_6_code
def yJ39_checkForComodification : MethodName := ⟨RJ39, "checkForComodification", "()V"⟩
def dkwJ39_checkForComodification_0 : List UInt8 := [42, 180, 0, 1, 180, 0, 17, 42, 180, 0, 22, 159, 0, 11, 187, 0, 41, 89, 183, 0, 43, 191, 177]
abbrev dktJ39_checkForComodification_0 : List UInt8 := dkwJ39_checkForComodification_0 ++ []
theorem dksJ39_checkForComodification_0 : cJ39_checkForComodification.data.toList.drop 0 = dktJ39_checkForComodification_0 := by decide +kernel
theorem dJ39_checkForComodification_0 : decode cJ39_checkForComodification 0 = .ok (.aload_n 0, 1) := dk_42 (dk_at dksJ39_checkForComodification_0 0 rfl rfl)
theorem dJ39_checkForComodification_1 : decode cJ39_checkForComodification 1 = .ok (.getfield 1, 3) := dk_180 0 1 (dk_at dksJ39_checkForComodification_0 1 rfl rfl)
theorem dJ39_checkForComodification_4 : decode cJ39_checkForComodification 4 = .ok (.getfield 17, 3) := dk_180 0 17 (dk_at dksJ39_checkForComodification_0 4 rfl rfl)
theorem dJ39_checkForComodification_7 : decode cJ39_checkForComodification 7 = .ok (.aload_n 0, 1) := dk_42 (dk_at dksJ39_checkForComodification_0 7 rfl rfl)
theorem dJ39_checkForComodification_8 : decode cJ39_checkForComodification 8 = .ok (.getfield 22, 3) := dk_180 0 22 (dk_at dksJ39_checkForComodification_0 8 rfl rfl)
theorem dJ39_checkForComodification_11 : decode cJ39_checkForComodification 11 = .ok (.if_icmp .eq 11, 3) := dk_159 0 11 (dk_at dksJ39_checkForComodification_0 11 rfl rfl)
theorem dJ39_checkForComodification_14 : decode cJ39_checkForComodification 14 = .ok (.new 41, 3) := dk_187 0 41 (dk_at dksJ39_checkForComodification_0 14 rfl rfl)
theorem dJ39_checkForComodification_17 : decode cJ39_checkForComodification 17 = .ok (.dup, 1) := dk_89 (dk_at dksJ39_checkForComodification_0 17 rfl rfl)
theorem dJ39_checkForComodification_18 : decode cJ39_checkForComodification 18 = .ok (.invokespecial 43, 3) := dk_183 0 43 (dk_at dksJ39_checkForComodification_0 18 rfl rfl)
theorem dJ39_checkForComodification_21 : decode cJ39_checkForComodification 21 = .ok (.athrow, 1) := dk_191 (dk_at dksJ39_checkForComodification_0 21 rfl rfl)
theorem dJ39_checkForComodification_22 : decode cJ39_checkForComodification 22 = .ok (.return_, 1) := dk_177 (dk_at dksJ39_checkForComodification_0 22 rfl rfl)
abbrev cJ39_init : ByteArray := prog_51_method_1_code
def yJ39_init : MethodName := ⟨RJ39, "<init>", "(Ljava/util/ArrayList;)V"⟩
def dkwJ39_init_1 : List UInt8 := [181, 0, 22, 177]
abbrev dktJ39_init_1 : List UInt8 := dkwJ39_init_1 ++ []
def dkwJ39_init_0 : List UInt8 := [42, 43, 181, 0, 1, 42, 183, 0, 7, 42, 2, 181, 0, 13, 42, 42, 180, 0, 1, 180, 0, 17]
abbrev dktJ39_init_0 : List UInt8 := dkwJ39_init_0 ++ dktJ39_init_1
theorem dksJ39_init_0 : cJ39_init.data.toList.drop 0 = dktJ39_init_0 := by decide +kernel
theorem dksJ39_init_1 : cJ39_init.data.toList.drop 22 = dktJ39_init_1 := dk_seg dksJ39_init_0 22 rfl rfl
theorem dJ39_init_0 : decode cJ39_init 0 = .ok (.aload_n 0, 1) := dk_42 (dk_at dksJ39_init_0 0 rfl rfl)
theorem dJ39_init_1 : decode cJ39_init 1 = .ok (.aload_n 1, 1) := dk_43 (dk_at dksJ39_init_0 1 rfl rfl)
theorem dJ39_init_2 : decode cJ39_init 2 = .ok (.putfield 1, 3) := dk_181 0 1 (dk_at dksJ39_init_0 2 rfl rfl)
theorem dJ39_init_5 : decode cJ39_init 5 = .ok (.aload_n 0, 1) := dk_42 (dk_at dksJ39_init_0 5 rfl rfl)
theorem dJ39_init_6 : decode cJ39_init 6 = .ok (.invokespecial 7, 3) := dk_183 0 7 (dk_at dksJ39_init_0 6 rfl rfl)
theorem dJ39_init_9 : decode cJ39_init 9 = .ok (.aload_n 0, 1) := dk_42 (dk_at dksJ39_init_0 9 rfl rfl)
theorem dJ39_init_10 : decode cJ39_init 10 = .ok (.iconst (-1), 1) := dk_2 (dk_at dksJ39_init_0 10 rfl rfl)
theorem dJ39_init_11 : decode cJ39_init 11 = .ok (.putfield 13, 3) := dk_181 0 13 (dk_at dksJ39_init_0 11 rfl rfl)
theorem dJ39_init_14 : decode cJ39_init 14 = .ok (.aload_n 0, 1) := dk_42 (dk_at dksJ39_init_0 14 rfl rfl)
theorem dJ39_init_15 : decode cJ39_init 15 = .ok (.aload_n 0, 1) := dk_42 (dk_at dksJ39_init_0 15 rfl rfl)
theorem dJ39_init_16 : decode cJ39_init 16 = .ok (.getfield 1, 3) := dk_180 0 1 (dk_at dksJ39_init_0 16 rfl rfl)
theorem dJ39_init_19 : decode cJ39_init 19 = .ok (.getfield 17, 3) := dk_180 0 17 (dk_at dksJ39_init_0 19 rfl rfl)
theorem dJ39_init_22 : decode cJ39_init 22 = .ok (.putfield 22, 3) := dk_181 0 22 (dk_at dksJ39_init_1 0 rfl rfl)
theorem dJ39_init_25 : decode cJ39_init 25 = .ok (.return_, 1) := dk_177 (dk_at dksJ39_init_1 3 rfl rfl)
theorem q151 : (Jvm.Cond.initialized "java/util/ArrayList$Itr") ∈ lw_all := lw_g (lw_at lw_m1 57 rfl) rfl
theorem q275 : (Jvm.Cond.fieldLink "java/util/ArrayList$Itr" (37 : Nat) "java/util/ArrayList" "elementData" "[Ljava/lang/Object;") ∈ lw_all := lw_g (lw_at lw_m1 181 rfl) rfl
theorem q276 : (Jvm.Cond.fieldLinkNest "java/util/ArrayList$Itr" (28 : Nat) "java/util/ArrayList" "size" "I" "java/util/ArrayList") ∈ lw_tbl := lw_at lw_m1 182 rfl
theorem q281 : (Jvm.Cond.fieldLink "java/util/ArrayList$Itr" (17 : Nat) "java/util/ArrayList" "modCount" "I") ∈ lw_all := lw_g (lw_at lw_m1 187 rfl) rfl
theorem q1100 : (Jvm.Cond.castable "java/util/ArrayList$Itr" "java/util/Iterator") ∈ lw_tbl := lw_at lw_m5 46 rfl
theorem q1101 : (Jvm.Cond.selects "java/util/ArrayList$Itr" ({ cls := "java/util/Iterator", name := "hasNext", desc := "()Z" } : Jvm.MethodName) ({ cls := "java/util/ArrayList$Itr", name := "hasNext", desc := "()Z" } : Jvm.MethodName)) ∈ lw_all := lw_g (lw_at lw_m5 47 rfl) rfl
theorem q1102 : (Jvm.Cond.unhidden "java/util/ArrayList$Itr" "hasNext" "()Z") ∈ lw_tbl := lw_at lw_m5 48 rfl
theorem q1103 : (Jvm.Cond.instanceMethod ({ cls := "java/util/ArrayList$Itr", name := "hasNext", desc := "()Z" } : Jvm.MethodName)) ∈ lw_all := lw_g (lw_at lw_m5 49 rfl) rfl
theorem q1104 : (Jvm.Cond.publicMethod ({ cls := "java/util/ArrayList$Itr", name := "hasNext", desc := "()Z" } : Jvm.MethodName)) ∈ lw_tbl := lw_at lw_m5 50 rfl
theorem q1105 : (Jvm.Cond.code ({ cls := "java/util/ArrayList$Itr", name := "hasNext", desc := "()Z" } : Jvm.MethodName) prog_51_method_2_code (1 : Nat) (Option.some Jvm.ClassFile.FieldType.boolean)) ∈ lw_all := lw_g (lw_at lw_m5 51 rfl) rfl
theorem q1505 : (Jvm.Cond.selects "java/util/ArrayList$Itr" ({ cls := "java/lang/Object", name := "getClass", desc := "()Ljava/lang/Class;" } : Jvm.MethodName) ({ cls := "java/lang/Object", name := "getClass", desc := "()Ljava/lang/Class;" } : Jvm.MethodName)) ∈ lw_all := lw_g (lw_at lw_m6 211 rfl) rfl
theorem q1544 : (Jvm.Cond.selects "java/util/ArrayList$Itr" ({ cls := "java/util/Iterator", name := "next", desc := "()Ljava/lang/Object;" } : Jvm.MethodName) ({ cls := "java/util/ArrayList$Itr", name := "next", desc := "()Ljava/lang/Object;" } : Jvm.MethodName)) ∈ lw_all := lw_g (lw_at lw_m7 10 rfl) rfl
theorem q1545 : (Jvm.Cond.unhidden "java/util/ArrayList$Itr" "next" "()Ljava/lang/Object;") ∈ lw_tbl := lw_at lw_m7 11 rfl
theorem q1546 : (Jvm.Cond.instanceMethod ({ cls := "java/util/ArrayList$Itr", name := "next", desc := "()Ljava/lang/Object;" } : Jvm.MethodName)) ∈ lw_all := lw_g (lw_at lw_m7 12 rfl) rfl
theorem q1547 : (Jvm.Cond.publicMethod ({ cls := "java/util/ArrayList$Itr", name := "next", desc := "()Ljava/lang/Object;" } : Jvm.MethodName)) ∈ lw_tbl := lw_at lw_m7 13 rfl
theorem q1548 : (Jvm.Cond.code ({ cls := "java/util/ArrayList$Itr", name := "next", desc := "()Ljava/lang/Object;" } : Jvm.MethodName) prog_51_method_3_code (3 : Nat) (Option.some (Jvm.ClassFile.FieldType.object "java/lang/Object"))) ∈ lw_all := lw_g (lw_at lw_m7 14 rfl) rfl
theorem q1549 : (Jvm.Cond.methodLink "java/util/ArrayList$Itr" (31 : Nat) ({ cls := "java/util/ArrayList$Itr", name := "checkForComodification", desc := "()V" } : Jvm.MethodName)) ∈ lw_all := lw_g (lw_at lw_m7 15 rfl) rfl
theorem q1550 : (Jvm.Cond.instanceMethod ({ cls := "java/util/ArrayList$Itr", name := "checkForComodification", desc := "()V" } : Jvm.MethodName)) ∈ lw_all := lw_g (lw_at lw_m7 16 rfl) rfl
theorem q1551 : (Jvm.Cond.selects "java/util/ArrayList$Itr" ({ cls := "java/util/ArrayList$Itr", name := "checkForComodification", desc := "()V" } : Jvm.MethodName) ({ cls := "java/util/ArrayList$Itr", name := "checkForComodification", desc := "()V" } : Jvm.MethodName)) ∈ lw_all := lw_g (lw_at lw_m7 17 rfl) rfl
theorem q1552 : (Jvm.Cond.sameMethod "java/util/ArrayList$Itr" "java/util/ArrayList$Itr" "checkForComodification" "()V") ∈ lw_all := lw_g (lw_at lw_m7 18 rfl) rfl
theorem q1554 : (Jvm.Cond.code ({ cls := "java/util/ArrayList$Itr", name := "checkForComodification", desc := "()V" } : Jvm.MethodName) prog_51_method_6_code (1 : Nat) (Option.none : Option Jvm.ClassFile.FieldType)) ∈ lw_all := lw_g (lw_at lw_m7 20 rfl) rfl
theorem q1555 : (Jvm.Cond.classLink "java/util/ArrayList$Itr" (34 : Nat) "java/util/NoSuchElementException") ∈ lw_all := lw_g (lw_at lw_m7 21 rfl) rfl
theorem q1556 : (Jvm.Cond.methodLink "java/util/ArrayList$Itr" (36 : Nat) ({ cls := "java/util/NoSuchElementException", name := "<init>", desc := "()V" } : Jvm.MethodName)) ∈ lw_all := lw_g (lw_at lw_m7 22 rfl) rfl
theorem q1706 : (Jvm.Cond.instantiable "java/util/ArrayList$Itr" (4 : Nat)) ∈ lw_all := lw_g (lw_at lw_m7 172 rfl) rfl
theorem q1708 : (Jvm.Cond.instanceMethod ({ cls := "java/util/ArrayList$Itr", name := "<init>", desc := "(Ljava/util/ArrayList;)V" } : Jvm.MethodName)) ∈ lw_all := lw_g (lw_at lw_m7 174 rfl) rfl
theorem q1709 : (Jvm.Cond.code ({ cls := "java/util/ArrayList$Itr", name := "<init>", desc := "(Ljava/util/ArrayList;)V" } : Jvm.MethodName) prog_51_method_1_code (2 : Nat) (Option.none : Option Jvm.ClassFile.FieldType)) ∈ lw_all := lw_g (lw_at lw_m7 175 rfl) rfl
theorem q1710 : (Jvm.Cond.methodLink "java/util/ArrayList$Itr" (7 : Nat) ({ cls := "java/lang/Object", name := "<init>", desc := "()V" } : Jvm.MethodName)) ∈ lw_all := lw_g (lw_at lw_m7 176 rfl) rfl
theorem q1713 : (Jvm.Cond.fieldLink "java/util/ArrayList$Itr" (25 : Nat) "java/util/ArrayList$Itr" "cursor" "I") ∈ lw_all := lw_g (lw_at lw_m7 179 rfl) rfl
theorem q1714 : (Jvm.Cond.fieldLink "java/util/ArrayList$Itr" (13 : Nat) "java/util/ArrayList$Itr" "lastRet" "I") ∈ lw_all := lw_g (lw_at lw_m7 180 rfl) rfl
theorem q1715 : (Jvm.Cond.fieldLink "java/util/ArrayList$Itr" (22 : Nat) "java/util/ArrayList$Itr" "expectedModCount" "I") ∈ lw_all := lw_g (lw_at lw_m7 181 rfl) rfl
theorem q1716 : (Jvm.Cond.fieldLink "java/util/ArrayList$Itr" (1 : Nat) "java/util/ArrayList$Itr" "this$0" "Ljava/util/ArrayList;") ∈ lw_all := lw_g (lw_at lw_m7 182 rfl) rfl
theorem q1717 : (Jvm.Cond.lays "java/util/ArrayList$Itr" "java/util/ArrayList$Itr" "cursor" "I") ∈ lw_all := lw_g (lw_at lw_m7 183 rfl) rfl
theorem q1718 : (Jvm.Cond.soleField "java/util/ArrayList$Itr" "cursor") ∈ lw_all := lw_g (lw_at lw_m7 184 rfl) rfl
theorem q1719 : (Jvm.Cond.lays "java/util/ArrayList$Itr" "java/util/ArrayList$Itr" "lastRet" "I") ∈ lw_all := lw_g (lw_at lw_m7 185 rfl) rfl
theorem q1720 : (Jvm.Cond.soleField "java/util/ArrayList$Itr" "lastRet") ∈ lw_all := lw_g (lw_at lw_m7 186 rfl) rfl
theorem q1721 : (Jvm.Cond.lays "java/util/ArrayList$Itr" "java/util/ArrayList$Itr" "expectedModCount" "I") ∈ lw_all := lw_g (lw_at lw_m7 187 rfl) rfl
theorem q1722 : (Jvm.Cond.soleField "java/util/ArrayList$Itr" "expectedModCount") ∈ lw_all := lw_g (lw_at lw_m7 188 rfl) rfl
theorem q1723 : (Jvm.Cond.laysFinal "java/util/ArrayList$Itr" "java/util/ArrayList$Itr" "this$0" "Ljava/util/ArrayList;") ∈ lw_all := lw_g (lw_at lw_m7 189 rfl) rfl
theorem q1724 : (Jvm.Cond.soleField "java/util/ArrayList$Itr" "this$0") ∈ lw_all := lw_g (lw_at lw_m7 190 rfl) rfl
theorem q1725 : (Jvm.Cond.superclass "java/util/ArrayList$Itr" "java/lang/Object") ∈ lw_all := lw_g (lw_at lw_m7 191 rfl) rfl
theorem q3175 : (Jvm.Cond.castable "java/util/ArrayList$Itr" "java/lang/Object") ∈ lw_tbl := lw_at lw_m13 201 rfl
theorem in_J39 : ∀ w ∈ wsJ390, w ∈ lw_all := lw_in wsJ390 [1717, 1719, 1721, 1723] (by decide +kernel) (by decide +kernel)

/-! java/util/AbstractList -/
set_option maxRecDepth 100000
def RJ4 : String := "java/util/AbstractList"
abbrev cJ4_init : ByteArray := prog_44_method_1_code
def yJ4_init : MethodName := ⟨RJ4, "<init>", "()V"⟩
def dkwJ4_init_0 : List UInt8 := [42, 183, 0, 1, 42, 3, 181, 0, 7, 177]
abbrev dktJ4_init_0 : List UInt8 := dkwJ4_init_0 ++ []
theorem dksJ4_init_0 : cJ4_init.data.toList.drop 0 = dktJ4_init_0 := by decide +kernel
theorem dJ4_init_0 : decode cJ4_init 0 = .ok (.aload_n 0, 1) := dk_42 (dk_at dksJ4_init_0 0 rfl rfl)
theorem dJ4_init_1 : decode cJ4_init 1 = .ok (.invokespecial 1, 3) := dk_183 0 1 (dk_at dksJ4_init_0 1 rfl rfl)
theorem dJ4_init_4 : decode cJ4_init 4 = .ok (.aload_n 0, 1) := dk_42 (dk_at dksJ4_init_0 4 rfl rfl)
theorem dJ4_init_5 : decode cJ4_init 5 = .ok (.iconst 0, 1) := dk_3 (dk_at dksJ4_init_0 5 rfl rfl)
theorem dJ4_init_6 : decode cJ4_init 6 = .ok (.putfield 7, 3) := dk_181 0 7 (dk_at dksJ4_init_0 6 rfl rfl)
theorem dJ4_init_9 : decode cJ4_init 9 = .ok (.return_, 1) := dk_177 (dk_at dksJ4_init_0 9 rfl rfl)
abbrev cJ4_listIterator : ByteArray := prog_44_method_12_code
def yJ4_listIterator : MethodName := ⟨RJ4, "listIterator", "()Ljava/util/ListIterator;"⟩
def dkwJ4_listIterator_0 : List UInt8 := [42, 3, 182, 0, 47, 176]
abbrev dktJ4_listIterator_0 : List UInt8 := dkwJ4_listIterator_0 ++ []
theorem dksJ4_listIterator_0 : cJ4_listIterator.data.toList.drop 0 = dktJ4_listIterator_0 := by decide +kernel
theorem dJ4_listIterator_0 : decode cJ4_listIterator 0 = .ok (.aload_n 0, 1) := dk_42 (dk_at dksJ4_listIterator_0 0 rfl rfl)
theorem dJ4_listIterator_1 : decode cJ4_listIterator 1 = .ok (.iconst 0, 1) := dk_3 (dk_at dksJ4_listIterator_0 1 rfl rfl)
theorem dJ4_listIterator_2 : decode cJ4_listIterator 2 = .ok (.invokevirtual 47, 3) := dk_182 0 47 (dk_at dksJ4_listIterator_0 2 rfl rfl)
theorem dJ4_listIterator_5 : decode cJ4_listIterator 5 = .ok (.areturn, 1) := dk_176 (dk_at dksJ4_listIterator_0 5 rfl rfl)
theorem q103 : (Jvm.Cond.initialized "java/util/AbstractList") ∈ lw_all := lw_g (lw_at lw_m1 9 rfl) rfl
theorem q269 : (Jvm.Cond.instanceMethod ({ cls := "java/util/AbstractList", name := "<init>", desc := "()V" } : Jvm.MethodName)) ∈ lw_all := lw_g (lw_at lw_m1 175 rfl) rfl
theorem q270 : (Jvm.Cond.code ({ cls := "java/util/AbstractList", name := "<init>", desc := "()V" } : Jvm.MethodName) prog_44_method_1_code (1 : Nat) (Option.none : Option Jvm.ClassFile.FieldType)) ∈ lw_all := lw_g (lw_at lw_m1 176 rfl) rfl
theorem q271 : (Jvm.Cond.methodLink "java/util/AbstractList" (1 : Nat) ({ cls := "java/util/AbstractCollection", name := "<init>", desc := "()V" } : Jvm.MethodName)) ∈ lw_all := lw_g (lw_at lw_m1 177 rfl) rfl
theorem q278 : (Jvm.Cond.fieldLink "java/util/AbstractList" (7 : Nat) "java/util/AbstractList" "modCount" "I") ∈ lw_all := lw_g (lw_at lw_m1 184 rfl) rfl
theorem q291 : (Jvm.Cond.soleField "java/util/AbstractList" "modCount") ∈ lw_all := lw_g (lw_at lw_m1 197 rfl) rfl
theorem q1097 : (Jvm.Cond.sameMethod "java/util/AbstractList" "java/util/AbstractCollection" "size" "()I") ∈ lw_all := lw_g (lw_at lw_m5 43 rfl) rfl
theorem q1451 : (Jvm.Cond.declares ({ cls := "java/util/AbstractList", name := "get", desc := "(I)Ljava/lang/Object;" } : Jvm.MethodName)) ∈ lw_tbl := lw_at lw_m6 157 rfl
theorem q1452 : (Jvm.Cond.sameMethod "java/util/AbstractList" "java/util/AbstractList" "get" "(I)Ljava/lang/Object;") ∈ lw_all := lw_g (lw_at lw_m6 158 rfl) rfl
theorem q1759 : (Jvm.Cond.declares ({ cls := "java/util/AbstractList", name := "listIterator", desc := "()Ljava/util/ListIterator;" } : Jvm.MethodName)) ∈ lw_tbl := lw_at lw_m7 225 rfl
theorem q1761 : (Jvm.Cond.instanceMethod ({ cls := "java/util/AbstractList", name := "listIterator", desc := "()Ljava/util/ListIterator;" } : Jvm.MethodName)) ∈ lw_all := lw_g (lw_at lw_m7 227 rfl) rfl
theorem q1762 : (Jvm.Cond.code ({ cls := "java/util/AbstractList", name := "listIterator", desc := "()Ljava/util/ListIterator;" } : Jvm.MethodName) prog_44_method_12_code (1 : Nat) (Option.some (Jvm.ClassFile.FieldType.object "java/util/ListIterator"))) ∈ lw_all := lw_g (lw_at lw_m7 228 rfl) rfl
theorem q1763 : (Jvm.Cond.methodLink "java/util/AbstractList" (47 : Nat) ({ cls := "java/util/AbstractList", name := "listIterator", desc := "(I)Ljava/util/ListIterator;" } : Jvm.MethodName)) ∈ lw_all := lw_g (lw_at lw_m7 229 rfl) rfl
theorem q1764 : (Jvm.Cond.instanceMethod ({ cls := "java/util/AbstractList", name := "listIterator", desc := "(I)Ljava/util/ListIterator;" } : Jvm.MethodName)) ∈ lw_all := lw_g (lw_at lw_m7 230 rfl) rfl
theorem q1765 : (Jvm.Cond.sameMethod "java/util/AbstractList" "java/util/AbstractList" "listIterator" "(I)Ljava/util/ListIterator;") ∈ lw_all := lw_g (lw_at lw_m7 231 rfl) rfl
theorem q1834 : (Jvm.Cond.declares ({ cls := "java/util/AbstractList", name := "listIterator", desc := "(I)Ljava/util/ListIterator;" } : Jvm.MethodName)) ∈ lw_tbl := lw_at lw_m8 60 rfl

/-! java/util/ImmutableCollections$ListItr -/
set_option maxRecDepth 100000
def RJ40 : String := "java/util/ImmutableCollections$ListItr"
def TJ40 : u_T := fun k => match k with
  | 0 => ("java/util/ImmutableCollections$ListItr", "list", "Ljava/util/List;", true)
  | 1 => ("java/util/ImmutableCollections$ListItr", "size", "I", true)
  | 2 => ("java/util/ImmutableCollections$ListItr", "isListIterator", "Z", true)
  | _ => ("java/util/ImmutableCollections$ListItr", "cursor", "I", false)
def tyJ40 : Nat → FieldType := fun k => match k with
  | 0 => .object "java/util/List"
  | 1 => .int
  | 2 => .boolean
  | _ => .int
abbrev wsJ400 : List Cond := u_ws RJ40 TJ40 4
theorem nmJ40 : ∀ a, a < 4 → ∀ b, b < 4 → a ≠ b → (TJ40 a).2.1 ≠ (TJ40 b).2.1 := by decide +kernel
theorem tyJ40_ok : ∀ k, k < 4 → parseFieldDescriptor (TJ40 k).2.2.1 = some (tyJ40 k) := by decide +kernel
abbrev cJ40_hasNext : ByteArray := prog_62_method_3_code
def yJ40_hasNext : MethodName := ⟨RJ40, "hasNext", "()Z"⟩
def dkwJ40_hasNext_0 : List UInt8 := [42, 180, 0, 17, 42, 180, 0, 13, 159, 0, 7, 4, 167, 0, 4, 3, 172]
abbrev dktJ40_hasNext_0 : List UInt8 := dkwJ40_hasNext_0 ++ []
theorem dksJ40_hasNext_0 : cJ40_hasNext.data.toList.drop 0 = dktJ40_hasNext_0 := by decide +kernel
theorem dJ40_hasNext_0 : decode cJ40_hasNext 0 = .ok (.aload_n 0, 1) := dk_42 (dk_at dksJ40_hasNext_0 0 rfl rfl)
theorem dJ40_hasNext_1 : decode cJ40_hasNext 1 = .ok (.getfield 17, 3) := dk_180 0 17 (dk_at dksJ40_hasNext_0 1 rfl rfl)
theorem dJ40_hasNext_4 : decode cJ40_hasNext 4 = .ok (.aload_n 0, 1) := dk_42 (dk_at dksJ40_hasNext_0 4 rfl rfl)
theorem dJ40_hasNext_5 : decode cJ40_hasNext 5 = .ok (.getfield 13, 3) := dk_180 0 13 (dk_at dksJ40_hasNext_0 5 rfl rfl)
theorem dJ40_hasNext_8 : decode cJ40_hasNext 8 = .ok (.if_icmp .eq 7, 3) := dk_159 0 7 (dk_at dksJ40_hasNext_0 8 rfl rfl)
theorem dJ40_hasNext_11 : decode cJ40_hasNext 11 = .ok (.iconst 1, 1) := dk_4 (dk_at dksJ40_hasNext_0 11 rfl rfl)
theorem dJ40_hasNext_12 : decode cJ40_hasNext 12 = .ok (.goto 4, 3) := dk_167 0 4 (dk_at dksJ40_hasNext_0 12 rfl rfl)
theorem dJ40_hasNext_15 : decode cJ40_hasNext 15 = .ok (.iconst 0, 1) := dk_3 (dk_at dksJ40_hasNext_0 15 rfl rfl)
theorem dJ40_hasNext_16 : decode cJ40_hasNext 16 = .ok (.ireturn, 1) := dk_172 (dk_at dksJ40_hasNext_0 16 rfl rfl)
abbrev cJ40_next : ByteArray := prog_62_method_4_code
def yJ40_next : MethodName := ⟨RJ40, "next", "()Ljava/lang/Object;"⟩
def dkwJ40_next_1 : List UInt8 := [176, 76, 187, 0, 32, 89, 183, 0, 34, 191]
abbrev dktJ40_next_1 : List UInt8 := dkwJ40_next_1 ++ []
def dkwJ40_next_0 : List UInt8 := [42, 180, 0, 17, 60, 42, 180, 0, 7, 27, 185, 0, 24, 2, 0, 77, 42, 27, 4, 96, 181, 0, 17, 44]
abbrev dktJ40_next_0 : List UInt8 := dkwJ40_next_0 ++ dktJ40_next_1
theorem dksJ40_next_0 : cJ40_next.data.toList.drop 0 = dktJ40_next_0 := by decide +kernel
theorem dksJ40_next_1 : cJ40_next.data.toList.drop 24 = dktJ40_next_1 := dk_seg dksJ40_next_0 24 rfl rfl
theorem dJ40_next_0 : decode cJ40_next 0 = .ok (.aload_n 0, 1) := dk_42 (dk_at dksJ40_next_0 0 rfl rfl)
theorem dJ40_next_1 : decode cJ40_next 1 = .ok (.getfield 17, 3) := dk_180 0 17 (dk_at dksJ40_next_0 1 rfl rfl)
theorem dJ40_next_4 : decode cJ40_next 4 = .ok (.istore_n 1, 1) := dk_60 (dk_at dksJ40_next_0 4 rfl rfl)
theorem dJ40_next_5 : decode cJ40_next 5 = .ok (.aload_n 0, 1) := dk_42 (dk_at dksJ40_next_0 5 rfl rfl)
theorem dJ40_next_6 : decode cJ40_next 6 = .ok (.getfield 7, 3) := dk_180 0 7 (dk_at dksJ40_next_0 6 rfl rfl)
theorem dJ40_next_9 : decode cJ40_next 9 = .ok (.iload_n 1, 1) := dk_27 (dk_at dksJ40_next_0 9 rfl rfl)
theorem dJ40_next_10 : decode cJ40_next 10 = .ok (.invokeinterface 24 2, 5) := by decide +kernel
theorem dJ40_next_15 : decode cJ40_next 15 = .ok (.astore_n 2, 1) := dk_77 (dk_at dksJ40_next_0 15 rfl rfl)
theorem dJ40_next_16 : decode cJ40_next 16 = .ok (.aload_n 0, 1) := dk_42 (dk_at dksJ40_next_0 16 rfl rfl)
theorem dJ40_next_17 : decode cJ40_next 17 = .ok (.iload_n 1, 1) := dk_27 (dk_at dksJ40_next_0 17 rfl rfl)
theorem dJ40_next_18 : decode cJ40_next 18 = .ok (.iconst 1, 1) := dk_4 (dk_at dksJ40_next_0 18 rfl rfl)
theorem dJ40_next_19 : decode cJ40_next 19 = .ok (.iadd, 1) := dk_96 (dk_at dksJ40_next_0 19 rfl rfl)
theorem dJ40_next_20 : decode cJ40_next 20 = .ok (.putfield 17, 3) := dk_181 0 17 (dk_at dksJ40_next_0 20 rfl rfl)
theorem dJ40_next_23 : decode cJ40_next 23 = .ok (.aload_n 2, 1) := dk_44 (dk_at dksJ40_next_0 23 rfl rfl)
theorem dJ40_next_24 : decode cJ40_next 24 = .ok (.areturn, 1) := dk_176 (dk_at dksJ40_next_1 0 rfl rfl)
theorem dJ40_next_25 : decode cJ40_next 25 = .ok (.astore_n 1, 1) := dk_76 (dk_at dksJ40_next_1 1 rfl rfl)
theorem dJ40_next_26 : decode cJ40_next 26 = .ok (.new 32, 3) := dk_187 0 32 (dk_at dksJ40_next_1 2 rfl rfl)
theorem dJ40_next_29 : decode cJ40_next 29 = .ok (.dup, 1) := dk_89 (dk_at dksJ40_next_1 5 rfl rfl)
theorem dJ40_next_30 : decode cJ40_next 30 = .ok (.invokespecial 34, 3) := dk_183 0 34 (dk_at dksJ40_next_1 6 rfl rfl)
theorem dJ40_next_33 : decode cJ40_next 33 = .ok (.athrow, 1) := dk_191 (dk_at dksJ40_next_1 9 rfl rfl)
abbrev cJ40_init : ByteArray := prog_62_method_1_code
def yJ40_init : MethodName := ⟨RJ40, "<init>", "(Ljava/util/List;I)V"⟩
def dkwJ40_init_1 : List UInt8 := [177]
abbrev dktJ40_init_1 : List UInt8 := dkwJ40_init_1 ++ []
def dkwJ40_init_0 : List UInt8 := [42, 183, 0, 1, 42, 43, 181, 0, 7, 42, 28, 181, 0, 13, 42, 3, 181, 0, 17, 42, 3, 181, 0, 20]
abbrev dktJ40_init_0 : List UInt8 := dkwJ40_init_0 ++ dktJ40_init_1
theorem dksJ40_init_0 : cJ40_init.data.toList.drop 0 = dktJ40_init_0 := by decide +kernel
theorem dksJ40_init_1 : cJ40_init.data.toList.drop 24 = dktJ40_init_1 := dk_seg dksJ40_init_0 24 rfl rfl
theorem dJ40_init_0 : decode cJ40_init 0 = .ok (.aload_n 0, 1) := dk_42 (dk_at dksJ40_init_0 0 rfl rfl)
theorem dJ40_init_1 : decode cJ40_init 1 = .ok (.invokespecial 1, 3) := dk_183 0 1 (dk_at dksJ40_init_0 1 rfl rfl)
theorem dJ40_init_4 : decode cJ40_init 4 = .ok (.aload_n 0, 1) := dk_42 (dk_at dksJ40_init_0 4 rfl rfl)
theorem dJ40_init_5 : decode cJ40_init 5 = .ok (.aload_n 1, 1) := dk_43 (dk_at dksJ40_init_0 5 rfl rfl)
theorem dJ40_init_6 : decode cJ40_init 6 = .ok (.putfield 7, 3) := dk_181 0 7 (dk_at dksJ40_init_0 6 rfl rfl)
theorem dJ40_init_9 : decode cJ40_init 9 = .ok (.aload_n 0, 1) := dk_42 (dk_at dksJ40_init_0 9 rfl rfl)
theorem dJ40_init_10 : decode cJ40_init 10 = .ok (.iload_n 2, 1) := dk_28 (dk_at dksJ40_init_0 10 rfl rfl)
theorem dJ40_init_11 : decode cJ40_init 11 = .ok (.putfield 13, 3) := dk_181 0 13 (dk_at dksJ40_init_0 11 rfl rfl)
theorem dJ40_init_14 : decode cJ40_init 14 = .ok (.aload_n 0, 1) := dk_42 (dk_at dksJ40_init_0 14 rfl rfl)
theorem dJ40_init_15 : decode cJ40_init 15 = .ok (.iconst 0, 1) := dk_3 (dk_at dksJ40_init_0 15 rfl rfl)
theorem dJ40_init_16 : decode cJ40_init 16 = .ok (.putfield 17, 3) := dk_181 0 17 (dk_at dksJ40_init_0 16 rfl rfl)
theorem dJ40_init_19 : decode cJ40_init 19 = .ok (.aload_n 0, 1) := dk_42 (dk_at dksJ40_init_0 19 rfl rfl)
theorem dJ40_init_20 : decode cJ40_init 20 = .ok (.iconst 0, 1) := dk_3 (dk_at dksJ40_init_0 20 rfl rfl)
theorem dJ40_init_21 : decode cJ40_init 21 = .ok (.putfield 20, 3) := dk_181 0 20 (dk_at dksJ40_init_0 21 rfl rfl)
theorem dJ40_init_24 : decode cJ40_init 24 = .ok (.return_, 1) := dk_177 (dk_at dksJ40_init_1 0 rfl rfl)
theorem q152 : (Jvm.Cond.initialized "java/util/ImmutableCollections$ListItr") ∈ lw_all := lw_g (lw_at lw_m1 58 rfl) rfl
theorem q1109 : (Jvm.Cond.castable "java/util/ImmutableCollections$ListItr" "java/util/Iterator") ∈ lw_tbl := lw_at lw_m5 55 rfl
theorem q1110 : (Jvm.Cond.selects "java/util/ImmutableCollections$ListItr" ({ cls := "java/util/Iterator", name := "hasNext", desc := "()Z" } : Jvm.MethodName) ({ cls := "java/util/ImmutableCollections$ListItr", name := "hasNext", desc := "()Z" } : Jvm.MethodName)) ∈ lw_all := lw_g (lw_at lw_m5 56 rfl) rfl
theorem q1111 : (Jvm.Cond.unhidden "java/util/ImmutableCollections$ListItr" "hasNext" "()Z") ∈ lw_tbl := lw_at lw_m5 57 rfl
theorem q1112 : (Jvm.Cond.instanceMethod ({ cls := "java/util/ImmutableCollections$ListItr", name := "hasNext", desc := "()Z" } : Jvm.MethodName)) ∈ lw_all := lw_g (lw_at lw_m5 58 rfl) rfl
theorem q1113 : (Jvm.Cond.publicMethod ({ cls := "java/util/ImmutableCollections$ListItr", name := "hasNext", desc := "()Z" } : Jvm.MethodName)) ∈ lw_tbl := lw_at lw_m5 59 rfl
theorem q1114 : (Jvm.Cond.code ({ cls := "java/util/ImmutableCollections$ListItr", name := "hasNext", desc := "()Z" } : Jvm.MethodName) prog_62_method_3_code (1 : Nat) (Option.some Jvm.ClassFile.FieldType.boolean)) ∈ lw_all := lw_g (lw_at lw_m5 60 rfl) rfl
theorem q1509 : (Jvm.Cond.selects "java/util/ImmutableCollections$ListItr" ({ cls := "java/lang/Object", name := "getClass", desc := "()Ljava/lang/Class;" } : Jvm.MethodName) ({ cls := "java/lang/Object", name := "getClass", desc := "()Ljava/lang/Class;" } : Jvm.MethodName)) ∈ lw_all := lw_g (lw_at lw_m6 215 rfl) rfl
theorem q1559 : (Jvm.Cond.selects "java/util/ImmutableCollections$ListItr" ({ cls := "java/util/Iterator", name := "next", desc := "()Ljava/lang/Object;" } : Jvm.MethodName) ({ cls := "java/util/ImmutableCollections$ListItr", name := "next", desc := "()Ljava/lang/Object;" } : Jvm.MethodName)) ∈ lw_all := lw_g (lw_at lw_m7 25 rfl) rfl
theorem q1560 : (Jvm.Cond.unhidden "java/util/ImmutableCollections$ListItr" "next" "()Ljava/lang/Object;") ∈ lw_tbl := lw_at lw_m7 26 rfl
theorem q1561 : (Jvm.Cond.instanceMethod ({ cls := "java/util/ImmutableCollections$ListItr", name := "next", desc := "()Ljava/lang/Object;" } : Jvm.MethodName)) ∈ lw_all := lw_g (lw_at lw_m7 27 rfl) rfl
theorem q1562 : (Jvm.Cond.publicMethod ({ cls := "java/util/ImmutableCollections$ListItr", name := "next", desc := "()Ljava/lang/Object;" } : Jvm.MethodName)) ∈ lw_tbl := lw_at lw_m7 28 rfl
theorem q1563 : (Jvm.Cond.codeWith ({ cls := "java/util/ImmutableCollections$ListItr", name := "next", desc := "()Ljava/lang/Object;" } : Jvm.MethodName) prog_62_method_4_code (3 : Nat) (Option.some (Jvm.ClassFile.FieldType.object "java/lang/Object")) [((0 : Nat), (24 : Nat), (25 : Nat), (30 : Nat))]) ∈ lw_all := lw_g (lw_at lw_m7 29 rfl) rfl
theorem q1564 : (Jvm.Cond.interfaceEntry "java/util/ImmutableCollections$ListItr" (24 : Nat)) ∈ lw_tbl := lw_at lw_m7 30 rfl
theorem q1565 : (Jvm.Cond.methodLink "java/util/ImmutableCollections$ListItr" (24 : Nat) ({ cls := "java/util/List", name := "get", desc := "(I)Ljava/lang/Object;" } : Jvm.MethodName)) ∈ lw_all := lw_g (lw_at lw_m7 31 rfl) rfl
theorem q1566 : (Jvm.Cond.classLink "java/util/ImmutableCollections$ListItr" (32 : Nat) "java/util/NoSuchElementException") ∈ lw_all := lw_g (lw_at lw_m7 32 rfl) rfl
theorem q1567 : (Jvm.Cond.methodLink "java/util/ImmutableCollections$ListItr" (34 : Nat) ({ cls := "java/util/NoSuchElementException", name := "<init>", desc := "()V" } : Jvm.MethodName)) ∈ lw_all := lw_g (lw_at lw_m7 33 rfl) rfl
theorem q1732 : (Jvm.Cond.instantiable "java/util/ImmutableCollections$ListItr" (4 : Nat)) ∈ lw_all := lw_g (lw_at lw_m7 198 rfl) rfl
theorem q1734 : (Jvm.Cond.instanceMethod ({ cls := "java/util/ImmutableCollections$ListItr", name := "<init>", desc := "(Ljava/util/List;I)V" } : Jvm.MethodName)) ∈ lw_all := lw_g (lw_at lw_m7 200 rfl) rfl
theorem q1735 : (Jvm.Cond.code ({ cls := "java/util/ImmutableCollections$ListItr", name := "<init>", desc := "(Ljava/util/List;I)V" } : Jvm.MethodName) prog_62_method_1_code (3 : Nat) (Option.none : Option Jvm.ClassFile.FieldType)) ∈ lw_all := lw_g (lw_at lw_m7 201 rfl) rfl
theorem q1736 : (Jvm.Cond.methodLink "java/util/ImmutableCollections$ListItr" (1 : Nat) ({ cls := "java/lang/Object", name := "<init>", desc := "()V" } : Jvm.MethodName)) ∈ lw_all := lw_g (lw_at lw_m7 202 rfl) rfl
theorem q1737 : (Jvm.Cond.fieldLink "java/util/ImmutableCollections$ListItr" (7 : Nat) "java/util/ImmutableCollections$ListItr" "list" "Ljava/util/List;") ∈ lw_all := lw_g (lw_at lw_m7 203 rfl) rfl
theorem q1738 : (Jvm.Cond.fieldLink "java/util/ImmutableCollections$ListItr" (13 : Nat) "java/util/ImmutableCollections$ListItr" "size" "I") ∈ lw_all := lw_g (lw_at lw_m7 204 rfl) rfl
theorem q1739 : (Jvm.Cond.fieldLink "java/util/ImmutableCollections$ListItr" (20 : Nat) "java/util/ImmutableCollections$ListItr" "isListIterator" "Z") ∈ lw_all := lw_g (lw_at lw_m7 205 rfl) rfl
theorem q1740 : (Jvm.Cond.fieldLink "java/util/ImmutableCollections$ListItr" (17 : Nat) "java/util/ImmutableCollections$ListItr" "cursor" "I") ∈ lw_all := lw_g (lw_at lw_m7 206 rfl) rfl
theorem q1741 : (Jvm.Cond.laysFinal "java/util/ImmutableCollections$ListItr" "java/util/ImmutableCollections$ListItr" "list" "Ljava/util/List;") ∈ lw_all := lw_g (lw_at lw_m7 207 rfl) rfl
theorem q1742 : (Jvm.Cond.soleField "java/util/ImmutableCollections$ListItr" "list") ∈ lw_all := lw_g (lw_at lw_m7 208 rfl) rfl
theorem q1743 : (Jvm.Cond.laysFinal "java/util/ImmutableCollections$ListItr" "java/util/ImmutableCollections$ListItr" "size" "I") ∈ lw_all := lw_g (lw_at lw_m7 209 rfl) rfl
theorem q1744 : (Jvm.Cond.soleField "java/util/ImmutableCollections$ListItr" "size") ∈ lw_all := lw_g (lw_at lw_m7 210 rfl) rfl
theorem q1745 : (Jvm.Cond.laysFinal "java/util/ImmutableCollections$ListItr" "java/util/ImmutableCollections$ListItr" "isListIterator" "Z") ∈ lw_all := lw_g (lw_at lw_m7 211 rfl) rfl
theorem q1746 : (Jvm.Cond.soleField "java/util/ImmutableCollections$ListItr" "isListIterator") ∈ lw_all := lw_g (lw_at lw_m7 212 rfl) rfl
theorem q1747 : (Jvm.Cond.lays "java/util/ImmutableCollections$ListItr" "java/util/ImmutableCollections$ListItr" "cursor" "I") ∈ lw_all := lw_g (lw_at lw_m7 213 rfl) rfl
theorem q1748 : (Jvm.Cond.soleField "java/util/ImmutableCollections$ListItr" "cursor") ∈ lw_all := lw_g (lw_at lw_m7 214 rfl) rfl
theorem q1749 : (Jvm.Cond.superclass "java/util/ImmutableCollections$ListItr" "java/lang/Object") ∈ lw_all := lw_g (lw_at lw_m7 215 rfl) rfl
theorem q3176 : (Jvm.Cond.castable "java/util/ImmutableCollections$ListItr" "java/lang/Object") ∈ lw_tbl := lw_at lw_m13 202 rfl
theorem in_J40 : ∀ w ∈ wsJ400, w ∈ lw_all := lw_in wsJ400 [1741, 1743, 1745, 1747] (by decide +kernel) (by decide +kernel)

/-! java/util/AbstractList$Itr -/
set_option maxRecDepth 100000
def RJ41 : String := "java/util/AbstractList$Itr"
abbrev cJ41_hasNext : ByteArray := prog_45_method_2_code
def yJ41_hasNext : MethodName := ⟨RJ41, "hasNext", "()Z"⟩
def dkwJ41_hasNext_0 : List UInt8 := [42, 180, 0, 13, 42, 180, 0, 1, 182, 0, 28, 159, 0, 7, 4, 167, 0, 4, 3, 172]
abbrev dktJ41_hasNext_0 : List UInt8 := dkwJ41_hasNext_0 ++ []
theorem dksJ41_hasNext_0 : cJ41_hasNext.data.toList.drop 0 = dktJ41_hasNext_0 := by decide +kernel
theorem dJ41_hasNext_0 : decode cJ41_hasNext 0 = .ok (.aload_n 0, 1) := dk_42 (dk_at dksJ41_hasNext_0 0 rfl rfl)
theorem dJ41_hasNext_1 : decode cJ41_hasNext 1 = .ok (.getfield 13, 3) := dk_180 0 13 (dk_at dksJ41_hasNext_0 1 rfl rfl)
theorem dJ41_hasNext_4 : decode cJ41_hasNext 4 = .ok (.aload_n 0, 1) := dk_42 (dk_at dksJ41_hasNext_0 4 rfl rfl)
theorem dJ41_hasNext_5 : decode cJ41_hasNext 5 = .ok (.getfield 1, 3) := dk_180 0 1 (dk_at dksJ41_hasNext_0 5 rfl rfl)
theorem dJ41_hasNext_8 : decode cJ41_hasNext 8 = .ok (.invokevirtual 28, 3) := dk_182 0 28 (dk_at dksJ41_hasNext_0 8 rfl rfl)
theorem dJ41_hasNext_11 : decode cJ41_hasNext 11 = .ok (.if_icmp .eq 7, 3) := dk_159 0 7 (dk_at dksJ41_hasNext_0 11 rfl rfl)
theorem dJ41_hasNext_14 : decode cJ41_hasNext 14 = .ok (.iconst 1, 1) := dk_4 (dk_at dksJ41_hasNext_0 14 rfl rfl)
theorem dJ41_hasNext_15 : decode cJ41_hasNext 15 = .ok (.goto 4, 3) := dk_167 0 4 (dk_at dksJ41_hasNext_0 15 rfl rfl)
theorem dJ41_hasNext_18 : decode cJ41_hasNext 18 = .ok (.iconst 0, 1) := dk_3 (dk_at dksJ41_hasNext_0 18 rfl rfl)
theorem dJ41_hasNext_19 : decode cJ41_hasNext 19 = .ok (.ireturn, 1) := dk_172 (dk_at dksJ41_hasNext_0 19 rfl rfl)
abbrev cJ41_next : ByteArray := prog_45_method_3_code
def yJ41_next : MethodName := ⟨RJ41, "next", "()Ljava/lang/Object;"⟩
def dkwJ41_next_1 : List UInt8 := [27, 4, 96, 181, 0, 13, 44, 176, 76, 42, 182, 0, 32, 187, 0, 41, 89, 43, 183, 0, 43, 191]
abbrev dktJ41_next_1 : List UInt8 := dkwJ41_next_1 ++ []
def dkwJ41_next_0 : List UInt8 := [42, 182, 0, 32, 42, 180, 0, 13, 60, 42, 180, 0, 1, 27, 182, 0, 35, 77, 42, 27, 181, 0, 17, 42]
abbrev dktJ41_next_0 : List UInt8 := dkwJ41_next_0 ++ dktJ41_next_1
theorem dksJ41_next_0 : cJ41_next.data.toList.drop 0 = dktJ41_next_0 := by decide +kernel
theorem dksJ41_next_1 : cJ41_next.data.toList.drop 24 = dktJ41_next_1 := dk_seg dksJ41_next_0 24 rfl rfl
theorem dJ41_next_0 : decode cJ41_next 0 = .ok (.aload_n 0, 1) := dk_42 (dk_at dksJ41_next_0 0 rfl rfl)
theorem dJ41_next_1 : decode cJ41_next 1 = .ok (.invokevirtual 32, 3) := dk_182 0 32 (dk_at dksJ41_next_0 1 rfl rfl)
theorem dJ41_next_4 : decode cJ41_next 4 = .ok (.aload_n 0, 1) := dk_42 (dk_at dksJ41_next_0 4 rfl rfl)
theorem dJ41_next_5 : decode cJ41_next 5 = .ok (.getfield 13, 3) := dk_180 0 13 (dk_at dksJ41_next_0 5 rfl rfl)
theorem dJ41_next_8 : decode cJ41_next 8 = .ok (.istore_n 1, 1) := dk_60 (dk_at dksJ41_next_0 8 rfl rfl)
theorem dJ41_next_9 : decode cJ41_next 9 = .ok (.aload_n 0, 1) := dk_42 (dk_at dksJ41_next_0 9 rfl rfl)
theorem dJ41_next_10 : decode cJ41_next 10 = .ok (.getfield 1, 3) := dk_180 0 1 (dk_at dksJ41_next_0 10 rfl rfl)
theorem dJ41_next_13 : decode cJ41_next 13 = .ok (.iload_n 1, 1) := dk_27 (dk_at dksJ41_next_0 13 rfl rfl)
theorem dJ41_next_14 : decode cJ41_next 14 = .ok (.invokevirtual 35, 3) := dk_182 0 35 (dk_at dksJ41_next_0 14 rfl rfl)
theorem dJ41_next_17 : decode cJ41_next 17 = .ok (.astore_n 2, 1) := dk_77 (dk_at dksJ41_next_0 17 rfl rfl)
theorem dJ41_next_18 : decode cJ41_next 18 = .ok (.aload_n 0, 1) := dk_42 (dk_at dksJ41_next_0 18 rfl rfl)
theorem dJ41_next_19 : decode cJ41_next 19 = .ok (.iload_n 1, 1) := dk_27 (dk_at dksJ41_next_0 19 rfl rfl)
theorem dJ41_next_20 : decode cJ41_next 20 = .ok (.putfield 17, 3) := dk_181 0 17 (dk_at dksJ41_next_0 20 rfl rfl)
theorem dJ41_next_23 : decode cJ41_next 23 = .ok (.aload_n 0, 1) := dk_42 (dk_at dksJ41_next_0 23 rfl rfl)
theorem dJ41_next_24 : decode cJ41_next 24 = .ok (.iload_n 1, 1) := dk_27 (dk_at dksJ41_next_1 0 rfl rfl)
theorem dJ41_next_25 : decode cJ41_next 25 = .ok (.iconst 1, 1) := dk_4 (dk_at dksJ41_next_1 1 rfl rfl)
theorem dJ41_next_26 : decode cJ41_next 26 = .ok (.iadd, 1) := dk_96 (dk_at dksJ41_next_1 2 rfl rfl)
theorem dJ41_next_27 : decode cJ41_next 27 = .ok (.putfield 13, 3) := dk_181 0 13 (dk_at dksJ41_next_1 3 rfl rfl)
theorem dJ41_next_30 : decode cJ41_next 30 = .ok (.aload_n 2, 1) := dk_44 (dk_at dksJ41_next_1 6 rfl rfl)
theorem dJ41_next_31 : decode cJ41_next 31 = .ok (.areturn, 1) := dk_176 (dk_at dksJ41_next_1 7 rfl rfl)
theorem dJ41_next_32 : decode cJ41_next 32 = .ok (.astore_n 1, 1) := dk_76 (dk_at dksJ41_next_1 8 rfl rfl)
theorem dJ41_next_33 : decode cJ41_next 33 = .ok (.aload_n 0, 1) := dk_42 (dk_at dksJ41_next_1 9 rfl rfl)
theorem dJ41_next_34 : decode cJ41_next 34 = .ok (.invokevirtual 32, 3) := dk_182 0 32 (dk_at dksJ41_next_1 10 rfl rfl)
theorem dJ41_next_37 : decode cJ41_next 37 = .ok (.new 41, 3) := dk_187 0 41 (dk_at dksJ41_next_1 13 rfl rfl)
theorem dJ41_next_40 : decode cJ41_next 40 = .ok (.dup, 1) := dk_89 (dk_at dksJ41_next_1 16 rfl rfl)
theorem dJ41_next_41 : decode cJ41_next 41 = .ok (.aload_n 1, 1) := dk_43 (dk_at dksJ41_next_1 17 rfl rfl)
theorem dJ41_next_42 : decode cJ41_next 42 = .ok (.invokespecial 43, 3) := dk_183 0 43 (dk_at dksJ41_next_1 18 rfl rfl)
theorem dJ41_next_45 : decode cJ41_next 45 = .ok (.athrow, 1) := dk_191 (dk_at dksJ41_next_1 21 rfl rfl)
abbrev cJ41_checkForComodification : ByteArray := prog_45_method_5_code
def yJ41_checkForComodification : MethodName := ⟨RJ41, "checkForComodification", "()V"⟩
def dkwJ41_checkForComodification_0 : List UInt8 := [42, 180, 0, 1, 180, 0, 20, 42, 180, 0, 25, 159, 0, 11, 187, 0, 52, 89, 183, 0, 54, 191, 177]
abbrev dktJ41_checkForComodification_0 : List UInt8 := dkwJ41_checkForComodification_0 ++ []
theorem dksJ41_checkForComodification_0 : cJ41_checkForComodification.data.toList.drop 0 = dktJ41_checkForComodification_0 := by decide +kernel
theorem dJ41_checkForComodification_0 : decode cJ41_checkForComodification 0 = .ok (.aload_n 0, 1) := dk_42 (dk_at dksJ41_checkForComodification_0 0 rfl rfl)
theorem dJ41_checkForComodification_1 : decode cJ41_checkForComodification 1 = .ok (.getfield 1, 3) := dk_180 0 1 (dk_at dksJ41_checkForComodification_0 1 rfl rfl)
theorem dJ41_checkForComodification_4 : decode cJ41_checkForComodification 4 = .ok (.getfield 20, 3) := dk_180 0 20 (dk_at dksJ41_checkForComodification_0 4 rfl rfl)
theorem dJ41_checkForComodification_7 : decode cJ41_checkForComodification 7 = .ok (.aload_n 0, 1) := dk_42 (dk_at dksJ41_checkForComodification_0 7 rfl rfl)
theorem dJ41_checkForComodification_8 : decode cJ41_checkForComodification 8 = .ok (.getfield 25, 3) := dk_180 0 25 (dk_at dksJ41_checkForComodification_0 8 rfl rfl)
theorem dJ41_checkForComodification_11 : decode cJ41_checkForComodification 11 = .ok (.if_icmp .eq 11, 3) := dk_159 0 11 (dk_at dksJ41_checkForComodification_0 11 rfl rfl)
theorem dJ41_checkForComodification_14 : decode cJ41_checkForComodification 14 = .ok (.new 52, 3) := dk_187 0 52 (dk_at dksJ41_checkForComodification_0 14 rfl rfl)
theorem dJ41_checkForComodification_17 : decode cJ41_checkForComodification 17 = .ok (.dup, 1) := dk_89 (dk_at dksJ41_checkForComodification_0 17 rfl rfl)
theorem dJ41_checkForComodification_18 : decode cJ41_checkForComodification 18 = .ok (.invokespecial 54, 3) := dk_183 0 54 (dk_at dksJ41_checkForComodification_0 18 rfl rfl)
theorem dJ41_checkForComodification_21 : decode cJ41_checkForComodification 21 = .ok (.athrow, 1) := dk_191 (dk_at dksJ41_checkForComodification_0 21 rfl rfl)
theorem dJ41_checkForComodification_22 : decode cJ41_checkForComodification 22 = .ok (.return_, 1) := dk_177 (dk_at dksJ41_checkForComodification_0 22 rfl rfl)
theorem q153 : (Jvm.Cond.initialized "java/util/AbstractList$Itr") ∈ lw_all := lw_g (lw_at lw_m1 59 rfl) rfl
theorem q283 : (Jvm.Cond.fieldLink "java/util/AbstractList$Itr" (20 : Nat) "java/util/AbstractList" "modCount" "I") ∈ lw_all := lw_g (lw_at lw_m1 189 rfl) rfl
theorem q1093 : (Jvm.Cond.instanceMethod ({ cls := "java/util/AbstractList$Itr", name := "hasNext", desc := "()Z" } : Jvm.MethodName)) ∈ lw_all := lw_g (lw_at lw_m5 39 rfl) rfl
theorem q1094 : (Jvm.Cond.publicMethod ({ cls := "java/util/AbstractList$Itr", name := "hasNext", desc := "()Z" } : Jvm.MethodName)) ∈ lw_tbl := lw_at lw_m5 40 rfl
theorem q1095 : (Jvm.Cond.code ({ cls := "java/util/AbstractList$Itr", name := "hasNext", desc := "()Z" } : Jvm.MethodName) prog_45_method_2_code (1 : Nat) (Option.some Jvm.ClassFile.FieldType.boolean)) ∈ lw_all := lw_g (lw_at lw_m5 41 rfl) rfl
theorem q1096 : (Jvm.Cond.methodLink "java/util/AbstractList$Itr" (28 : Nat) ({ cls := "java/util/AbstractList", name := "size", desc := "()I" } : Jvm.MethodName)) ∈ lw_all := lw_g (lw_at lw_m5 42 rfl) rfl
theorem q1442 : (Jvm.Cond.instanceMethod ({ cls := "java/util/AbstractList$Itr", name := "next", desc := "()Ljava/lang/Object;" } : Jvm.MethodName)) ∈ lw_all := lw_g (lw_at lw_m6 148 rfl) rfl
theorem q1443 : (Jvm.Cond.publicMethod ({ cls := "java/util/AbstractList$Itr", name := "next", desc := "()Ljava/lang/Object;" } : Jvm.MethodName)) ∈ lw_tbl := lw_at lw_m6 149 rfl
theorem q1444 : (Jvm.Cond.codeWith ({ cls := "java/util/AbstractList$Itr", name := "next", desc := "()Ljava/lang/Object;" } : Jvm.MethodName) prog_45_method_3_code (3 : Nat) (Option.some (Jvm.ClassFile.FieldType.object "java/lang/Object")) [((4 : Nat), (31 : Nat), (32 : Nat), (39 : Nat))]) ∈ lw_all := lw_g (lw_at lw_m6 150 rfl) rfl
theorem q1445 : (Jvm.Cond.methodLink "java/util/AbstractList$Itr" (32 : Nat) ({ cls := "java/util/AbstractList$Itr", name := "checkForComodification", desc := "()V" } : Jvm.MethodName)) ∈ lw_all := lw_g (lw_at lw_m6 151 rfl) rfl
theorem q1446 : (Jvm.Cond.instanceMethod ({ cls := "java/util/AbstractList$Itr", name := "checkForComodification", desc := "()V" } : Jvm.MethodName)) ∈ lw_all := lw_g (lw_at lw_m6 152 rfl) rfl
theorem q1447 : (Jvm.Cond.sameMethod "java/util/AbstractList$Itr" "java/util/AbstractList$Itr" "checkForComodification" "()V") ∈ lw_all := lw_g (lw_at lw_m6 153 rfl) rfl
theorem q1449 : (Jvm.Cond.code ({ cls := "java/util/AbstractList$Itr", name := "checkForComodification", desc := "()V" } : Jvm.MethodName) prog_45_method_5_code (1 : Nat) (Option.none : Option Jvm.ClassFile.FieldType)) ∈ lw_all := lw_g (lw_at lw_m6 155 rfl) rfl
theorem q1450 : (Jvm.Cond.methodLink "java/util/AbstractList$Itr" (35 : Nat) ({ cls := "java/util/AbstractList", name := "get", desc := "(I)Ljava/lang/Object;" } : Jvm.MethodName)) ∈ lw_all := lw_g (lw_at lw_m6 156 rfl) rfl
theorem q1455 : (Jvm.Cond.classLink "java/util/AbstractList$Itr" (41 : Nat) "java/util/NoSuchElementException") ∈ lw_all := lw_g (lw_at lw_m6 161 rfl) rfl
theorem q1456 : (Jvm.Cond.methodLink "java/util/AbstractList$Itr" (43 : Nat) ({ cls := "java/util/NoSuchElementException", name := "<init>", desc := "(Ljava/lang/Throwable;)V" } : Jvm.MethodName)) ∈ lw_all := lw_g (lw_at lw_m6 162 rfl) rfl
theorem q3192 : (Jvm.Cond.fieldLink "java/util/AbstractList$Itr" (13 : Nat) "java/util/AbstractList$Itr" "cursor" "I") ∈ lw_all := lw_g (lw_at lw_m13 218 rfl) rfl
theorem q3193 : (Jvm.Cond.fieldLink "java/util/AbstractList$Itr" (1 : Nat) "java/util/AbstractList$Itr" "this$0" "Ljava/util/AbstractList;") ∈ lw_all := lw_g (lw_at lw_m13 219 rfl) rfl
theorem q3194 : (Jvm.Cond.fieldLink "java/util/AbstractList$Itr" (25 : Nat) "java/util/AbstractList$Itr" "expectedModCount" "I") ∈ lw_all := lw_g (lw_at lw_m13 220 rfl) rfl
theorem q3195 : (Jvm.Cond.fieldLink "java/util/AbstractList$Itr" (17 : Nat) "java/util/AbstractList$Itr" "lastRet" "I") ∈ lw_all := lw_g (lw_at lw_m13 221 rfl) rfl

/-! java/lang/Object -/
set_option maxRecDepth 100000
def RJ44 : String := "java/lang/Object"
abbrev cJ44_init : ByteArray := object_method_1_code
def yJ44_init : MethodName := ⟨RJ44, "<init>", "()V"⟩
theorem dJ44_init_0 : decode cJ44_init 0 = .ok (.return_, 1) := by decide +kernel
abbrev cJ44_equals : ByteArray := object_method_4_code
def yJ44_equals : MethodName := ⟨RJ44, "equals", "(Ljava/lang/Object;)Z"⟩
def dkwJ44_equals_0 : List UInt8 := [42, 43, 166, 0, 7, 4, 167, 0, 4, 3, 172]
abbrev dktJ44_equals_0 : List UInt8 := dkwJ44_equals_0 ++ []
theorem dksJ44_equals_0 : cJ44_equals.data.toList.drop 0 = dktJ44_equals_0 := by decide +kernel
theorem dJ44_equals_0 : decode cJ44_equals 0 = .ok (.aload_n 0, 1) := dk_42 (dk_at dksJ44_equals_0 0 rfl rfl)
theorem dJ44_equals_1 : decode cJ44_equals 1 = .ok (.aload_n 1, 1) := dk_43 (dk_at dksJ44_equals_0 1 rfl rfl)
theorem dJ44_equals_2 : decode cJ44_equals 2 = .ok (.if_acmp .ne 7, 3) := dk_166 0 7 (dk_at dksJ44_equals_0 2 rfl rfl)
theorem dJ44_equals_5 : decode cJ44_equals 5 = .ok (.iconst 1, 1) := dk_4 (dk_at dksJ44_equals_0 5 rfl rfl)
theorem dJ44_equals_6 : decode cJ44_equals 6 = .ok (.goto 4, 3) := dk_167 0 4 (dk_at dksJ44_equals_0 6 rfl rfl)
theorem dJ44_equals_9 : decode cJ44_equals 9 = .ok (.iconst 0, 1) := dk_3 (dk_at dksJ44_equals_0 9 rfl rfl)
theorem dJ44_equals_10 : decode cJ44_equals 10 = .ok (.ireturn, 1) := dk_172 (dk_at dksJ44_equals_0 10 rfl rfl)
theorem q163 : (Jvm.Cond.instanceMethod ({ cls := "java/lang/Object", name := "<init>", desc := "()V" } : Jvm.MethodName)) ∈ lw_all := lw_g (lw_at lw_m1 69 rfl) rfl
theorem q164 : (Jvm.Cond.code ({ cls := "java/lang/Object", name := "<init>", desc := "()V" } : Jvm.MethodName) object_method_1_code (1 : Nat) (Option.none : Option Jvm.ClassFile.FieldType)) ∈ lw_all := lw_g (lw_at lw_m1 70 rfl) rfl
theorem q615 : (Jvm.Cond.native ({ cls := "java/lang/Object", name := "clone", desc := "()Ljava/lang/Object;" } : Jvm.MethodName)) ∈ lw_all := lw_g (lw_at lw_m3 41 rfl) rfl
theorem q616 : (Jvm.Cond.instanceMethod ({ cls := "java/lang/Object", name := "clone", desc := "()Ljava/lang/Object;" } : Jvm.MethodName)) ∈ lw_all := lw_g (lw_at lw_m3 42 rfl) rfl
theorem q1479 : (Jvm.Cond.instanceMethod ({ cls := "java/lang/Object", name := "getClass", desc := "()Ljava/lang/Class;" } : Jvm.MethodName)) ∈ lw_all := lw_g (lw_at lw_m6 185 rfl) rfl
theorem q1480 : (Jvm.Cond.sameMethod "java/lang/Object" "java/lang/Object" "getClass" "()Ljava/lang/Class;") ∈ lw_all := lw_g (lw_at lw_m6 186 rfl) rfl
theorem q1518 : (Jvm.Cond.native ({ cls := "java/lang/Object", name := "getClass", desc := "()Ljava/lang/Class;" } : Jvm.MethodName)) ∈ lw_all := lw_g (lw_at lw_m6 224 rfl) rfl
theorem q2370 : (Jvm.Cond.declares ({ cls := "java/lang/Object", name := "equals", desc := "(Ljava/lang/Object;)Z" } : Jvm.MethodName)) ∈ lw_tbl := lw_at lw_m10 116 rfl
theorem q2372 : (Jvm.Cond.instanceMethod ({ cls := "java/lang/Object", name := "equals", desc := "(Ljava/lang/Object;)Z" } : Jvm.MethodName)) ∈ lw_all := lw_g (lw_at lw_m10 118 rfl) rfl
theorem q2373 : (Jvm.Cond.sameMethod "java/lang/Object" "java/lang/Object" "equals" "(Ljava/lang/Object;)Z") ∈ lw_all := lw_g (lw_at lw_m10 119 rfl) rfl
theorem q2399 : (Jvm.Cond.code ({ cls := "java/lang/Object", name := "equals", desc := "(Ljava/lang/Object;)Z" } : Jvm.MethodName) object_method_4_code (2 : Nat) (Option.some Jvm.ClassFile.FieldType.boolean)) ∈ lw_all := lw_g (lw_at lw_m10 145 rfl) rfl
theorem q3140 : (Jvm.Cond.initialized "java/lang/Object") ∈ lw_all := lw_g (lw_at lw_m13 166 rfl) rfl
theorem q3142 : (Jvm.Cond.selects "java/lang/Object" ({ cls := "java/lang/Object", name := "equals", desc := "(Ljava/lang/Object;)Z" } : Jvm.MethodName) ({ cls := "java/lang/Object", name := "equals", desc := "(Ljava/lang/Object;)Z" } : Jvm.MethodName)) ∈ lw_all := lw_g (lw_at lw_m13 168 rfl) rfl
theorem q3183 : (Jvm.Cond.declares ({ cls := "java/lang/Object", name := "getClass", desc := "()Ljava/lang/Class;" } : Jvm.MethodName)) ∈ lw_tbl := lw_at lw_m13 209 rfl

/-! java/util/ArrayList -/
set_option maxRecDepth 100000
def RJ5 : String := "java/util/ArrayList"
def TJ5 : u_T := fun k => match k with
  | 0 => ("java/util/AbstractList", "modCount", "I", false)
  | 1 => ("java/util/ArrayList", "elementData", "[Ljava/lang/Object;", false)
  | _ => ("java/util/ArrayList", "size", "I", false)
def tyJ5 : Nat → FieldType := fun k => match k with
  | 0 => .int
  | 1 => .array (.object "java/lang/Object")
  | _ => .int
abbrev wsJ50 : List Cond := u_ws RJ5 TJ5 3
theorem nmJ5 : ∀ a, a < 3 → ∀ b, b < 3 → a ≠ b → (TJ5 a).2.1 ≠ (TJ5 b).2.1 := by decide +kernel
theorem tyJ5_ok : ∀ k, k < 3 → parseFieldDescriptor (TJ5 k).2.2.1 = some (tyJ5 k) := by decide +kernel
abbrev cJ5_init : ByteArray := prog_50_method_2_code
def yJ5_init : MethodName := ⟨RJ5, "<init>", "()V"⟩
def dkwJ5_init_0 : List UInt8 := [42, 183, 0, 1, 42, 178, 0, 39, 181, 0, 9, 177]
abbrev dktJ5_init_0 : List UInt8 := dkwJ5_init_0 ++ []
theorem dksJ5_init_0 : cJ5_init.data.toList.drop 0 = dktJ5_init_0 := by decide +kernel
theorem dJ5_init_0 : decode cJ5_init 0 = .ok (.aload_n 0, 1) := dk_42 (dk_at dksJ5_init_0 0 rfl rfl)
theorem dJ5_init_1 : decode cJ5_init 1 = .ok (.invokespecial 1, 3) := dk_183 0 1 (dk_at dksJ5_init_0 1 rfl rfl)
theorem dJ5_init_4 : decode cJ5_init 4 = .ok (.aload_n 0, 1) := dk_42 (dk_at dksJ5_init_0 4 rfl rfl)
theorem dJ5_init_5 : decode cJ5_init 5 = .ok (.getstatic 39, 3) := dk_178 0 39 (dk_at dksJ5_init_0 5 rfl rfl)
theorem dJ5_init_8 : decode cJ5_init 8 = .ok (.putfield 9, 3) := dk_181 0 9 (dk_at dksJ5_init_0 8 rfl rfl)
theorem dJ5_init_11 : decode cJ5_init 11 = .ok (.return_, 1) := dk_177 (dk_at dksJ5_init_0 11 rfl rfl)
abbrev cJ5_size : ByteArray := prog_50_method_8_code
def yJ5_size : MethodName := ⟨RJ5, "size", "()I"⟩
theorem dJ5_size_0 : decode cJ5_size 0 = .ok (.aload_n 0, 1) := by decide +kernel
theorem dJ5_size_1 : decode cJ5_size 1 = .ok (.getfield 48, 3) := by decide +kernel
theorem dJ5_size_4 : decode cJ5_size 4 = .ok (.ireturn, 1) := by decide +kernel
abbrev cJ5_get : ByteArray := prog_50_method_20_code
def yJ5_get : MethodName := ⟨RJ5, "get", "(I)Ljava/lang/Object;"⟩
def dkwJ5_get_0 : List UInt8 := [27, 42, 180, 0, 48, 184, 0, 118, 87, 42, 27, 182, 0, 123, 176]
abbrev dktJ5_get_0 : List UInt8 := dkwJ5_get_0 ++ []
theorem dksJ5_get_0 : cJ5_get.data.toList.drop 0 = dktJ5_get_0 := by decide +kernel
theorem dJ5_get_0 : decode cJ5_get 0 = .ok (.iload_n 1, 1) := dk_27 (dk_at dksJ5_get_0 0 rfl rfl)
theorem dJ5_get_1 : decode cJ5_get 1 = .ok (.aload_n 0, 1) := dk_42 (dk_at dksJ5_get_0 1 rfl rfl)
theorem dJ5_get_2 : decode cJ5_get 2 = .ok (.getfield 48, 3) := dk_180 0 48 (dk_at dksJ5_get_0 2 rfl rfl)
theorem dJ5_get_5 : decode cJ5_get 5 = .ok (.invokestatic 118, 3) := dk_184 0 118 (dk_at dksJ5_get_0 5 rfl rfl)
theorem dJ5_get_8 : decode cJ5_get 8 = .ok (.pop, 1) := dk_87 (dk_at dksJ5_get_0 8 rfl rfl)
theorem dJ5_get_9 : decode cJ5_get 9 = .ok (.aload_n 0, 1) := dk_42 (dk_at dksJ5_get_0 9 rfl rfl)
theorem dJ5_get_10 : decode cJ5_get 10 = .ok (.iload_n 1, 1) := dk_27 (dk_at dksJ5_get_0 10 rfl rfl)
theorem dJ5_get_11 : decode cJ5_get 11 = .ok (.invokevirtual 123, 3) := dk_182 0 123 (dk_at dksJ5_get_0 11 rfl rfl)
theorem dJ5_get_14 : decode cJ5_get 14 = .ok (.areturn, 1) := dk_176 (dk_at dksJ5_get_0 14 rfl rfl)
abbrev cJ5_elementData : ByteArray := prog_50_method_18_code
def yJ5_elementData : MethodName := ⟨RJ5, "elementData", "(I)Ljava/lang/Object;"⟩
def dkwJ5_elementData_0 : List UInt8 := [42, 180, 0, 9, 27, 50, 176]
abbrev dktJ5_elementData_0 : List UInt8 := dkwJ5_elementData_0 ++ []
theorem dksJ5_elementData_0 : cJ5_elementData.data.toList.drop 0 = dktJ5_elementData_0 := by decide +kernel
theorem dJ5_elementData_0 : decode cJ5_elementData 0 = .ok (.aload_n 0, 1) := dk_42 (dk_at dksJ5_elementData_0 0 rfl rfl)
theorem dJ5_elementData_1 : decode cJ5_elementData 1 = .ok (.getfield 9, 3) := dk_180 0 9 (dk_at dksJ5_elementData_0 1 rfl rfl)
theorem dJ5_elementData_4 : decode cJ5_elementData 4 = .ok (.iload_n 1, 1) := dk_27 (dk_at dksJ5_elementData_0 4 rfl rfl)
theorem dJ5_elementData_5 : decode cJ5_elementData 5 = .ok (.aaload, 1) := dk_50 (dk_at dksJ5_elementData_0 5 rfl rfl)
theorem dJ5_elementData_6 : decode cJ5_elementData 6 = .ok (.areturn, 1) := dk_176 (dk_at dksJ5_elementData_0 6 rfl rfl)
abbrev cJ5_set : ByteArray := prog_50_method_23_code
def yJ5_set : MethodName := ⟨RJ5, "set", "(ILjava/lang/Object;)Ljava/lang/Object;"⟩
def dkwJ5_set_0 : List UInt8 := [27, 42, 180, 0, 48, 184, 0, 118, 87, 42, 27, 182, 0, 123, 78, 42, 180, 0, 9, 27, 44, 83, 45, 176]
abbrev dktJ5_set_0 : List UInt8 := dkwJ5_set_0 ++ []
theorem dksJ5_set_0 : cJ5_set.data.toList.drop 0 = dktJ5_set_0 := by decide +kernel
theorem dJ5_set_0 : decode cJ5_set 0 = .ok (.iload_n 1, 1) := dk_27 (dk_at dksJ5_set_0 0 rfl rfl)
theorem dJ5_set_1 : decode cJ5_set 1 = .ok (.aload_n 0, 1) := dk_42 (dk_at dksJ5_set_0 1 rfl rfl)
theorem dJ5_set_2 : decode cJ5_set 2 = .ok (.getfield 48, 3) := dk_180 0 48 (dk_at dksJ5_set_0 2 rfl rfl)
theorem dJ5_set_5 : decode cJ5_set 5 = .ok (.invokestatic 118, 3) := dk_184 0 118 (dk_at dksJ5_set_0 5 rfl rfl)
theorem dJ5_set_8 : decode cJ5_set 8 = .ok (.pop, 1) := dk_87 (dk_at dksJ5_set_0 8 rfl rfl)
theorem dJ5_set_9 : decode cJ5_set 9 = .ok (.aload_n 0, 1) := dk_42 (dk_at dksJ5_set_0 9 rfl rfl)
theorem dJ5_set_10 : decode cJ5_set 10 = .ok (.iload_n 1, 1) := dk_27 (dk_at dksJ5_set_0 10 rfl rfl)
theorem dJ5_set_11 : decode cJ5_set 11 = .ok (.invokevirtual 123, 3) := dk_182 0 123 (dk_at dksJ5_set_0 11 rfl rfl)
theorem dJ5_set_14 : decode cJ5_set 14 = .ok (.astore_n 3, 1) := dk_78 (dk_at dksJ5_set_0 14 rfl rfl)
theorem dJ5_set_15 : decode cJ5_set 15 = .ok (.aload_n 0, 1) := dk_42 (dk_at dksJ5_set_0 15 rfl rfl)
theorem dJ5_set_16 : decode cJ5_set 16 = .ok (.getfield 9, 3) := dk_180 0 9 (dk_at dksJ5_set_0 16 rfl rfl)
theorem dJ5_set_19 : decode cJ5_set 19 = .ok (.iload_n 1, 1) := dk_27 (dk_at dksJ5_set_0 19 rfl rfl)
theorem dJ5_set_20 : decode cJ5_set 20 = .ok (.aload_n 2, 1) := dk_44 (dk_at dksJ5_set_0 20 rfl rfl)
theorem dJ5_set_21 : decode cJ5_set 21 = .ok (.aastore, 1) := dk_83 (dk_at dksJ5_set_0 21 rfl rfl)
theorem dJ5_set_22 : decode cJ5_set 22 = .ok (.aload_n 3, 1) := dk_45 (dk_at dksJ5_set_0 22 rfl rfl)
theorem dJ5_set_23 : decode cJ5_set 23 = .ok (.areturn, 1) := dk_176 (dk_at dksJ5_set_0 23 rfl rfl)
abbrev cJ5_add : ByteArray := prog_50_method_25_code
def yJ5_add : MethodName := ⟨RJ5, "add", "(Ljava/lang/Object;)Z"⟩
def dkwJ5_add_1 : List UInt8 := [172]
abbrev dktJ5_add_1 : List UInt8 := dkwJ5_add_1 ++ []
def dkwJ5_add_0 : List UInt8 := [42, 89, 180, 0, 63, 4, 96, 181, 0, 63, 42, 43, 42, 180, 0, 9, 42, 180, 0, 48, 182, 0, 131, 4]
abbrev dktJ5_add_0 : List UInt8 := dkwJ5_add_0 ++ dktJ5_add_1
theorem dksJ5_add_0 : cJ5_add.data.toList.drop 0 = dktJ5_add_0 := by decide +kernel
theorem dksJ5_add_1 : cJ5_add.data.toList.drop 24 = dktJ5_add_1 := dk_seg dksJ5_add_0 24 rfl rfl
theorem dJ5_add_0 : decode cJ5_add 0 = .ok (.aload_n 0, 1) := dk_42 (dk_at dksJ5_add_0 0 rfl rfl)
theorem dJ5_add_1 : decode cJ5_add 1 = .ok (.dup, 1) := dk_89 (dk_at dksJ5_add_0 1 rfl rfl)
theorem dJ5_add_2 : decode cJ5_add 2 = .ok (.getfield 63, 3) := dk_180 0 63 (dk_at dksJ5_add_0 2 rfl rfl)
theorem dJ5_add_5 : decode cJ5_add 5 = .ok (.iconst 1, 1) := dk_4 (dk_at dksJ5_add_0 5 rfl rfl)
theorem dJ5_add_6 : decode cJ5_add 6 = .ok (.iadd, 1) := dk_96 (dk_at dksJ5_add_0 6 rfl rfl)
theorem dJ5_add_7 : decode cJ5_add 7 = .ok (.putfield 63, 3) := dk_181 0 63 (dk_at dksJ5_add_0 7 rfl rfl)
theorem dJ5_add_10 : decode cJ5_add 10 = .ok (.aload_n 0, 1) := dk_42 (dk_at dksJ5_add_0 10 rfl rfl)
theorem dJ5_add_11 : decode cJ5_add 11 = .ok (.aload_n 1, 1) := dk_43 (dk_at dksJ5_add_0 11 rfl rfl)
theorem dJ5_add_12 : decode cJ5_add 12 = .ok (.aload_n 0, 1) := dk_42 (dk_at dksJ5_add_0 12 rfl rfl)
theorem dJ5_add_13 : decode cJ5_add 13 = .ok (.getfield 9, 3) := dk_180 0 9 (dk_at dksJ5_add_0 13 rfl rfl)
theorem dJ5_add_16 : decode cJ5_add 16 = .ok (.aload_n 0, 1) := dk_42 (dk_at dksJ5_add_0 16 rfl rfl)
theorem dJ5_add_17 : decode cJ5_add 17 = .ok (.getfield 48, 3) := dk_180 0 48 (dk_at dksJ5_add_0 17 rfl rfl)
theorem dJ5_add_20 : decode cJ5_add 20 = .ok (.invokevirtual 131, 3) := dk_182 0 131 (dk_at dksJ5_add_0 20 rfl rfl)
theorem dJ5_add_23 : decode cJ5_add 23 = .ok (.iconst 1, 1) := dk_4 (dk_at dksJ5_add_0 23 rfl rfl)
theorem dJ5_add_24 : decode cJ5_add 24 = .ok (.ireturn, 1) := dk_172 (dk_at dksJ5_add_1 0 rfl rfl)
abbrev cJ5_add_2 : ByteArray := prog_50_method_24_code
def yJ5_add_2 : MethodName := ⟨RJ5, "add", "(Ljava/lang/Object;[Ljava/lang/Object;I)V"⟩
def dkwJ5_add_2_0 : List UInt8 := [29, 44, 190, 160, 0, 8, 42, 182, 0, 129, 77, 44, 29, 43, 83, 42, 29, 4, 96, 181, 0, 48, 177]
abbrev dktJ5_add_2_0 : List UInt8 := dkwJ5_add_2_0 ++ []
theorem dksJ5_add_2_0 : cJ5_add_2.data.toList.drop 0 = dktJ5_add_2_0 := by decide +kernel
theorem dJ5_add_2_0 : decode cJ5_add_2 0 = .ok (.iload_n 3, 1) := dk_29 (dk_at dksJ5_add_2_0 0 rfl rfl)
theorem dJ5_add_2_1 : decode cJ5_add_2 1 = .ok (.aload_n 2, 1) := dk_44 (dk_at dksJ5_add_2_0 1 rfl rfl)
theorem dJ5_add_2_2 : decode cJ5_add_2 2 = .ok (.arraylength, 1) := dk_190 (dk_at dksJ5_add_2_0 2 rfl rfl)
theorem dJ5_add_2_3 : decode cJ5_add_2 3 = .ok (.if_icmp .ne 8, 3) := dk_160 0 8 (dk_at dksJ5_add_2_0 3 rfl rfl)
theorem dJ5_add_2_6 : decode cJ5_add_2 6 = .ok (.aload_n 0, 1) := dk_42 (dk_at dksJ5_add_2_0 6 rfl rfl)
theorem dJ5_add_2_7 : decode cJ5_add_2 7 = .ok (.invokevirtual 129, 3) := dk_182 0 129 (dk_at dksJ5_add_2_0 7 rfl rfl)
theorem dJ5_add_2_10 : decode cJ5_add_2 10 = .ok (.astore_n 2, 1) := dk_77 (dk_at dksJ5_add_2_0 10 rfl rfl)
theorem dJ5_add_2_11 : decode cJ5_add_2 11 = .ok (.aload_n 2, 1) := dk_44 (dk_at dksJ5_add_2_0 11 rfl rfl)
theorem dJ5_add_2_12 : decode cJ5_add_2 12 = .ok (.iload_n 3, 1) := dk_29 (dk_at dksJ5_add_2_0 12 rfl rfl)
theorem dJ5_add_2_13 : decode cJ5_add_2 13 = .ok (.aload_n 1, 1) := dk_43 (dk_at dksJ5_add_2_0 13 rfl rfl)
theorem dJ5_add_2_14 : decode cJ5_add_2 14 = .ok (.aastore, 1) := dk_83 (dk_at dksJ5_add_2_0 14 rfl rfl)
theorem dJ5_add_2_15 : decode cJ5_add_2 15 = .ok (.aload_n 0, 1) := dk_42 (dk_at dksJ5_add_2_0 15 rfl rfl)
theorem dJ5_add_2_16 : decode cJ5_add_2 16 = .ok (.iload_n 3, 1) := dk_29 (dk_at dksJ5_add_2_0 16 rfl rfl)
theorem dJ5_add_2_17 : decode cJ5_add_2 17 = .ok (.iconst 1, 1) := dk_4 (dk_at dksJ5_add_2_0 17 rfl rfl)
theorem dJ5_add_2_18 : decode cJ5_add_2 18 = .ok (.iadd, 1) := dk_96 (dk_at dksJ5_add_2_0 18 rfl rfl)
theorem dJ5_add_2_19 : decode cJ5_add_2 19 = .ok (.putfield 48, 3) := dk_181 0 48 (dk_at dksJ5_add_2_0 19 rfl rfl)
theorem dJ5_add_2_22 : decode cJ5_add_2 22 = .ok (.return_, 1) := dk_177 (dk_at dksJ5_add_2_0 22 rfl rfl)
abbrev cJ5_grow : ByteArray := prog_50_method_7_code
def yJ5_grow : MethodName := ⟨RJ5, "grow", "()[Ljava/lang/Object;"⟩
def dkwJ5_grow_0 : List UInt8 := [42, 42, 180, 0, 48, 4, 96, 182, 0, 69, 176]
abbrev dktJ5_grow_0 : List UInt8 := dkwJ5_grow_0 ++ []
theorem dksJ5_grow_0 : cJ5_grow.data.toList.drop 0 = dktJ5_grow_0 := by decide +kernel
theorem dJ5_grow_0 : decode cJ5_grow 0 = .ok (.aload_n 0, 1) := dk_42 (dk_at dksJ5_grow_0 0 rfl rfl)
theorem dJ5_grow_1 : decode cJ5_grow 1 = .ok (.aload_n 0, 1) := dk_42 (dk_at dksJ5_grow_0 1 rfl rfl)
theorem dJ5_grow_2 : decode cJ5_grow 2 = .ok (.getfield 48, 3) := dk_180 0 48 (dk_at dksJ5_grow_0 2 rfl rfl)
theorem dJ5_grow_5 : decode cJ5_grow 5 = .ok (.iconst 1, 1) := dk_4 (dk_at dksJ5_grow_0 5 rfl rfl)
theorem dJ5_grow_6 : decode cJ5_grow 6 = .ok (.iadd, 1) := dk_96 (dk_at dksJ5_grow_0 6 rfl rfl)
theorem dJ5_grow_7 : decode cJ5_grow 7 = .ok (.invokevirtual 69, 3) := dk_182 0 69 (dk_at dksJ5_grow_0 7 rfl rfl)
theorem dJ5_grow_10 : decode cJ5_grow 10 = .ok (.areturn, 1) := dk_176 (dk_at dksJ5_grow_0 10 rfl rfl)
abbrev cJ5_grow_2 : ByteArray := prog_50_method_6_code
def yJ5_grow_2 : MethodName := ⟨RJ5, "grow", "(I)[Ljava/lang/Object;"⟩
def dkwJ5_grow_2_2 : List UInt8 := [27, 184, 0, 79, 189, 0, 7, 90, 181, 0, 9, 176]
abbrev dktJ5_grow_2_2 : List UInt8 := dkwJ5_grow_2_2 ++ []
def dkwJ5_grow_2_1 : List UInt8 := [28, 4, 122, 184, 0, 73, 62, 42, 42, 180, 0, 9, 29, 184, 0, 66, 90, 181, 0, 9, 176, 42, 16, 10]
abbrev dktJ5_grow_2_1 : List UInt8 := dkwJ5_grow_2_1 ++ dktJ5_grow_2_2
def dkwJ5_grow_2_0 : List UInt8 := [42, 180, 0, 9, 190, 61, 28, 157, 0, 13, 42, 180, 0, 9, 178, 0, 39, 165, 0, 28, 28, 27, 28, 100]
abbrev dktJ5_grow_2_0 : List UInt8 := dkwJ5_grow_2_0 ++ dktJ5_grow_2_1
theorem dksJ5_grow_2_0 : cJ5_grow_2.data.toList.drop 0 = dktJ5_grow_2_0 := by decide +kernel
theorem dksJ5_grow_2_1 : cJ5_grow_2.data.toList.drop 24 = dktJ5_grow_2_1 := dk_seg dksJ5_grow_2_0 24 rfl rfl
theorem dksJ5_grow_2_2 : cJ5_grow_2.data.toList.drop 48 = dktJ5_grow_2_2 := dk_seg dksJ5_grow_2_1 24 rfl rfl
theorem dJ5_grow_2_0 : decode cJ5_grow_2 0 = .ok (.aload_n 0, 1) := dk_42 (dk_at dksJ5_grow_2_0 0 rfl rfl)
theorem dJ5_grow_2_1 : decode cJ5_grow_2 1 = .ok (.getfield 9, 3) := dk_180 0 9 (dk_at dksJ5_grow_2_0 1 rfl rfl)
theorem dJ5_grow_2_4 : decode cJ5_grow_2 4 = .ok (.arraylength, 1) := dk_190 (dk_at dksJ5_grow_2_0 4 rfl rfl)
theorem dJ5_grow_2_5 : decode cJ5_grow_2 5 = .ok (.istore_n 2, 1) := dk_61 (dk_at dksJ5_grow_2_0 5 rfl rfl)
theorem dJ5_grow_2_6 : decode cJ5_grow_2 6 = .ok (.iload_n 2, 1) := dk_28 (dk_at dksJ5_grow_2_0 6 rfl rfl)
theorem dJ5_grow_2_7 : decode cJ5_grow_2 7 = .ok (.ifCond .gt 13, 3) := dk_157 0 13 (dk_at dksJ5_grow_2_0 7 rfl rfl)
theorem dJ5_grow_2_10 : decode cJ5_grow_2 10 = .ok (.aload_n 0, 1) := dk_42 (dk_at dksJ5_grow_2_0 10 rfl rfl)
theorem dJ5_grow_2_11 : decode cJ5_grow_2 11 = .ok (.getfield 9, 3) := dk_180 0 9 (dk_at dksJ5_grow_2_0 11 rfl rfl)
theorem dJ5_grow_2_14 : decode cJ5_grow_2 14 = .ok (.getstatic 39, 3) := dk_178 0 39 (dk_at dksJ5_grow_2_0 14 rfl rfl)
theorem dJ5_grow_2_17 : decode cJ5_grow_2 17 = .ok (.if_acmp .eq 28, 3) := dk_165 0 28 (dk_at dksJ5_grow_2_0 17 rfl rfl)
theorem dJ5_grow_2_20 : decode cJ5_grow_2 20 = .ok (.iload_n 2, 1) := dk_28 (dk_at dksJ5_grow_2_0 20 rfl rfl)
theorem dJ5_grow_2_21 : decode cJ5_grow_2 21 = .ok (.iload_n 1, 1) := dk_27 (dk_at dksJ5_grow_2_0 21 rfl rfl)
theorem dJ5_grow_2_22 : decode cJ5_grow_2 22 = .ok (.iload_n 2, 1) := dk_28 (dk_at dksJ5_grow_2_0 22 rfl rfl)
theorem dJ5_grow_2_23 : decode cJ5_grow_2 23 = .ok (.isub, 1) := dk_100 (dk_at dksJ5_grow_2_0 23 rfl rfl)
theorem dJ5_grow_2_24 : decode cJ5_grow_2 24 = .ok (.iload_n 2, 1) := dk_28 (dk_at dksJ5_grow_2_1 0 rfl rfl)
theorem dJ5_grow_2_25 : decode cJ5_grow_2 25 = .ok (.iconst 1, 1) := dk_4 (dk_at dksJ5_grow_2_1 1 rfl rfl)
theorem dJ5_grow_2_26 : decode cJ5_grow_2 26 = .ok (.ishr, 1) := dk_122 (dk_at dksJ5_grow_2_1 2 rfl rfl)
theorem dJ5_grow_2_27 : decode cJ5_grow_2 27 = .ok (.invokestatic 73, 3) := dk_184 0 73 (dk_at dksJ5_grow_2_1 3 rfl rfl)
theorem dJ5_grow_2_30 : decode cJ5_grow_2 30 = .ok (.istore_n 3, 1) := dk_62 (dk_at dksJ5_grow_2_1 6 rfl rfl)
theorem dJ5_grow_2_31 : decode cJ5_grow_2 31 = .ok (.aload_n 0, 1) := dk_42 (dk_at dksJ5_grow_2_1 7 rfl rfl)
theorem dJ5_grow_2_32 : decode cJ5_grow_2 32 = .ok (.aload_n 0, 1) := dk_42 (dk_at dksJ5_grow_2_1 8 rfl rfl)
theorem dJ5_grow_2_33 : decode cJ5_grow_2 33 = .ok (.getfield 9, 3) := dk_180 0 9 (dk_at dksJ5_grow_2_1 9 rfl rfl)
theorem dJ5_grow_2_36 : decode cJ5_grow_2 36 = .ok (.iload_n 3, 1) := dk_29 (dk_at dksJ5_grow_2_1 12 rfl rfl)
theorem dJ5_grow_2_37 : decode cJ5_grow_2 37 = .ok (.invokestatic 66, 3) := dk_184 0 66 (dk_at dksJ5_grow_2_1 13 rfl rfl)
theorem dJ5_grow_2_40 : decode cJ5_grow_2 40 = .ok (.dup_x1, 1) := dk_90 (dk_at dksJ5_grow_2_1 16 rfl rfl)
theorem dJ5_grow_2_41 : decode cJ5_grow_2 41 = .ok (.putfield 9, 3) := dk_181 0 9 (dk_at dksJ5_grow_2_1 17 rfl rfl)
theorem dJ5_grow_2_44 : decode cJ5_grow_2 44 = .ok (.areturn, 1) := dk_176 (dk_at dksJ5_grow_2_1 20 rfl rfl)
theorem dJ5_grow_2_45 : decode cJ5_grow_2 45 = .ok (.aload_n 0, 1) := dk_42 (dk_at dksJ5_grow_2_1 21 rfl rfl)
theorem dJ5_grow_2_46 : decode cJ5_grow_2 46 = .ok (.bipush 10, 2) := dk_16 10 (dk_at dksJ5_grow_2_1 22 rfl rfl)
theorem dJ5_grow_2_48 : decode cJ5_grow_2 48 = .ok (.iload_n 1, 1) := dk_27 (dk_at dksJ5_grow_2_2 0 rfl rfl)
theorem dJ5_grow_2_49 : decode cJ5_grow_2 49 = .ok (.invokestatic 79, 3) := dk_184 0 79 (dk_at dksJ5_grow_2_2 1 rfl rfl)
theorem dJ5_grow_2_52 : decode cJ5_grow_2 52 = .ok (.anewarray 7, 3) := dk_189 0 7 (dk_at dksJ5_grow_2_2 4 rfl rfl)
theorem dJ5_grow_2_55 : decode cJ5_grow_2 55 = .ok (.dup_x1, 1) := dk_90 (dk_at dksJ5_grow_2_2 7 rfl rfl)
theorem dJ5_grow_2_56 : decode cJ5_grow_2 56 = .ok (.putfield 9, 3) := dk_181 0 9 (dk_at dksJ5_grow_2_2 8 rfl rfl)
theorem dJ5_grow_2_59 : decode cJ5_grow_2 59 = .ok (.areturn, 1) := dk_176 (dk_at dksJ5_grow_2_2 11 rfl rfl)
abbrev cJ5_iterator : ByteArray := prog_50_method_55_code
def yJ5_iterator : MethodName := ⟨RJ5, "iterator", "()Ljava/util/Iterator;"⟩
def dkwJ5_iterator_0 : List UInt8 := [187, 1, 11, 89, 42, 183, 1, 13, 176]
abbrev dktJ5_iterator_0 : List UInt8 := dkwJ5_iterator_0 ++ []
theorem dksJ5_iterator_0 : cJ5_iterator.data.toList.drop 0 = dktJ5_iterator_0 := by decide +kernel
theorem dJ5_iterator_0 : decode cJ5_iterator 0 = .ok (.new 267, 3) := dk_187 1 11 (dk_at dksJ5_iterator_0 0 rfl rfl)
theorem dJ5_iterator_3 : decode cJ5_iterator 3 = .ok (.dup, 1) := dk_89 (dk_at dksJ5_iterator_0 3 rfl rfl)
theorem dJ5_iterator_4 : decode cJ5_iterator 4 = .ok (.aload_n 0, 1) := dk_42 (dk_at dksJ5_iterator_0 4 rfl rfl)
theorem dJ5_iterator_5 : decode cJ5_iterator 5 = .ok (.invokespecial 269, 3) := dk_183 1 13 (dk_at dksJ5_iterator_0 5 rfl rfl)
theorem dJ5_iterator_8 : decode cJ5_iterator 8 = .ok (.areturn, 1) := dk_176 (dk_at dksJ5_iterator_0 8 rfl rfl)
abbrev cJ5_listIterator : ByteArray := prog_50_method_53_code
def yJ5_listIterator : MethodName := ⟨RJ5, "listIterator", "(I)Ljava/util/ListIterator;"⟩
def dkwJ5_listIterator_0 : List UInt8 := [42, 27, 182, 0, 135, 187, 1, 6, 89, 42, 27, 183, 1, 8, 176]
abbrev dktJ5_listIterator_0 : List UInt8 := dkwJ5_listIterator_0 ++ []
theorem dksJ5_listIterator_0 : cJ5_listIterator.data.toList.drop 0 = dktJ5_listIterator_0 := by decide +kernel
theorem dJ5_listIterator_0 : decode cJ5_listIterator 0 = .ok (.aload_n 0, 1) := dk_42 (dk_at dksJ5_listIterator_0 0 rfl rfl)
theorem dJ5_listIterator_1 : decode cJ5_listIterator 1 = .ok (.iload_n 1, 1) := dk_27 (dk_at dksJ5_listIterator_0 1 rfl rfl)
theorem dJ5_listIterator_2 : decode cJ5_listIterator 2 = .ok (.invokevirtual 135, 3) := dk_182 0 135 (dk_at dksJ5_listIterator_0 2 rfl rfl)
theorem dJ5_listIterator_5 : decode cJ5_listIterator 5 = .ok (.new 262, 3) := dk_187 1 6 (dk_at dksJ5_listIterator_0 5 rfl rfl)
theorem dJ5_listIterator_8 : decode cJ5_listIterator 8 = .ok (.dup, 1) := dk_89 (dk_at dksJ5_listIterator_0 8 rfl rfl)
theorem dJ5_listIterator_9 : decode cJ5_listIterator 9 = .ok (.aload_n 0, 1) := dk_42 (dk_at dksJ5_listIterator_0 9 rfl rfl)
theorem dJ5_listIterator_10 : decode cJ5_listIterator 10 = .ok (.iload_n 1, 1) := dk_27 (dk_at dksJ5_listIterator_0 10 rfl rfl)
theorem dJ5_listIterator_11 : decode cJ5_listIterator 11 = .ok (.invokespecial 264, 3) := dk_183 1 8 (dk_at dksJ5_listIterator_0 11 rfl rfl)
theorem dJ5_listIterator_14 : decode cJ5_listIterator 14 = .ok (.areturn, 1) := dk_176 (dk_at dksJ5_listIterator_0 14 rfl rfl)
abbrev cJ5_rangeCheckForAdd : ByteArray := prog_50_method_45_code
def yJ5_rangeCheckForAdd : MethodName := ⟨RJ5, "rangeCheckForAdd", "(I)V"⟩
def dkwJ5_rangeCheckForAdd_1 : List UInt8 := [191, 177]
abbrev dktJ5_rangeCheckForAdd_1 : List UInt8 := dkwJ5_rangeCheckForAdd_1 ++ []
def dkwJ5_rangeCheckForAdd_0 : List UInt8 := [27, 42, 180, 0, 48, 163, 0, 7, 27, 156, 0, 16, 187, 0, 187, 89, 42, 27, 182, 0, 198, 183, 0, 193]
abbrev dktJ5_rangeCheckForAdd_0 : List UInt8 := dkwJ5_rangeCheckForAdd_0 ++ dktJ5_rangeCheckForAdd_1
theorem dksJ5_rangeCheckForAdd_0 : cJ5_rangeCheckForAdd.data.toList.drop 0 = dktJ5_rangeCheckForAdd_0 := by decide +kernel
theorem dksJ5_rangeCheckForAdd_1 : cJ5_rangeCheckForAdd.data.toList.drop 24 = dktJ5_rangeCheckForAdd_1 := dk_seg dksJ5_rangeCheckForAdd_0 24 rfl rfl
theorem dJ5_rangeCheckForAdd_0 : decode cJ5_rangeCheckForAdd 0 = .ok (.iload_n 1, 1) := dk_27 (dk_at dksJ5_rangeCheckForAdd_0 0 rfl rfl)
theorem dJ5_rangeCheckForAdd_1 : decode cJ5_rangeCheckForAdd 1 = .ok (.aload_n 0, 1) := dk_42 (dk_at dksJ5_rangeCheckForAdd_0 1 rfl rfl)
theorem dJ5_rangeCheckForAdd_2 : decode cJ5_rangeCheckForAdd 2 = .ok (.getfield 48, 3) := dk_180 0 48 (dk_at dksJ5_rangeCheckForAdd_0 2 rfl rfl)
theorem dJ5_rangeCheckForAdd_5 : decode cJ5_rangeCheckForAdd 5 = .ok (.if_icmp .gt 7, 3) := dk_163 0 7 (dk_at dksJ5_rangeCheckForAdd_0 5 rfl rfl)
theorem dJ5_rangeCheckForAdd_8 : decode cJ5_rangeCheckForAdd 8 = .ok (.iload_n 1, 1) := dk_27 (dk_at dksJ5_rangeCheckForAdd_0 8 rfl rfl)
theorem dJ5_rangeCheckForAdd_9 : decode cJ5_rangeCheckForAdd 9 = .ok (.ifCond .ge 16, 3) := dk_156 0 16 (dk_at dksJ5_rangeCheckForAdd_0 9 rfl rfl)
theorem dJ5_rangeCheckForAdd_12 : decode cJ5_rangeCheckForAdd 12 = .ok (.new 187, 3) := dk_187 0 187 (dk_at dksJ5_rangeCheckForAdd_0 12 rfl rfl)
theorem dJ5_rangeCheckForAdd_15 : decode cJ5_rangeCheckForAdd 15 = .ok (.dup, 1) := dk_89 (dk_at dksJ5_rangeCheckForAdd_0 15 rfl rfl)
theorem dJ5_rangeCheckForAdd_16 : decode cJ5_rangeCheckForAdd 16 = .ok (.aload_n 0, 1) := dk_42 (dk_at dksJ5_rangeCheckForAdd_0 16 rfl rfl)
theorem dJ5_rangeCheckForAdd_17 : decode cJ5_rangeCheckForAdd 17 = .ok (.iload_n 1, 1) := dk_27 (dk_at dksJ5_rangeCheckForAdd_0 17 rfl rfl)
theorem dJ5_rangeCheckForAdd_18 : decode cJ5_rangeCheckForAdd 18 = .ok (.invokevirtual 198, 3) := dk_182 0 198 (dk_at dksJ5_rangeCheckForAdd_0 18 rfl rfl)
theorem dJ5_rangeCheckForAdd_21 : decode cJ5_rangeCheckForAdd 21 = .ok (.invokespecial 193, 3) := dk_183 0 193 (dk_at dksJ5_rangeCheckForAdd_0 21 rfl rfl)
theorem dJ5_rangeCheckForAdd_24 : decode cJ5_rangeCheckForAdd 24 = .ok (.athrow, 1) := dk_191 (dk_at dksJ5_rangeCheckForAdd_1 0 rfl rfl)
theorem dJ5_rangeCheckForAdd_25 : decode cJ5_rangeCheckForAdd 25 = .ok (.return_, 1) := dk_177 (dk_at dksJ5_rangeCheckForAdd_1 1 rfl rfl)
abbrev cJ5_outOfBoundsMsg : ByteArray := prog_50_method_46_code
def yJ5_outOfBoundsMsg : MethodName := ⟨RJ5, "outOfBoundsMsg", "(I)Ljava/lang/String;"⟩
def dkwJ5_outOfBoundsMsg_1 : List UInt8 := [180, 0, 48, 182, 0, 29, 182, 0, 32, 176]
abbrev dktJ5_outOfBoundsMsg_1 : List UInt8 := dkwJ5_outOfBoundsMsg_1 ++ []
def dkwJ5_outOfBoundsMsg_0 : List UInt8 := [187, 0, 20, 89, 183, 0, 22, 18, 201, 182, 0, 25, 27, 182, 0, 29, 18, 203, 182, 0, 25, 42]
abbrev dktJ5_outOfBoundsMsg_0 : List UInt8 := dkwJ5_outOfBoundsMsg_0 ++ dktJ5_outOfBoundsMsg_1
theorem dksJ5_outOfBoundsMsg_0 : cJ5_outOfBoundsMsg.data.toList.drop 0 = dktJ5_outOfBoundsMsg_0 := by decide +kernel
theorem dksJ5_outOfBoundsMsg_1 : cJ5_outOfBoundsMsg.data.toList.drop 22 = dktJ5_outOfBoundsMsg_1 := dk_seg dksJ5_outOfBoundsMsg_0 22 rfl rfl
theorem dJ5_outOfBoundsMsg_0 : decode cJ5_outOfBoundsMsg 0 = .ok (.new 20, 3) := dk_187 0 20 (dk_at dksJ5_outOfBoundsMsg_0 0 rfl rfl)
theorem dJ5_outOfBoundsMsg_3 : decode cJ5_outOfBoundsMsg 3 = .ok (.dup, 1) := dk_89 (dk_at dksJ5_outOfBoundsMsg_0 3 rfl rfl)
theorem dJ5_outOfBoundsMsg_4 : decode cJ5_outOfBoundsMsg 4 = .ok (.invokespecial 22, 3) := dk_183 0 22 (dk_at dksJ5_outOfBoundsMsg_0 4 rfl rfl)
theorem dJ5_outOfBoundsMsg_7 : decode cJ5_outOfBoundsMsg 7 = .ok (.ldc 201, 2) := dk_18 201 (dk_at dksJ5_outOfBoundsMsg_0 7 rfl rfl)
theorem dJ5_outOfBoundsMsg_9 : decode cJ5_outOfBoundsMsg 9 = .ok (.invokevirtual 25, 3) := dk_182 0 25 (dk_at dksJ5_outOfBoundsMsg_0 9 rfl rfl)
theorem dJ5_outOfBoundsMsg_12 : decode cJ5_outOfBoundsMsg 12 = .ok (.iload_n 1, 1) := dk_27 (dk_at dksJ5_outOfBoundsMsg_0 12 rfl rfl)
theorem dJ5_outOfBoundsMsg_13 : decode cJ5_outOfBoundsMsg 13 = .ok (.invokevirtual 29, 3) := dk_182 0 29 (dk_at dksJ5_outOfBoundsMsg_0 13 rfl rfl)
theorem dJ5_outOfBoundsMsg_16 : decode cJ5_outOfBoundsMsg 16 = .ok (.ldc 203, 2) := dk_18 203 (dk_at dksJ5_outOfBoundsMsg_0 16 rfl rfl)
theorem dJ5_outOfBoundsMsg_18 : decode cJ5_outOfBoundsMsg 18 = .ok (.invokevirtual 25, 3) := dk_182 0 25 (dk_at dksJ5_outOfBoundsMsg_0 18 rfl rfl)
theorem dJ5_outOfBoundsMsg_21 : decode cJ5_outOfBoundsMsg 21 = .ok (.aload_n 0, 1) := dk_42 (dk_at dksJ5_outOfBoundsMsg_0 21 rfl rfl)
theorem dJ5_outOfBoundsMsg_22 : decode cJ5_outOfBoundsMsg 22 = .ok (.getfield 48, 3) := dk_180 0 48 (dk_at dksJ5_outOfBoundsMsg_1 0 rfl rfl)
theorem dJ5_outOfBoundsMsg_25 : decode cJ5_outOfBoundsMsg 25 = .ok (.invokevirtual 29, 3) := dk_182 0 29 (dk_at dksJ5_outOfBoundsMsg_1 3 rfl rfl)
theorem dJ5_outOfBoundsMsg_28 : decode cJ5_outOfBoundsMsg 28 = .ok (.invokevirtual 32, 3) := dk_182 0 32 (dk_at dksJ5_outOfBoundsMsg_1 6 rfl rfl)
theorem dJ5_outOfBoundsMsg_31 : decode cJ5_outOfBoundsMsg 31 = .ok (.areturn, 1) := dk_176 (dk_at dksJ5_outOfBoundsMsg_1 9 rfl rfl)
abbrev cJ5_contains : ByteArray := prog_50_method_10_code
def yJ5_contains : MethodName := ⟨RJ5, "contains", "(Ljava/lang/Object;)Z"⟩
def dkwJ5_contains_0 : List UInt8 := [42, 43, 182, 0, 85, 155, 0, 7, 4, 167, 0, 4, 3, 172]
abbrev dktJ5_contains_0 : List UInt8 := dkwJ5_contains_0 ++ []
theorem dksJ5_contains_0 : cJ5_contains.data.toList.drop 0 = dktJ5_contains_0 := by decide +kernel
theorem dJ5_contains_0 : decode cJ5_contains 0 = .ok (.aload_n 0, 1) := dk_42 (dk_at dksJ5_contains_0 0 rfl rfl)
theorem dJ5_contains_1 : decode cJ5_contains 1 = .ok (.aload_n 1, 1) := dk_43 (dk_at dksJ5_contains_0 1 rfl rfl)
theorem dJ5_contains_2 : decode cJ5_contains 2 = .ok (.invokevirtual 85, 3) := dk_182 0 85 (dk_at dksJ5_contains_0 2 rfl rfl)
theorem dJ5_contains_5 : decode cJ5_contains 5 = .ok (.ifCond .lt 7, 3) := dk_155 0 7 (dk_at dksJ5_contains_0 5 rfl rfl)
theorem dJ5_contains_8 : decode cJ5_contains 8 = .ok (.iconst 1, 1) := dk_4 (dk_at dksJ5_contains_0 8 rfl rfl)
theorem dJ5_contains_9 : decode cJ5_contains 9 = .ok (.goto 4, 3) := dk_167 0 4 (dk_at dksJ5_contains_0 9 rfl rfl)
theorem dJ5_contains_12 : decode cJ5_contains 12 = .ok (.iconst 0, 1) := dk_3 (dk_at dksJ5_contains_0 12 rfl rfl)
theorem dJ5_contains_13 : decode cJ5_contains 13 = .ok (.ireturn, 1) := dk_172 (dk_at dksJ5_contains_0 13 rfl rfl)
abbrev cJ5_indexOf : ByteArray := prog_50_method_11_code
def yJ5_indexOf : MethodName := ⟨RJ5, "indexOf", "(Ljava/lang/Object;)I"⟩
def dkwJ5_indexOf_0 : List UInt8 := [42, 43, 3, 42, 180, 0, 48, 182, 0, 89, 172]
abbrev dktJ5_indexOf_0 : List UInt8 := dkwJ5_indexOf_0 ++ []
theorem dksJ5_indexOf_0 : cJ5_indexOf.data.toList.drop 0 = dktJ5_indexOf_0 := by decide +kernel
theorem dJ5_indexOf_0 : decode cJ5_indexOf 0 = .ok (.aload_n 0, 1) := dk_42 (dk_at dksJ5_indexOf_0 0 rfl rfl)
theorem dJ5_indexOf_1 : decode cJ5_indexOf 1 = .ok (.aload_n 1, 1) := dk_43 (dk_at dksJ5_indexOf_0 1 rfl rfl)
theorem dJ5_indexOf_2 : decode cJ5_indexOf 2 = .ok (.iconst 0, 1) := dk_3 (dk_at dksJ5_indexOf_0 2 rfl rfl)
theorem dJ5_indexOf_3 : decode cJ5_indexOf 3 = .ok (.aload_n 0, 1) := dk_42 (dk_at dksJ5_indexOf_0 3 rfl rfl)
theorem dJ5_indexOf_4 : decode cJ5_indexOf 4 = .ok (.getfield 48, 3) := dk_180 0 48 (dk_at dksJ5_indexOf_0 4 rfl rfl)
theorem dJ5_indexOf_7 : decode cJ5_indexOf 7 = .ok (.invokevirtual 89, 3) := dk_182 0 89 (dk_at dksJ5_indexOf_0 7 rfl rfl)
theorem dJ5_indexOf_10 : decode cJ5_indexOf 10 = .ok (.ireturn, 1) := dk_172 (dk_at dksJ5_indexOf_0 10 rfl rfl)
abbrev cJ5_indexOfRange : ByteArray := prog_50_method_12_code
def yJ5_indexOfRange : MethodName := ⟨RJ5, "indexOfRange", "(Ljava/lang/Object;II)I"⟩
def dkwJ5_indexOfRange_2 : List UInt8 := [43, 25, 4, 21, 5, 50, 182, 0, 93, 153, 0, 6, 21, 5, 172, 132, 5, 1, 167, 255, 232, 2, 172]
abbrev dktJ5_indexOfRange_2 : List UInt8 := dkwJ5_indexOfRange_2 ++ []
def dkwJ5_indexOfRange_1 : List UInt8 := [199, 0, 6, 21, 5, 172, 132, 5, 1, 167, 255, 236, 167, 0, 33, 28, 54, 5, 21, 5, 29, 162, 0, 24]
abbrev dktJ5_indexOfRange_1 : List UInt8 := dkwJ5_indexOfRange_1 ++ dktJ5_indexOfRange_2
def dkwJ5_indexOfRange_0 : List UInt8 := [42, 180, 0, 9, 58, 4, 43, 199, 0, 32, 28, 54, 5, 21, 5, 29, 162, 0, 20, 25, 4, 21, 5, 50]
abbrev dktJ5_indexOfRange_0 : List UInt8 := dkwJ5_indexOfRange_0 ++ dktJ5_indexOfRange_1
theorem dksJ5_indexOfRange_0 : cJ5_indexOfRange.data.toList.drop 0 = dktJ5_indexOfRange_0 := by decide +kernel
theorem dksJ5_indexOfRange_1 : cJ5_indexOfRange.data.toList.drop 24 = dktJ5_indexOfRange_1 := dk_seg dksJ5_indexOfRange_0 24 rfl rfl
theorem dksJ5_indexOfRange_2 : cJ5_indexOfRange.data.toList.drop 48 = dktJ5_indexOfRange_2 := dk_seg dksJ5_indexOfRange_1 24 rfl rfl
theorem dJ5_indexOfRange_0 : decode cJ5_indexOfRange 0 = .ok (.aload_n 0, 1) := dk_42 (dk_at dksJ5_indexOfRange_0 0 rfl rfl)
theorem dJ5_indexOfRange_1 : decode cJ5_indexOfRange 1 = .ok (.getfield 9, 3) := dk_180 0 9 (dk_at dksJ5_indexOfRange_0 1 rfl rfl)
theorem dJ5_indexOfRange_4 : decode cJ5_indexOfRange 4 = .ok (.astore 4, 2) := dk_58 4 (dk_at dksJ5_indexOfRange_0 4 rfl rfl)
theorem dJ5_indexOfRange_6 : decode cJ5_indexOfRange 6 = .ok (.aload_n 1, 1) := dk_43 (dk_at dksJ5_indexOfRange_0 6 rfl rfl)
theorem dJ5_indexOfRange_7 : decode cJ5_indexOfRange 7 = .ok (.ifnonnull 32, 3) := dk_199 0 32 (dk_at dksJ5_indexOfRange_0 7 rfl rfl)
theorem dJ5_indexOfRange_10 : decode cJ5_indexOfRange 10 = .ok (.iload_n 2, 1) := dk_28 (dk_at dksJ5_indexOfRange_0 10 rfl rfl)
theorem dJ5_indexOfRange_11 : decode cJ5_indexOfRange 11 = .ok (.istore 5, 2) := dk_54 5 (dk_at dksJ5_indexOfRange_0 11 rfl rfl)
theorem dJ5_indexOfRange_13 : decode cJ5_indexOfRange 13 = .ok (.iload 5, 2) := dk_21 5 (dk_at dksJ5_indexOfRange_0 13 rfl rfl)
theorem dJ5_indexOfRange_15 : decode cJ5_indexOfRange 15 = .ok (.iload_n 3, 1) := dk_29 (dk_at dksJ5_indexOfRange_0 15 rfl rfl)
theorem dJ5_indexOfRange_16 : decode cJ5_indexOfRange 16 = .ok (.if_icmp .ge 20, 3) := dk_162 0 20 (dk_at dksJ5_indexOfRange_0 16 rfl rfl)
theorem dJ5_indexOfRange_19 : decode cJ5_indexOfRange 19 = .ok (.aload 4, 2) := dk_25 4 (dk_at dksJ5_indexOfRange_0 19 rfl rfl)
theorem dJ5_indexOfRange_21 : decode cJ5_indexOfRange 21 = .ok (.iload 5, 2) := dk_21 5 (dk_at dksJ5_indexOfRange_0 21 rfl rfl)
theorem dJ5_indexOfRange_23 : decode cJ5_indexOfRange 23 = .ok (.aaload, 1) := dk_50 (dk_at dksJ5_indexOfRange_0 23 rfl rfl)
theorem dJ5_indexOfRange_24 : decode cJ5_indexOfRange 24 = .ok (.ifnonnull 6, 3) := dk_199 0 6 (dk_at dksJ5_indexOfRange_1 0 rfl rfl)
theorem dJ5_indexOfRange_27 : decode cJ5_indexOfRange 27 = .ok (.iload 5, 2) := dk_21 5 (dk_at dksJ5_indexOfRange_1 3 rfl rfl)
theorem dJ5_indexOfRange_29 : decode cJ5_indexOfRange 29 = .ok (.ireturn, 1) := dk_172 (dk_at dksJ5_indexOfRange_1 5 rfl rfl)
theorem dJ5_indexOfRange_30 : decode cJ5_indexOfRange 30 = .ok (.iinc 5 1, 3) := dk_132 5 1 (dk_at dksJ5_indexOfRange_1 6 rfl rfl)
theorem dJ5_indexOfRange_33 : decode cJ5_indexOfRange 33 = .ok (.goto (-20), 3) := dk_167 255 236 (dk_at dksJ5_indexOfRange_1 9 rfl rfl)
theorem dJ5_indexOfRange_36 : decode cJ5_indexOfRange 36 = .ok (.goto 33, 3) := dk_167 0 33 (dk_at dksJ5_indexOfRange_1 12 rfl rfl)
theorem dJ5_indexOfRange_39 : decode cJ5_indexOfRange 39 = .ok (.iload_n 2, 1) := dk_28 (dk_at dksJ5_indexOfRange_1 15 rfl rfl)
theorem dJ5_indexOfRange_40 : decode cJ5_indexOfRange 40 = .ok (.istore 5, 2) := dk_54 5 (dk_at dksJ5_indexOfRange_1 16 rfl rfl)
theorem dJ5_indexOfRange_42 : decode cJ5_indexOfRange 42 = .ok (.iload 5, 2) := dk_21 5 (dk_at dksJ5_indexOfRange_1 18 rfl rfl)
theorem dJ5_indexOfRange_44 : decode cJ5_indexOfRange 44 = .ok (.iload_n 3, 1) := dk_29 (dk_at dksJ5_indexOfRange_1 20 rfl rfl)
theorem dJ5_indexOfRange_45 : decode cJ5_indexOfRange 45 = .ok (.if_icmp .ge 24, 3) := dk_162 0 24 (dk_at dksJ5_indexOfRange_1 21 rfl rfl)
theorem dJ5_indexOfRange_48 : decode cJ5_indexOfRange 48 = .ok (.aload_n 1, 1) := dk_43 (dk_at dksJ5_indexOfRange_2 0 rfl rfl)
theorem dJ5_indexOfRange_49 : decode cJ5_indexOfRange 49 = .ok (.aload 4, 2) := dk_25 4 (dk_at dksJ5_indexOfRange_2 1 rfl rfl)
theorem dJ5_indexOfRange_51 : decode cJ5_indexOfRange 51 = .ok (.iload 5, 2) := dk_21 5 (dk_at dksJ5_indexOfRange_2 3 rfl rfl)
theorem dJ5_indexOfRange_53 : decode cJ5_indexOfRange 53 = .ok (.aaload, 1) := dk_50 (dk_at dksJ5_indexOfRange_2 5 rfl rfl)
theorem dJ5_indexOfRange_54 : decode cJ5_indexOfRange 54 = .ok (.invokevirtual 93, 3) := dk_182 0 93 (dk_at dksJ5_indexOfRange_2 6 rfl rfl)
theorem dJ5_indexOfRange_57 : decode cJ5_indexOfRange 57 = .ok (.ifCond .eq 6, 3) := dk_153 0 6 (dk_at dksJ5_indexOfRange_2 9 rfl rfl)
theorem dJ5_indexOfRange_60 : decode cJ5_indexOfRange 60 = .ok (.iload 5, 2) := dk_21 5 (dk_at dksJ5_indexOfRange_2 12 rfl rfl)
theorem dJ5_indexOfRange_62 : decode cJ5_indexOfRange 62 = .ok (.ireturn, 1) := dk_172 (dk_at dksJ5_indexOfRange_2 14 rfl rfl)
theorem dJ5_indexOfRange_63 : decode cJ5_indexOfRange 63 = .ok (.iinc 5 1, 3) := dk_132 5 1 (dk_at dksJ5_indexOfRange_2 15 rfl rfl)
theorem dJ5_indexOfRange_66 : decode cJ5_indexOfRange 66 = .ok (.goto (-24), 3) := dk_167 255 232 (dk_at dksJ5_indexOfRange_2 18 rfl rfl)
theorem dJ5_indexOfRange_69 : decode cJ5_indexOfRange 69 = .ok (.iconst (-1), 1) := dk_2 (dk_at dksJ5_indexOfRange_2 21 rfl rfl)
theorem dJ5_indexOfRange_70 : decode cJ5_indexOfRange 70 = .ok (.ireturn, 1) := dk_172 (dk_at dksJ5_indexOfRange_2 22 rfl rfl)
abbrev cJ5_isEmpty : ByteArray := prog_50_method_9_code
def yJ5_isEmpty : MethodName := ⟨RJ5, "isEmpty", "()Z"⟩
def dkwJ5_isEmpty_0 : List UInt8 := [42, 180, 0, 48, 154, 0, 7, 4, 167, 0, 4, 3, 172]
abbrev dktJ5_isEmpty_0 : List UInt8 := dkwJ5_isEmpty_0 ++ []
theorem dksJ5_isEmpty_0 : cJ5_isEmpty.data.toList.drop 0 = dktJ5_isEmpty_0 := by decide +kernel
theorem dJ5_isEmpty_0 : decode cJ5_isEmpty 0 = .ok (.aload_n 0, 1) := dk_42 (dk_at dksJ5_isEmpty_0 0 rfl rfl)
theorem dJ5_isEmpty_1 : decode cJ5_isEmpty 1 = .ok (.getfield 48, 3) := dk_180 0 48 (dk_at dksJ5_isEmpty_0 1 rfl rfl)
theorem dJ5_isEmpty_4 : decode cJ5_isEmpty 4 = .ok (.ifCond .ne 7, 3) := dk_154 0 7 (dk_at dksJ5_isEmpty_0 4 rfl rfl)
theorem dJ5_isEmpty_7 : decode cJ5_isEmpty 7 = .ok (.iconst 1, 1) := dk_4 (dk_at dksJ5_isEmpty_0 7 rfl rfl)
theorem dJ5_isEmpty_8 : decode cJ5_isEmpty 8 = .ok (.goto 4, 3) := dk_167 0 4 (dk_at dksJ5_isEmpty_0 8 rfl rfl)
theorem dJ5_isEmpty_11 : decode cJ5_isEmpty 11 = .ok (.iconst 0, 1) := dk_3 (dk_at dksJ5_isEmpty_0 11 rfl rfl)
theorem dJ5_isEmpty_12 : decode cJ5_isEmpty 12 = .ok (.ireturn, 1) := dk_172 (dk_at dksJ5_isEmpty_0 12 rfl rfl)
theorem q104 : (Jvm.Cond.initialized "java/util/ArrayList") ∈ lw_all := lw_g (lw_at lw_m1 10 rfl) rfl
theorem q264 : (Jvm.Cond.instantiable "java/util/ArrayList" (3 : Nat)) ∈ lw_all := lw_g (lw_at lw_m1 170 rfl) rfl
theorem q266 : (Jvm.Cond.instanceMethod ({ cls := "java/util/ArrayList", name := "<init>", desc := "()V" } : Jvm.MethodName)) ∈ lw_all := lw_g (lw_at lw_m1 172 rfl) rfl
theorem q267 : (Jvm.Cond.code ({ cls := "java/util/ArrayList", name := "<init>", desc := "()V" } : Jvm.MethodName) prog_50_method_2_code (1 : Nat) (Option.none : Option Jvm.ClassFile.FieldType)) ∈ lw_all := lw_g (lw_at lw_m1 173 rfl) rfl
theorem q268 : (Jvm.Cond.methodLink "java/util/ArrayList" (1 : Nat) ({ cls := "java/util/AbstractList", name := "<init>", desc := "()V" } : Jvm.MethodName)) ∈ lw_all := lw_g (lw_at lw_m1 174 rfl) rfl
theorem q272 : (Jvm.Cond.fieldLink "java/util/ArrayList" (39 : Nat) "java/util/ArrayList" "DEFAULTCAPACITY_EMPTY_ELEMENTDATA" "[Ljava/lang/Object;") ∈ lw_all := lw_g (lw_at lw_m1 178 rfl) rfl
theorem q273 : (Jvm.Cond.laysStatic "java/util/ArrayList" "DEFAULTCAPACITY_EMPTY_ELEMENTDATA" "[Ljava/lang/Object;") ∈ lw_tbl := lw_at lw_m1 179 rfl
theorem q274 : (Jvm.Cond.fieldLink "java/util/ArrayList" (9 : Nat) "java/util/ArrayList" "elementData" "[Ljava/lang/Object;") ∈ lw_all := lw_g (lw_at lw_m1 180 rfl) rfl
theorem q277 : (Jvm.Cond.fieldLink "java/util/ArrayList" (48 : Nat) "java/util/ArrayList" "size" "I") ∈ lw_all := lw_g (lw_at lw_m1 183 rfl) rfl
theorem q282 : (Jvm.Cond.sameField "java/util/ArrayList" "java/util/AbstractList" "modCount" "I") ∈ lw_all := lw_g (lw_at lw_m1 188 rfl) rfl
theorem q285 : (Jvm.Cond.fieldLink "java/util/ArrayList" (63 : Nat) "java/util/ArrayList" "modCount" "I") ∈ lw_all := lw_g (lw_at lw_m1 191 rfl) rfl
theorem q286 : (Jvm.Cond.lays "java/util/ArrayList" "java/util/ArrayList" "elementData" "[Ljava/lang/Object;") ∈ lw_all := lw_g (lw_at lw_m1 192 rfl) rfl
theorem q287 : (Jvm.Cond.soleField "java/util/ArrayList" "elementData") ∈ lw_all := lw_g (lw_at lw_m1 193 rfl) rfl
theorem q288 : (Jvm.Cond.lays "java/util/ArrayList" "java/util/ArrayList" "size" "I") ∈ lw_all := lw_g (lw_at lw_m1 194 rfl) rfl
theorem q289 : (Jvm.Cond.soleField "java/util/ArrayList" "size") ∈ lw_all := lw_g (lw_at lw_m1 195 rfl) rfl
theorem q290 : (Jvm.Cond.lays "java/util/ArrayList" "java/util/AbstractList" "modCount" "I") ∈ lw_all := lw_g (lw_at lw_m1 196 rfl) rfl
theorem q292 : (Jvm.Cond.superclass "java/util/ArrayList" "java/util/AbstractList") ∈ lw_all := lw_g (lw_at lw_m1 198 rfl) rfl
theorem q434 : (Jvm.Cond.castable "java/util/ArrayList" "java/util/List") ∈ lw_tbl := lw_at lw_m2 100 rfl
theorem q435 : (Jvm.Cond.selects "java/util/ArrayList" ({ cls := "java/util/List", name := "size", desc := "()I" } : Jvm.MethodName) ({ cls := "java/util/ArrayList", name := "size", desc := "()I" } : Jvm.MethodName)) ∈ lw_all := lw_g (lw_at lw_m2 101 rfl) rfl
theorem q436 : (Jvm.Cond.unhidden "java/util/ArrayList" "size" "()I") ∈ lw_tbl := lw_at lw_m2 102 rfl
theorem q437 : (Jvm.Cond.instanceMethod ({ cls := "java/util/ArrayList", name := "size", desc := "()I" } : Jvm.MethodName)) ∈ lw_all := lw_g (lw_at lw_m2 103 rfl) rfl
theorem q438 : (Jvm.Cond.publicMethod ({ cls := "java/util/ArrayList", name := "size", desc := "()I" } : Jvm.MethodName)) ∈ lw_tbl := lw_at lw_m2 104 rfl
theorem q439 : (Jvm.Cond.code ({ cls := "java/util/ArrayList", name := "size", desc := "()I" } : Jvm.MethodName) prog_50_method_8_code (1 : Nat) (Option.some Jvm.ClassFile.FieldType.int)) ∈ lw_all := lw_g (lw_at lw_m2 105 rfl) rfl
theorem q478 : (Jvm.Cond.selects "java/util/ArrayList" ({ cls := "java/util/List", name := "get", desc := "(I)Ljava/lang/Object;" } : Jvm.MethodName) ({ cls := "java/util/ArrayList", name := "get", desc := "(I)Ljava/lang/Object;" } : Jvm.MethodName)) ∈ lw_all := lw_g (lw_at lw_m2 144 rfl) rfl
theorem q479 : (Jvm.Cond.unhidden "java/util/ArrayList" "get" "(I)Ljava/lang/Object;") ∈ lw_tbl := lw_at lw_m2 145 rfl
theorem q480 : (Jvm.Cond.instanceMethod ({ cls := "java/util/ArrayList", name := "get", desc := "(I)Ljava/lang/Object;" } : Jvm.MethodName)) ∈ lw_all := lw_g (lw_at lw_m2 146 rfl) rfl
theorem q481 : (Jvm.Cond.publicMethod ({ cls := "java/util/ArrayList", name := "get", desc := "(I)Ljava/lang/Object;" } : Jvm.MethodName)) ∈ lw_tbl := lw_at lw_m2 147 rfl
theorem q482 : (Jvm.Cond.code ({ cls := "java/util/ArrayList", name := "get", desc := "(I)Ljava/lang/Object;" } : Jvm.MethodName) prog_50_method_20_code (2 : Nat) (Option.some (Jvm.ClassFile.FieldType.object "java/lang/Object"))) ∈ lw_all := lw_g (lw_at lw_m2 148 rfl) rfl
theorem q483 : (Jvm.Cond.methodLink "java/util/ArrayList" (118 : Nat) ({ cls := "java/util/Objects", name := "checkIndex", desc := "(II)I" } : Jvm.MethodName)) ∈ lw_all := lw_g (lw_at lw_m2 149 rfl) rfl
theorem q489 : (Jvm.Cond.methodLink "java/util/ArrayList" (123 : Nat) ({ cls := "java/util/ArrayList", name := "elementData", desc := "(I)Ljava/lang/Object;" } : Jvm.MethodName)) ∈ lw_all := lw_g (lw_at lw_m2 155 rfl) rfl
theorem q490 : (Jvm.Cond.instanceMethod ({ cls := "java/util/ArrayList", name := "elementData", desc := "(I)Ljava/lang/Object;" } : Jvm.MethodName)) ∈ lw_all := lw_g (lw_at lw_m2 156 rfl) rfl
theorem q491 : (Jvm.Cond.selects "java/util/ArrayList" ({ cls := "java/util/ArrayList", name := "elementData", desc := "(I)Ljava/lang/Object;" } : Jvm.MethodName) ({ cls := "java/util/ArrayList", name := "elementData", desc := "(I)Ljava/lang/Object;" } : Jvm.MethodName)) ∈ lw_all := lw_g (lw_at lw_m2 157 rfl) rfl
theorem q492 : (Jvm.Cond.code ({ cls := "java/util/ArrayList", name := "elementData", desc := "(I)Ljava/lang/Object;" } : Jvm.MethodName) prog_50_method_18_code (2 : Nat) (Option.some (Jvm.ClassFile.FieldType.object "java/lang/Object"))) ∈ lw_all := lw_g (lw_at lw_m2 158 rfl) rfl
theorem q1098 : (Jvm.Cond.selects "java/util/ArrayList" ({ cls := "java/util/AbstractList", name := "size", desc := "()I" } : Jvm.MethodName) ({ cls := "java/util/ArrayList", name := "size", desc := "()I" } : Jvm.MethodName)) ∈ lw_all := lw_g (lw_at lw_m5 44 rfl) rfl
theorem q1453 : (Jvm.Cond.selects "java/util/ArrayList" ({ cls := "java/util/AbstractList", name := "get", desc := "(I)Ljava/lang/Object;" } : Jvm.MethodName) ({ cls := "java/util/ArrayList", name := "get", desc := "(I)Ljava/lang/Object;" } : Jvm.MethodName)) ∈ lw_all := lw_g (lw_at lw_m6 159 rfl) rfl
theorem q1504 : (Jvm.Cond.selects "java/util/ArrayList" ({ cls := "java/lang/Object", name := "getClass", desc := "()Ljava/lang/Class;" } : Jvm.MethodName) ({ cls := "java/lang/Object", name := "getClass", desc := "()Ljava/lang/Class;" } : Jvm.MethodName)) ∈ lw_all := lw_g (lw_at lw_m6 210 rfl) rfl
theorem q1630 : (Jvm.Cond.selects "java/util/ArrayList" ({ cls := "java/util/List", name := "set", desc := "(ILjava/lang/Object;)Ljava/lang/Object;" } : Jvm.MethodName) ({ cls := "java/util/ArrayList", name := "set", desc := "(ILjava/lang/Object;)Ljava/lang/Object;" } : Jvm.MethodName)) ∈ lw_all := lw_g (lw_at lw_m7 96 rfl) rfl
theorem q1631 : (Jvm.Cond.unhidden "java/util/ArrayList" "set" "(ILjava/lang/Object;)Ljava/lang/Object;") ∈ lw_tbl := lw_at lw_m7 97 rfl
theorem q1632 : (Jvm.Cond.instanceMethod ({ cls := "java/util/ArrayList", name := "set", desc := "(ILjava/lang/Object;)Ljava/lang/Object;" } : Jvm.MethodName)) ∈ lw_all := lw_g (lw_at lw_m7 98 rfl) rfl
theorem q1633 : (Jvm.Cond.publicMethod ({ cls := "java/util/ArrayList", name := "set", desc := "(ILjava/lang/Object;)Ljava/lang/Object;" } : Jvm.MethodName)) ∈ lw_tbl := lw_at lw_m7 99 rfl
theorem q1634 : (Jvm.Cond.code ({ cls := "java/util/ArrayList", name := "set", desc := "(ILjava/lang/Object;)Ljava/lang/Object;" } : Jvm.MethodName) prog_50_method_23_code (4 : Nat) (Option.some (Jvm.ClassFile.FieldType.object "java/lang/Object"))) ∈ lw_all := lw_g (lw_at lw_m7 100 rfl) rfl
theorem q1651 : (Jvm.Cond.selects "java/util/ArrayList" ({ cls := "java/util/List", name := "add", desc := "(Ljava/lang/Object;)Z" } : Jvm.MethodName) ({ cls := "java/util/ArrayList", name := "add", desc := "(Ljava/lang/Object;)Z" } : Jvm.MethodName)) ∈ lw_all := lw_g (lw_at lw_m7 117 rfl) rfl
theorem q1652 : (Jvm.Cond.unhidden "java/util/ArrayList" "add" "(Ljava/lang/Object;)Z") ∈ lw_tbl := lw_at lw_m7 118 rfl
theorem q1653 : (Jvm.Cond.instanceMethod ({ cls := "java/util/ArrayList", name := "add", desc := "(Ljava/lang/Object;)Z" } : Jvm.MethodName)) ∈ lw_all := lw_g (lw_at lw_m7 119 rfl) rfl
theorem q1654 : (Jvm.Cond.publicMethod ({ cls := "java/util/ArrayList", name := "add", desc := "(Ljava/lang/Object;)Z" } : Jvm.MethodName)) ∈ lw_tbl := lw_at lw_m7 120 rfl
theorem q1655 : (Jvm.Cond.code ({ cls := "java/util/ArrayList", name := "add", desc := "(Ljava/lang/Object;)Z" } : Jvm.MethodName) prog_50_method_25_code (2 : Nat) (Option.some Jvm.ClassFile.FieldType.boolean)) ∈ lw_all := lw_g (lw_at lw_m7 121 rfl) rfl
theorem q1656 : (Jvm.Cond.methodLink "java/util/ArrayList" (131 : Nat) ({ cls := "java/util/ArrayList", name := "add", desc := "(Ljava/lang/Object;[Ljava/lang/Object;I)V" } : Jvm.MethodName)) ∈ lw_all := lw_g (lw_at lw_m7 122 rfl) rfl
theorem q1657 : (Jvm.Cond.privateMethod ({ cls := "java/util/ArrayList", name := "add", desc := "(Ljava/lang/Object;[Ljava/lang/Object;I)V" } : Jvm.MethodName)) ∈ lw_tbl := lw_at lw_m7 123 rfl
theorem q1658 : (Jvm.Cond.instanceMethod ({ cls := "java/util/ArrayList", name := "add", desc := "(Ljava/lang/Object;[Ljava/lang/Object;I)V" } : Jvm.MethodName)) ∈ lw_all := lw_g (lw_at lw_m7 124 rfl) rfl
theorem q1659 : (Jvm.Cond.code ({ cls := "java/util/ArrayList", name := "add", desc := "(Ljava/lang/Object;[Ljava/lang/Object;I)V" } : Jvm.MethodName) prog_50_method_24_code (4 : Nat) (Option.none : Option Jvm.ClassFile.FieldType)) ∈ lw_all := lw_g (lw_at lw_m7 125 rfl) rfl
theorem q1660 : (Jvm.Cond.methodLink "java/util/ArrayList" (129 : Nat) ({ cls := "java/util/ArrayList", name := "grow", desc := "()[Ljava/lang/Object;" } : Jvm.MethodName)) ∈ lw_all := lw_g (lw_at lw_m7 126 rfl) rfl
theorem q1661 : (Jvm.Cond.privateMethod ({ cls := "java/util/ArrayList", name := "grow", desc := "()[Ljava/lang/Object;" } : Jvm.MethodName)) ∈ lw_tbl := lw_at lw_m7 127 rfl
theorem q1662 : (Jvm.Cond.instanceMethod ({ cls := "java/util/ArrayList", name := "grow", desc := "()[Ljava/lang/Object;" } : Jvm.MethodName)) ∈ lw_all := lw_g (lw_at lw_m7 128 rfl) rfl
theorem q1663 : (Jvm.Cond.code ({ cls := "java/util/ArrayList", name := "grow", desc := "()[Ljava/lang/Object;" } : Jvm.MethodName) prog_50_method_7_code (1 : Nat) (Option.some (Jvm.ClassFile.FieldType.array (Jvm.ClassFile.FieldType.object "java/lang/Object")))) ∈ lw_all := lw_g (lw_at lw_m7 129 rfl) rfl
theorem q1664 : (Jvm.Cond.methodLink "java/util/ArrayList" (69 : Nat) ({ cls := "java/util/ArrayList", name := "grow", desc := "(I)[Ljava/lang/Object;" } : Jvm.MethodName)) ∈ lw_all := lw_g (lw_at lw_m7 130 rfl) rfl
theorem q1665 : (Jvm.Cond.privateMethod ({ cls := "java/util/ArrayList", name := "grow", desc := "(I)[Ljava/lang/Object;" } : Jvm.MethodName)) ∈ lw_tbl := lw_at lw_m7 131 rfl
theorem q1666 : (Jvm.Cond.instanceMethod ({ cls := "java/util/ArrayList", name := "grow", desc := "(I)[Ljava/lang/Object;" } : Jvm.MethodName)) ∈ lw_all := lw_g (lw_at lw_m7 132 rfl) rfl
theorem q1667 : (Jvm.Cond.code ({ cls := "java/util/ArrayList", name := "grow", desc := "(I)[Ljava/lang/Object;" } : Jvm.MethodName) prog_50_method_6_code (4 : Nat) (Option.some (Jvm.ClassFile.FieldType.array (Jvm.ClassFile.FieldType.object "java/lang/Object")))) ∈ lw_all := lw_g (lw_at lw_m7 133 rfl) rfl
theorem q1668 : (Jvm.Cond.methodLink "java/util/ArrayList" (73 : Nat) ({ cls := "jdk/internal/util/ArraysSupport", name := "newLength", desc := "(III)I" } : Jvm.MethodName)) ∈ lw_all := lw_g (lw_at lw_m7 134 rfl) rfl
theorem q1669 : (Jvm.Cond.methodLink "java/util/ArrayList" (66 : Nat) ({ cls := "java/util/Arrays", name := "copyOf", desc := "([Ljava/lang/Object;I)[Ljava/lang/Object;" } : Jvm.MethodName)) ∈ lw_all := lw_g (lw_at lw_m7 135 rfl) rfl
theorem q1678 : (Jvm.Cond.methodLink "java/util/ArrayList" (79 : Nat) ({ cls := "java/lang/Math", name := "max", desc := "(II)I" } : Jvm.MethodName)) ∈ lw_all := lw_g (lw_at lw_m7 144 rfl) rfl
theorem q1679 : (Jvm.Cond.classLink "java/util/ArrayList" (7 : Nat) "java/lang/Object") ∈ lw_all := lw_g (lw_at lw_m7 145 rfl) rfl
theorem q1700 : (Jvm.Cond.selects "java/util/ArrayList" ({ cls := "java/util/List", name := "iterator", desc := "()Ljava/util/Iterator;" } : Jvm.MethodName) ({ cls := "java/util/ArrayList", name := "iterator", desc := "()Ljava/util/Iterator;" } : Jvm.MethodName)) ∈ lw_all := lw_g (lw_at lw_m7 166 rfl) rfl
theorem q1701 : (Jvm.Cond.unhidden "java/util/ArrayList" "iterator" "()Ljava/util/Iterator;") ∈ lw_tbl := lw_at lw_m7 167 rfl
theorem q1702 : (Jvm.Cond.instanceMethod ({ cls := "java/util/ArrayList", name := "iterator", desc := "()Ljava/util/Iterator;" } : Jvm.MethodName)) ∈ lw_all := lw_g (lw_at lw_m7 168 rfl) rfl
theorem q1703 : (Jvm.Cond.publicMethod ({ cls := "java/util/ArrayList", name := "iterator", desc := "()Ljava/util/Iterator;" } : Jvm.MethodName)) ∈ lw_tbl := lw_at lw_m7 169 rfl
theorem q1704 : (Jvm.Cond.code ({ cls := "java/util/ArrayList", name := "iterator", desc := "()Ljava/util/Iterator;" } : Jvm.MethodName) prog_50_method_55_code (1 : Nat) (Option.some (Jvm.ClassFile.FieldType.object "java/util/Iterator"))) ∈ lw_all := lw_g (lw_at lw_m7 170 rfl) rfl
theorem q1705 : (Jvm.Cond.classLink "java/util/ArrayList" (267 : Nat) "java/util/ArrayList$Itr") ∈ lw_all := lw_g (lw_at lw_m7 171 rfl) rfl
theorem q1707 : (Jvm.Cond.methodLink "java/util/ArrayList" (269 : Nat) ({ cls := "java/util/ArrayList$Itr", name := "<init>", desc := "(Ljava/util/ArrayList;)V" } : Jvm.MethodName)) ∈ lw_all := lw_g (lw_at lw_m7 173 rfl) rfl
theorem q1766 : (Jvm.Cond.selects "java/util/ArrayList" ({ cls := "java/util/AbstractList", name := "listIterator", desc := "(I)Ljava/util/ListIterator;" } : Jvm.MethodName) ({ cls := "java/util/ArrayList", name := "listIterator", desc := "(I)Ljava/util/ListIterator;" } : Jvm.MethodName)) ∈ lw_all := lw_g (lw_at lw_m7 232 rfl) rfl
theorem q1767 : (Jvm.Cond.instanceMethod ({ cls := "java/util/ArrayList", name := "listIterator", desc := "(I)Ljava/util/ListIterator;" } : Jvm.MethodName)) ∈ lw_all := lw_g (lw_at lw_m7 233 rfl) rfl
theorem q1768 : (Jvm.Cond.code ({ cls := "java/util/ArrayList", name := "listIterator", desc := "(I)Ljava/util/ListIterator;" } : Jvm.MethodName) prog_50_method_53_code (2 : Nat) (Option.some (Jvm.ClassFile.FieldType.object "java/util/ListIterator"))) ∈ lw_all := lw_g (lw_at lw_m7 234 rfl) rfl
theorem q1769 : (Jvm.Cond.methodLink "java/util/ArrayList" (135 : Nat) ({ cls := "java/util/ArrayList", name := "rangeCheckForAdd", desc := "(I)V" } : Jvm.MethodName)) ∈ lw_all := lw_g (lw_at lw_m7 235 rfl) rfl
theorem q1770 : (Jvm.Cond.privateMethod ({ cls := "java/util/ArrayList", name := "rangeCheckForAdd", desc := "(I)V" } : Jvm.MethodName)) ∈ lw_tbl := lw_at lw_m7 236 rfl
theorem q1771 : (Jvm.Cond.instanceMethod ({ cls := "java/util/ArrayList", name := "rangeCheckForAdd", desc := "(I)V" } : Jvm.MethodName)) ∈ lw_all := lw_g (lw_at lw_m7 237 rfl) rfl
theorem q1772 : (Jvm.Cond.code ({ cls := "java/util/ArrayList", name := "rangeCheckForAdd", desc := "(I)V" } : Jvm.MethodName) prog_50_method_45_code (2 : Nat) (Option.none : Option Jvm.ClassFile.FieldType)) ∈ lw_all := lw_g (lw_at lw_m7 238 rfl) rfl
theorem q1773 : (Jvm.Cond.classLink "java/util/ArrayList" (187 : Nat) "java/lang/IndexOutOfBoundsException") ∈ lw_all := lw_g (lw_at lw_m7 239 rfl) rfl
theorem q1774 : (Jvm.Cond.methodLink "java/util/ArrayList" (198 : Nat) ({ cls := "java/util/ArrayList", name := "outOfBoundsMsg", desc := "(I)Ljava/lang/String;" } : Jvm.MethodName)) ∈ lw_all := lw_g (lw_at lw_m8 0 rfl) rfl
theorem q1775 : (Jvm.Cond.privateMethod ({ cls := "java/util/ArrayList", name := "outOfBoundsMsg", desc := "(I)Ljava/lang/String;" } : Jvm.MethodName)) ∈ lw_tbl := lw_at lw_m8 1 rfl
theorem q1776 : (Jvm.Cond.instanceMethod ({ cls := "java/util/ArrayList", name := "outOfBoundsMsg", desc := "(I)Ljava/lang/String;" } : Jvm.MethodName)) ∈ lw_all := lw_g (lw_at lw_m8 2 rfl) rfl
theorem q1777 : (Jvm.Cond.code ({ cls := "java/util/ArrayList", name := "outOfBoundsMsg", desc := "(I)Ljava/lang/String;" } : Jvm.MethodName) prog_50_method_46_code (2 : Nat) (Option.some (Jvm.ClassFile.FieldType.object "java/lang/String"))) ∈ lw_all := lw_g (lw_at lw_m8 3 rfl) rfl
theorem q1778 : (Jvm.Cond.classLink "java/util/ArrayList" (20 : Nat) "java/lang/StringBuilder") ∈ lw_all := lw_g (lw_at lw_m8 4 rfl) rfl
theorem q1779 : (Jvm.Cond.methodLink "java/util/ArrayList" (22 : Nat) ({ cls := "java/lang/StringBuilder", name := "<init>", desc := "()V" } : Jvm.MethodName)) ∈ lw_all := lw_g (lw_at lw_m8 5 rfl) rfl
theorem q1780 : (Jvm.Cond.stringRef "java/util/ArrayList" (201 : Nat) "Index: ") ∈ lw_tbl := lw_at lw_m8 6 rfl
theorem q1781 : (Jvm.Cond.methodLink "java/util/ArrayList" (25 : Nat) ({ cls := "java/lang/StringBuilder", name := "append", desc := "(Ljava/lang/String;)Ljava/lang/StringBuilder;" } : Jvm.MethodName)) ∈ lw_all := lw_g (lw_at lw_m8 7 rfl) rfl
theorem q1782 : (Jvm.Cond.methodLink "java/util/ArrayList" (29 : Nat) ({ cls := "java/lang/StringBuilder", name := "append", desc := "(I)Ljava/lang/StringBuilder;" } : Jvm.MethodName)) ∈ lw_all := lw_g (lw_at lw_m8 8 rfl) rfl
theorem q1783 : (Jvm.Cond.stringRef "java/util/ArrayList" (203 : Nat) ", Size: ") ∈ lw_tbl := lw_at lw_m8 9 rfl
theorem q1784 : (Jvm.Cond.methodLink "java/util/ArrayList" (32 : Nat) ({ cls := "java/lang/StringBuilder", name := "toString", desc := "()Ljava/lang/String;" } : Jvm.MethodName)) ∈ lw_all := lw_g (lw_at lw_m8 10 rfl) rfl
theorem q1785 : (Jvm.Cond.methodLink "java/util/ArrayList" (193 : Nat) ({ cls := "java/lang/IndexOutOfBoundsException", name := "<init>", desc := "(Ljava/lang/String;)V" } : Jvm.MethodName)) ∈ lw_all := lw_g (lw_at lw_m8 11 rfl) rfl
theorem q1786 : (Jvm.Cond.classLink "java/util/ArrayList" (262 : Nat) "java/util/ArrayList$ListItr") ∈ lw_all := lw_g (lw_at lw_m8 12 rfl) rfl
theorem q1788 : (Jvm.Cond.methodLink "java/util/ArrayList" (264 : Nat) ({ cls := "java/util/ArrayList$ListItr", name := "<init>", desc := "(Ljava/util/ArrayList;I)V" } : Jvm.MethodName)) ∈ lw_all := lw_g (lw_at lw_m8 14 rfl) rfl
theorem q2357 : (Jvm.Cond.selects "java/util/ArrayList" ({ cls := "java/util/List", name := "contains", desc := "(Ljava/lang/Object;)Z" } : Jvm.MethodName) ({ cls := "java/util/ArrayList", name := "contains", desc := "(Ljava/lang/Object;)Z" } : Jvm.MethodName)) ∈ lw_all := lw_g (lw_at lw_m10 103 rfl) rfl
theorem q2358 : (Jvm.Cond.unhidden "java/util/ArrayList" "contains" "(Ljava/lang/Object;)Z") ∈ lw_tbl := lw_at lw_m10 104 rfl
theorem q2359 : (Jvm.Cond.instanceMethod ({ cls := "java/util/ArrayList", name := "contains", desc := "(Ljava/lang/Object;)Z" } : Jvm.MethodName)) ∈ lw_all := lw_g (lw_at lw_m10 105 rfl) rfl
theorem q2360 : (Jvm.Cond.publicMethod ({ cls := "java/util/ArrayList", name := "contains", desc := "(Ljava/lang/Object;)Z" } : Jvm.MethodName)) ∈ lw_tbl := lw_at lw_m10 106 rfl
theorem q2361 : (Jvm.Cond.code ({ cls := "java/util/ArrayList", name := "contains", desc := "(Ljava/lang/Object;)Z" } : Jvm.MethodName) prog_50_method_10_code (2 : Nat) (Option.some Jvm.ClassFile.FieldType.boolean)) ∈ lw_all := lw_g (lw_at lw_m10 107 rfl) rfl
theorem q2362 : (Jvm.Cond.methodLink "java/util/ArrayList" (85 : Nat) ({ cls := "java/util/ArrayList", name := "indexOf", desc := "(Ljava/lang/Object;)I" } : Jvm.MethodName)) ∈ lw_all := lw_g (lw_at lw_m10 108 rfl) rfl
theorem q2363 : (Jvm.Cond.instanceMethod ({ cls := "java/util/ArrayList", name := "indexOf", desc := "(Ljava/lang/Object;)I" } : Jvm.MethodName)) ∈ lw_all := lw_g (lw_at lw_m10 109 rfl) rfl
theorem q2364 : (Jvm.Cond.selects "java/util/ArrayList" ({ cls := "java/util/ArrayList", name := "indexOf", desc := "(Ljava/lang/Object;)I" } : Jvm.MethodName) ({ cls := "java/util/ArrayList", name := "indexOf", desc := "(Ljava/lang/Object;)I" } : Jvm.MethodName)) ∈ lw_all := lw_g (lw_at lw_m10 110 rfl) rfl
theorem q2365 : (Jvm.Cond.code ({ cls := "java/util/ArrayList", name := "indexOf", desc := "(Ljava/lang/Object;)I" } : Jvm.MethodName) prog_50_method_11_code (2 : Nat) (Option.some Jvm.ClassFile.FieldType.int)) ∈ lw_all := lw_g (lw_at lw_m10 111 rfl) rfl
theorem q2366 : (Jvm.Cond.methodLink "java/util/ArrayList" (89 : Nat) ({ cls := "java/util/ArrayList", name := "indexOfRange", desc := "(Ljava/lang/Object;II)I" } : Jvm.MethodName)) ∈ lw_all := lw_g (lw_at lw_m10 112 rfl) rfl
theorem q2367 : (Jvm.Cond.instanceMethod ({ cls := "java/util/ArrayList", name := "indexOfRange", desc := "(Ljava/lang/Object;II)I" } : Jvm.MethodName)) ∈ lw_all := lw_g (lw_at lw_m10 113 rfl) rfl
theorem q2368 : (Jvm.Cond.selects "java/util/ArrayList" ({ cls := "java/util/ArrayList", name := "indexOfRange", desc := "(Ljava/lang/Object;II)I" } : Jvm.MethodName) ({ cls := "java/util/ArrayList", name := "indexOfRange", desc := "(Ljava/lang/Object;II)I" } : Jvm.MethodName)) ∈ lw_all := lw_g (lw_at lw_m10 114 rfl) rfl
theorem q2369 : (Jvm.Cond.code ({ cls := "java/util/ArrayList", name := "indexOfRange", desc := "(Ljava/lang/Object;II)I" } : Jvm.MethodName) prog_50_method_12_code (6 : Nat) (Option.some Jvm.ClassFile.FieldType.int)) ∈ lw_all := lw_g (lw_at lw_m10 115 rfl) rfl
theorem q2371 : (Jvm.Cond.methodLink "java/util/ArrayList" (93 : Nat) ({ cls := "java/lang/Object", name := "equals", desc := "(Ljava/lang/Object;)Z" } : Jvm.MethodName)) ∈ lw_all := lw_g (lw_at lw_m10 117 rfl) rfl
theorem q2452 : (Jvm.Cond.selects "java/util/ArrayList" ({ cls := "java/util/List", name := "isEmpty", desc := "()Z" } : Jvm.MethodName) ({ cls := "java/util/ArrayList", name := "isEmpty", desc := "()Z" } : Jvm.MethodName)) ∈ lw_all := lw_g (lw_at lw_m10 198 rfl) rfl
theorem q2453 : (Jvm.Cond.unhidden "java/util/ArrayList" "isEmpty" "()Z") ∈ lw_tbl := lw_at lw_m10 199 rfl
theorem q2454 : (Jvm.Cond.instanceMethod ({ cls := "java/util/ArrayList", name := "isEmpty", desc := "()Z" } : Jvm.MethodName)) ∈ lw_all := lw_g (lw_at lw_m10 200 rfl) rfl
theorem q2455 : (Jvm.Cond.publicMethod ({ cls := "java/util/ArrayList", name := "isEmpty", desc := "()Z" } : Jvm.MethodName)) ∈ lw_tbl := lw_at lw_m10 201 rfl
theorem q2456 : (Jvm.Cond.code ({ cls := "java/util/ArrayList", name := "isEmpty", desc := "()Z" } : Jvm.MethodName) prog_50_method_9_code (1 : Nat) (Option.some Jvm.ClassFile.FieldType.boolean)) ∈ lw_all := lw_g (lw_at lw_m10 202 rfl) rfl
theorem q3135 : (Jvm.Cond.selects "java/util/ArrayList" ({ cls := "java/util/AbstractCollection", name := "size", desc := "()I" } : Jvm.MethodName) ({ cls := "java/util/ArrayList", name := "size", desc := "()I" } : Jvm.MethodName)) ∈ lw_all := lw_g (lw_at lw_m13 161 rfl) rfl
theorem q3149 : (Jvm.Cond.castable "java/util/ArrayList" "java/lang/Object") ∈ lw_tbl := lw_at lw_m13 175 rfl
theorem in_J5 : ∀ w ∈ wsJ50, w ∈ lw_all := lw_in wsJ50 [290, 286, 288] (by decide +kernel) (by decide +kernel)

/-! java/lang/Throwable -/
set_option maxRecDepth 100000
def RJ6 : String := "java/lang/Throwable"
def TJ6 : u_T := fun k => match k with
  | 0 => ("java/lang/Throwable", "cause", "Ljava/lang/Throwable;", false)
  | 1 => ("java/lang/Throwable", "stackTrace", "[Ljava/lang/StackTraceElement;", false)
  | 2 => ("java/lang/Throwable", "suppressedExceptions", "Ljava/util/List;", false)
  | 3 => ("java/lang/Throwable", "detailMessage", "Ljava/lang/String;", false)
  | _ => ("java/lang/Throwable", "backtrace", "Ljava/lang/Object;", false)
def tyJ6 : Nat → FieldType := fun k => match k with
  | 0 => .object "java/lang/Throwable"
  | 1 => .array (.object "java/lang/StackTraceElement")
  | 2 => .object "java/util/List"
  | 3 => .object "java/lang/String"
  | _ => .object "java/lang/Object"
abbrev wsJ60 : List Cond := u_ws RJ6 TJ6 5
theorem nmJ6 : ∀ a, a < 5 → ∀ b, b < 5 → a ≠ b → (TJ6 a).2.1 ≠ (TJ6 b).2.1 := by decide +kernel
theorem tyJ6_ok : ∀ k, k < 5 → parseFieldDescriptor (TJ6 k).2.2.1 = some (tyJ6 k) := by decide +kernel
abbrev cJ6_init : ByteArray := prog_40_method_1_code
def yJ6_init : MethodName := ⟨RJ6, "<init>", "()V"⟩
def dkwJ6_init_1 : List UInt8 := [182, 0, 27, 87, 177]
abbrev dktJ6_init_1 : List UInt8 := dkwJ6_init_1 ++ []
def dkwJ6_init_0 : List UInt8 := [42, 183, 0, 1, 42, 42, 181, 0, 7, 42, 178, 0, 13, 181, 0, 17, 42, 178, 0, 20, 181, 0, 24, 42]
abbrev dktJ6_init_0 : List UInt8 := dkwJ6_init_0 ++ dktJ6_init_1
theorem dksJ6_init_0 : cJ6_init.data.toList.drop 0 = dktJ6_init_0 := by decide +kernel
theorem dksJ6_init_1 : cJ6_init.data.toList.drop 24 = dktJ6_init_1 := dk_seg dksJ6_init_0 24 rfl rfl
theorem dJ6_init_0 : decode cJ6_init 0 = .ok (.aload_n 0, 1) := dk_42 (dk_at dksJ6_init_0 0 rfl rfl)
theorem dJ6_init_1 : decode cJ6_init 1 = .ok (.invokespecial 1, 3) := dk_183 0 1 (dk_at dksJ6_init_0 1 rfl rfl)
theorem dJ6_init_4 : decode cJ6_init 4 = .ok (.aload_n 0, 1) := dk_42 (dk_at dksJ6_init_0 4 rfl rfl)
theorem dJ6_init_5 : decode cJ6_init 5 = .ok (.aload_n 0, 1) := dk_42 (dk_at dksJ6_init_0 5 rfl rfl)
theorem dJ6_init_6 : decode cJ6_init 6 = .ok (.putfield 7, 3) := dk_181 0 7 (dk_at dksJ6_init_0 6 rfl rfl)
theorem dJ6_init_9 : decode cJ6_init 9 = .ok (.aload_n 0, 1) := dk_42 (dk_at dksJ6_init_0 9 rfl rfl)
theorem dJ6_init_10 : decode cJ6_init 10 = .ok (.getstatic 13, 3) := dk_178 0 13 (dk_at dksJ6_init_0 10 rfl rfl)
theorem dJ6_init_13 : decode cJ6_init 13 = .ok (.putfield 17, 3) := dk_181 0 17 (dk_at dksJ6_init_0 13 rfl rfl)
theorem dJ6_init_16 : decode cJ6_init 16 = .ok (.aload_n 0, 1) := dk_42 (dk_at dksJ6_init_0 16 rfl rfl)
theorem dJ6_init_17 : decode cJ6_init 17 = .ok (.getstatic 20, 3) := dk_178 0 20 (dk_at dksJ6_init_0 17 rfl rfl)
theorem dJ6_init_20 : decode cJ6_init 20 = .ok (.putfield 24, 3) := dk_181 0 24 (dk_at dksJ6_init_0 20 rfl rfl)
theorem dJ6_init_23 : decode cJ6_init 23 = .ok (.aload_n 0, 1) := dk_42 (dk_at dksJ6_init_0 23 rfl rfl)
theorem dJ6_init_24 : decode cJ6_init 24 = .ok (.invokevirtual 27, 3) := dk_182 0 27 (dk_at dksJ6_init_1 0 rfl rfl)
theorem dJ6_init_27 : decode cJ6_init 27 = .ok (.pop, 1) := dk_87 (dk_at dksJ6_init_1 3 rfl rfl)
theorem dJ6_init_28 : decode cJ6_init 28 = .ok (.return_, 1) := dk_177 (dk_at dksJ6_init_1 4 rfl rfl)
abbrev cJ6_init_2 : ByteArray := prog_40_method_2_code
def yJ6_init_2 : MethodName := ⟨RJ6, "<init>", "(Ljava/lang/String;)V"⟩
def dkwJ6_init_2_1 : List UInt8 := [182, 0, 27, 87, 42, 43, 181, 0, 31, 177]
abbrev dktJ6_init_2_1 : List UInt8 := dkwJ6_init_2_1 ++ []
def dkwJ6_init_2_0 : List UInt8 := [42, 183, 0, 1, 42, 42, 181, 0, 7, 42, 178, 0, 13, 181, 0, 17, 42, 178, 0, 20, 181, 0, 24, 42]
abbrev dktJ6_init_2_0 : List UInt8 := dkwJ6_init_2_0 ++ dktJ6_init_2_1
theorem dksJ6_init_2_0 : cJ6_init_2.data.toList.drop 0 = dktJ6_init_2_0 := by decide +kernel
theorem dksJ6_init_2_1 : cJ6_init_2.data.toList.drop 24 = dktJ6_init_2_1 := dk_seg dksJ6_init_2_0 24 rfl rfl
theorem dJ6_init_2_0 : decode cJ6_init_2 0 = .ok (.aload_n 0, 1) := dk_42 (dk_at dksJ6_init_2_0 0 rfl rfl)
theorem dJ6_init_2_1 : decode cJ6_init_2 1 = .ok (.invokespecial 1, 3) := dk_183 0 1 (dk_at dksJ6_init_2_0 1 rfl rfl)
theorem dJ6_init_2_4 : decode cJ6_init_2 4 = .ok (.aload_n 0, 1) := dk_42 (dk_at dksJ6_init_2_0 4 rfl rfl)
theorem dJ6_init_2_5 : decode cJ6_init_2 5 = .ok (.aload_n 0, 1) := dk_42 (dk_at dksJ6_init_2_0 5 rfl rfl)
theorem dJ6_init_2_6 : decode cJ6_init_2 6 = .ok (.putfield 7, 3) := dk_181 0 7 (dk_at dksJ6_init_2_0 6 rfl rfl)
theorem dJ6_init_2_9 : decode cJ6_init_2 9 = .ok (.aload_n 0, 1) := dk_42 (dk_at dksJ6_init_2_0 9 rfl rfl)
theorem dJ6_init_2_10 : decode cJ6_init_2 10 = .ok (.getstatic 13, 3) := dk_178 0 13 (dk_at dksJ6_init_2_0 10 rfl rfl)
theorem dJ6_init_2_13 : decode cJ6_init_2 13 = .ok (.putfield 17, 3) := dk_181 0 17 (dk_at dksJ6_init_2_0 13 rfl rfl)
theorem dJ6_init_2_16 : decode cJ6_init_2 16 = .ok (.aload_n 0, 1) := dk_42 (dk_at dksJ6_init_2_0 16 rfl rfl)
theorem dJ6_init_2_17 : decode cJ6_init_2 17 = .ok (.getstatic 20, 3) := dk_178 0 20 (dk_at dksJ6_init_2_0 17 rfl rfl)
theorem dJ6_init_2_20 : decode cJ6_init_2 20 = .ok (.putfield 24, 3) := dk_181 0 24 (dk_at dksJ6_init_2_0 20 rfl rfl)
theorem dJ6_init_2_23 : decode cJ6_init_2 23 = .ok (.aload_n 0, 1) := dk_42 (dk_at dksJ6_init_2_0 23 rfl rfl)
theorem dJ6_init_2_24 : decode cJ6_init_2 24 = .ok (.invokevirtual 27, 3) := dk_182 0 27 (dk_at dksJ6_init_2_1 0 rfl rfl)
theorem dJ6_init_2_27 : decode cJ6_init_2 27 = .ok (.pop, 1) := dk_87 (dk_at dksJ6_init_2_1 3 rfl rfl)
theorem dJ6_init_2_28 : decode cJ6_init_2 28 = .ok (.aload_n 0, 1) := dk_42 (dk_at dksJ6_init_2_1 4 rfl rfl)
theorem dJ6_init_2_29 : decode cJ6_init_2 29 = .ok (.aload_n 1, 1) := dk_43 (dk_at dksJ6_init_2_1 5 rfl rfl)
theorem dJ6_init_2_30 : decode cJ6_init_2 30 = .ok (.putfield 31, 3) := dk_181 0 31 (dk_at dksJ6_init_2_1 6 rfl rfl)
theorem dJ6_init_2_33 : decode cJ6_init_2 33 = .ok (.return_, 1) := dk_177 (dk_at dksJ6_init_2_1 9 rfl rfl)
abbrev cJ6_init_3 : ByteArray := prog_40_method_4_code
def yJ6_init_3 : MethodName := ⟨RJ6, "<init>", "(Ljava/lang/Throwable;)V"⟩
def dkwJ6_init_3_2 : List UInt8 := [181, 0, 7, 177]
abbrev dktJ6_init_3_2 : List UInt8 := dkwJ6_init_3_2 ++ []
def dkwJ6_init_3_1 : List UInt8 := [182, 0, 27, 87, 42, 43, 199, 0, 7, 1, 167, 0, 7, 43, 182, 0, 35, 181, 0, 31, 42, 43]
abbrev dktJ6_init_3_1 : List UInt8 := dkwJ6_init_3_1 ++ dktJ6_init_3_2
def dkwJ6_init_3_0 : List UInt8 := [42, 183, 0, 1, 42, 42, 181, 0, 7, 42, 178, 0, 13, 181, 0, 17, 42, 178, 0, 20, 181, 0, 24, 42]
abbrev dktJ6_init_3_0 : List UInt8 := dkwJ6_init_3_0 ++ dktJ6_init_3_1
theorem dksJ6_init_3_0 : cJ6_init_3.data.toList.drop 0 = dktJ6_init_3_0 := by decide +kernel
theorem dksJ6_init_3_1 : cJ6_init_3.data.toList.drop 24 = dktJ6_init_3_1 := dk_seg dksJ6_init_3_0 24 rfl rfl
theorem dksJ6_init_3_2 : cJ6_init_3.data.toList.drop 46 = dktJ6_init_3_2 := dk_seg dksJ6_init_3_1 22 rfl rfl
theorem dJ6_init_3_0 : decode cJ6_init_3 0 = .ok (.aload_n 0, 1) := dk_42 (dk_at dksJ6_init_3_0 0 rfl rfl)
theorem dJ6_init_3_1 : decode cJ6_init_3 1 = .ok (.invokespecial 1, 3) := dk_183 0 1 (dk_at dksJ6_init_3_0 1 rfl rfl)
theorem dJ6_init_3_4 : decode cJ6_init_3 4 = .ok (.aload_n 0, 1) := dk_42 (dk_at dksJ6_init_3_0 4 rfl rfl)
theorem dJ6_init_3_5 : decode cJ6_init_3 5 = .ok (.aload_n 0, 1) := dk_42 (dk_at dksJ6_init_3_0 5 rfl rfl)
theorem dJ6_init_3_6 : decode cJ6_init_3 6 = .ok (.putfield 7, 3) := dk_181 0 7 (dk_at dksJ6_init_3_0 6 rfl rfl)
theorem dJ6_init_3_9 : decode cJ6_init_3 9 = .ok (.aload_n 0, 1) := dk_42 (dk_at dksJ6_init_3_0 9 rfl rfl)
theorem dJ6_init_3_10 : decode cJ6_init_3 10 = .ok (.getstatic 13, 3) := dk_178 0 13 (dk_at dksJ6_init_3_0 10 rfl rfl)
theorem dJ6_init_3_13 : decode cJ6_init_3 13 = .ok (.putfield 17, 3) := dk_181 0 17 (dk_at dksJ6_init_3_0 13 rfl rfl)
theorem dJ6_init_3_16 : decode cJ6_init_3 16 = .ok (.aload_n 0, 1) := dk_42 (dk_at dksJ6_init_3_0 16 rfl rfl)
theorem dJ6_init_3_17 : decode cJ6_init_3 17 = .ok (.getstatic 20, 3) := dk_178 0 20 (dk_at dksJ6_init_3_0 17 rfl rfl)
theorem dJ6_init_3_20 : decode cJ6_init_3 20 = .ok (.putfield 24, 3) := dk_181 0 24 (dk_at dksJ6_init_3_0 20 rfl rfl)
theorem dJ6_init_3_23 : decode cJ6_init_3 23 = .ok (.aload_n 0, 1) := dk_42 (dk_at dksJ6_init_3_0 23 rfl rfl)
theorem dJ6_init_3_24 : decode cJ6_init_3 24 = .ok (.invokevirtual 27, 3) := dk_182 0 27 (dk_at dksJ6_init_3_1 0 rfl rfl)
theorem dJ6_init_3_27 : decode cJ6_init_3 27 = .ok (.pop, 1) := dk_87 (dk_at dksJ6_init_3_1 3 rfl rfl)
theorem dJ6_init_3_28 : decode cJ6_init_3 28 = .ok (.aload_n 0, 1) := dk_42 (dk_at dksJ6_init_3_1 4 rfl rfl)
theorem dJ6_init_3_29 : decode cJ6_init_3 29 = .ok (.aload_n 1, 1) := dk_43 (dk_at dksJ6_init_3_1 5 rfl rfl)
theorem dJ6_init_3_30 : decode cJ6_init_3 30 = .ok (.ifnonnull 7, 3) := dk_199 0 7 (dk_at dksJ6_init_3_1 6 rfl rfl)
theorem dJ6_init_3_33 : decode cJ6_init_3 33 = .ok (.aconst_null, 1) := dk_1 (dk_at dksJ6_init_3_1 9 rfl rfl)
theorem dJ6_init_3_34 : decode cJ6_init_3 34 = .ok (.goto 7, 3) := dk_167 0 7 (dk_at dksJ6_init_3_1 10 rfl rfl)
theorem dJ6_init_3_37 : decode cJ6_init_3 37 = .ok (.aload_n 1, 1) := dk_43 (dk_at dksJ6_init_3_1 13 rfl rfl)
theorem dJ6_init_3_38 : decode cJ6_init_3 38 = .ok (.invokevirtual 35, 3) := dk_182 0 35 (dk_at dksJ6_init_3_1 14 rfl rfl)
theorem dJ6_init_3_41 : decode cJ6_init_3 41 = .ok (.putfield 31, 3) := dk_181 0 31 (dk_at dksJ6_init_3_1 17 rfl rfl)
theorem dJ6_init_3_44 : decode cJ6_init_3 44 = .ok (.aload_n 0, 1) := dk_42 (dk_at dksJ6_init_3_1 20 rfl rfl)
theorem dJ6_init_3_45 : decode cJ6_init_3 45 = .ok (.aload_n 1, 1) := dk_43 (dk_at dksJ6_init_3_1 21 rfl rfl)
theorem dJ6_init_3_46 : decode cJ6_init_3 46 = .ok (.putfield 7, 3) := dk_181 0 7 (dk_at dksJ6_init_3_2 0 rfl rfl)
theorem dJ6_init_3_49 : decode cJ6_init_3 49 = .ok (.return_, 1) := dk_177 (dk_at dksJ6_init_3_2 3 rfl rfl)
abbrev cJ6_toString : ByteArray := prog_40_method_11_code
def yJ6_toString : MethodName := ⟨RJ6, "toString", "()Ljava/lang/String;"⟩
def dkwJ6_toString_1 : List UInt8 := [43, 182, 0, 49, 18, 81, 182, 0, 49, 44, 182, 0, 49, 182, 0, 60, 167, 0, 4, 43, 176]
abbrev dktJ6_toString_1 : List UInt8 := dkwJ6_toString_1 ++ []
def dkwJ6_toString_0 : List UInt8 := [42, 182, 0, 69, 182, 0, 73, 76, 42, 182, 0, 78, 77, 44, 198, 0, 29, 187, 0, 44, 89, 183, 0, 46]
abbrev dktJ6_toString_0 : List UInt8 := dkwJ6_toString_0 ++ dktJ6_toString_1
theorem dksJ6_toString_0 : cJ6_toString.data.toList.drop 0 = dktJ6_toString_0 := by decide +kernel
theorem dksJ6_toString_1 : cJ6_toString.data.toList.drop 24 = dktJ6_toString_1 := dk_seg dksJ6_toString_0 24 rfl rfl
theorem dJ6_toString_0 : decode cJ6_toString 0 = .ok (.aload_n 0, 1) := dk_42 (dk_at dksJ6_toString_0 0 rfl rfl)
theorem dJ6_toString_1 : decode cJ6_toString 1 = .ok (.invokevirtual 69, 3) := dk_182 0 69 (dk_at dksJ6_toString_0 1 rfl rfl)
theorem dJ6_toString_4 : decode cJ6_toString 4 = .ok (.invokevirtual 73, 3) := dk_182 0 73 (dk_at dksJ6_toString_0 4 rfl rfl)
theorem dJ6_toString_7 : decode cJ6_toString 7 = .ok (.astore_n 1, 1) := dk_76 (dk_at dksJ6_toString_0 7 rfl rfl)
theorem dJ6_toString_8 : decode cJ6_toString 8 = .ok (.aload_n 0, 1) := dk_42 (dk_at dksJ6_toString_0 8 rfl rfl)
theorem dJ6_toString_9 : decode cJ6_toString 9 = .ok (.invokevirtual 78, 3) := dk_182 0 78 (dk_at dksJ6_toString_0 9 rfl rfl)
theorem dJ6_toString_12 : decode cJ6_toString 12 = .ok (.astore_n 2, 1) := dk_77 (dk_at dksJ6_toString_0 12 rfl rfl)
theorem dJ6_toString_13 : decode cJ6_toString 13 = .ok (.aload_n 2, 1) := dk_44 (dk_at dksJ6_toString_0 13 rfl rfl)
theorem dJ6_toString_14 : decode cJ6_toString 14 = .ok (.ifnull 29, 3) := dk_198 0 29 (dk_at dksJ6_toString_0 14 rfl rfl)
theorem dJ6_toString_17 : decode cJ6_toString 17 = .ok (.new 44, 3) := dk_187 0 44 (dk_at dksJ6_toString_0 17 rfl rfl)
theorem dJ6_toString_20 : decode cJ6_toString 20 = .ok (.dup, 1) := dk_89 (dk_at dksJ6_toString_0 20 rfl rfl)
theorem dJ6_toString_21 : decode cJ6_toString 21 = .ok (.invokespecial 46, 3) := dk_183 0 46 (dk_at dksJ6_toString_0 21 rfl rfl)
theorem dJ6_toString_24 : decode cJ6_toString 24 = .ok (.aload_n 1, 1) := dk_43 (dk_at dksJ6_toString_1 0 rfl rfl)
theorem dJ6_toString_25 : decode cJ6_toString 25 = .ok (.invokevirtual 49, 3) := dk_182 0 49 (dk_at dksJ6_toString_1 1 rfl rfl)
theorem dJ6_toString_28 : decode cJ6_toString 28 = .ok (.ldc 81, 2) := dk_18 81 (dk_at dksJ6_toString_1 4 rfl rfl)
theorem dJ6_toString_30 : decode cJ6_toString 30 = .ok (.invokevirtual 49, 3) := dk_182 0 49 (dk_at dksJ6_toString_1 6 rfl rfl)
theorem dJ6_toString_33 : decode cJ6_toString 33 = .ok (.aload_n 2, 1) := dk_44 (dk_at dksJ6_toString_1 9 rfl rfl)
theorem dJ6_toString_34 : decode cJ6_toString 34 = .ok (.invokevirtual 49, 3) := dk_182 0 49 (dk_at dksJ6_toString_1 10 rfl rfl)
theorem dJ6_toString_37 : decode cJ6_toString 37 = .ok (.invokevirtual 60, 3) := dk_182 0 60 (dk_at dksJ6_toString_1 13 rfl rfl)
theorem dJ6_toString_40 : decode cJ6_toString 40 = .ok (.goto 4, 3) := dk_167 0 4 (dk_at dksJ6_toString_1 16 rfl rfl)
theorem dJ6_toString_43 : decode cJ6_toString 43 = .ok (.aload_n 1, 1) := dk_43 (dk_at dksJ6_toString_1 19 rfl rfl)
theorem dJ6_toString_44 : decode cJ6_toString 44 = .ok (.areturn, 1) := dk_176 (dk_at dksJ6_toString_1 20 rfl rfl)
abbrev cJ6_getLocalizedMessage : ByteArray := prog_40_method_7_code
def yJ6_getLocalizedMessage : MethodName := ⟨RJ6, "getLocalizedMessage", "()Ljava/lang/String;"⟩
theorem dJ6_getLocalizedMessage_0 : decode cJ6_getLocalizedMessage 0 = .ok (.aload_n 0, 1) := by decide +kernel
theorem dJ6_getLocalizedMessage_1 : decode cJ6_getLocalizedMessage 1 = .ok (.invokevirtual 39, 3) := by decide +kernel
theorem dJ6_getLocalizedMessage_4 : decode cJ6_getLocalizedMessage 4 = .ok (.areturn, 1) := by decide +kernel
abbrev cJ6_getMessage : ByteArray := prog_40_method_6_code
def yJ6_getMessage : MethodName := ⟨RJ6, "getMessage", "()Ljava/lang/String;"⟩
theorem dJ6_getMessage_0 : decode cJ6_getMessage 0 = .ok (.aload_n 0, 1) := by decide +kernel
theorem dJ6_getMessage_1 : decode cJ6_getMessage 1 = .ok (.getfield 31, 3) := by decide +kernel
theorem dJ6_getMessage_4 : decode cJ6_getMessage 4 = .ok (.areturn, 1) := by decide +kernel
abbrev cJ6_init_4 : ByteArray := prog_40_method_5_code
def yJ6_init_4 : MethodName := ⟨RJ6, "<init>", "(Ljava/lang/String;Ljava/lang/Throwable;ZZ)V"⟩
def dkwJ6_init_4_2 : List UInt8 := [44, 181, 0, 7, 29, 154, 0, 8, 42, 1, 181, 0, 24, 177]
abbrev dktJ6_init_4_2 : List UInt8 := dkwJ6_init_4_2 ++ []
def dkwJ6_init_4_1 : List UInt8 := [21, 4, 153, 0, 11, 42, 182, 0, 27, 87, 167, 0, 8, 42, 1, 181, 0, 17, 42, 43, 181, 0, 31, 42]
abbrev dktJ6_init_4_1 : List UInt8 := dkwJ6_init_4_1 ++ dktJ6_init_4_2
def dkwJ6_init_4_0 : List UInt8 := [42, 183, 0, 1, 42, 42, 181, 0, 7, 42, 178, 0, 13, 181, 0, 17, 42, 178, 0, 20, 181, 0, 24]
abbrev dktJ6_init_4_0 : List UInt8 := dkwJ6_init_4_0 ++ dktJ6_init_4_1
theorem dksJ6_init_4_0 : cJ6_init_4.data.toList.drop 0 = dktJ6_init_4_0 := by decide +kernel
theorem dksJ6_init_4_1 : cJ6_init_4.data.toList.drop 23 = dktJ6_init_4_1 := dk_seg dksJ6_init_4_0 23 rfl rfl
theorem dksJ6_init_4_2 : cJ6_init_4.data.toList.drop 47 = dktJ6_init_4_2 := dk_seg dksJ6_init_4_1 24 rfl rfl
theorem dJ6_init_4_0 : decode cJ6_init_4 0 = .ok (.aload_n 0, 1) := dk_42 (dk_at dksJ6_init_4_0 0 rfl rfl)
theorem dJ6_init_4_1 : decode cJ6_init_4 1 = .ok (.invokespecial 1, 3) := dk_183 0 1 (dk_at dksJ6_init_4_0 1 rfl rfl)
theorem dJ6_init_4_4 : decode cJ6_init_4 4 = .ok (.aload_n 0, 1) := dk_42 (dk_at dksJ6_init_4_0 4 rfl rfl)
theorem dJ6_init_4_5 : decode cJ6_init_4 5 = .ok (.aload_n 0, 1) := dk_42 (dk_at dksJ6_init_4_0 5 rfl rfl)
theorem dJ6_init_4_6 : decode cJ6_init_4 6 = .ok (.putfield 7, 3) := dk_181 0 7 (dk_at dksJ6_init_4_0 6 rfl rfl)
theorem dJ6_init_4_9 : decode cJ6_init_4 9 = .ok (.aload_n 0, 1) := dk_42 (dk_at dksJ6_init_4_0 9 rfl rfl)
theorem dJ6_init_4_10 : decode cJ6_init_4 10 = .ok (.getstatic 13, 3) := dk_178 0 13 (dk_at dksJ6_init_4_0 10 rfl rfl)
theorem dJ6_init_4_13 : decode cJ6_init_4 13 = .ok (.putfield 17, 3) := dk_181 0 17 (dk_at dksJ6_init_4_0 13 rfl rfl)
theorem dJ6_init_4_16 : decode cJ6_init_4 16 = .ok (.aload_n 0, 1) := dk_42 (dk_at dksJ6_init_4_0 16 rfl rfl)
theorem dJ6_init_4_17 : decode cJ6_init_4 17 = .ok (.getstatic 20, 3) := dk_178 0 20 (dk_at dksJ6_init_4_0 17 rfl rfl)
theorem dJ6_init_4_20 : decode cJ6_init_4 20 = .ok (.putfield 24, 3) := dk_181 0 24 (dk_at dksJ6_init_4_0 20 rfl rfl)
theorem dJ6_init_4_23 : decode cJ6_init_4 23 = .ok (.iload 4, 2) := dk_21 4 (dk_at dksJ6_init_4_1 0 rfl rfl)
theorem dJ6_init_4_25 : decode cJ6_init_4 25 = .ok (.ifCond .eq 11, 3) := dk_153 0 11 (dk_at dksJ6_init_4_1 2 rfl rfl)
theorem dJ6_init_4_28 : decode cJ6_init_4 28 = .ok (.aload_n 0, 1) := dk_42 (dk_at dksJ6_init_4_1 5 rfl rfl)
theorem dJ6_init_4_29 : decode cJ6_init_4 29 = .ok (.invokevirtual 27, 3) := dk_182 0 27 (dk_at dksJ6_init_4_1 6 rfl rfl)
theorem dJ6_init_4_32 : decode cJ6_init_4 32 = .ok (.pop, 1) := dk_87 (dk_at dksJ6_init_4_1 9 rfl rfl)
theorem dJ6_init_4_33 : decode cJ6_init_4 33 = .ok (.goto 8, 3) := dk_167 0 8 (dk_at dksJ6_init_4_1 10 rfl rfl)
theorem dJ6_init_4_36 : decode cJ6_init_4 36 = .ok (.aload_n 0, 1) := dk_42 (dk_at dksJ6_init_4_1 13 rfl rfl)
theorem dJ6_init_4_37 : decode cJ6_init_4 37 = .ok (.aconst_null, 1) := dk_1 (dk_at dksJ6_init_4_1 14 rfl rfl)
theorem dJ6_init_4_38 : decode cJ6_init_4 38 = .ok (.putfield 17, 3) := dk_181 0 17 (dk_at dksJ6_init_4_1 15 rfl rfl)
theorem dJ6_init_4_41 : decode cJ6_init_4 41 = .ok (.aload_n 0, 1) := dk_42 (dk_at dksJ6_init_4_1 18 rfl rfl)
theorem dJ6_init_4_42 : decode cJ6_init_4 42 = .ok (.aload_n 1, 1) := dk_43 (dk_at dksJ6_init_4_1 19 rfl rfl)
theorem dJ6_init_4_43 : decode cJ6_init_4 43 = .ok (.putfield 31, 3) := dk_181 0 31 (dk_at dksJ6_init_4_1 20 rfl rfl)
theorem dJ6_init_4_46 : decode cJ6_init_4 46 = .ok (.aload_n 0, 1) := dk_42 (dk_at dksJ6_init_4_1 23 rfl rfl)
theorem dJ6_init_4_47 : decode cJ6_init_4 47 = .ok (.aload_n 2, 1) := dk_44 (dk_at dksJ6_init_4_2 0 rfl rfl)
theorem dJ6_init_4_48 : decode cJ6_init_4 48 = .ok (.putfield 7, 3) := dk_181 0 7 (dk_at dksJ6_init_4_2 1 rfl rfl)
theorem dJ6_init_4_51 : decode cJ6_init_4 51 = .ok (.iload_n 3, 1) := dk_29 (dk_at dksJ6_init_4_2 4 rfl rfl)
theorem dJ6_init_4_52 : decode cJ6_init_4 52 = .ok (.ifCond .ne 8, 3) := dk_154 0 8 (dk_at dksJ6_init_4_2 5 rfl rfl)
theorem dJ6_init_4_55 : decode cJ6_init_4 55 = .ok (.aload_n 0, 1) := dk_42 (dk_at dksJ6_init_4_2 8 rfl rfl)
theorem dJ6_init_4_56 : decode cJ6_init_4 56 = .ok (.aconst_null, 1) := dk_1 (dk_at dksJ6_init_4_2 9 rfl rfl)
theorem dJ6_init_4_57 : decode cJ6_init_4 57 = .ok (.putfield 24, 3) := dk_181 0 24 (dk_at dksJ6_init_4_2 10 rfl rfl)
theorem dJ6_init_4_60 : decode cJ6_init_4 60 = .ok (.return_, 1) := dk_177 (dk_at dksJ6_init_4_2 13 rfl rfl)
theorem q109 : (Jvm.Cond.initialized "java/lang/Throwable") ∈ lw_all := lw_g (lw_at lw_m1 15 rfl) rfl
theorem q511 : (Jvm.Cond.declares ({ cls := "java/lang/Throwable", name := "<init>", desc := "()V" } : Jvm.MethodName)) ∈ lw_tbl := lw_at lw_m2 177 rfl
theorem q512 : (Jvm.Cond.declares ({ cls := "java/lang/Throwable", name := "<init>", desc := "(Ljava/lang/String;)V" } : Jvm.MethodName)) ∈ lw_tbl := lw_at lw_m2 178 rfl
theorem q516 : (Jvm.Cond.lays "java/lang/Throwable" "java/lang/Throwable" "cause" "Ljava/lang/Throwable;") ∈ lw_all := lw_g (lw_at lw_m2 182 rfl) rfl
theorem q518 : (Jvm.Cond.lays "java/lang/Throwable" "java/lang/Throwable" "stackTrace" "[Ljava/lang/StackTraceElement;") ∈ lw_all := lw_g (lw_at lw_m2 184 rfl) rfl
theorem q520 : (Jvm.Cond.lays "java/lang/Throwable" "java/lang/Throwable" "suppressedExceptions" "Ljava/util/List;") ∈ lw_all := lw_g (lw_at lw_m2 186 rfl) rfl
theorem q522 : (Jvm.Cond.lays "java/lang/Throwable" "java/lang/Throwable" "detailMessage" "Ljava/lang/String;") ∈ lw_all := lw_g (lw_at lw_m2 188 rfl) rfl
theorem q524 : (Jvm.Cond.lays "java/lang/Throwable" "java/lang/Throwable" "backtrace" "Ljava/lang/Object;") ∈ lw_all := lw_g (lw_at lw_m2 190 rfl) rfl
theorem q525 : (Jvm.Cond.fieldLink "java/lang/Throwable" (198 : Nat) "java/lang/Throwable" "backtrace" "Ljava/lang/Object;") ∈ lw_all := lw_g (lw_at lw_m2 191 rfl) rfl
theorem q526 : (Jvm.Cond.superclass "java/lang/Throwable" "java/lang/Object") ∈ lw_all := lw_g (lw_at lw_m2 192 rfl) rfl
theorem q527 : (Jvm.Cond.instanceMethod ({ cls := "java/lang/Throwable", name := "<init>", desc := "()V" } : Jvm.MethodName)) ∈ lw_all := lw_g (lw_at lw_m2 193 rfl) rfl
theorem q528 : (Jvm.Cond.code ({ cls := "java/lang/Throwable", name := "<init>", desc := "()V" } : Jvm.MethodName) prog_40_method_1_code (1 : Nat) (Option.none : Option Jvm.ClassFile.FieldType)) ∈ lw_all := lw_g (lw_at lw_m2 194 rfl) rfl
theorem q529 : (Jvm.Cond.methodLink "java/lang/Throwable" (1 : Nat) ({ cls := "java/lang/Object", name := "<init>", desc := "()V" } : Jvm.MethodName)) ∈ lw_all := lw_g (lw_at lw_m2 195 rfl) rfl
theorem q530 : (Jvm.Cond.fieldLink "java/lang/Throwable" (13 : Nat) "java/lang/Throwable" "UNASSIGNED_STACK" "[Ljava/lang/StackTraceElement;") ∈ lw_all := lw_g (lw_at lw_m2 196 rfl) rfl
theorem q531 : (Jvm.Cond.laysStatic "java/lang/Throwable" "UNASSIGNED_STACK" "[Ljava/lang/StackTraceElement;") ∈ lw_tbl := lw_at lw_m2 197 rfl
theorem q532 : (Jvm.Cond.fieldLink "java/lang/Throwable" (20 : Nat) "java/lang/Throwable" "SUPPRESSED_SENTINEL" "Ljava/util/List;") ∈ lw_all := lw_g (lw_at lw_m2 198 rfl) rfl
theorem q533 : (Jvm.Cond.laysStatic "java/lang/Throwable" "SUPPRESSED_SENTINEL" "Ljava/util/List;") ∈ lw_tbl := lw_at lw_m2 199 rfl
theorem q534 : (Jvm.Cond.methodLink "java/lang/Throwable" (27 : Nat) ({ cls := "java/lang/Throwable", name := "fillInStackTrace", desc := "()Ljava/lang/Throwable;" } : Jvm.MethodName)) ∈ lw_all := lw_g (lw_at lw_m2 200 rfl) rfl
theorem q535 : (Jvm.Cond.instanceMethod ({ cls := "java/lang/Throwable", name := "fillInStackTrace", desc := "()Ljava/lang/Throwable;" } : Jvm.MethodName)) ∈ lw_all := lw_g (lw_at lw_m2 201 rfl) rfl
theorem q536 : (Jvm.Cond.sameMethod "java/lang/Throwable" "java/lang/Throwable" "fillInStackTrace" "()Ljava/lang/Throwable;") ∈ lw_all := lw_g (lw_at lw_m2 202 rfl) rfl
theorem q542 : (Jvm.Cond.codeSync ({ cls := "java/lang/Throwable", name := "fillInStackTrace", desc := "()Ljava/lang/Throwable;" } : Jvm.MethodName) prog_40_method_18_code (1 : Nat) (Option.some (Jvm.ClassFile.FieldType.object "java/lang/Throwable"))) ∈ lw_all := lw_g (lw_at lw_m2 208 rfl) rfl
theorem q543 : (Jvm.Cond.methodLink "java/lang/Throwable" (202 : Nat) ({ cls := "java/lang/Throwable", name := "fillInStackTrace", desc := "(I)Ljava/lang/Throwable;" } : Jvm.MethodName)) ∈ lw_all := lw_g (lw_at lw_m2 209 rfl) rfl
theorem q544 : (Jvm.Cond.privateMethod ({ cls := "java/lang/Throwable", name := "fillInStackTrace", desc := "(I)Ljava/lang/Throwable;" } : Jvm.MethodName)) ∈ lw_tbl := lw_at lw_m2 210 rfl
theorem q545 : (Jvm.Cond.instanceMethod ({ cls := "java/lang/Throwable", name := "fillInStackTrace", desc := "(I)Ljava/lang/Throwable;" } : Jvm.MethodName)) ∈ lw_all := lw_g (lw_at lw_m2 211 rfl) rfl
theorem q546 : (Jvm.Cond.instantiable "java/lang/Throwable" (6 : Nat)) ∈ lw_all := lw_g (lw_at lw_m2 212 rfl) rfl
theorem q547 : (Jvm.Cond.native ({ cls := "java/lang/Throwable", name := "fillInStackTrace", desc := "(I)Ljava/lang/Throwable;" } : Jvm.MethodName)) ∈ lw_all := lw_g (lw_at lw_m2 213 rfl) rfl
theorem q792 : (Jvm.Cond.instanceMethod ({ cls := "java/lang/Throwable", name := "<init>", desc := "(Ljava/lang/String;)V" } : Jvm.MethodName)) ∈ lw_all := lw_g (lw_at lw_m3 218 rfl) rfl
theorem q793 : (Jvm.Cond.code ({ cls := "java/lang/Throwable", name := "<init>", desc := "(Ljava/lang/String;)V" } : Jvm.MethodName) prog_40_method_2_code (2 : Nat) (Option.none : Option Jvm.ClassFile.FieldType)) ∈ lw_all := lw_g (lw_at lw_m3 219 rfl) rfl
theorem q794 : (Jvm.Cond.fieldLink "java/lang/Throwable" (198 : Nat) "java/lang/Throwable" "backtrace" "Ljava/lang/Object;") ∈ lw_all := lw_g (lw_at lw_m3 220 rfl) rfl
theorem q795 : (Jvm.Cond.fieldLink "java/lang/Throwable" (31 : Nat) "java/lang/Throwable" "detailMessage" "Ljava/lang/String;") ∈ lw_all := lw_g (lw_at lw_m3 221 rfl) rfl
theorem q796 : (Jvm.Cond.fieldLink "java/lang/Throwable" (7 : Nat) "java/lang/Throwable" "cause" "Ljava/lang/Throwable;") ∈ lw_all := lw_g (lw_at lw_m3 222 rfl) rfl
theorem q797 : (Jvm.Cond.fieldLink "java/lang/Throwable" (17 : Nat) "java/lang/Throwable" "stackTrace" "[Ljava/lang/StackTraceElement;") ∈ lw_all := lw_g (lw_at lw_m3 223 rfl) rfl
theorem q798 : (Jvm.Cond.fieldLink "java/lang/Throwable" (24 : Nat) "java/lang/Throwable" "suppressedExceptions" "Ljava/util/List;") ∈ lw_all := lw_g (lw_at lw_m3 224 rfl) rfl
theorem q799 : (Jvm.Cond.soleField "java/lang/Throwable" "backtrace") ∈ lw_all := lw_g (lw_at lw_m3 225 rfl) rfl
theorem q800 : (Jvm.Cond.soleField "java/lang/Throwable" "detailMessage") ∈ lw_all := lw_g (lw_at lw_m3 226 rfl) rfl
theorem q801 : (Jvm.Cond.soleField "java/lang/Throwable" "cause") ∈ lw_all := lw_g (lw_at lw_m3 227 rfl) rfl
theorem q802 : (Jvm.Cond.soleField "java/lang/Throwable" "stackTrace") ∈ lw_all := lw_g (lw_at lw_m3 228 rfl) rfl
theorem q804 : (Jvm.Cond.soleField "java/lang/Throwable" "depth") ∈ lw_all := lw_g (lw_at lw_m3 230 rfl) rfl
theorem q805 : (Jvm.Cond.soleField "java/lang/Throwable" "suppressedExceptions") ∈ lw_all := lw_g (lw_at lw_m3 231 rfl) rfl
theorem q1466 : (Jvm.Cond.instanceMethod ({ cls := "java/lang/Throwable", name := "<init>", desc := "(Ljava/lang/Throwable;)V" } : Jvm.MethodName)) ∈ lw_all := lw_g (lw_at lw_m6 172 rfl) rfl
theorem q1467 : (Jvm.Cond.code ({ cls := "java/lang/Throwable", name := "<init>", desc := "(Ljava/lang/Throwable;)V" } : Jvm.MethodName) prog_40_method_4_code (2 : Nat) (Option.none : Option Jvm.ClassFile.FieldType)) ∈ lw_all := lw_g (lw_at lw_m6 173 rfl) rfl
theorem q1468 : (Jvm.Cond.methodLink "java/lang/Throwable" (35 : Nat) ({ cls := "java/lang/Throwable", name := "toString", desc := "()Ljava/lang/String;" } : Jvm.MethodName)) ∈ lw_all := lw_g (lw_at lw_m6 174 rfl) rfl
theorem q1469 : (Jvm.Cond.instanceMethod ({ cls := "java/lang/Throwable", name := "toString", desc := "()Ljava/lang/String;" } : Jvm.MethodName)) ∈ lw_all := lw_g (lw_at lw_m6 175 rfl) rfl
theorem q1470 : (Jvm.Cond.sameMethod "java/lang/Throwable" "java/lang/Throwable" "toString" "()Ljava/lang/String;") ∈ lw_all := lw_g (lw_at lw_m6 176 rfl) rfl
theorem q1477 : (Jvm.Cond.code ({ cls := "java/lang/Throwable", name := "toString", desc := "()Ljava/lang/String;" } : Jvm.MethodName) prog_40_method_11_code (3 : Nat) (Option.some (Jvm.ClassFile.FieldType.object "java/lang/String"))) ∈ lw_all := lw_g (lw_at lw_m6 183 rfl) rfl
theorem q1478 : (Jvm.Cond.methodLink "java/lang/Throwable" (69 : Nat) ({ cls := "java/lang/Object", name := "getClass", desc := "()Ljava/lang/Class;" } : Jvm.MethodName)) ∈ lw_all := lw_g (lw_at lw_m6 184 rfl) rfl
theorem q1519 : (Jvm.Cond.methodLink "java/lang/Throwable" (78 : Nat) ({ cls := "java/lang/Throwable", name := "getLocalizedMessage", desc := "()Ljava/lang/String;" } : Jvm.MethodName)) ∈ lw_all := lw_g (lw_at lw_m6 225 rfl) rfl
theorem q1520 : (Jvm.Cond.instanceMethod ({ cls := "java/lang/Throwable", name := "getLocalizedMessage", desc := "()Ljava/lang/String;" } : Jvm.MethodName)) ∈ lw_all := lw_g (lw_at lw_m6 226 rfl) rfl
theorem q1521 : (Jvm.Cond.sameMethod "java/lang/Throwable" "java/lang/Throwable" "getLocalizedMessage" "()Ljava/lang/String;") ∈ lw_all := lw_g (lw_at lw_m6 227 rfl) rfl
theorem q1528 : (Jvm.Cond.code ({ cls := "java/lang/Throwable", name := "getLocalizedMessage", desc := "()Ljava/lang/String;" } : Jvm.MethodName) prog_40_method_7_code (1 : Nat) (Option.some (Jvm.ClassFile.FieldType.object "java/lang/String"))) ∈ lw_all := lw_g (lw_at lw_m6 234 rfl) rfl
theorem q1529 : (Jvm.Cond.methodLink "java/lang/Throwable" (39 : Nat) ({ cls := "java/lang/Throwable", name := "getMessage", desc := "()Ljava/lang/String;" } : Jvm.MethodName)) ∈ lw_all := lw_g (lw_at lw_m6 235 rfl) rfl
theorem q1530 : (Jvm.Cond.instanceMethod ({ cls := "java/lang/Throwable", name := "getMessage", desc := "()Ljava/lang/String;" } : Jvm.MethodName)) ∈ lw_all := lw_g (lw_at lw_m6 236 rfl) rfl
theorem q1531 : (Jvm.Cond.sameMethod "java/lang/Throwable" "java/lang/Throwable" "getMessage" "()Ljava/lang/String;") ∈ lw_all := lw_g (lw_at lw_m6 237 rfl) rfl
theorem q1538 : (Jvm.Cond.code ({ cls := "java/lang/Throwable", name := "getMessage", desc := "()Ljava/lang/String;" } : Jvm.MethodName) prog_40_method_6_code (1 : Nat) (Option.some (Jvm.ClassFile.FieldType.object "java/lang/String"))) ∈ lw_all := lw_g (lw_at lw_m7 4 rfl) rfl
theorem q1539 : (Jvm.Cond.classLink "java/lang/Throwable" (44 : Nat) "java/lang/StringBuilder") ∈ lw_all := lw_g (lw_at lw_m7 5 rfl) rfl
theorem q1540 : (Jvm.Cond.methodLink "java/lang/Throwable" (46 : Nat) ({ cls := "java/lang/StringBuilder", name := "<init>", desc := "()V" } : Jvm.MethodName)) ∈ lw_all := lw_g (lw_at lw_m7 6 rfl) rfl
theorem q1541 : (Jvm.Cond.methodLink "java/lang/Throwable" (49 : Nat) ({ cls := "java/lang/StringBuilder", name := "append", desc := "(Ljava/lang/String;)Ljava/lang/StringBuilder;" } : Jvm.MethodName)) ∈ lw_all := lw_g (lw_at lw_m7 7 rfl) rfl
theorem q1542 : (Jvm.Cond.stringRef "java/lang/Throwable" (81 : Nat) ": ") ∈ lw_tbl := lw_at lw_m7 8 rfl
theorem q1543 : (Jvm.Cond.methodLink "java/lang/Throwable" (60 : Nat) ({ cls := "java/lang/StringBuilder", name := "toString", desc := "()Ljava/lang/String;" } : Jvm.MethodName)) ∈ lw_all := lw_g (lw_at lw_m7 9 rfl) rfl
theorem q2119 : (Jvm.Cond.instanceMethod ({ cls := "java/lang/Throwable", name := "<init>", desc := "(Ljava/lang/String;Ljava/lang/Throwable;ZZ)V" } : Jvm.MethodName)) ∈ lw_all := lw_g (lw_at lw_m9 105 rfl) rfl
theorem q2120 : (Jvm.Cond.code ({ cls := "java/lang/Throwable", name := "<init>", desc := "(Ljava/lang/String;Ljava/lang/Throwable;ZZ)V" } : Jvm.MethodName) prog_40_method_5_code (5 : Nat) (Option.none : Option Jvm.ClassFile.FieldType)) ∈ lw_all := lw_g (lw_at lw_m9 106 rfl) rfl
theorem q3119 : (Jvm.Cond.sameMethod "java/lang/Throwable" "java/lang/Throwable" "fillInStackTrace" "(I)Ljava/lang/Throwable;") ∈ lw_all := lw_g (lw_at lw_m13 145 rfl) rfl
theorem q3180 : (Jvm.Cond.castable "java/lang/Throwable" "java/lang/Object") ∈ lw_tbl := lw_at lw_m13 206 rfl
theorem in_J6 : ∀ w ∈ wsJ60, w ∈ lw_all := lw_in wsJ60 [516, 518, 520, 522, 524] (by decide +kernel) (by decide +kernel)

/-! java/lang/Exception -/
set_option maxRecDepth 100000
def RJ7 : String := "java/lang/Exception"
abbrev cJ7_init : ByteArray := prog_23_method_2_code
def yJ7_init : MethodName := ⟨RJ7, "<init>", "(Ljava/lang/String;)V"⟩
def dkwJ7_init_0 : List UInt8 := [42, 43, 183, 0, 7, 177]
abbrev dktJ7_init_0 : List UInt8 := dkwJ7_init_0 ++ []
theorem dksJ7_init_0 : cJ7_init.data.toList.drop 0 = dktJ7_init_0 := by decide +kernel
theorem dJ7_init_0 : decode cJ7_init 0 = .ok (.aload_n 0, 1) := dk_42 (dk_at dksJ7_init_0 0 rfl rfl)
theorem dJ7_init_1 : decode cJ7_init 1 = .ok (.aload_n 1, 1) := dk_43 (dk_at dksJ7_init_0 1 rfl rfl)
theorem dJ7_init_2 : decode cJ7_init 2 = .ok (.invokespecial 7, 3) := dk_183 0 7 (dk_at dksJ7_init_0 2 rfl rfl)
theorem dJ7_init_5 : decode cJ7_init 5 = .ok (.return_, 1) := dk_177 (dk_at dksJ7_init_0 5 rfl rfl)
abbrev cJ7_init_2 : ByteArray := prog_23_method_1_code
def yJ7_init_2 : MethodName := ⟨RJ7, "<init>", "()V"⟩
theorem dJ7_init_2_0 : decode cJ7_init_2 0 = .ok (.aload_n 0, 1) := by decide +kernel
theorem dJ7_init_2_1 : decode cJ7_init_2 1 = .ok (.invokespecial 1, 3) := by decide +kernel
theorem dJ7_init_2_4 : decode cJ7_init_2 4 = .ok (.return_, 1) := by decide +kernel
abbrev cJ7_init_3 : ByteArray := prog_23_method_4_code
def yJ7_init_3 : MethodName := ⟨RJ7, "<init>", "(Ljava/lang/Throwable;)V"⟩
def dkwJ7_init_3_0 : List UInt8 := [42, 43, 183, 0, 13, 177]
abbrev dktJ7_init_3_0 : List UInt8 := dkwJ7_init_3_0 ++ []
theorem dksJ7_init_3_0 : cJ7_init_3.data.toList.drop 0 = dktJ7_init_3_0 := by decide +kernel
theorem dJ7_init_3_0 : decode cJ7_init_3 0 = .ok (.aload_n 0, 1) := dk_42 (dk_at dksJ7_init_3_0 0 rfl rfl)
theorem dJ7_init_3_1 : decode cJ7_init_3 1 = .ok (.aload_n 1, 1) := dk_43 (dk_at dksJ7_init_3_0 1 rfl rfl)
theorem dJ7_init_3_2 : decode cJ7_init_3 2 = .ok (.invokespecial 13, 3) := dk_183 0 13 (dk_at dksJ7_init_3_0 2 rfl rfl)
theorem dJ7_init_3_5 : decode cJ7_init_3 5 = .ok (.return_, 1) := dk_177 (dk_at dksJ7_init_3_0 5 rfl rfl)
abbrev cJ7_init_4 : ByteArray := prog_23_method_5_code
def yJ7_init_4 : MethodName := ⟨RJ7, "<init>", "(Ljava/lang/String;Ljava/lang/Throwable;ZZ)V"⟩
def dkwJ7_init_4_0 : List UInt8 := [42, 43, 44, 29, 21, 4, 183, 0, 16, 177]
abbrev dktJ7_init_4_0 : List UInt8 := dkwJ7_init_4_0 ++ []
theorem dksJ7_init_4_0 : cJ7_init_4.data.toList.drop 0 = dktJ7_init_4_0 := by decide +kernel
theorem dJ7_init_4_0 : decode cJ7_init_4 0 = .ok (.aload_n 0, 1) := dk_42 (dk_at dksJ7_init_4_0 0 rfl rfl)
theorem dJ7_init_4_1 : decode cJ7_init_4 1 = .ok (.aload_n 1, 1) := dk_43 (dk_at dksJ7_init_4_0 1 rfl rfl)
theorem dJ7_init_4_2 : decode cJ7_init_4 2 = .ok (.aload_n 2, 1) := dk_44 (dk_at dksJ7_init_4_0 2 rfl rfl)
theorem dJ7_init_4_3 : decode cJ7_init_4 3 = .ok (.iload_n 3, 1) := dk_29 (dk_at dksJ7_init_4_0 3 rfl rfl)
theorem dJ7_init_4_4 : decode cJ7_init_4 4 = .ok (.iload 4, 2) := dk_21 4 (dk_at dksJ7_init_4_0 4 rfl rfl)
theorem dJ7_init_4_6 : decode cJ7_init_4 6 = .ok (.invokespecial 16, 3) := dk_183 0 16 (dk_at dksJ7_init_4_0 6 rfl rfl)
theorem dJ7_init_4_9 : decode cJ7_init_4 9 = .ok (.return_, 1) := dk_177 (dk_at dksJ7_init_4_0 9 rfl rfl)
theorem q110 : (Jvm.Cond.initialized "java/lang/Exception") ∈ lw_all := lw_g (lw_at lw_m1 16 rfl) rfl
theorem q509 : (Jvm.Cond.declares ({ cls := "java/lang/Exception", name := "<init>", desc := "()V" } : Jvm.MethodName)) ∈ lw_tbl := lw_at lw_m2 175 rfl
theorem q510 : (Jvm.Cond.declares ({ cls := "java/lang/Exception", name := "<init>", desc := "(Ljava/lang/String;)V" } : Jvm.MethodName)) ∈ lw_tbl := lw_at lw_m2 176 rfl
theorem q789 : (Jvm.Cond.instanceMethod ({ cls := "java/lang/Exception", name := "<init>", desc := "(Ljava/lang/String;)V" } : Jvm.MethodName)) ∈ lw_all := lw_g (lw_at lw_m3 215 rfl) rfl
theorem q790 : (Jvm.Cond.code ({ cls := "java/lang/Exception", name := "<init>", desc := "(Ljava/lang/String;)V" } : Jvm.MethodName) prog_23_method_2_code (2 : Nat) (Option.none : Option Jvm.ClassFile.FieldType)) ∈ lw_all := lw_g (lw_at lw_m3 216 rfl) rfl
theorem q791 : (Jvm.Cond.methodLink "java/lang/Exception" (7 : Nat) ({ cls := "java/lang/Throwable", name := "<init>", desc := "(Ljava/lang/String;)V" } : Jvm.MethodName)) ∈ lw_all := lw_g (lw_at lw_m3 217 rfl) rfl
theorem q1151 : (Jvm.Cond.instanceMethod ({ cls := "java/lang/Exception", name := "<init>", desc := "()V" } : Jvm.MethodName)) ∈ lw_all := lw_g (lw_at lw_m5 97 rfl) rfl
theorem q1152 : (Jvm.Cond.code ({ cls := "java/lang/Exception", name := "<init>", desc := "()V" } : Jvm.MethodName) prog_23_method_1_code (1 : Nat) (Option.none : Option Jvm.ClassFile.FieldType)) ∈ lw_all := lw_g (lw_at lw_m5 98 rfl) rfl
theorem q1153 : (Jvm.Cond.methodLink "java/lang/Exception" (1 : Nat) ({ cls := "java/lang/Throwable", name := "<init>", desc := "()V" } : Jvm.MethodName)) ∈ lw_all := lw_g (lw_at lw_m5 99 rfl) rfl
theorem q1463 : (Jvm.Cond.instanceMethod ({ cls := "java/lang/Exception", name := "<init>", desc := "(Ljava/lang/Throwable;)V" } : Jvm.MethodName)) ∈ lw_all := lw_g (lw_at lw_m6 169 rfl) rfl
theorem q1464 : (Jvm.Cond.code ({ cls := "java/lang/Exception", name := "<init>", desc := "(Ljava/lang/Throwable;)V" } : Jvm.MethodName) prog_23_method_4_code (2 : Nat) (Option.none : Option Jvm.ClassFile.FieldType)) ∈ lw_all := lw_g (lw_at lw_m6 170 rfl) rfl
theorem q1465 : (Jvm.Cond.methodLink "java/lang/Exception" (13 : Nat) ({ cls := "java/lang/Throwable", name := "<init>", desc := "(Ljava/lang/Throwable;)V" } : Jvm.MethodName)) ∈ lw_all := lw_g (lw_at lw_m6 171 rfl) rfl
theorem q2116 : (Jvm.Cond.instanceMethod ({ cls := "java/lang/Exception", name := "<init>", desc := "(Ljava/lang/String;Ljava/lang/Throwable;ZZ)V" } : Jvm.MethodName)) ∈ lw_all := lw_g (lw_at lw_m9 102 rfl) rfl
theorem q2117 : (Jvm.Cond.code ({ cls := "java/lang/Exception", name := "<init>", desc := "(Ljava/lang/String;Ljava/lang/Throwable;ZZ)V" } : Jvm.MethodName) prog_23_method_5_code (5 : Nat) (Option.none : Option Jvm.ClassFile.FieldType)) ∈ lw_all := lw_g (lw_at lw_m9 103 rfl) rfl
theorem q2118 : (Jvm.Cond.methodLink "java/lang/Exception" (16 : Nat) ({ cls := "java/lang/Throwable", name := "<init>", desc := "(Ljava/lang/String;Ljava/lang/Throwable;ZZ)V" } : Jvm.MethodName)) ∈ lw_all := lw_g (lw_at lw_m9 104 rfl) rfl

/-! java/lang/RuntimeException -/
set_option maxRecDepth 100000
def RJ8 : String := "java/lang/RuntimeException"
abbrev cJ8_init : ByteArray := prog_33_method_2_code
def yJ8_init : MethodName := ⟨RJ8, "<init>", "(Ljava/lang/String;)V"⟩
def dkwJ8_init_0 : List UInt8 := [42, 43, 183, 0, 7, 177]
abbrev dktJ8_init_0 : List UInt8 := dkwJ8_init_0 ++ []
theorem dksJ8_init_0 : cJ8_init.data.toList.drop 0 = dktJ8_init_0 := by decide +kernel
theorem dJ8_init_0 : decode cJ8_init 0 = .ok (.aload_n 0, 1) := dk_42 (dk_at dksJ8_init_0 0 rfl rfl)
theorem dJ8_init_1 : decode cJ8_init 1 = .ok (.aload_n 1, 1) := dk_43 (dk_at dksJ8_init_0 1 rfl rfl)
theorem dJ8_init_2 : decode cJ8_init 2 = .ok (.invokespecial 7, 3) := dk_183 0 7 (dk_at dksJ8_init_0 2 rfl rfl)
theorem dJ8_init_5 : decode cJ8_init 5 = .ok (.return_, 1) := dk_177 (dk_at dksJ8_init_0 5 rfl rfl)
abbrev cJ8_init_2 : ByteArray := prog_33_method_1_code
def yJ8_init_2 : MethodName := ⟨RJ8, "<init>", "()V"⟩
theorem dJ8_init_2_0 : decode cJ8_init_2 0 = .ok (.aload_n 0, 1) := by decide +kernel
theorem dJ8_init_2_1 : decode cJ8_init_2 1 = .ok (.invokespecial 1, 3) := by decide +kernel
theorem dJ8_init_2_4 : decode cJ8_init_2 4 = .ok (.return_, 1) := by decide +kernel
abbrev cJ8_init_3 : ByteArray := prog_33_method_4_code
def yJ8_init_3 : MethodName := ⟨RJ8, "<init>", "(Ljava/lang/Throwable;)V"⟩
def dkwJ8_init_3_0 : List UInt8 := [42, 43, 183, 0, 13, 177]
abbrev dktJ8_init_3_0 : List UInt8 := dkwJ8_init_3_0 ++ []
theorem dksJ8_init_3_0 : cJ8_init_3.data.toList.drop 0 = dktJ8_init_3_0 := by decide +kernel
theorem dJ8_init_3_0 : decode cJ8_init_3 0 = .ok (.aload_n 0, 1) := dk_42 (dk_at dksJ8_init_3_0 0 rfl rfl)
theorem dJ8_init_3_1 : decode cJ8_init_3 1 = .ok (.aload_n 1, 1) := dk_43 (dk_at dksJ8_init_3_0 1 rfl rfl)
theorem dJ8_init_3_2 : decode cJ8_init_3 2 = .ok (.invokespecial 13, 3) := dk_183 0 13 (dk_at dksJ8_init_3_0 2 rfl rfl)
theorem dJ8_init_3_5 : decode cJ8_init_3 5 = .ok (.return_, 1) := dk_177 (dk_at dksJ8_init_3_0 5 rfl rfl)
theorem q111 : (Jvm.Cond.initialized "java/lang/RuntimeException") ∈ lw_all := lw_g (lw_at lw_m1 17 rfl) rfl
theorem q507 : (Jvm.Cond.declares ({ cls := "java/lang/RuntimeException", name := "<init>", desc := "()V" } : Jvm.MethodName)) ∈ lw_tbl := lw_at lw_m2 173 rfl
theorem q508 : (Jvm.Cond.declares ({ cls := "java/lang/RuntimeException", name := "<init>", desc := "(Ljava/lang/String;)V" } : Jvm.MethodName)) ∈ lw_tbl := lw_at lw_m2 174 rfl
theorem q786 : (Jvm.Cond.instanceMethod ({ cls := "java/lang/RuntimeException", name := "<init>", desc := "(Ljava/lang/String;)V" } : Jvm.MethodName)) ∈ lw_all := lw_g (lw_at lw_m3 212 rfl) rfl
theorem q787 : (Jvm.Cond.code ({ cls := "java/lang/RuntimeException", name := "<init>", desc := "(Ljava/lang/String;)V" } : Jvm.MethodName) prog_33_method_2_code (2 : Nat) (Option.none : Option Jvm.ClassFile.FieldType)) ∈ lw_all := lw_g (lw_at lw_m3 213 rfl) rfl
theorem q788 : (Jvm.Cond.methodLink "java/lang/RuntimeException" (7 : Nat) ({ cls := "java/lang/Exception", name := "<init>", desc := "(Ljava/lang/String;)V" } : Jvm.MethodName)) ∈ lw_all := lw_g (lw_at lw_m3 214 rfl) rfl
theorem q1148 : (Jvm.Cond.instanceMethod ({ cls := "java/lang/RuntimeException", name := "<init>", desc := "()V" } : Jvm.MethodName)) ∈ lw_all := lw_g (lw_at lw_m5 94 rfl) rfl
theorem q1149 : (Jvm.Cond.code ({ cls := "java/lang/RuntimeException", name := "<init>", desc := "()V" } : Jvm.MethodName) prog_33_method_1_code (1 : Nat) (Option.none : Option Jvm.ClassFile.FieldType)) ∈ lw_all := lw_g (lw_at lw_m5 95 rfl) rfl
theorem q1150 : (Jvm.Cond.methodLink "java/lang/RuntimeException" (1 : Nat) ({ cls := "java/lang/Exception", name := "<init>", desc := "()V" } : Jvm.MethodName)) ∈ lw_all := lw_g (lw_at lw_m5 96 rfl) rfl
theorem q1460 : (Jvm.Cond.instanceMethod ({ cls := "java/lang/RuntimeException", name := "<init>", desc := "(Ljava/lang/Throwable;)V" } : Jvm.MethodName)) ∈ lw_all := lw_g (lw_at lw_m6 166 rfl) rfl
theorem q1461 : (Jvm.Cond.code ({ cls := "java/lang/RuntimeException", name := "<init>", desc := "(Ljava/lang/Throwable;)V" } : Jvm.MethodName) prog_33_method_4_code (2 : Nat) (Option.none : Option Jvm.ClassFile.FieldType)) ∈ lw_all := lw_g (lw_at lw_m6 167 rfl) rfl
theorem q1462 : (Jvm.Cond.methodLink "java/lang/RuntimeException" (13 : Nat) ({ cls := "java/lang/Exception", name := "<init>", desc := "(Ljava/lang/Throwable;)V" } : Jvm.MethodName)) ∈ lw_all := lw_g (lw_at lw_m6 168 rfl) rfl

/-! java/lang/IllegalArgumentException -/
set_option maxRecDepth 100000
def RJ9 : String := "java/lang/IllegalArgumentException"
def TJ9 : u_T := fun k => match k with
  | 0 => ("java/lang/Throwable", "cause", "Ljava/lang/Throwable;", false)
  | 1 => ("java/lang/Throwable", "stackTrace", "[Ljava/lang/StackTraceElement;", false)
  | 2 => ("java/lang/Throwable", "suppressedExceptions", "Ljava/util/List;", false)
  | 3 => ("java/lang/Throwable", "detailMessage", "Ljava/lang/String;", false)
  | 4 => ("java/lang/Throwable", "backtrace", "Ljava/lang/Object;", false)
  | _ => ("java/lang/Throwable", "depth", "I", false)
def tyJ9 : Nat → FieldType := fun k => match k with
  | 0 => .object "java/lang/Throwable"
  | 1 => .array (.object "java/lang/StackTraceElement")
  | 2 => .object "java/util/List"
  | 3 => .object "java/lang/String"
  | 4 => .object "java/lang/Object"
  | _ => .int
abbrev wsJ90 : List Cond := u_ws RJ9 TJ9 6
theorem nmJ9 : ∀ a, a < 6 → ∀ b, b < 6 → a ≠ b → (TJ9 a).2.1 ≠ (TJ9 b).2.1 := by decide +kernel
theorem tyJ9_ok : ∀ k, k < 6 → parseFieldDescriptor (TJ9 k).2.2.1 = some (tyJ9 k) := by decide +kernel
abbrev cJ9_init : ByteArray := prog_24_method_2_code
def yJ9_init : MethodName := ⟨RJ9, "<init>", "(Ljava/lang/String;)V"⟩
def dkwJ9_init_0 : List UInt8 := [42, 43, 183, 0, 7, 177]
abbrev dktJ9_init_0 : List UInt8 := dkwJ9_init_0 ++ []
theorem dksJ9_init_0 : cJ9_init.data.toList.drop 0 = dktJ9_init_0 := by decide +kernel
theorem dJ9_init_0 : decode cJ9_init 0 = .ok (.aload_n 0, 1) := dk_42 (dk_at dksJ9_init_0 0 rfl rfl)
theorem dJ9_init_1 : decode cJ9_init 1 = .ok (.aload_n 1, 1) := dk_43 (dk_at dksJ9_init_0 1 rfl rfl)
theorem dJ9_init_2 : decode cJ9_init 2 = .ok (.invokespecial 7, 3) := dk_183 0 7 (dk_at dksJ9_init_0 2 rfl rfl)
theorem dJ9_init_5 : decode cJ9_init 5 = .ok (.return_, 1) := dk_177 (dk_at dksJ9_init_0 5 rfl rfl)
abbrev cJ9_init_2 : ByteArray := prog_24_method_1_code
def yJ9_init_2 : MethodName := ⟨RJ9, "<init>", "()V"⟩
theorem dJ9_init_2_0 : decode cJ9_init_2 0 = .ok (.aload_n 0, 1) := by decide +kernel
theorem dJ9_init_2_1 : decode cJ9_init_2 1 = .ok (.invokespecial 1, 3) := by decide +kernel
theorem dJ9_init_2_4 : decode cJ9_init_2 4 = .ok (.return_, 1) := by decide +kernel
theorem q112 : (Jvm.Cond.initialized "java/lang/IllegalArgumentException") ∈ lw_all := lw_g (lw_at lw_m1 18 rfl) rfl
theorem q539 : (Jvm.Cond.selects "java/lang/IllegalArgumentException" ({ cls := "java/lang/Throwable", name := "fillInStackTrace", desc := "()Ljava/lang/Throwable;" } : Jvm.MethodName) ({ cls := "java/lang/Throwable", name := "fillInStackTrace", desc := "()Ljava/lang/Throwable;" } : Jvm.MethodName)) ∈ lw_all := lw_g (lw_at lw_m2 205 rfl) rfl
theorem q768 : (Jvm.Cond.instantiable "java/lang/IllegalArgumentException" (6 : Nat)) ∈ lw_all := lw_g (lw_at lw_m3 194 rfl) rfl
theorem q769 : (Jvm.Cond.castable "java/lang/IllegalArgumentException" "java/lang/IllegalArgumentException") ∈ lw_tbl := lw_at lw_m3 195 rfl
theorem q770 : (Jvm.Cond.selects "java/lang/IllegalArgumentException" ({ cls := "java/lang/Throwable", name := "fillInStackTrace", desc := "(I)Ljava/lang/Throwable;" } : Jvm.MethodName) ({ cls := "java/lang/Throwable", name := "fillInStackTrace", desc := "(I)Ljava/lang/Throwable;" } : Jvm.MethodName)) ∈ lw_all := lw_g (lw_at lw_m3 196 rfl) rfl
theorem q771 : (Jvm.Cond.lays "java/lang/IllegalArgumentException" "java/lang/Throwable" "cause" "Ljava/lang/Throwable;") ∈ lw_all := lw_g (lw_at lw_m3 197 rfl) rfl
theorem q772 : (Jvm.Cond.lays "java/lang/IllegalArgumentException" "java/lang/Throwable" "stackTrace" "[Ljava/lang/StackTraceElement;") ∈ lw_all := lw_g (lw_at lw_m3 198 rfl) rfl
theorem q773 : (Jvm.Cond.lays "java/lang/IllegalArgumentException" "java/lang/Throwable" "suppressedExceptions" "Ljava/util/List;") ∈ lw_all := lw_g (lw_at lw_m3 199 rfl) rfl
theorem q774 : (Jvm.Cond.lays "java/lang/IllegalArgumentException" "java/lang/Throwable" "detailMessage" "Ljava/lang/String;") ∈ lw_all := lw_g (lw_at lw_m3 200 rfl) rfl
theorem q775 : (Jvm.Cond.lays "java/lang/IllegalArgumentException" "java/lang/Throwable" "backtrace" "Ljava/lang/Object;") ∈ lw_all := lw_g (lw_at lw_m3 201 rfl) rfl
theorem q783 : (Jvm.Cond.instanceMethod ({ cls := "java/lang/IllegalArgumentException", name := "<init>", desc := "(Ljava/lang/String;)V" } : Jvm.MethodName)) ∈ lw_all := lw_g (lw_at lw_m3 209 rfl) rfl
theorem q784 : (Jvm.Cond.code ({ cls := "java/lang/IllegalArgumentException", name := "<init>", desc := "(Ljava/lang/String;)V" } : Jvm.MethodName) prog_24_method_2_code (2 : Nat) (Option.none : Option Jvm.ClassFile.FieldType)) ∈ lw_all := lw_g (lw_at lw_m3 210 rfl) rfl
theorem q785 : (Jvm.Cond.methodLink "java/lang/IllegalArgumentException" (7 : Nat) ({ cls := "java/lang/RuntimeException", name := "<init>", desc := "(Ljava/lang/String;)V" } : Jvm.MethodName)) ∈ lw_all := lw_g (lw_at lw_m3 211 rfl) rfl
theorem q803 : (Jvm.Cond.lays "java/lang/IllegalArgumentException" "java/lang/Throwable" "depth" "I") ∈ lw_all := lw_g (lw_at lw_m3 229 rfl) rfl
theorem q806 : (Jvm.Cond.superclass "java/lang/IllegalArgumentException" "java/lang/RuntimeException") ∈ lw_all := lw_g (lw_at lw_m3 232 rfl) rfl
theorem q1473 : (Jvm.Cond.selects "java/lang/IllegalArgumentException" ({ cls := "java/lang/Throwable", name := "toString", desc := "()Ljava/lang/String;" } : Jvm.MethodName) ({ cls := "java/lang/Throwable", name := "toString", desc := "()Ljava/lang/String;" } : Jvm.MethodName)) ∈ lw_all := lw_g (lw_at lw_m6 179 rfl) rfl
theorem q1495 : (Jvm.Cond.selects "java/lang/IllegalArgumentException" ({ cls := "java/lang/Object", name := "getClass", desc := "()Ljava/lang/Class;" } : Jvm.MethodName) ({ cls := "java/lang/Object", name := "getClass", desc := "()Ljava/lang/Class;" } : Jvm.MethodName)) ∈ lw_all := lw_g (lw_at lw_m6 201 rfl) rfl
theorem q1524 : (Jvm.Cond.selects "java/lang/IllegalArgumentException" ({ cls := "java/lang/Throwable", name := "getLocalizedMessage", desc := "()Ljava/lang/String;" } : Jvm.MethodName) ({ cls := "java/lang/Throwable", name := "getLocalizedMessage", desc := "()Ljava/lang/String;" } : Jvm.MethodName)) ∈ lw_all := lw_g (lw_at lw_m6 230 rfl) rfl
theorem q1534 : (Jvm.Cond.selects "java/lang/IllegalArgumentException" ({ cls := "java/lang/Throwable", name := "getMessage", desc := "()Ljava/lang/String;" } : Jvm.MethodName) ({ cls := "java/lang/Throwable", name := "getMessage", desc := "()Ljava/lang/String;" } : Jvm.MethodName)) ∈ lw_all := lw_g (lw_at lw_m7 0 rfl) rfl
theorem q2021 : (Jvm.Cond.instanceMethod ({ cls := "java/lang/IllegalArgumentException", name := "<init>", desc := "()V" } : Jvm.MethodName)) ∈ lw_all := lw_g (lw_at lw_m9 7 rfl) rfl
theorem q2022 : (Jvm.Cond.code ({ cls := "java/lang/IllegalArgumentException", name := "<init>", desc := "()V" } : Jvm.MethodName) prog_24_method_1_code (1 : Nat) (Option.none : Option Jvm.ClassFile.FieldType)) ∈ lw_all := lw_g (lw_at lw_m9 8 rfl) rfl
theorem q2023 : (Jvm.Cond.methodLink "java/lang/IllegalArgumentException" (1 : Nat) ({ cls := "java/lang/RuntimeException", name := "<init>", desc := "()V" } : Jvm.MethodName)) ∈ lw_all := lw_g (lw_at lw_m9 9 rfl) rfl
theorem q2388 : (Jvm.Cond.selects "java/lang/IllegalArgumentException" ({ cls := "java/lang/Object", name := "equals", desc := "(Ljava/lang/Object;)Z" } : Jvm.MethodName) ({ cls := "java/lang/Object", name := "equals", desc := "(Ljava/lang/Object;)Z" } : Jvm.MethodName)) ∈ lw_all := lw_g (lw_at lw_m10 134 rfl) rfl
theorem q3153 : (Jvm.Cond.castable "java/lang/IllegalArgumentException" "java/lang/Object") ∈ lw_tbl := lw_at lw_m13 179 rfl
theorem in_J9 : ∀ w ∈ wsJ90, w ∈ lw_all := lw_in wsJ90 [771, 772, 773, 774, 775, 803] (by decide +kernel) (by decide +kernel)

theorem q614 : (Jvm.Cond.sameMethod "[B" "java/lang/Object" "clone" "()Ljava/lang/Object;") ∈ lw_all := lw_g (lw_at lw_m3 40 rfl) rfl
set_option maxRecDepth 100000
theorem q617 : (Jvm.Cond.selects "[B" ({ cls := "[B", name := "clone", desc := "()Ljava/lang/Object;" } : Jvm.MethodName) ({ cls := "java/lang/Object", name := "clone", desc := "()Ljava/lang/Object;" } : Jvm.MethodName)) ∈ lw_all := lw_g (lw_at lw_m3 43 rfl) rfl
theorem q618 : (Jvm.Cond.castable "[B" "java/lang/Cloneable") ∈ lw_tbl := lw_at lw_m3 44 rfl
theorem q3185 : (Jvm.Cond.castable "[B" "java/lang/Object") ∈ lw_tbl := lw_at lw_m13 211 rfl

theorem q3186 : (Jvm.Cond.castable "[I" "java/lang/Object") ∈ lw_tbl := lw_at lw_m13 212 rfl
set_option maxRecDepth 100000

theorem q1173 : (Jvm.Cond.sameMethod "[J" "java/lang/Object" "clone" "()Ljava/lang/Object;") ∈ lw_all := lw_g (lw_at lw_m5 119 rfl) rfl
set_option maxRecDepth 100000
theorem q1174 : (Jvm.Cond.selects "[J" ({ cls := "[J", name := "clone", desc := "()Ljava/lang/Object;" } : Jvm.MethodName) ({ cls := "java/lang/Object", name := "clone", desc := "()Ljava/lang/Object;" } : Jvm.MethodName)) ∈ lw_all := lw_g (lw_at lw_m5 120 rfl) rfl
theorem q1175 : (Jvm.Cond.castable "[J" "java/lang/Cloneable") ∈ lw_tbl := lw_at lw_m5 121 rfl
theorem q3188 : (Jvm.Cond.castable "[J" "java/lang/Object") ∈ lw_tbl := lw_at lw_m13 214 rfl

theorem q3181 : (Jvm.Cond.sameMethod "[Ljava/lang/Object;" "java/lang/Object" "getClass" "()Ljava/lang/Class;") ∈ lw_all := lw_g (lw_at lw_m13 207 rfl) rfl
set_option maxRecDepth 100000
theorem q3182 : (Jvm.Cond.selects "[Ljava/lang/Object;" ({ cls := "java/lang/Object", name := "getClass", desc := "()Ljava/lang/Class;" } : Jvm.MethodName) ({ cls := "java/lang/Object", name := "getClass", desc := "()Ljava/lang/Class;" } : Jvm.MethodName)) ∈ lw_all := lw_g (lw_at lw_m13 208 rfl) rfl
theorem q3184 : (Jvm.Cond.castable "[Ljava/lang/Object;" "java/lang/Object") ∈ lw_tbl := lw_at lw_m13 210 rfl

theorem q3189 : (Jvm.Cond.castable "[Z" "java/lang/Object") ∈ lw_tbl := lw_at lw_m13 215 rfl
set_option maxRecDepth 100000

theorem q3187 : (Jvm.Cond.castable "[[I" "java/lang/Object") ∈ lw_tbl := lw_at lw_m13 213 rfl
set_option maxRecDepth 100000

theorem q1239 : (Jvm.Cond.interfaceMethod "java/lang/Comparable" "java/lang/Comparable" "compareTo" "(Ljava/lang/Object;)I") ∈ lw_tbl := lw_at lw_m5 185 rfl
set_option maxRecDepth 100000
theorem q1240 : (Jvm.Cond.declares ({ cls := "java/lang/Comparable", name := "compareTo", desc := "(Ljava/lang/Object;)I" } : Jvm.MethodName)) ∈ lw_tbl := lw_at lw_m5 186 rfl

theorem q132 : (Jvm.Cond.initialized "java/lang/Integer$IntegerCache") ∈ lw_all := lw_g (lw_at lw_m1 38 rfl) rfl
set_option maxRecDepth 100000
theorem q1201 : (Jvm.Cond.laysStatic "java/lang/Integer$IntegerCache" "high" "I") ∈ lw_tbl := lw_at lw_m5 147 rfl
theorem q1203 : (Jvm.Cond.laysStatic "java/lang/Integer$IntegerCache" "cache" "[Ljava/lang/Integer;") ∈ lw_tbl := lw_at lw_m5 149 rfl

theorem q121 : (Jvm.Cond.initialized "java/lang/System") ∈ lw_all := lw_g (lw_at lw_m1 27 rfl) rfl
set_option maxRecDepth 100000
theorem q624 : (Jvm.Cond.static ({ cls := "java/lang/System", name := "arraycopy", desc := "(Ljava/lang/Object;ILjava/lang/Object;II)V" } : Jvm.MethodName)) ∈ lw_all := lw_g (lw_at lw_m3 50 rfl) rfl
theorem q625 : (Jvm.Cond.native ({ cls := "java/lang/System", name := "arraycopy", desc := "(Ljava/lang/Object;ILjava/lang/Object;II)V" } : Jvm.MethodName)) ∈ lw_all := lw_g (lw_at lw_m3 51 rfl) rfl

theorem q154 : (Jvm.Cond.initialized "java/util/AbstractList$ListItr") ∈ lw_all := lw_g (lw_at lw_m1 60 rfl) rfl
set_option maxRecDepth 100000
theorem q1090 : (Jvm.Cond.castable "java/util/AbstractList$ListItr" "java/util/Iterator") ∈ lw_tbl := lw_at lw_m5 36 rfl
theorem q1091 : (Jvm.Cond.selects "java/util/AbstractList$ListItr" ({ cls := "java/util/Iterator", name := "hasNext", desc := "()Z" } : Jvm.MethodName) ({ cls := "java/util/AbstractList$Itr", name := "hasNext", desc := "()Z" } : Jvm.MethodName)) ∈ lw_all := lw_g (lw_at lw_m5 37 rfl) rfl
theorem q1092 : (Jvm.Cond.unhidden "java/util/AbstractList$ListItr" "hasNext" "()Z") ∈ lw_tbl := lw_at lw_m5 38 rfl
theorem q1440 : (Jvm.Cond.selects "java/util/AbstractList$ListItr" ({ cls := "java/util/Iterator", name := "next", desc := "()Ljava/lang/Object;" } : Jvm.MethodName) ({ cls := "java/util/AbstractList$Itr", name := "next", desc := "()Ljava/lang/Object;" } : Jvm.MethodName)) ∈ lw_all := lw_g (lw_at lw_m6 146 rfl) rfl
theorem q1441 : (Jvm.Cond.unhidden "java/util/AbstractList$ListItr" "next" "()Ljava/lang/Object;") ∈ lw_tbl := lw_at lw_m6 147 rfl
theorem q1448 : (Jvm.Cond.selects "java/util/AbstractList$ListItr" ({ cls := "java/util/AbstractList$Itr", name := "checkForComodification", desc := "()V" } : Jvm.MethodName) ({ cls := "java/util/AbstractList$Itr", name := "checkForComodification", desc := "()V" } : Jvm.MethodName)) ∈ lw_all := lw_g (lw_at lw_m6 154 rfl) rfl
theorem q1502 : (Jvm.Cond.selects "java/util/AbstractList$ListItr" ({ cls := "java/lang/Object", name := "getClass", desc := "()Ljava/lang/Class;" } : Jvm.MethodName) ({ cls := "java/lang/Object", name := "getClass", desc := "()Ljava/lang/Class;" } : Jvm.MethodName)) ∈ lw_all := lw_g (lw_at lw_m6 208 rfl) rfl
theorem q3177 : (Jvm.Cond.castable "java/util/AbstractList$ListItr" "java/lang/Object") ∈ lw_tbl := lw_at lw_m13 203 rfl
theorem q3196 : (Jvm.Cond.fieldLink "java/util/AbstractList$ListItr" (1 : Nat) "java/util/AbstractList$ListItr" "this$0" "Ljava/util/AbstractList;") ∈ lw_all := lw_g (lw_at lw_m13 222 rfl) rfl
theorem q3197 : (Jvm.Cond.fieldLink "java/util/AbstractList$ListItr" (13 : Nat) "java/util/AbstractList$ListItr" "cursor" "I") ∈ lw_all := lw_g (lw_at lw_m13 223 rfl) rfl
theorem q3198 : (Jvm.Cond.sameField "java/util/AbstractList$ListItr" "java/util/AbstractList$Itr" "cursor" "I") ∈ lw_all := lw_g (lw_at lw_m13 224 rfl) rfl

theorem q1231 : (Jvm.Cond.interfaceMethod "java/util/Comparator" "java/util/Comparator" "compare" "(Ljava/lang/Object;Ljava/lang/Object;)I") ∈ lw_tbl := lw_at lw_m5 177 rfl
set_option maxRecDepth 100000
theorem q1232 : (Jvm.Cond.declares ({ cls := "java/util/Comparator", name := "compare", desc := "(Ljava/lang/Object;Ljava/lang/Object;)I" } : Jvm.MethodName)) ∈ lw_tbl := lw_at lw_m5 178 rfl

theorem q1064 : (Jvm.Cond.interfaceMethod "java/util/Iterator" "java/util/Iterator" "hasNext" "()Z") ∈ lw_tbl := lw_at lw_m5 10 rfl
set_option maxRecDepth 100000
theorem q1065 : (Jvm.Cond.declares ({ cls := "java/util/Iterator", name := "hasNext", desc := "()Z" } : Jvm.MethodName)) ∈ lw_tbl := lw_at lw_m5 11 rfl
theorem q1123 : (Jvm.Cond.interfaceMethod "java/util/Iterator" "java/util/Iterator" "next" "()Ljava/lang/Object;") ∈ lw_tbl := lw_at lw_m5 69 rfl
theorem q1124 : (Jvm.Cond.declares ({ cls := "java/util/Iterator", name := "next", desc := "()Ljava/lang/Object;" } : Jvm.MethodName)) ∈ lw_tbl := lw_at lw_m5 70 rfl

theorem q930 : (Jvm.Cond.interfaceMethod "jdk/internal/access/JavaLangAccess" "jdk/internal/access/JavaLangAccess" "getUTF16Char" "([BI)C") ∈ lw_tbl := lw_at lw_m4 116 rfl
set_option maxRecDepth 100000
theorem q931 : (Jvm.Cond.declares ({ cls := "jdk/internal/access/JavaLangAccess", name := "getUTF16Char", desc := "([BI)C" } : Jvm.MethodName)) ∈ lw_tbl := lw_at lw_m4 117 rfl

theorem q134 : (Jvm.Cond.initialized "jdk/internal/misc/UnsafeConstants") ∈ lw_all := lw_g (lw_at lw_m1 40 rfl) rfl
set_option maxRecDepth 100000
theorem q1311 : (Jvm.Cond.laysStatic "jdk/internal/misc/UnsafeConstants" "BIG_ENDIAN" "Z") ∈ lw_tbl := lw_at lw_m6 17 rfl

theorem q175 : (Jvm.Cond.arrayOver (Jvm.ClassFile.FieldType.object "java/lang/Object")) ∈ lw_tbl := lw_at lw_m1 81 rfl
set_option maxRecDepth 100000
theorem q186 : (Jvm.Cond.arrayClass Jvm.ClassFile.FieldType.byte) ∈ lw_all := lw_g (lw_at lw_m1 92 rfl) rfl
theorem q222 : (Jvm.Cond.arrayClass Jvm.ClassFile.FieldType.int) ∈ lw_all := lw_g (lw_at lw_m1 128 rfl) rfl
theorem q363 : (Jvm.Cond.arrayOver (Jvm.ClassFile.FieldType.array Jvm.ClassFile.FieldType.int)) ∈ lw_tbl := lw_at lw_m2 29 rfl
theorem q1047 : (Jvm.Cond.arrayClass Jvm.ClassFile.FieldType.long) ∈ lw_all := lw_g (lw_at lw_m4 233 rfl) rfl
theorem q2749 : (Jvm.Cond.arrayClass Jvm.ClassFile.FieldType.boolean) ∈ lw_all := lw_g (lw_at lw_m12 15 rfl) rfl
theorem q3190 : (Jvm.Cond.arrayClass Jvm.ClassFile.FieldType.char) ∈ lw_all := lw_g (lw_at lw_m13 216 rfl) rfl
theorem q3191 : (Jvm.Cond.arrayClass Jvm.ClassFile.FieldType.short) ∈ lw_all := lw_g (lw_at lw_m13 217 rfl) rfl

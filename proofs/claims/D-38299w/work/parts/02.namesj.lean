/-! java/util/AbstractCollection -/
set_option maxRecDepth 100000
def RJ0 : String := "java/util/AbstractCollection"
abbrev cJ0_init : ByteArray := prog_46_method_1_code
def yJ0_init : MethodName := ⟨RJ0, "<init>", "()V"⟩
theorem dJ0_init_0 : decode cJ0_init 0 = .ok (.aload_n 0, 1) := by decide +kernel
theorem dJ0_init_1 : decode cJ0_init 1 = .ok (.invokespecial 1, 3) := by decide +kernel
theorem dJ0_init_4 : decode cJ0_init 4 = .ok (.return_, 1) := by decide +kernel
theorem q71 : (Jvm.Cond.initialized "java/util/AbstractCollection") ∈ lw_all := lw_g (lw_at lw_m1 2 rfl) rfl
theorem q132 : (Jvm.Cond.instanceMethod ({ cls := "java/util/AbstractCollection", name := "<init>", desc := "()V" } : Jvm.MethodName)) ∈ lw_all := lw_g (lw_at lw_m1 63 rfl) rfl
theorem q133 : (Jvm.Cond.code ({ cls := "java/util/AbstractCollection", name := "<init>", desc := "()V" } : Jvm.MethodName) prog_46_method_1_code (1 : Nat) (Option.none : Option Jvm.ClassFile.FieldType)) ∈ lw_all := lw_g (lw_at lw_m1 64 rfl) rfl
theorem q134 : (Jvm.Cond.methodLink "java/util/AbstractCollection" (1 : Nat) ({ cls := "java/lang/Object", name := "<init>", desc := "()V" } : Jvm.MethodName)) ∈ lw_all := lw_g (lw_at lw_m1 65 rfl) rfl
/-! java/util/AbstractList -/
set_option maxRecDepth 100000
def RJ1 : String := "java/util/AbstractList"
abbrev cJ1_init : ByteArray := prog_47_method_1_code
def yJ1_init : MethodName := ⟨RJ1, "<init>", "()V"⟩
def dkwJ1_init_0 : List UInt8 := [42, 183, 0, 1, 42, 3, 181, 0, 7, 177]
abbrev dktJ1_init_0 : List UInt8 := dkwJ1_init_0 ++ []
theorem dksJ1_init_0 : cJ1_init.data.toList.drop 0 = dktJ1_init_0 := by decide +kernel
theorem dJ1_init_0 : decode cJ1_init 0 = .ok (.aload_n 0, 1) := dk_42 (dk_at dksJ1_init_0 0 rfl rfl)
theorem dJ1_init_1 : decode cJ1_init 1 = .ok (.invokespecial 1, 3) := dk_183 0 1 (dk_at dksJ1_init_0 1 rfl rfl)
theorem dJ1_init_4 : decode cJ1_init 4 = .ok (.aload_n 0, 1) := dk_42 (dk_at dksJ1_init_0 4 rfl rfl)
theorem dJ1_init_5 : decode cJ1_init 5 = .ok (.iconst 0, 1) := dk_3 (dk_at dksJ1_init_0 5 rfl rfl)
theorem dJ1_init_6 : decode cJ1_init 6 = .ok (.putfield 7, 3) := dk_181 0 7 (dk_at dksJ1_init_0 6 rfl rfl)
theorem dJ1_init_9 : decode cJ1_init 9 = .ok (.return_, 1) := dk_177 (dk_at dksJ1_init_0 9 rfl rfl)
theorem q72 : (Jvm.Cond.initialized "java/util/AbstractList") ∈ lw_all := lw_g (lw_at lw_m1 3 rfl) rfl
theorem q129 : (Jvm.Cond.instanceMethod ({ cls := "java/util/AbstractList", name := "<init>", desc := "()V" } : Jvm.MethodName)) ∈ lw_all := lw_g (lw_at lw_m1 60 rfl) rfl
theorem q130 : (Jvm.Cond.code ({ cls := "java/util/AbstractList", name := "<init>", desc := "()V" } : Jvm.MethodName) prog_47_method_1_code (1 : Nat) (Option.none : Option Jvm.ClassFile.FieldType)) ∈ lw_all := lw_g (lw_at lw_m1 61 rfl) rfl
theorem q131 : (Jvm.Cond.methodLink "java/util/AbstractList" (1 : Nat) ({ cls := "java/util/AbstractCollection", name := "<init>", desc := "()V" } : Jvm.MethodName)) ∈ lw_all := lw_g (lw_at lw_m1 62 rfl) rfl
theorem q141 : (Jvm.Cond.fieldLink "java/util/AbstractList" (7 : Nat) "java/util/AbstractList" "modCount" "I") ∈ lw_all := lw_g (lw_at lw_m1 72 rfl) rfl
theorem q150 : (Jvm.Cond.soleField "java/util/AbstractList" "modCount") ∈ lw_all := lw_g (lw_at lw_m1 81 rfl) rfl
/-! java/util/ArrayList -/
set_option maxRecDepth 100000
def RJ2 : String := "java/util/ArrayList"
def TJ2 : u_T := fun k => match k with
  | 0 => ("java/util/AbstractList", "modCount", "I", false)
  | 1 => ("java/util/ArrayList", "elementData", "[Ljava/lang/Object;", false)
  | _ => ("java/util/ArrayList", "size", "I", false)
def tyJ2 : Nat → FieldType := fun k => match k with
  | 0 => .int
  | 1 => .array (.object "java/lang/Object")
  | _ => .int
abbrev wsJ20 : List Cond := u_ws RJ2 TJ2 3
theorem nmJ2 : ∀ a, a < 3 → ∀ b, b < 3 → a ≠ b → (TJ2 a).2.1 ≠ (TJ2 b).2.1 := by decide +kernel
theorem tyJ2_ok : ∀ k, k < 3 → parseFieldDescriptor (TJ2 k).2.2.1 = some (tyJ2 k) := by decide +kernel
abbrev cJ2_init : ByteArray := prog_48_method_2_code
def yJ2_init : MethodName := ⟨RJ2, "<init>", "()V"⟩
def dkwJ2_init_0 : List UInt8 := [42, 183, 0, 1, 42, 178, 0, 39, 181, 0, 9, 177]
abbrev dktJ2_init_0 : List UInt8 := dkwJ2_init_0 ++ []
theorem dksJ2_init_0 : cJ2_init.data.toList.drop 0 = dktJ2_init_0 := by decide +kernel
theorem dJ2_init_0 : decode cJ2_init 0 = .ok (.aload_n 0, 1) := dk_42 (dk_at dksJ2_init_0 0 rfl rfl)
theorem dJ2_init_1 : decode cJ2_init 1 = .ok (.invokespecial 1, 3) := dk_183 0 1 (dk_at dksJ2_init_0 1 rfl rfl)
theorem dJ2_init_4 : decode cJ2_init 4 = .ok (.aload_n 0, 1) := dk_42 (dk_at dksJ2_init_0 4 rfl rfl)
theorem dJ2_init_5 : decode cJ2_init 5 = .ok (.getstatic 39, 3) := dk_178 0 39 (dk_at dksJ2_init_0 5 rfl rfl)
theorem dJ2_init_8 : decode cJ2_init 8 = .ok (.putfield 9, 3) := dk_181 0 9 (dk_at dksJ2_init_0 8 rfl rfl)
theorem dJ2_init_11 : decode cJ2_init 11 = .ok (.return_, 1) := dk_177 (dk_at dksJ2_init_0 11 rfl rfl)
abbrev cJ2_add : ByteArray := prog_48_method_25_code
def yJ2_add : MethodName := ⟨RJ2, "add", "(Ljava/lang/Object;)Z"⟩
def dkwJ2_add_1 : List UInt8 := [172]
abbrev dktJ2_add_1 : List UInt8 := dkwJ2_add_1 ++ []
def dkwJ2_add_0 : List UInt8 := [42, 89, 180, 0, 63, 4, 96, 181, 0, 63, 42, 43, 42, 180, 0, 9, 42, 180, 0, 48, 182, 0, 131, 4]
abbrev dktJ2_add_0 : List UInt8 := dkwJ2_add_0 ++ dktJ2_add_1
theorem dksJ2_add_0 : cJ2_add.data.toList.drop 0 = dktJ2_add_0 := by decide +kernel
theorem dksJ2_add_1 : cJ2_add.data.toList.drop 24 = dktJ2_add_1 := dk_seg dksJ2_add_0 24 rfl rfl
theorem dJ2_add_0 : decode cJ2_add 0 = .ok (.aload_n 0, 1) := dk_42 (dk_at dksJ2_add_0 0 rfl rfl)
theorem dJ2_add_1 : decode cJ2_add 1 = .ok (.dup, 1) := dk_89 (dk_at dksJ2_add_0 1 rfl rfl)
theorem dJ2_add_2 : decode cJ2_add 2 = .ok (.getfield 63, 3) := dk_180 0 63 (dk_at dksJ2_add_0 2 rfl rfl)
theorem dJ2_add_5 : decode cJ2_add 5 = .ok (.iconst 1, 1) := dk_4 (dk_at dksJ2_add_0 5 rfl rfl)
theorem dJ2_add_6 : decode cJ2_add 6 = .ok (.iadd, 1) := dk_96 (dk_at dksJ2_add_0 6 rfl rfl)
theorem dJ2_add_7 : decode cJ2_add 7 = .ok (.putfield 63, 3) := dk_181 0 63 (dk_at dksJ2_add_0 7 rfl rfl)
theorem dJ2_add_10 : decode cJ2_add 10 = .ok (.aload_n 0, 1) := dk_42 (dk_at dksJ2_add_0 10 rfl rfl)
theorem dJ2_add_11 : decode cJ2_add 11 = .ok (.aload_n 1, 1) := dk_43 (dk_at dksJ2_add_0 11 rfl rfl)
theorem dJ2_add_12 : decode cJ2_add 12 = .ok (.aload_n 0, 1) := dk_42 (dk_at dksJ2_add_0 12 rfl rfl)
theorem dJ2_add_13 : decode cJ2_add 13 = .ok (.getfield 9, 3) := dk_180 0 9 (dk_at dksJ2_add_0 13 rfl rfl)
theorem dJ2_add_16 : decode cJ2_add 16 = .ok (.aload_n 0, 1) := dk_42 (dk_at dksJ2_add_0 16 rfl rfl)
theorem dJ2_add_17 : decode cJ2_add 17 = .ok (.getfield 48, 3) := dk_180 0 48 (dk_at dksJ2_add_0 17 rfl rfl)
theorem dJ2_add_20 : decode cJ2_add 20 = .ok (.invokevirtual 131, 3) := dk_182 0 131 (dk_at dksJ2_add_0 20 rfl rfl)
theorem dJ2_add_23 : decode cJ2_add 23 = .ok (.iconst 1, 1) := dk_4 (dk_at dksJ2_add_0 23 rfl rfl)
theorem dJ2_add_24 : decode cJ2_add 24 = .ok (.ireturn, 1) := dk_172 (dk_at dksJ2_add_1 0 rfl rfl)
abbrev cJ2_add_2 : ByteArray := prog_48_method_24_code
def yJ2_add_2 : MethodName := ⟨RJ2, "add", "(Ljava/lang/Object;[Ljava/lang/Object;I)V"⟩
def dkwJ2_add_2_0 : List UInt8 := [29, 44, 190, 160, 0, 8, 42, 182, 0, 129, 77, 44, 29, 43, 83, 42, 29, 4, 96, 181, 0, 48, 177]
abbrev dktJ2_add_2_0 : List UInt8 := dkwJ2_add_2_0 ++ []
theorem dksJ2_add_2_0 : cJ2_add_2.data.toList.drop 0 = dktJ2_add_2_0 := by decide +kernel
theorem dJ2_add_2_0 : decode cJ2_add_2 0 = .ok (.iload_n 3, 1) := dk_29 (dk_at dksJ2_add_2_0 0 rfl rfl)
theorem dJ2_add_2_1 : decode cJ2_add_2 1 = .ok (.aload_n 2, 1) := dk_44 (dk_at dksJ2_add_2_0 1 rfl rfl)
theorem dJ2_add_2_2 : decode cJ2_add_2 2 = .ok (.arraylength, 1) := dk_190 (dk_at dksJ2_add_2_0 2 rfl rfl)
theorem dJ2_add_2_3 : decode cJ2_add_2 3 = .ok (.if_icmp .ne 8, 3) := dk_160 0 8 (dk_at dksJ2_add_2_0 3 rfl rfl)
theorem dJ2_add_2_6 : decode cJ2_add_2 6 = .ok (.aload_n 0, 1) := dk_42 (dk_at dksJ2_add_2_0 6 rfl rfl)
theorem dJ2_add_2_7 : decode cJ2_add_2 7 = .ok (.invokevirtual 129, 3) := dk_182 0 129 (dk_at dksJ2_add_2_0 7 rfl rfl)
theorem dJ2_add_2_10 : decode cJ2_add_2 10 = .ok (.astore_n 2, 1) := dk_77 (dk_at dksJ2_add_2_0 10 rfl rfl)
theorem dJ2_add_2_11 : decode cJ2_add_2 11 = .ok (.aload_n 2, 1) := dk_44 (dk_at dksJ2_add_2_0 11 rfl rfl)
theorem dJ2_add_2_12 : decode cJ2_add_2 12 = .ok (.iload_n 3, 1) := dk_29 (dk_at dksJ2_add_2_0 12 rfl rfl)
theorem dJ2_add_2_13 : decode cJ2_add_2 13 = .ok (.aload_n 1, 1) := dk_43 (dk_at dksJ2_add_2_0 13 rfl rfl)
theorem dJ2_add_2_14 : decode cJ2_add_2 14 = .ok (.aastore, 1) := dk_83 (dk_at dksJ2_add_2_0 14 rfl rfl)
theorem dJ2_add_2_15 : decode cJ2_add_2 15 = .ok (.aload_n 0, 1) := dk_42 (dk_at dksJ2_add_2_0 15 rfl rfl)
theorem dJ2_add_2_16 : decode cJ2_add_2 16 = .ok (.iload_n 3, 1) := dk_29 (dk_at dksJ2_add_2_0 16 rfl rfl)
theorem dJ2_add_2_17 : decode cJ2_add_2 17 = .ok (.iconst 1, 1) := dk_4 (dk_at dksJ2_add_2_0 17 rfl rfl)
theorem dJ2_add_2_18 : decode cJ2_add_2 18 = .ok (.iadd, 1) := dk_96 (dk_at dksJ2_add_2_0 18 rfl rfl)
theorem dJ2_add_2_19 : decode cJ2_add_2 19 = .ok (.putfield 48, 3) := dk_181 0 48 (dk_at dksJ2_add_2_0 19 rfl rfl)
theorem dJ2_add_2_22 : decode cJ2_add_2 22 = .ok (.return_, 1) := dk_177 (dk_at dksJ2_add_2_0 22 rfl rfl)
abbrev cJ2_grow : ByteArray := prog_48_method_7_code
def yJ2_grow : MethodName := ⟨RJ2, "grow", "()[Ljava/lang/Object;"⟩
def dkwJ2_grow_0 : List UInt8 := [42, 42, 180, 0, 48, 4, 96, 182, 0, 69, 176]
abbrev dktJ2_grow_0 : List UInt8 := dkwJ2_grow_0 ++ []
theorem dksJ2_grow_0 : cJ2_grow.data.toList.drop 0 = dktJ2_grow_0 := by decide +kernel
theorem dJ2_grow_0 : decode cJ2_grow 0 = .ok (.aload_n 0, 1) := dk_42 (dk_at dksJ2_grow_0 0 rfl rfl)
theorem dJ2_grow_1 : decode cJ2_grow 1 = .ok (.aload_n 0, 1) := dk_42 (dk_at dksJ2_grow_0 1 rfl rfl)
theorem dJ2_grow_2 : decode cJ2_grow 2 = .ok (.getfield 48, 3) := dk_180 0 48 (dk_at dksJ2_grow_0 2 rfl rfl)
theorem dJ2_grow_5 : decode cJ2_grow 5 = .ok (.iconst 1, 1) := dk_4 (dk_at dksJ2_grow_0 5 rfl rfl)
theorem dJ2_grow_6 : decode cJ2_grow 6 = .ok (.iadd, 1) := dk_96 (dk_at dksJ2_grow_0 6 rfl rfl)
theorem dJ2_grow_7 : decode cJ2_grow 7 = .ok (.invokevirtual 69, 3) := dk_182 0 69 (dk_at dksJ2_grow_0 7 rfl rfl)
theorem dJ2_grow_10 : decode cJ2_grow 10 = .ok (.areturn, 1) := dk_176 (dk_at dksJ2_grow_0 10 rfl rfl)
abbrev cJ2_grow_2 : ByteArray := prog_48_method_6_code
def yJ2_grow_2 : MethodName := ⟨RJ2, "grow", "(I)[Ljava/lang/Object;"⟩
def dkwJ2_grow_2_2 : List UInt8 := [27, 184, 0, 79, 189, 0, 7, 90, 181, 0, 9, 176]
abbrev dktJ2_grow_2_2 : List UInt8 := dkwJ2_grow_2_2 ++ []
def dkwJ2_grow_2_1 : List UInt8 := [28, 4, 122, 184, 0, 73, 62, 42, 42, 180, 0, 9, 29, 184, 0, 66, 90, 181, 0, 9, 176, 42, 16, 10]
abbrev dktJ2_grow_2_1 : List UInt8 := dkwJ2_grow_2_1 ++ dktJ2_grow_2_2
def dkwJ2_grow_2_0 : List UInt8 := [42, 180, 0, 9, 190, 61, 28, 157, 0, 13, 42, 180, 0, 9, 178, 0, 39, 165, 0, 28, 28, 27, 28, 100]
abbrev dktJ2_grow_2_0 : List UInt8 := dkwJ2_grow_2_0 ++ dktJ2_grow_2_1
theorem dksJ2_grow_2_0 : cJ2_grow_2.data.toList.drop 0 = dktJ2_grow_2_0 := by decide +kernel
theorem dksJ2_grow_2_1 : cJ2_grow_2.data.toList.drop 24 = dktJ2_grow_2_1 := dk_seg dksJ2_grow_2_0 24 rfl rfl
theorem dksJ2_grow_2_2 : cJ2_grow_2.data.toList.drop 48 = dktJ2_grow_2_2 := dk_seg dksJ2_grow_2_1 24 rfl rfl
theorem dJ2_grow_2_0 : decode cJ2_grow_2 0 = .ok (.aload_n 0, 1) := dk_42 (dk_at dksJ2_grow_2_0 0 rfl rfl)
theorem dJ2_grow_2_1 : decode cJ2_grow_2 1 = .ok (.getfield 9, 3) := dk_180 0 9 (dk_at dksJ2_grow_2_0 1 rfl rfl)
theorem dJ2_grow_2_4 : decode cJ2_grow_2 4 = .ok (.arraylength, 1) := dk_190 (dk_at dksJ2_grow_2_0 4 rfl rfl)
theorem dJ2_grow_2_5 : decode cJ2_grow_2 5 = .ok (.istore_n 2, 1) := dk_61 (dk_at dksJ2_grow_2_0 5 rfl rfl)
theorem dJ2_grow_2_6 : decode cJ2_grow_2 6 = .ok (.iload_n 2, 1) := dk_28 (dk_at dksJ2_grow_2_0 6 rfl rfl)
theorem dJ2_grow_2_7 : decode cJ2_grow_2 7 = .ok (.ifCond .gt 13, 3) := dk_157 0 13 (dk_at dksJ2_grow_2_0 7 rfl rfl)
theorem dJ2_grow_2_10 : decode cJ2_grow_2 10 = .ok (.aload_n 0, 1) := dk_42 (dk_at dksJ2_grow_2_0 10 rfl rfl)
theorem dJ2_grow_2_11 : decode cJ2_grow_2 11 = .ok (.getfield 9, 3) := dk_180 0 9 (dk_at dksJ2_grow_2_0 11 rfl rfl)
theorem dJ2_grow_2_14 : decode cJ2_grow_2 14 = .ok (.getstatic 39, 3) := dk_178 0 39 (dk_at dksJ2_grow_2_0 14 rfl rfl)
theorem dJ2_grow_2_17 : decode cJ2_grow_2 17 = .ok (.if_acmp .eq 28, 3) := dk_165 0 28 (dk_at dksJ2_grow_2_0 17 rfl rfl)
theorem dJ2_grow_2_20 : decode cJ2_grow_2 20 = .ok (.iload_n 2, 1) := dk_28 (dk_at dksJ2_grow_2_0 20 rfl rfl)
theorem dJ2_grow_2_21 : decode cJ2_grow_2 21 = .ok (.iload_n 1, 1) := dk_27 (dk_at dksJ2_grow_2_0 21 rfl rfl)
theorem dJ2_grow_2_22 : decode cJ2_grow_2 22 = .ok (.iload_n 2, 1) := dk_28 (dk_at dksJ2_grow_2_0 22 rfl rfl)
theorem dJ2_grow_2_23 : decode cJ2_grow_2 23 = .ok (.isub, 1) := dk_100 (dk_at dksJ2_grow_2_0 23 rfl rfl)
theorem dJ2_grow_2_24 : decode cJ2_grow_2 24 = .ok (.iload_n 2, 1) := dk_28 (dk_at dksJ2_grow_2_1 0 rfl rfl)
theorem dJ2_grow_2_25 : decode cJ2_grow_2 25 = .ok (.iconst 1, 1) := dk_4 (dk_at dksJ2_grow_2_1 1 rfl rfl)
theorem dJ2_grow_2_26 : decode cJ2_grow_2 26 = .ok (.ishr, 1) := dk_122 (dk_at dksJ2_grow_2_1 2 rfl rfl)
theorem dJ2_grow_2_27 : decode cJ2_grow_2 27 = .ok (.invokestatic 73, 3) := dk_184 0 73 (dk_at dksJ2_grow_2_1 3 rfl rfl)
theorem dJ2_grow_2_30 : decode cJ2_grow_2 30 = .ok (.istore_n 3, 1) := dk_62 (dk_at dksJ2_grow_2_1 6 rfl rfl)
theorem dJ2_grow_2_31 : decode cJ2_grow_2 31 = .ok (.aload_n 0, 1) := dk_42 (dk_at dksJ2_grow_2_1 7 rfl rfl)
theorem dJ2_grow_2_32 : decode cJ2_grow_2 32 = .ok (.aload_n 0, 1) := dk_42 (dk_at dksJ2_grow_2_1 8 rfl rfl)
theorem dJ2_grow_2_33 : decode cJ2_grow_2 33 = .ok (.getfield 9, 3) := dk_180 0 9 (dk_at dksJ2_grow_2_1 9 rfl rfl)
theorem dJ2_grow_2_36 : decode cJ2_grow_2 36 = .ok (.iload_n 3, 1) := dk_29 (dk_at dksJ2_grow_2_1 12 rfl rfl)
theorem dJ2_grow_2_37 : decode cJ2_grow_2 37 = .ok (.invokestatic 66, 3) := dk_184 0 66 (dk_at dksJ2_grow_2_1 13 rfl rfl)
theorem dJ2_grow_2_40 : decode cJ2_grow_2 40 = .ok (.dup_x1, 1) := dk_90 (dk_at dksJ2_grow_2_1 16 rfl rfl)
theorem dJ2_grow_2_41 : decode cJ2_grow_2 41 = .ok (.putfield 9, 3) := dk_181 0 9 (dk_at dksJ2_grow_2_1 17 rfl rfl)
theorem dJ2_grow_2_44 : decode cJ2_grow_2 44 = .ok (.areturn, 1) := dk_176 (dk_at dksJ2_grow_2_1 20 rfl rfl)
theorem dJ2_grow_2_45 : decode cJ2_grow_2 45 = .ok (.aload_n 0, 1) := dk_42 (dk_at dksJ2_grow_2_1 21 rfl rfl)
theorem dJ2_grow_2_46 : decode cJ2_grow_2 46 = .ok (.bipush 10, 2) := dk_16 10 (dk_at dksJ2_grow_2_1 22 rfl rfl)
theorem dJ2_grow_2_48 : decode cJ2_grow_2 48 = .ok (.iload_n 1, 1) := dk_27 (dk_at dksJ2_grow_2_2 0 rfl rfl)
theorem dJ2_grow_2_49 : decode cJ2_grow_2 49 = .ok (.invokestatic 79, 3) := dk_184 0 79 (dk_at dksJ2_grow_2_2 1 rfl rfl)
theorem dJ2_grow_2_52 : decode cJ2_grow_2 52 = .ok (.anewarray 7, 3) := dk_189 0 7 (dk_at dksJ2_grow_2_2 4 rfl rfl)
theorem dJ2_grow_2_55 : decode cJ2_grow_2 55 = .ok (.dup_x1, 1) := dk_90 (dk_at dksJ2_grow_2_2 7 rfl rfl)
theorem dJ2_grow_2_56 : decode cJ2_grow_2 56 = .ok (.putfield 9, 3) := dk_181 0 9 (dk_at dksJ2_grow_2_2 8 rfl rfl)
theorem dJ2_grow_2_59 : decode cJ2_grow_2 59 = .ok (.areturn, 1) := dk_176 (dk_at dksJ2_grow_2_2 11 rfl rfl)
abbrev cJ2_size : ByteArray := prog_48_method_8_code
def yJ2_size : MethodName := ⟨RJ2, "size", "()I"⟩
theorem dJ2_size_0 : decode cJ2_size 0 = .ok (.aload_n 0, 1) := by decide +kernel
theorem dJ2_size_1 : decode cJ2_size 1 = .ok (.getfield 48, 3) := by decide +kernel
theorem dJ2_size_4 : decode cJ2_size 4 = .ok (.ireturn, 1) := by decide +kernel
abbrev cJ2_get : ByteArray := prog_48_method_20_code
def yJ2_get : MethodName := ⟨RJ2, "get", "(I)Ljava/lang/Object;"⟩
def dkwJ2_get_0 : List UInt8 := [27, 42, 180, 0, 48, 184, 0, 118, 87, 42, 27, 182, 0, 123, 176]
abbrev dktJ2_get_0 : List UInt8 := dkwJ2_get_0 ++ []
theorem dksJ2_get_0 : cJ2_get.data.toList.drop 0 = dktJ2_get_0 := by decide +kernel
theorem dJ2_get_0 : decode cJ2_get 0 = .ok (.iload_n 1, 1) := dk_27 (dk_at dksJ2_get_0 0 rfl rfl)
theorem dJ2_get_1 : decode cJ2_get 1 = .ok (.aload_n 0, 1) := dk_42 (dk_at dksJ2_get_0 1 rfl rfl)
theorem dJ2_get_2 : decode cJ2_get 2 = .ok (.getfield 48, 3) := dk_180 0 48 (dk_at dksJ2_get_0 2 rfl rfl)
theorem dJ2_get_5 : decode cJ2_get 5 = .ok (.invokestatic 118, 3) := dk_184 0 118 (dk_at dksJ2_get_0 5 rfl rfl)
theorem dJ2_get_8 : decode cJ2_get 8 = .ok (.pop, 1) := dk_87 (dk_at dksJ2_get_0 8 rfl rfl)
theorem dJ2_get_9 : decode cJ2_get 9 = .ok (.aload_n 0, 1) := dk_42 (dk_at dksJ2_get_0 9 rfl rfl)
theorem dJ2_get_10 : decode cJ2_get 10 = .ok (.iload_n 1, 1) := dk_27 (dk_at dksJ2_get_0 10 rfl rfl)
theorem dJ2_get_11 : decode cJ2_get 11 = .ok (.invokevirtual 123, 3) := dk_182 0 123 (dk_at dksJ2_get_0 11 rfl rfl)
theorem dJ2_get_14 : decode cJ2_get 14 = .ok (.areturn, 1) := dk_176 (dk_at dksJ2_get_0 14 rfl rfl)
abbrev cJ2_elementData : ByteArray := prog_48_method_18_code
def yJ2_elementData : MethodName := ⟨RJ2, "elementData", "(I)Ljava/lang/Object;"⟩
def dkwJ2_elementData_0 : List UInt8 := [42, 180, 0, 9, 27, 50, 176]
abbrev dktJ2_elementData_0 : List UInt8 := dkwJ2_elementData_0 ++ []
theorem dksJ2_elementData_0 : cJ2_elementData.data.toList.drop 0 = dktJ2_elementData_0 := by decide +kernel
theorem dJ2_elementData_0 : decode cJ2_elementData 0 = .ok (.aload_n 0, 1) := dk_42 (dk_at dksJ2_elementData_0 0 rfl rfl)
theorem dJ2_elementData_1 : decode cJ2_elementData 1 = .ok (.getfield 9, 3) := dk_180 0 9 (dk_at dksJ2_elementData_0 1 rfl rfl)
theorem dJ2_elementData_4 : decode cJ2_elementData 4 = .ok (.iload_n 1, 1) := dk_27 (dk_at dksJ2_elementData_0 4 rfl rfl)
theorem dJ2_elementData_5 : decode cJ2_elementData 5 = .ok (.aaload, 1) := dk_50 (dk_at dksJ2_elementData_0 5 rfl rfl)
theorem dJ2_elementData_6 : decode cJ2_elementData 6 = .ok (.areturn, 1) := dk_176 (dk_at dksJ2_elementData_0 6 rfl rfl)
abbrev cJ2_remove : ByteArray := prog_48_method_29_code
def yJ2_remove : MethodName := ⟨RJ2, "remove", "(I)Ljava/lang/Object;"⟩
def dkwJ2_remove_1 : List UInt8 := [45, 176]
abbrev dktJ2_remove_1 : List UInt8 := dkwJ2_remove_1 ++ []
def dkwJ2_remove_0 : List UInt8 := [27, 42, 180, 0, 48, 184, 0, 118, 87, 42, 180, 0, 9, 77, 44, 27, 50, 78, 42, 44, 27, 182, 0, 144]
abbrev dktJ2_remove_0 : List UInt8 := dkwJ2_remove_0 ++ dktJ2_remove_1
theorem dksJ2_remove_0 : cJ2_remove.data.toList.drop 0 = dktJ2_remove_0 := by decide +kernel
theorem dksJ2_remove_1 : cJ2_remove.data.toList.drop 24 = dktJ2_remove_1 := dk_seg dksJ2_remove_0 24 rfl rfl
theorem dJ2_remove_0 : decode cJ2_remove 0 = .ok (.iload_n 1, 1) := dk_27 (dk_at dksJ2_remove_0 0 rfl rfl)
theorem dJ2_remove_1 : decode cJ2_remove 1 = .ok (.aload_n 0, 1) := dk_42 (dk_at dksJ2_remove_0 1 rfl rfl)
theorem dJ2_remove_2 : decode cJ2_remove 2 = .ok (.getfield 48, 3) := dk_180 0 48 (dk_at dksJ2_remove_0 2 rfl rfl)
theorem dJ2_remove_5 : decode cJ2_remove 5 = .ok (.invokestatic 118, 3) := dk_184 0 118 (dk_at dksJ2_remove_0 5 rfl rfl)
theorem dJ2_remove_8 : decode cJ2_remove 8 = .ok (.pop, 1) := dk_87 (dk_at dksJ2_remove_0 8 rfl rfl)
theorem dJ2_remove_9 : decode cJ2_remove 9 = .ok (.aload_n 0, 1) := dk_42 (dk_at dksJ2_remove_0 9 rfl rfl)
theorem dJ2_remove_10 : decode cJ2_remove 10 = .ok (.getfield 9, 3) := dk_180 0 9 (dk_at dksJ2_remove_0 10 rfl rfl)
theorem dJ2_remove_13 : decode cJ2_remove 13 = .ok (.astore_n 2, 1) := dk_77 (dk_at dksJ2_remove_0 13 rfl rfl)
theorem dJ2_remove_14 : decode cJ2_remove 14 = .ok (.aload_n 2, 1) := dk_44 (dk_at dksJ2_remove_0 14 rfl rfl)
theorem dJ2_remove_15 : decode cJ2_remove 15 = .ok (.iload_n 1, 1) := dk_27 (dk_at dksJ2_remove_0 15 rfl rfl)
theorem dJ2_remove_16 : decode cJ2_remove 16 = .ok (.aaload, 1) := dk_50 (dk_at dksJ2_remove_0 16 rfl rfl)
theorem dJ2_remove_17 : decode cJ2_remove 17 = .ok (.astore_n 3, 1) := dk_78 (dk_at dksJ2_remove_0 17 rfl rfl)
theorem dJ2_remove_18 : decode cJ2_remove 18 = .ok (.aload_n 0, 1) := dk_42 (dk_at dksJ2_remove_0 18 rfl rfl)
theorem dJ2_remove_19 : decode cJ2_remove 19 = .ok (.aload_n 2, 1) := dk_44 (dk_at dksJ2_remove_0 19 rfl rfl)
theorem dJ2_remove_20 : decode cJ2_remove 20 = .ok (.iload_n 1, 1) := dk_27 (dk_at dksJ2_remove_0 20 rfl rfl)
theorem dJ2_remove_21 : decode cJ2_remove 21 = .ok (.invokevirtual 144, 3) := dk_182 0 144 (dk_at dksJ2_remove_0 21 rfl rfl)
theorem dJ2_remove_24 : decode cJ2_remove 24 = .ok (.aload_n 3, 1) := dk_45 (dk_at dksJ2_remove_1 0 rfl rfl)
theorem dJ2_remove_25 : decode cJ2_remove 25 = .ok (.areturn, 1) := dk_176 (dk_at dksJ2_remove_1 1 rfl rfl)
abbrev cJ2_fastRemove : ByteArray := prog_48_method_39_code
def yJ2_fastRemove : MethodName := ⟨RJ2, "fastRemove", "([Ljava/lang/Object;I)V"⟩
def dkwJ2_fastRemove_1 : List UInt8 := [4, 96, 43, 28, 29, 28, 100, 184, 0, 112, 43, 42, 29, 90, 181, 0, 48, 1, 83, 177]
abbrev dktJ2_fastRemove_1 : List UInt8 := dkwJ2_fastRemove_1 ++ []
def dkwJ2_fastRemove_0 : List UInt8 := [42, 89, 180, 0, 63, 4, 96, 181, 0, 63, 42, 180, 0, 48, 4, 100, 89, 62, 28, 164, 0, 15, 43, 28]
abbrev dktJ2_fastRemove_0 : List UInt8 := dkwJ2_fastRemove_0 ++ dktJ2_fastRemove_1
theorem dksJ2_fastRemove_0 : cJ2_fastRemove.data.toList.drop 0 = dktJ2_fastRemove_0 := by decide +kernel
theorem dksJ2_fastRemove_1 : cJ2_fastRemove.data.toList.drop 24 = dktJ2_fastRemove_1 := dk_seg dksJ2_fastRemove_0 24 rfl rfl
theorem dJ2_fastRemove_0 : decode cJ2_fastRemove 0 = .ok (.aload_n 0, 1) := dk_42 (dk_at dksJ2_fastRemove_0 0 rfl rfl)
theorem dJ2_fastRemove_1 : decode cJ2_fastRemove 1 = .ok (.dup, 1) := dk_89 (dk_at dksJ2_fastRemove_0 1 rfl rfl)
theorem dJ2_fastRemove_2 : decode cJ2_fastRemove 2 = .ok (.getfield 63, 3) := dk_180 0 63 (dk_at dksJ2_fastRemove_0 2 rfl rfl)
theorem dJ2_fastRemove_5 : decode cJ2_fastRemove 5 = .ok (.iconst 1, 1) := dk_4 (dk_at dksJ2_fastRemove_0 5 rfl rfl)
theorem dJ2_fastRemove_6 : decode cJ2_fastRemove 6 = .ok (.iadd, 1) := dk_96 (dk_at dksJ2_fastRemove_0 6 rfl rfl)
theorem dJ2_fastRemove_7 : decode cJ2_fastRemove 7 = .ok (.putfield 63, 3) := dk_181 0 63 (dk_at dksJ2_fastRemove_0 7 rfl rfl)
theorem dJ2_fastRemove_10 : decode cJ2_fastRemove 10 = .ok (.aload_n 0, 1) := dk_42 (dk_at dksJ2_fastRemove_0 10 rfl rfl)
theorem dJ2_fastRemove_11 : decode cJ2_fastRemove 11 = .ok (.getfield 48, 3) := dk_180 0 48 (dk_at dksJ2_fastRemove_0 11 rfl rfl)
theorem dJ2_fastRemove_14 : decode cJ2_fastRemove 14 = .ok (.iconst 1, 1) := dk_4 (dk_at dksJ2_fastRemove_0 14 rfl rfl)
theorem dJ2_fastRemove_15 : decode cJ2_fastRemove 15 = .ok (.isub, 1) := dk_100 (dk_at dksJ2_fastRemove_0 15 rfl rfl)
theorem dJ2_fastRemove_16 : decode cJ2_fastRemove 16 = .ok (.dup, 1) := dk_89 (dk_at dksJ2_fastRemove_0 16 rfl rfl)
theorem dJ2_fastRemove_17 : decode cJ2_fastRemove 17 = .ok (.istore_n 3, 1) := dk_62 (dk_at dksJ2_fastRemove_0 17 rfl rfl)
theorem dJ2_fastRemove_18 : decode cJ2_fastRemove 18 = .ok (.iload_n 2, 1) := dk_28 (dk_at dksJ2_fastRemove_0 18 rfl rfl)
theorem dJ2_fastRemove_19 : decode cJ2_fastRemove 19 = .ok (.if_icmp .le 15, 3) := dk_164 0 15 (dk_at dksJ2_fastRemove_0 19 rfl rfl)
theorem dJ2_fastRemove_22 : decode cJ2_fastRemove 22 = .ok (.aload_n 1, 1) := dk_43 (dk_at dksJ2_fastRemove_0 22 rfl rfl)
theorem dJ2_fastRemove_23 : decode cJ2_fastRemove 23 = .ok (.iload_n 2, 1) := dk_28 (dk_at dksJ2_fastRemove_0 23 rfl rfl)
theorem dJ2_fastRemove_24 : decode cJ2_fastRemove 24 = .ok (.iconst 1, 1) := dk_4 (dk_at dksJ2_fastRemove_1 0 rfl rfl)
theorem dJ2_fastRemove_25 : decode cJ2_fastRemove 25 = .ok (.iadd, 1) := dk_96 (dk_at dksJ2_fastRemove_1 1 rfl rfl)
theorem dJ2_fastRemove_26 : decode cJ2_fastRemove 26 = .ok (.aload_n 1, 1) := dk_43 (dk_at dksJ2_fastRemove_1 2 rfl rfl)
theorem dJ2_fastRemove_27 : decode cJ2_fastRemove 27 = .ok (.iload_n 2, 1) := dk_28 (dk_at dksJ2_fastRemove_1 3 rfl rfl)
theorem dJ2_fastRemove_28 : decode cJ2_fastRemove 28 = .ok (.iload_n 3, 1) := dk_29 (dk_at dksJ2_fastRemove_1 4 rfl rfl)
theorem dJ2_fastRemove_29 : decode cJ2_fastRemove 29 = .ok (.iload_n 2, 1) := dk_28 (dk_at dksJ2_fastRemove_1 5 rfl rfl)
theorem dJ2_fastRemove_30 : decode cJ2_fastRemove 30 = .ok (.isub, 1) := dk_100 (dk_at dksJ2_fastRemove_1 6 rfl rfl)
theorem dJ2_fastRemove_31 : decode cJ2_fastRemove 31 = .ok (.invokestatic 112, 3) := dk_184 0 112 (dk_at dksJ2_fastRemove_1 7 rfl rfl)
theorem dJ2_fastRemove_34 : decode cJ2_fastRemove 34 = .ok (.aload_n 1, 1) := dk_43 (dk_at dksJ2_fastRemove_1 10 rfl rfl)
theorem dJ2_fastRemove_35 : decode cJ2_fastRemove 35 = .ok (.aload_n 0, 1) := dk_42 (dk_at dksJ2_fastRemove_1 11 rfl rfl)
theorem dJ2_fastRemove_36 : decode cJ2_fastRemove 36 = .ok (.iload_n 3, 1) := dk_29 (dk_at dksJ2_fastRemove_1 12 rfl rfl)
theorem dJ2_fastRemove_37 : decode cJ2_fastRemove 37 = .ok (.dup_x1, 1) := dk_90 (dk_at dksJ2_fastRemove_1 13 rfl rfl)
theorem dJ2_fastRemove_38 : decode cJ2_fastRemove 38 = .ok (.putfield 48, 3) := dk_181 0 48 (dk_at dksJ2_fastRemove_1 14 rfl rfl)
theorem dJ2_fastRemove_41 : decode cJ2_fastRemove 41 = .ok (.aconst_null, 1) := dk_1 (dk_at dksJ2_fastRemove_1 17 rfl rfl)
theorem dJ2_fastRemove_42 : decode cJ2_fastRemove 42 = .ok (.aastore, 1) := dk_83 (dk_at dksJ2_fastRemove_1 18 rfl rfl)
theorem dJ2_fastRemove_43 : decode cJ2_fastRemove 43 = .ok (.return_, 1) := dk_177 (dk_at dksJ2_fastRemove_1 19 rfl rfl)
abbrev cJ2_iterator : ByteArray := prog_48_method_55_code
def yJ2_iterator : MethodName := ⟨RJ2, "iterator", "()Ljava/util/Iterator;"⟩
def dkwJ2_iterator_0 : List UInt8 := [187, 1, 11, 89, 42, 183, 1, 13, 176]
abbrev dktJ2_iterator_0 : List UInt8 := dkwJ2_iterator_0 ++ []
theorem dksJ2_iterator_0 : cJ2_iterator.data.toList.drop 0 = dktJ2_iterator_0 := by decide +kernel
theorem dJ2_iterator_0 : decode cJ2_iterator 0 = .ok (.new 267, 3) := dk_187 1 11 (dk_at dksJ2_iterator_0 0 rfl rfl)
theorem dJ2_iterator_3 : decode cJ2_iterator 3 = .ok (.dup, 1) := dk_89 (dk_at dksJ2_iterator_0 3 rfl rfl)
theorem dJ2_iterator_4 : decode cJ2_iterator 4 = .ok (.aload_n 0, 1) := dk_42 (dk_at dksJ2_iterator_0 4 rfl rfl)
theorem dJ2_iterator_5 : decode cJ2_iterator 5 = .ok (.invokespecial 269, 3) := dk_183 1 13 (dk_at dksJ2_iterator_0 5 rfl rfl)
theorem dJ2_iterator_8 : decode cJ2_iterator 8 = .ok (.areturn, 1) := dk_176 (dk_at dksJ2_iterator_0 8 rfl rfl)
abbrev cJ2_addAll : ByteArray := prog_48_method_41_code
def yJ2_addAll : MethodName := ⟨RJ2, "addAll", "(Ljava/util/Collection;)Z"⟩
def dkwJ2_addAll_3 : List UInt8 := [181, 0, 48, 4, 172]
abbrev dktJ2_addAll_3 : List UInt8 := dkwJ2_addAll_3 ++ []
def dkwJ2_addAll_2 : List UInt8 := [21, 5, 29, 96, 182, 0, 69, 58, 4, 44, 3, 25, 4, 21, 5, 29, 184, 0, 112, 42, 21, 5, 29, 96]
abbrev dktJ2_addAll_2 : List UInt8 := dkwJ2_addAll_2 ++ dktJ2_addAll_3
def dkwJ2_addAll_1 : List UInt8 := [3, 172, 29, 42, 180, 0, 9, 89, 58, 4, 190, 42, 180, 0, 48, 89, 54, 5, 100, 164, 0, 13, 42]
abbrev dktJ2_addAll_1 : List UInt8 := dkwJ2_addAll_1 ++ dktJ2_addAll_2
def dkwJ2_addAll_0 : List UInt8 := [43, 185, 0, 42, 1, 0, 77, 42, 89, 180, 0, 63, 4, 96, 181, 0, 63, 44, 190, 62, 29, 154, 0, 5]
abbrev dktJ2_addAll_0 : List UInt8 := dkwJ2_addAll_0 ++ dktJ2_addAll_1
theorem dksJ2_addAll_0 : cJ2_addAll.data.toList.drop 0 = dktJ2_addAll_0 := by decide +kernel
theorem dksJ2_addAll_1 : cJ2_addAll.data.toList.drop 24 = dktJ2_addAll_1 := dk_seg dksJ2_addAll_0 24 rfl rfl
theorem dksJ2_addAll_2 : cJ2_addAll.data.toList.drop 47 = dktJ2_addAll_2 := dk_seg dksJ2_addAll_1 23 rfl rfl
theorem dksJ2_addAll_3 : cJ2_addAll.data.toList.drop 71 = dktJ2_addAll_3 := dk_seg dksJ2_addAll_2 24 rfl rfl
theorem dJ2_addAll_0 : decode cJ2_addAll 0 = .ok (.aload_n 1, 1) := dk_43 (dk_at dksJ2_addAll_0 0 rfl rfl)
theorem dJ2_addAll_1 : decode cJ2_addAll 1 = .ok (.invokeinterface 42 1, 5) := by decide +kernel
theorem dJ2_addAll_6 : decode cJ2_addAll 6 = .ok (.astore_n 2, 1) := dk_77 (dk_at dksJ2_addAll_0 6 rfl rfl)
theorem dJ2_addAll_7 : decode cJ2_addAll 7 = .ok (.aload_n 0, 1) := dk_42 (dk_at dksJ2_addAll_0 7 rfl rfl)
theorem dJ2_addAll_8 : decode cJ2_addAll 8 = .ok (.dup, 1) := dk_89 (dk_at dksJ2_addAll_0 8 rfl rfl)
theorem dJ2_addAll_9 : decode cJ2_addAll 9 = .ok (.getfield 63, 3) := dk_180 0 63 (dk_at dksJ2_addAll_0 9 rfl rfl)
theorem dJ2_addAll_12 : decode cJ2_addAll 12 = .ok (.iconst 1, 1) := dk_4 (dk_at dksJ2_addAll_0 12 rfl rfl)
theorem dJ2_addAll_13 : decode cJ2_addAll 13 = .ok (.iadd, 1) := dk_96 (dk_at dksJ2_addAll_0 13 rfl rfl)
theorem dJ2_addAll_14 : decode cJ2_addAll 14 = .ok (.putfield 63, 3) := dk_181 0 63 (dk_at dksJ2_addAll_0 14 rfl rfl)
theorem dJ2_addAll_17 : decode cJ2_addAll 17 = .ok (.aload_n 2, 1) := dk_44 (dk_at dksJ2_addAll_0 17 rfl rfl)
theorem dJ2_addAll_18 : decode cJ2_addAll 18 = .ok (.arraylength, 1) := dk_190 (dk_at dksJ2_addAll_0 18 rfl rfl)
theorem dJ2_addAll_19 : decode cJ2_addAll 19 = .ok (.istore_n 3, 1) := dk_62 (dk_at dksJ2_addAll_0 19 rfl rfl)
theorem dJ2_addAll_20 : decode cJ2_addAll 20 = .ok (.iload_n 3, 1) := dk_29 (dk_at dksJ2_addAll_0 20 rfl rfl)
theorem dJ2_addAll_21 : decode cJ2_addAll 21 = .ok (.ifCond .ne 5, 3) := dk_154 0 5 (dk_at dksJ2_addAll_0 21 rfl rfl)
theorem dJ2_addAll_24 : decode cJ2_addAll 24 = .ok (.iconst 0, 1) := dk_3 (dk_at dksJ2_addAll_1 0 rfl rfl)
theorem dJ2_addAll_25 : decode cJ2_addAll 25 = .ok (.ireturn, 1) := dk_172 (dk_at dksJ2_addAll_1 1 rfl rfl)
theorem dJ2_addAll_26 : decode cJ2_addAll 26 = .ok (.iload_n 3, 1) := dk_29 (dk_at dksJ2_addAll_1 2 rfl rfl)
theorem dJ2_addAll_27 : decode cJ2_addAll 27 = .ok (.aload_n 0, 1) := dk_42 (dk_at dksJ2_addAll_1 3 rfl rfl)
theorem dJ2_addAll_28 : decode cJ2_addAll 28 = .ok (.getfield 9, 3) := dk_180 0 9 (dk_at dksJ2_addAll_1 4 rfl rfl)
theorem dJ2_addAll_31 : decode cJ2_addAll 31 = .ok (.dup, 1) := dk_89 (dk_at dksJ2_addAll_1 7 rfl rfl)
theorem dJ2_addAll_32 : decode cJ2_addAll 32 = .ok (.astore 4, 2) := dk_58 4 (dk_at dksJ2_addAll_1 8 rfl rfl)
theorem dJ2_addAll_34 : decode cJ2_addAll 34 = .ok (.arraylength, 1) := dk_190 (dk_at dksJ2_addAll_1 10 rfl rfl)
theorem dJ2_addAll_35 : decode cJ2_addAll 35 = .ok (.aload_n 0, 1) := dk_42 (dk_at dksJ2_addAll_1 11 rfl rfl)
theorem dJ2_addAll_36 : decode cJ2_addAll 36 = .ok (.getfield 48, 3) := dk_180 0 48 (dk_at dksJ2_addAll_1 12 rfl rfl)
theorem dJ2_addAll_39 : decode cJ2_addAll 39 = .ok (.dup, 1) := dk_89 (dk_at dksJ2_addAll_1 15 rfl rfl)
theorem dJ2_addAll_40 : decode cJ2_addAll 40 = .ok (.istore 5, 2) := dk_54 5 (dk_at dksJ2_addAll_1 16 rfl rfl)
theorem dJ2_addAll_42 : decode cJ2_addAll 42 = .ok (.isub, 1) := dk_100 (dk_at dksJ2_addAll_1 18 rfl rfl)
theorem dJ2_addAll_43 : decode cJ2_addAll 43 = .ok (.if_icmp .le 13, 3) := dk_164 0 13 (dk_at dksJ2_addAll_1 19 rfl rfl)
theorem dJ2_addAll_46 : decode cJ2_addAll 46 = .ok (.aload_n 0, 1) := dk_42 (dk_at dksJ2_addAll_1 22 rfl rfl)
theorem dJ2_addAll_47 : decode cJ2_addAll 47 = .ok (.iload 5, 2) := dk_21 5 (dk_at dksJ2_addAll_2 0 rfl rfl)
theorem dJ2_addAll_49 : decode cJ2_addAll 49 = .ok (.iload_n 3, 1) := dk_29 (dk_at dksJ2_addAll_2 2 rfl rfl)
theorem dJ2_addAll_50 : decode cJ2_addAll 50 = .ok (.iadd, 1) := dk_96 (dk_at dksJ2_addAll_2 3 rfl rfl)
theorem dJ2_addAll_51 : decode cJ2_addAll 51 = .ok (.invokevirtual 69, 3) := dk_182 0 69 (dk_at dksJ2_addAll_2 4 rfl rfl)
theorem dJ2_addAll_54 : decode cJ2_addAll 54 = .ok (.astore 4, 2) := dk_58 4 (dk_at dksJ2_addAll_2 7 rfl rfl)
theorem dJ2_addAll_56 : decode cJ2_addAll 56 = .ok (.aload_n 2, 1) := dk_44 (dk_at dksJ2_addAll_2 9 rfl rfl)
theorem dJ2_addAll_57 : decode cJ2_addAll 57 = .ok (.iconst 0, 1) := dk_3 (dk_at dksJ2_addAll_2 10 rfl rfl)
theorem dJ2_addAll_58 : decode cJ2_addAll 58 = .ok (.aload 4, 2) := dk_25 4 (dk_at dksJ2_addAll_2 11 rfl rfl)
theorem dJ2_addAll_60 : decode cJ2_addAll 60 = .ok (.iload 5, 2) := dk_21 5 (dk_at dksJ2_addAll_2 13 rfl rfl)
theorem dJ2_addAll_62 : decode cJ2_addAll 62 = .ok (.iload_n 3, 1) := dk_29 (dk_at dksJ2_addAll_2 15 rfl rfl)
theorem dJ2_addAll_63 : decode cJ2_addAll 63 = .ok (.invokestatic 112, 3) := dk_184 0 112 (dk_at dksJ2_addAll_2 16 rfl rfl)
theorem dJ2_addAll_66 : decode cJ2_addAll 66 = .ok (.aload_n 0, 1) := dk_42 (dk_at dksJ2_addAll_2 19 rfl rfl)
theorem dJ2_addAll_67 : decode cJ2_addAll 67 = .ok (.iload 5, 2) := dk_21 5 (dk_at dksJ2_addAll_2 20 rfl rfl)
theorem dJ2_addAll_69 : decode cJ2_addAll 69 = .ok (.iload_n 3, 1) := dk_29 (dk_at dksJ2_addAll_2 22 rfl rfl)
theorem dJ2_addAll_70 : decode cJ2_addAll 70 = .ok (.iadd, 1) := dk_96 (dk_at dksJ2_addAll_2 23 rfl rfl)
theorem dJ2_addAll_71 : decode cJ2_addAll 71 = .ok (.putfield 48, 3) := dk_181 0 48 (dk_at dksJ2_addAll_3 0 rfl rfl)
theorem dJ2_addAll_74 : decode cJ2_addAll 74 = .ok (.iconst 1, 1) := dk_4 (dk_at dksJ2_addAll_3 3 rfl rfl)
theorem dJ2_addAll_75 : decode cJ2_addAll 75 = .ok (.ireturn, 1) := dk_172 (dk_at dksJ2_addAll_3 4 rfl rfl)
abbrev cJ2_toArray : ByteArray := prog_48_method_16_code
def yJ2_toArray : MethodName := ⟨RJ2, "toArray", "()[Ljava/lang/Object;"⟩
def dkwJ2_toArray_0 : List UInt8 := [42, 180, 0, 9, 42, 180, 0, 48, 184, 0, 66, 176]
abbrev dktJ2_toArray_0 : List UInt8 := dkwJ2_toArray_0 ++ []
theorem dksJ2_toArray_0 : cJ2_toArray.data.toList.drop 0 = dktJ2_toArray_0 := by decide +kernel
theorem dJ2_toArray_0 : decode cJ2_toArray 0 = .ok (.aload_n 0, 1) := dk_42 (dk_at dksJ2_toArray_0 0 rfl rfl)
theorem dJ2_toArray_1 : decode cJ2_toArray 1 = .ok (.getfield 9, 3) := dk_180 0 9 (dk_at dksJ2_toArray_0 1 rfl rfl)
theorem dJ2_toArray_4 : decode cJ2_toArray 4 = .ok (.aload_n 0, 1) := dk_42 (dk_at dksJ2_toArray_0 4 rfl rfl)
theorem dJ2_toArray_5 : decode cJ2_toArray 5 = .ok (.getfield 48, 3) := dk_180 0 48 (dk_at dksJ2_toArray_0 5 rfl rfl)
theorem dJ2_toArray_8 : decode cJ2_toArray 8 = .ok (.invokestatic 66, 3) := dk_184 0 66 (dk_at dksJ2_toArray_0 8 rfl rfl)
theorem dJ2_toArray_11 : decode cJ2_toArray 11 = .ok (.areturn, 1) := dk_176 (dk_at dksJ2_toArray_0 11 rfl rfl)
theorem q73 : (Jvm.Cond.initialized "java/util/ArrayList") ∈ lw_all := lw_g (lw_at lw_m1 4 rfl) rfl
theorem q124 : (Jvm.Cond.instantiable "java/util/ArrayList" (3 : Nat)) ∈ lw_all := lw_g (lw_at lw_m1 55 rfl) rfl
theorem q126 : (Jvm.Cond.instanceMethod ({ cls := "java/util/ArrayList", name := "<init>", desc := "()V" } : Jvm.MethodName)) ∈ lw_all := lw_g (lw_at lw_m1 57 rfl) rfl
theorem q127 : (Jvm.Cond.code ({ cls := "java/util/ArrayList", name := "<init>", desc := "()V" } : Jvm.MethodName) prog_48_method_2_code (1 : Nat) (Option.none : Option Jvm.ClassFile.FieldType)) ∈ lw_all := lw_g (lw_at lw_m1 58 rfl) rfl
theorem q128 : (Jvm.Cond.methodLink "java/util/ArrayList" (1 : Nat) ({ cls := "java/util/AbstractList", name := "<init>", desc := "()V" } : Jvm.MethodName)) ∈ lw_all := lw_g (lw_at lw_m1 59 rfl) rfl
theorem q135 : (Jvm.Cond.fieldLink "java/util/ArrayList" (39 : Nat) "java/util/ArrayList" "DEFAULTCAPACITY_EMPTY_ELEMENTDATA" "[Ljava/lang/Object;") ∈ lw_all := lw_g (lw_at lw_m1 66 rfl) rfl
theorem q136 : (Jvm.Cond.laysStatic "java/util/ArrayList" "DEFAULTCAPACITY_EMPTY_ELEMENTDATA" "[Ljava/lang/Object;") ∈ lw_tbl := lw_at lw_m1 67 rfl
theorem q137 : (Jvm.Cond.fieldLink "java/util/ArrayList" (9 : Nat) "java/util/ArrayList" "elementData" "[Ljava/lang/Object;") ∈ lw_all := lw_g (lw_at lw_m1 68 rfl) rfl
theorem q140 : (Jvm.Cond.fieldLink "java/util/ArrayList" (48 : Nat) "java/util/ArrayList" "size" "I") ∈ lw_all := lw_g (lw_at lw_m1 71 rfl) rfl
theorem q143 : (Jvm.Cond.sameField "java/util/ArrayList" "java/util/AbstractList" "modCount" "I") ∈ lw_all := lw_g (lw_at lw_m1 74 rfl) rfl
theorem q144 : (Jvm.Cond.fieldLink "java/util/ArrayList" (63 : Nat) "java/util/ArrayList" "modCount" "I") ∈ lw_all := lw_g (lw_at lw_m1 75 rfl) rfl
theorem q145 : (Jvm.Cond.lays "java/util/ArrayList" "java/util/ArrayList" "elementData" "[Ljava/lang/Object;") ∈ lw_all := lw_g (lw_at lw_m1 76 rfl) rfl
theorem q146 : (Jvm.Cond.soleField "java/util/ArrayList" "elementData") ∈ lw_all := lw_g (lw_at lw_m1 77 rfl) rfl
theorem q147 : (Jvm.Cond.lays "java/util/ArrayList" "java/util/ArrayList" "size" "I") ∈ lw_all := lw_g (lw_at lw_m1 78 rfl) rfl
theorem q148 : (Jvm.Cond.soleField "java/util/ArrayList" "size") ∈ lw_all := lw_g (lw_at lw_m1 79 rfl) rfl
theorem q149 : (Jvm.Cond.lays "java/util/ArrayList" "java/util/AbstractList" "modCount" "I") ∈ lw_all := lw_g (lw_at lw_m1 80 rfl) rfl
theorem q151 : (Jvm.Cond.superclass "java/util/ArrayList" "java/util/AbstractList") ∈ lw_all := lw_g (lw_at lw_m1 82 rfl) rfl
theorem q196 : (Jvm.Cond.castable "java/util/ArrayList" "java/util/List") ∈ lw_tbl := lw_at lw_m1 127 rfl
theorem q197 : (Jvm.Cond.selects "java/util/ArrayList" ({ cls := "java/util/List", name := "add", desc := "(Ljava/lang/Object;)Z" } : Jvm.MethodName) ({ cls := "java/util/ArrayList", name := "add", desc := "(Ljava/lang/Object;)Z" } : Jvm.MethodName)) ∈ lw_all := lw_g (lw_at lw_m1 128 rfl) rfl
theorem q198 : (Jvm.Cond.unhidden "java/util/ArrayList" "add" "(Ljava/lang/Object;)Z") ∈ lw_tbl := lw_at lw_m1 129 rfl
theorem q199 : (Jvm.Cond.instanceMethod ({ cls := "java/util/ArrayList", name := "add", desc := "(Ljava/lang/Object;)Z" } : Jvm.MethodName)) ∈ lw_all := lw_g (lw_at lw_m1 130 rfl) rfl
theorem q200 : (Jvm.Cond.publicMethod ({ cls := "java/util/ArrayList", name := "add", desc := "(Ljava/lang/Object;)Z" } : Jvm.MethodName)) ∈ lw_tbl := lw_at lw_m1 131 rfl
theorem q201 : (Jvm.Cond.code ({ cls := "java/util/ArrayList", name := "add", desc := "(Ljava/lang/Object;)Z" } : Jvm.MethodName) prog_48_method_25_code (2 : Nat) (Option.some Jvm.ClassFile.FieldType.boolean)) ∈ lw_all := lw_g (lw_at lw_m1 132 rfl) rfl
theorem q202 : (Jvm.Cond.methodLink "java/util/ArrayList" (131 : Nat) ({ cls := "java/util/ArrayList", name := "add", desc := "(Ljava/lang/Object;[Ljava/lang/Object;I)V" } : Jvm.MethodName)) ∈ lw_all := lw_g (lw_at lw_m1 133 rfl) rfl
theorem q203 : (Jvm.Cond.privateMethod ({ cls := "java/util/ArrayList", name := "add", desc := "(Ljava/lang/Object;[Ljava/lang/Object;I)V" } : Jvm.MethodName)) ∈ lw_tbl := lw_at lw_m1 134 rfl
theorem q204 : (Jvm.Cond.instanceMethod ({ cls := "java/util/ArrayList", name := "add", desc := "(Ljava/lang/Object;[Ljava/lang/Object;I)V" } : Jvm.MethodName)) ∈ lw_all := lw_g (lw_at lw_m1 135 rfl) rfl
theorem q205 : (Jvm.Cond.code ({ cls := "java/util/ArrayList", name := "add", desc := "(Ljava/lang/Object;[Ljava/lang/Object;I)V" } : Jvm.MethodName) prog_48_method_24_code (4 : Nat) (Option.none : Option Jvm.ClassFile.FieldType)) ∈ lw_all := lw_g (lw_at lw_m1 136 rfl) rfl
theorem q206 : (Jvm.Cond.methodLink "java/util/ArrayList" (129 : Nat) ({ cls := "java/util/ArrayList", name := "grow", desc := "()[Ljava/lang/Object;" } : Jvm.MethodName)) ∈ lw_all := lw_g (lw_at lw_m1 137 rfl) rfl
theorem q207 : (Jvm.Cond.privateMethod ({ cls := "java/util/ArrayList", name := "grow", desc := "()[Ljava/lang/Object;" } : Jvm.MethodName)) ∈ lw_tbl := lw_at lw_m1 138 rfl
theorem q208 : (Jvm.Cond.instanceMethod ({ cls := "java/util/ArrayList", name := "grow", desc := "()[Ljava/lang/Object;" } : Jvm.MethodName)) ∈ lw_all := lw_g (lw_at lw_m1 139 rfl) rfl
theorem q209 : (Jvm.Cond.code ({ cls := "java/util/ArrayList", name := "grow", desc := "()[Ljava/lang/Object;" } : Jvm.MethodName) prog_48_method_7_code (1 : Nat) (Option.some (Jvm.ClassFile.FieldType.array (Jvm.ClassFile.FieldType.object "java/lang/Object")))) ∈ lw_all := lw_g (lw_at lw_m1 140 rfl) rfl
theorem q210 : (Jvm.Cond.methodLink "java/util/ArrayList" (69 : Nat) ({ cls := "java/util/ArrayList", name := "grow", desc := "(I)[Ljava/lang/Object;" } : Jvm.MethodName)) ∈ lw_all := lw_g (lw_at lw_m1 141 rfl) rfl
theorem q211 : (Jvm.Cond.privateMethod ({ cls := "java/util/ArrayList", name := "grow", desc := "(I)[Ljava/lang/Object;" } : Jvm.MethodName)) ∈ lw_tbl := lw_at lw_m1 142 rfl
theorem q212 : (Jvm.Cond.instanceMethod ({ cls := "java/util/ArrayList", name := "grow", desc := "(I)[Ljava/lang/Object;" } : Jvm.MethodName)) ∈ lw_all := lw_g (lw_at lw_m1 143 rfl) rfl
theorem q213 : (Jvm.Cond.code ({ cls := "java/util/ArrayList", name := "grow", desc := "(I)[Ljava/lang/Object;" } : Jvm.MethodName) prog_48_method_6_code (4 : Nat) (Option.some (Jvm.ClassFile.FieldType.array (Jvm.ClassFile.FieldType.object "java/lang/Object")))) ∈ lw_all := lw_g (lw_at lw_m1 144 rfl) rfl
theorem q214 : (Jvm.Cond.methodLink "java/util/ArrayList" (73 : Nat) ({ cls := "jdk/internal/util/ArraysSupport", name := "newLength", desc := "(III)I" } : Jvm.MethodName)) ∈ lw_all := lw_g (lw_at lw_m1 145 rfl) rfl
theorem q224 : (Jvm.Cond.methodLink "java/util/ArrayList" (66 : Nat) ({ cls := "java/util/Arrays", name := "copyOf", desc := "([Ljava/lang/Object;I)[Ljava/lang/Object;" } : Jvm.MethodName)) ∈ lw_all := lw_g (lw_at lw_m1 155 rfl) rfl
theorem q255 : (Jvm.Cond.selects "java/util/ArrayList" ({ cls := "java/lang/Object", name := "getClass", desc := "()Ljava/lang/Class;" } : Jvm.MethodName) ({ cls := "java/lang/Object", name := "getClass", desc := "()Ljava/lang/Class;" } : Jvm.MethodName)) ∈ lw_all := lw_g (lw_at lw_m1 186 rfl) rfl
theorem q271 : (Jvm.Cond.methodLink "java/util/ArrayList" (79 : Nat) ({ cls := "java/lang/Math", name := "max", desc := "(II)I" } : Jvm.MethodName)) ∈ lw_all := lw_g (lw_at lw_m1 202 rfl) rfl
theorem q272 : (Jvm.Cond.classLink "java/util/ArrayList" (7 : Nat) "java/lang/Object") ∈ lw_all := lw_g (lw_at lw_m1 203 rfl) rfl
theorem q324 : (Jvm.Cond.selects "java/util/ArrayList" ({ cls := "java/util/List", name := "size", desc := "()I" } : Jvm.MethodName) ({ cls := "java/util/ArrayList", name := "size", desc := "()I" } : Jvm.MethodName)) ∈ lw_all := lw_g (lw_at lw_m2 15 rfl) rfl
theorem q325 : (Jvm.Cond.unhidden "java/util/ArrayList" "size" "()I") ∈ lw_tbl := lw_at lw_m2 16 rfl
theorem q326 : (Jvm.Cond.instanceMethod ({ cls := "java/util/ArrayList", name := "size", desc := "()I" } : Jvm.MethodName)) ∈ lw_all := lw_g (lw_at lw_m2 17 rfl) rfl
theorem q327 : (Jvm.Cond.publicMethod ({ cls := "java/util/ArrayList", name := "size", desc := "()I" } : Jvm.MethodName)) ∈ lw_tbl := lw_at lw_m2 18 rfl
theorem q328 : (Jvm.Cond.code ({ cls := "java/util/ArrayList", name := "size", desc := "()I" } : Jvm.MethodName) prog_48_method_8_code (1 : Nat) (Option.some Jvm.ClassFile.FieldType.int)) ∈ lw_all := lw_g (lw_at lw_m2 19 rfl) rfl
theorem q423 : (Jvm.Cond.selects "java/util/ArrayList" ({ cls := "java/util/List", name := "get", desc := "(I)Ljava/lang/Object;" } : Jvm.MethodName) ({ cls := "java/util/ArrayList", name := "get", desc := "(I)Ljava/lang/Object;" } : Jvm.MethodName)) ∈ lw_all := lw_g (lw_at lw_m2 114 rfl) rfl
theorem q424 : (Jvm.Cond.unhidden "java/util/ArrayList" "get" "(I)Ljava/lang/Object;") ∈ lw_tbl := lw_at lw_m2 115 rfl
theorem q425 : (Jvm.Cond.instanceMethod ({ cls := "java/util/ArrayList", name := "get", desc := "(I)Ljava/lang/Object;" } : Jvm.MethodName)) ∈ lw_all := lw_g (lw_at lw_m2 116 rfl) rfl
theorem q426 : (Jvm.Cond.publicMethod ({ cls := "java/util/ArrayList", name := "get", desc := "(I)Ljava/lang/Object;" } : Jvm.MethodName)) ∈ lw_tbl := lw_at lw_m2 117 rfl
theorem q427 : (Jvm.Cond.code ({ cls := "java/util/ArrayList", name := "get", desc := "(I)Ljava/lang/Object;" } : Jvm.MethodName) prog_48_method_20_code (2 : Nat) (Option.some (Jvm.ClassFile.FieldType.object "java/lang/Object"))) ∈ lw_all := lw_g (lw_at lw_m2 118 rfl) rfl
theorem q428 : (Jvm.Cond.methodLink "java/util/ArrayList" (118 : Nat) ({ cls := "java/util/Objects", name := "checkIndex", desc := "(II)I" } : Jvm.MethodName)) ∈ lw_all := lw_g (lw_at lw_m2 119 rfl) rfl
theorem q434 : (Jvm.Cond.methodLink "java/util/ArrayList" (123 : Nat) ({ cls := "java/util/ArrayList", name := "elementData", desc := "(I)Ljava/lang/Object;" } : Jvm.MethodName)) ∈ lw_all := lw_g (lw_at lw_m2 125 rfl) rfl
theorem q435 : (Jvm.Cond.instanceMethod ({ cls := "java/util/ArrayList", name := "elementData", desc := "(I)Ljava/lang/Object;" } : Jvm.MethodName)) ∈ lw_all := lw_g (lw_at lw_m2 126 rfl) rfl
theorem q436 : (Jvm.Cond.selects "java/util/ArrayList" ({ cls := "java/util/ArrayList", name := "elementData", desc := "(I)Ljava/lang/Object;" } : Jvm.MethodName) ({ cls := "java/util/ArrayList", name := "elementData", desc := "(I)Ljava/lang/Object;" } : Jvm.MethodName)) ∈ lw_all := lw_g (lw_at lw_m2 127 rfl) rfl
theorem q437 : (Jvm.Cond.code ({ cls := "java/util/ArrayList", name := "elementData", desc := "(I)Ljava/lang/Object;" } : Jvm.MethodName) prog_48_method_18_code (2 : Nat) (Option.some (Jvm.ClassFile.FieldType.object "java/lang/Object"))) ∈ lw_all := lw_g (lw_at lw_m2 128 rfl) rfl
theorem q1522 : (Jvm.Cond.selects "java/util/ArrayList" ({ cls := "java/util/List", name := "remove", desc := "(I)Ljava/lang/Object;" } : Jvm.MethodName) ({ cls := "java/util/ArrayList", name := "remove", desc := "(I)Ljava/lang/Object;" } : Jvm.MethodName)) ∈ lw_all := lw_g (lw_at lw_m7 13 rfl) rfl
theorem q1523 : (Jvm.Cond.unhidden "java/util/ArrayList" "remove" "(I)Ljava/lang/Object;") ∈ lw_tbl := lw_at lw_m7 14 rfl
theorem q1524 : (Jvm.Cond.instanceMethod ({ cls := "java/util/ArrayList", name := "remove", desc := "(I)Ljava/lang/Object;" } : Jvm.MethodName)) ∈ lw_all := lw_g (lw_at lw_m7 15 rfl) rfl
theorem q1525 : (Jvm.Cond.publicMethod ({ cls := "java/util/ArrayList", name := "remove", desc := "(I)Ljava/lang/Object;" } : Jvm.MethodName)) ∈ lw_tbl := lw_at lw_m7 16 rfl
theorem q1526 : (Jvm.Cond.code ({ cls := "java/util/ArrayList", name := "remove", desc := "(I)Ljava/lang/Object;" } : Jvm.MethodName) prog_48_method_29_code (4 : Nat) (Option.some (Jvm.ClassFile.FieldType.object "java/lang/Object"))) ∈ lw_all := lw_g (lw_at lw_m7 17 rfl) rfl
theorem q1527 : (Jvm.Cond.methodLink "java/util/ArrayList" (144 : Nat) ({ cls := "java/util/ArrayList", name := "fastRemove", desc := "([Ljava/lang/Object;I)V" } : Jvm.MethodName)) ∈ lw_all := lw_g (lw_at lw_m7 18 rfl) rfl
theorem q1528 : (Jvm.Cond.privateMethod ({ cls := "java/util/ArrayList", name := "fastRemove", desc := "([Ljava/lang/Object;I)V" } : Jvm.MethodName)) ∈ lw_tbl := lw_at lw_m7 19 rfl
theorem q1529 : (Jvm.Cond.instanceMethod ({ cls := "java/util/ArrayList", name := "fastRemove", desc := "([Ljava/lang/Object;I)V" } : Jvm.MethodName)) ∈ lw_all := lw_g (lw_at lw_m7 20 rfl) rfl
theorem q1530 : (Jvm.Cond.code ({ cls := "java/util/ArrayList", name := "fastRemove", desc := "([Ljava/lang/Object;I)V" } : Jvm.MethodName) prog_48_method_39_code (4 : Nat) (Option.none : Option Jvm.ClassFile.FieldType)) ∈ lw_all := lw_g (lw_at lw_m7 21 rfl) rfl
theorem q1531 : (Jvm.Cond.methodLink "java/util/ArrayList" (112 : Nat) ({ cls := "java/lang/System", name := "arraycopy", desc := "(Ljava/lang/Object;ILjava/lang/Object;II)V" } : Jvm.MethodName)) ∈ lw_all := lw_g (lw_at lw_m7 22 rfl) rfl
theorem q1697 : (Jvm.Cond.instanceMethod ({ cls := "java/util/ArrayList", name := "iterator", desc := "()Ljava/util/Iterator;" } : Jvm.MethodName)) ∈ lw_all := lw_g (lw_at lw_m7 188 rfl) rfl
theorem q1698 : (Jvm.Cond.selects "java/util/ArrayList" ({ cls := "java/util/ArrayList", name := "iterator", desc := "()Ljava/util/Iterator;" } : Jvm.MethodName) ({ cls := "java/util/ArrayList", name := "iterator", desc := "()Ljava/util/Iterator;" } : Jvm.MethodName)) ∈ lw_all := lw_g (lw_at lw_m7 189 rfl) rfl
theorem q1699 : (Jvm.Cond.code ({ cls := "java/util/ArrayList", name := "iterator", desc := "()Ljava/util/Iterator;" } : Jvm.MethodName) prog_48_method_55_code (1 : Nat) (Option.some (Jvm.ClassFile.FieldType.object "java/util/Iterator"))) ∈ lw_all := lw_g (lw_at lw_m7 190 rfl) rfl
theorem q1700 : (Jvm.Cond.classLink "java/util/ArrayList" (267 : Nat) "java/util/ArrayList$Itr") ∈ lw_all := lw_g (lw_at lw_m7 191 rfl) rfl
theorem q1702 : (Jvm.Cond.methodLink "java/util/ArrayList" (269 : Nat) ({ cls := "java/util/ArrayList$Itr", name := "<init>", desc := "(Ljava/util/ArrayList;)V" } : Jvm.MethodName)) ∈ lw_all := lw_g (lw_at lw_m7 193 rfl) rfl
theorem q1869 : (Jvm.Cond.instanceMethod ({ cls := "java/util/ArrayList", name := "addAll", desc := "(Ljava/util/Collection;)Z" } : Jvm.MethodName)) ∈ lw_all := lw_g (lw_at lw_m8 120 rfl) rfl
theorem q1870 : (Jvm.Cond.selects "java/util/ArrayList" ({ cls := "java/util/ArrayList", name := "addAll", desc := "(Ljava/util/Collection;)Z" } : Jvm.MethodName) ({ cls := "java/util/ArrayList", name := "addAll", desc := "(Ljava/util/Collection;)Z" } : Jvm.MethodName)) ∈ lw_all := lw_g (lw_at lw_m8 121 rfl) rfl
theorem q1871 : (Jvm.Cond.code ({ cls := "java/util/ArrayList", name := "addAll", desc := "(Ljava/util/Collection;)Z" } : Jvm.MethodName) prog_48_method_41_code (6 : Nat) (Option.some Jvm.ClassFile.FieldType.boolean)) ∈ lw_all := lw_g (lw_at lw_m8 122 rfl) rfl
theorem q1872 : (Jvm.Cond.interfaceEntry "java/util/ArrayList" (42 : Nat)) ∈ lw_tbl := lw_at lw_m8 123 rfl
theorem q1873 : (Jvm.Cond.methodLink "java/util/ArrayList" (42 : Nat) ({ cls := "java/util/Collection", name := "toArray", desc := "()[Ljava/lang/Object;" } : Jvm.MethodName)) ∈ lw_all := lw_g (lw_at lw_m8 124 rfl) rfl
theorem q1876 : (Jvm.Cond.castable "java/util/ArrayList" "java/util/Collection") ∈ lw_tbl := lw_at lw_m8 127 rfl
theorem q1877 : (Jvm.Cond.selects "java/util/ArrayList" ({ cls := "java/util/Collection", name := "toArray", desc := "()[Ljava/lang/Object;" } : Jvm.MethodName) ({ cls := "java/util/ArrayList", name := "toArray", desc := "()[Ljava/lang/Object;" } : Jvm.MethodName)) ∈ lw_all := lw_g (lw_at lw_m8 128 rfl) rfl
theorem q1878 : (Jvm.Cond.unhidden "java/util/ArrayList" "toArray" "()[Ljava/lang/Object;") ∈ lw_tbl := lw_at lw_m8 129 rfl
theorem q1879 : (Jvm.Cond.instanceMethod ({ cls := "java/util/ArrayList", name := "toArray", desc := "()[Ljava/lang/Object;" } : Jvm.MethodName)) ∈ lw_all := lw_g (lw_at lw_m8 130 rfl) rfl
theorem q1880 : (Jvm.Cond.publicMethod ({ cls := "java/util/ArrayList", name := "toArray", desc := "()[Ljava/lang/Object;" } : Jvm.MethodName)) ∈ lw_tbl := lw_at lw_m8 131 rfl
theorem q1881 : (Jvm.Cond.code ({ cls := "java/util/ArrayList", name := "toArray", desc := "()[Ljava/lang/Object;" } : Jvm.MethodName) prog_48_method_16_code (1 : Nat) (Option.some (Jvm.ClassFile.FieldType.array (Jvm.ClassFile.FieldType.object "java/lang/Object")))) ∈ lw_all := lw_g (lw_at lw_m8 132 rfl) rfl
theorem q2091 : (Jvm.Cond.selects "java/util/ArrayList" ({ cls := "java/util/ArrayList", name := "size", desc := "()I" } : Jvm.MethodName) ({ cls := "java/util/ArrayList", name := "size", desc := "()I" } : Jvm.MethodName)) ∈ lw_all := lw_g (lw_at lw_m9 102 rfl) rfl
theorem q2092 : (Jvm.Cond.selects "java/util/ArrayList" ({ cls := "java/util/ArrayList", name := "add", desc := "(Ljava/lang/Object;)Z" } : Jvm.MethodName) ({ cls := "java/util/ArrayList", name := "add", desc := "(Ljava/lang/Object;)Z" } : Jvm.MethodName)) ∈ lw_all := lw_g (lw_at lw_m9 103 rfl) rfl
theorem q2093 : (Jvm.Cond.selects "java/util/ArrayList" ({ cls := "java/util/ArrayList", name := "get", desc := "(I)Ljava/lang/Object;" } : Jvm.MethodName) ({ cls := "java/util/ArrayList", name := "get", desc := "(I)Ljava/lang/Object;" } : Jvm.MethodName)) ∈ lw_all := lw_g (lw_at lw_m9 104 rfl) rfl
theorem q2097 : (Jvm.Cond.castable "java/util/ArrayList" "java/lang/Object") ∈ lw_tbl := lw_at lw_m9 108 rfl
theorem in_J2 : ∀ w ∈ wsJ20, w ∈ lw_all := lw_in wsJ20 [149, 145, 147] (by decide +kernel) (by decide +kernel)
/-! java/lang/Number -/
set_option maxRecDepth 100000
def RJ3 : String := "java/lang/Number"
abbrev cJ3_init : ByteArray := prog_36_method_1_code
def yJ3_init : MethodName := ⟨RJ3, "<init>", "()V"⟩
theorem dJ3_init_0 : decode cJ3_init 0 = .ok (.aload_n 0, 1) := by decide +kernel
theorem dJ3_init_1 : decode cJ3_init 1 = .ok (.invokespecial 1, 3) := by decide +kernel
theorem dJ3_init_4 : decode cJ3_init 4 = .ok (.return_, 1) := by decide +kernel
theorem q75 : (Jvm.Cond.initialized "java/lang/Number") ∈ lw_all := lw_g (lw_at lw_m1 6 rfl) rfl
theorem q185 : (Jvm.Cond.instanceMethod ({ cls := "java/lang/Number", name := "<init>", desc := "()V" } : Jvm.MethodName)) ∈ lw_all := lw_g (lw_at lw_m1 116 rfl) rfl
theorem q186 : (Jvm.Cond.code ({ cls := "java/lang/Number", name := "<init>", desc := "()V" } : Jvm.MethodName) prog_36_method_1_code (1 : Nat) (Option.none : Option Jvm.ClassFile.FieldType)) ∈ lw_all := lw_g (lw_at lw_m1 117 rfl) rfl
theorem q187 : (Jvm.Cond.methodLink "java/lang/Number" (1 : Nat) ({ cls := "java/lang/Object", name := "<init>", desc := "()V" } : Jvm.MethodName)) ∈ lw_all := lw_g (lw_at lw_m1 118 rfl) rfl
/-! java/lang/Integer -/
set_option maxRecDepth 100000
def RJ4 : String := "java/lang/Integer"
def TJ4 : u_T := fun k => match k with
  | _ => ("java/lang/Integer", "value", "I", true)
def tyJ4 : Nat → FieldType := fun k => match k with
  | _ => .int
abbrev wsJ40 : List Cond := u_ws RJ4 TJ4 1
theorem nmJ4 : ∀ a, a < 1 → ∀ b, b < 1 → a ≠ b → (TJ4 a).2.1 ≠ (TJ4 b).2.1 := by decide +kernel
theorem tyJ4_ok : ∀ k, k < 1 → parseFieldDescriptor (TJ4 k).2.2.1 = some (tyJ4 k) := by decide +kernel
abbrev cJ4_valueOf : ByteArray := prog_32_method_22_code
def yJ4_valueOf : MethodName := ⟨RJ4, "valueOf", "(I)Ljava/lang/Integer;"⟩
def dkwJ4_valueOf_1 : List UInt8 := [187, 0, 1, 89, 26, 183, 0, 199, 176]
abbrev dktJ4_valueOf_1 : List UInt8 := dkwJ4_valueOf_1 ++ []
def dkwJ4_valueOf_0 : List UInt8 := [26, 16, 128, 161, 0, 20, 26, 178, 0, 191, 163, 0, 13, 178, 0, 195, 26, 17, 0, 128, 96, 50, 176]
abbrev dktJ4_valueOf_0 : List UInt8 := dkwJ4_valueOf_0 ++ dktJ4_valueOf_1
theorem dksJ4_valueOf_0 : cJ4_valueOf.data.toList.drop 0 = dktJ4_valueOf_0 := by decide +kernel
theorem dksJ4_valueOf_1 : cJ4_valueOf.data.toList.drop 23 = dktJ4_valueOf_1 := dk_seg dksJ4_valueOf_0 23 rfl rfl
theorem dJ4_valueOf_0 : decode cJ4_valueOf 0 = .ok (.iload_n 0, 1) := dk_26 (dk_at dksJ4_valueOf_0 0 rfl rfl)
theorem dJ4_valueOf_1 : decode cJ4_valueOf 1 = .ok (.bipush (-128), 2) := dk_16 128 (dk_at dksJ4_valueOf_0 1 rfl rfl)
theorem dJ4_valueOf_3 : decode cJ4_valueOf 3 = .ok (.if_icmp .lt 20, 3) := dk_161 0 20 (dk_at dksJ4_valueOf_0 3 rfl rfl)
theorem dJ4_valueOf_6 : decode cJ4_valueOf 6 = .ok (.iload_n 0, 1) := dk_26 (dk_at dksJ4_valueOf_0 6 rfl rfl)
theorem dJ4_valueOf_7 : decode cJ4_valueOf 7 = .ok (.getstatic 191, 3) := dk_178 0 191 (dk_at dksJ4_valueOf_0 7 rfl rfl)
theorem dJ4_valueOf_10 : decode cJ4_valueOf 10 = .ok (.if_icmp .gt 13, 3) := dk_163 0 13 (dk_at dksJ4_valueOf_0 10 rfl rfl)
theorem dJ4_valueOf_13 : decode cJ4_valueOf 13 = .ok (.getstatic 195, 3) := dk_178 0 195 (dk_at dksJ4_valueOf_0 13 rfl rfl)
theorem dJ4_valueOf_16 : decode cJ4_valueOf 16 = .ok (.iload_n 0, 1) := dk_26 (dk_at dksJ4_valueOf_0 16 rfl rfl)
theorem dJ4_valueOf_17 : decode cJ4_valueOf 17 = .ok (.sipush 128, 3) := dk_17 0 128 (dk_at dksJ4_valueOf_0 17 rfl rfl)
theorem dJ4_valueOf_20 : decode cJ4_valueOf 20 = .ok (.iadd, 1) := dk_96 (dk_at dksJ4_valueOf_0 20 rfl rfl)
theorem dJ4_valueOf_21 : decode cJ4_valueOf 21 = .ok (.aaload, 1) := dk_50 (dk_at dksJ4_valueOf_0 21 rfl rfl)
theorem dJ4_valueOf_22 : decode cJ4_valueOf 22 = .ok (.areturn, 1) := dk_176 (dk_at dksJ4_valueOf_0 22 rfl rfl)
theorem dJ4_valueOf_23 : decode cJ4_valueOf 23 = .ok (.new 1, 3) := dk_187 0 1 (dk_at dksJ4_valueOf_1 0 rfl rfl)
theorem dJ4_valueOf_26 : decode cJ4_valueOf 26 = .ok (.dup, 1) := dk_89 (dk_at dksJ4_valueOf_1 3 rfl rfl)
theorem dJ4_valueOf_27 : decode cJ4_valueOf 27 = .ok (.iload_n 0, 1) := dk_26 (dk_at dksJ4_valueOf_1 4 rfl rfl)
theorem dJ4_valueOf_28 : decode cJ4_valueOf 28 = .ok (.invokespecial 199, 3) := dk_183 0 199 (dk_at dksJ4_valueOf_1 5 rfl rfl)
theorem dJ4_valueOf_31 : decode cJ4_valueOf 31 = .ok (.areturn, 1) := dk_176 (dk_at dksJ4_valueOf_1 8 rfl rfl)
abbrev cJ4_init : ByteArray := prog_32_method_23_code
def yJ4_init : MethodName := ⟨RJ4, "<init>", "(I)V"⟩
def dkwJ4_init_0 : List UInt8 := [42, 183, 0, 202, 42, 27, 181, 0, 205, 177]
abbrev dktJ4_init_0 : List UInt8 := dkwJ4_init_0 ++ []
theorem dksJ4_init_0 : cJ4_init.data.toList.drop 0 = dktJ4_init_0 := by decide +kernel
theorem dJ4_init_0 : decode cJ4_init 0 = .ok (.aload_n 0, 1) := dk_42 (dk_at dksJ4_init_0 0 rfl rfl)
theorem dJ4_init_1 : decode cJ4_init 1 = .ok (.invokespecial 202, 3) := dk_183 0 202 (dk_at dksJ4_init_0 1 rfl rfl)
theorem dJ4_init_4 : decode cJ4_init 4 = .ok (.aload_n 0, 1) := dk_42 (dk_at dksJ4_init_0 4 rfl rfl)
theorem dJ4_init_5 : decode cJ4_init 5 = .ok (.iload_n 1, 1) := dk_27 (dk_at dksJ4_init_0 5 rfl rfl)
theorem dJ4_init_6 : decode cJ4_init 6 = .ok (.putfield 205, 3) := dk_181 0 205 (dk_at dksJ4_init_0 6 rfl rfl)
theorem dJ4_init_9 : decode cJ4_init 9 = .ok (.return_, 1) := dk_177 (dk_at dksJ4_init_0 9 rfl rfl)
abbrev cJ4_intValue : ByteArray := prog_32_method_27_code
def yJ4_intValue : MethodName := ⟨RJ4, "intValue", "()I"⟩
theorem dJ4_intValue_0 : decode cJ4_intValue 0 = .ok (.aload_n 0, 1) := by decide +kernel
theorem dJ4_intValue_1 : decode cJ4_intValue 1 = .ok (.getfield 205, 3) := by decide +kernel
theorem dJ4_intValue_4 : decode cJ4_intValue 4 = .ok (.ireturn, 1) := by decide +kernel
abbrev cJ4_stringSize : ByteArray := prog_32_method_13_code
def yJ4_stringSize : MethodName := ⟨RJ4, "stringSize", "(I)I"⟩
def dkwJ4_stringSize_1 : List UInt8 := [164, 0, 7, 29, 27, 96, 172, 16, 10, 28, 104, 61, 132, 3, 1, 167, 255, 233, 16, 10, 27, 96, 172]
abbrev dktJ4_stringSize_1 : List UInt8 := dkwJ4_stringSize_1 ++ []
def dkwJ4_stringSize_0 : List UInt8 := [4, 60, 26, 155, 0, 8, 3, 60, 26, 116, 59, 16, 246, 61, 4, 62, 29, 16, 10, 162, 0, 23, 26, 28]
abbrev dktJ4_stringSize_0 : List UInt8 := dkwJ4_stringSize_0 ++ dktJ4_stringSize_1
theorem dksJ4_stringSize_0 : cJ4_stringSize.data.toList.drop 0 = dktJ4_stringSize_0 := by decide +kernel
theorem dksJ4_stringSize_1 : cJ4_stringSize.data.toList.drop 24 = dktJ4_stringSize_1 := dk_seg dksJ4_stringSize_0 24 rfl rfl
theorem dJ4_stringSize_0 : decode cJ4_stringSize 0 = .ok (.iconst 1, 1) := dk_4 (dk_at dksJ4_stringSize_0 0 rfl rfl)
theorem dJ4_stringSize_1 : decode cJ4_stringSize 1 = .ok (.istore_n 1, 1) := dk_60 (dk_at dksJ4_stringSize_0 1 rfl rfl)
theorem dJ4_stringSize_2 : decode cJ4_stringSize 2 = .ok (.iload_n 0, 1) := dk_26 (dk_at dksJ4_stringSize_0 2 rfl rfl)
theorem dJ4_stringSize_3 : decode cJ4_stringSize 3 = .ok (.ifCond .lt 8, 3) := dk_155 0 8 (dk_at dksJ4_stringSize_0 3 rfl rfl)
theorem dJ4_stringSize_6 : decode cJ4_stringSize 6 = .ok (.iconst 0, 1) := dk_3 (dk_at dksJ4_stringSize_0 6 rfl rfl)
theorem dJ4_stringSize_7 : decode cJ4_stringSize 7 = .ok (.istore_n 1, 1) := dk_60 (dk_at dksJ4_stringSize_0 7 rfl rfl)
theorem dJ4_stringSize_8 : decode cJ4_stringSize 8 = .ok (.iload_n 0, 1) := dk_26 (dk_at dksJ4_stringSize_0 8 rfl rfl)
theorem dJ4_stringSize_9 : decode cJ4_stringSize 9 = .ok (.ineg, 1) := dk_116 (dk_at dksJ4_stringSize_0 9 rfl rfl)
theorem dJ4_stringSize_10 : decode cJ4_stringSize 10 = .ok (.istore_n 0, 1) := dk_59 (dk_at dksJ4_stringSize_0 10 rfl rfl)
theorem dJ4_stringSize_11 : decode cJ4_stringSize 11 = .ok (.bipush (-10), 2) := dk_16 246 (dk_at dksJ4_stringSize_0 11 rfl rfl)
theorem dJ4_stringSize_13 : decode cJ4_stringSize 13 = .ok (.istore_n 2, 1) := dk_61 (dk_at dksJ4_stringSize_0 13 rfl rfl)
theorem dJ4_stringSize_14 : decode cJ4_stringSize 14 = .ok (.iconst 1, 1) := dk_4 (dk_at dksJ4_stringSize_0 14 rfl rfl)
theorem dJ4_stringSize_15 : decode cJ4_stringSize 15 = .ok (.istore_n 3, 1) := dk_62 (dk_at dksJ4_stringSize_0 15 rfl rfl)
theorem dJ4_stringSize_16 : decode cJ4_stringSize 16 = .ok (.iload_n 3, 1) := dk_29 (dk_at dksJ4_stringSize_0 16 rfl rfl)
theorem dJ4_stringSize_17 : decode cJ4_stringSize 17 = .ok (.bipush 10, 2) := dk_16 10 (dk_at dksJ4_stringSize_0 17 rfl rfl)
theorem dJ4_stringSize_19 : decode cJ4_stringSize 19 = .ok (.if_icmp .ge 23, 3) := dk_162 0 23 (dk_at dksJ4_stringSize_0 19 rfl rfl)
theorem dJ4_stringSize_22 : decode cJ4_stringSize 22 = .ok (.iload_n 0, 1) := dk_26 (dk_at dksJ4_stringSize_0 22 rfl rfl)
theorem dJ4_stringSize_23 : decode cJ4_stringSize 23 = .ok (.iload_n 2, 1) := dk_28 (dk_at dksJ4_stringSize_0 23 rfl rfl)
theorem dJ4_stringSize_24 : decode cJ4_stringSize 24 = .ok (.if_icmp .le 7, 3) := dk_164 0 7 (dk_at dksJ4_stringSize_1 0 rfl rfl)
theorem dJ4_stringSize_27 : decode cJ4_stringSize 27 = .ok (.iload_n 3, 1) := dk_29 (dk_at dksJ4_stringSize_1 3 rfl rfl)
theorem dJ4_stringSize_28 : decode cJ4_stringSize 28 = .ok (.iload_n 1, 1) := dk_27 (dk_at dksJ4_stringSize_1 4 rfl rfl)
theorem dJ4_stringSize_29 : decode cJ4_stringSize 29 = .ok (.iadd, 1) := dk_96 (dk_at dksJ4_stringSize_1 5 rfl rfl)
theorem dJ4_stringSize_30 : decode cJ4_stringSize 30 = .ok (.ireturn, 1) := dk_172 (dk_at dksJ4_stringSize_1 6 rfl rfl)
theorem dJ4_stringSize_31 : decode cJ4_stringSize 31 = .ok (.bipush 10, 2) := dk_16 10 (dk_at dksJ4_stringSize_1 7 rfl rfl)
theorem dJ4_stringSize_33 : decode cJ4_stringSize 33 = .ok (.iload_n 2, 1) := dk_28 (dk_at dksJ4_stringSize_1 9 rfl rfl)
theorem dJ4_stringSize_34 : decode cJ4_stringSize 34 = .ok (.imul, 1) := dk_104 (dk_at dksJ4_stringSize_1 10 rfl rfl)
theorem dJ4_stringSize_35 : decode cJ4_stringSize 35 = .ok (.istore_n 2, 1) := dk_61 (dk_at dksJ4_stringSize_1 11 rfl rfl)
theorem dJ4_stringSize_36 : decode cJ4_stringSize 36 = .ok (.iinc 3 1, 3) := dk_132 3 1 (dk_at dksJ4_stringSize_1 12 rfl rfl)
theorem dJ4_stringSize_39 : decode cJ4_stringSize 39 = .ok (.goto (-23), 3) := dk_167 255 233 (dk_at dksJ4_stringSize_1 15 rfl rfl)
theorem dJ4_stringSize_42 : decode cJ4_stringSize 42 = .ok (.bipush 10, 2) := dk_16 10 (dk_at dksJ4_stringSize_1 18 rfl rfl)
theorem dJ4_stringSize_44 : decode cJ4_stringSize 44 = .ok (.iload_n 1, 1) := dk_27 (dk_at dksJ4_stringSize_1 20 rfl rfl)
theorem dJ4_stringSize_45 : decode cJ4_stringSize 45 = .ok (.iadd, 1) := dk_96 (dk_at dksJ4_stringSize_1 21 rfl rfl)
theorem dJ4_stringSize_46 : decode cJ4_stringSize 46 = .ok (.ireturn, 1) := dk_172 (dk_at dksJ4_stringSize_1 22 rfl rfl)
abbrev cJ4_getChars : ByteArray := prog_32_method_12_code
def yJ4_getChars : MethodName := ⟨RJ4, "getChars", "(II[B)I"⟩
def dkwJ4_getChars_5 : List UInt8 := [16, 45, 84, 21, 5, 172]
abbrev dktJ4_getChars_5 : List UInt8 := dkwJ4_getChars_5 ++ []
def dkwJ4_getChars_4 : List UInt8 := [132, 5, 255, 21, 5, 178, 0, 87, 26, 116, 51, 84, 21, 6, 153, 0, 12, 44, 132, 5, 255, 21, 5]
abbrev dktJ4_getChars_4 : List UInt8 := dkwJ4_getChars_4 ++ dktJ4_getChars_5
def dkwJ4_getChars_3 : List UInt8 := [167, 255, 209, 44, 132, 5, 255, 21, 5, 178, 0, 83, 26, 116, 51, 84, 26, 16, 247, 162, 0, 16, 44]
abbrev dktJ4_getChars_3 : List UInt8 := dkwJ4_getChars_3 ++ dktJ4_getChars_4
def dkwJ4_getChars_2 : List UInt8 := [21, 5, 178, 0, 83, 21, 4, 51, 84, 44, 132, 5, 255, 21, 5, 178, 0, 87, 21, 4, 51, 84]
abbrev dktJ4_getChars_2 : List UInt8 := dkwJ4_getChars_2 ++ dktJ4_getChars_3
def dkwJ4_getChars_1 : List UInt8 := [16, 156, 163, 0, 47, 26, 16, 100, 108, 62, 29, 16, 100, 104, 26, 100, 54, 4, 29, 59, 44, 132, 5, 255]
abbrev dktJ4_getChars_1 : List UInt8 := dkwJ4_getChars_1 ++ dktJ4_getChars_2
def dkwJ4_getChars_0 : List UInt8 := [27, 54, 5, 26, 156, 0, 7, 4, 167, 0, 4, 3, 54, 6, 21, 6, 154, 0, 6, 26, 116, 59, 26]
abbrev dktJ4_getChars_0 : List UInt8 := dkwJ4_getChars_0 ++ dktJ4_getChars_1
theorem dksJ4_getChars_0 : cJ4_getChars.data.toList.drop 0 = dktJ4_getChars_0 := by decide +kernel
theorem dksJ4_getChars_1 : cJ4_getChars.data.toList.drop 23 = dktJ4_getChars_1 := dk_seg dksJ4_getChars_0 23 rfl rfl
theorem dksJ4_getChars_2 : cJ4_getChars.data.toList.drop 47 = dktJ4_getChars_2 := dk_seg dksJ4_getChars_1 24 rfl rfl
theorem dksJ4_getChars_3 : cJ4_getChars.data.toList.drop 69 = dktJ4_getChars_3 := dk_seg dksJ4_getChars_2 22 rfl rfl
theorem dksJ4_getChars_4 : cJ4_getChars.data.toList.drop 92 = dktJ4_getChars_4 := dk_seg dksJ4_getChars_3 23 rfl rfl
theorem dksJ4_getChars_5 : cJ4_getChars.data.toList.drop 115 = dktJ4_getChars_5 := dk_seg dksJ4_getChars_4 23 rfl rfl
theorem dJ4_getChars_0 : decode cJ4_getChars 0 = .ok (.iload_n 1, 1) := dk_27 (dk_at dksJ4_getChars_0 0 rfl rfl)
theorem dJ4_getChars_1 : decode cJ4_getChars 1 = .ok (.istore 5, 2) := dk_54 5 (dk_at dksJ4_getChars_0 1 rfl rfl)
theorem dJ4_getChars_3 : decode cJ4_getChars 3 = .ok (.iload_n 0, 1) := dk_26 (dk_at dksJ4_getChars_0 3 rfl rfl)
theorem dJ4_getChars_4 : decode cJ4_getChars 4 = .ok (.ifCond .ge 7, 3) := dk_156 0 7 (dk_at dksJ4_getChars_0 4 rfl rfl)
theorem dJ4_getChars_7 : decode cJ4_getChars 7 = .ok (.iconst 1, 1) := dk_4 (dk_at dksJ4_getChars_0 7 rfl rfl)
theorem dJ4_getChars_8 : decode cJ4_getChars 8 = .ok (.goto 4, 3) := dk_167 0 4 (dk_at dksJ4_getChars_0 8 rfl rfl)
theorem dJ4_getChars_11 : decode cJ4_getChars 11 = .ok (.iconst 0, 1) := dk_3 (dk_at dksJ4_getChars_0 11 rfl rfl)
theorem dJ4_getChars_12 : decode cJ4_getChars 12 = .ok (.istore 6, 2) := dk_54 6 (dk_at dksJ4_getChars_0 12 rfl rfl)
theorem dJ4_getChars_14 : decode cJ4_getChars 14 = .ok (.iload 6, 2) := dk_21 6 (dk_at dksJ4_getChars_0 14 rfl rfl)
theorem dJ4_getChars_16 : decode cJ4_getChars 16 = .ok (.ifCond .ne 6, 3) := dk_154 0 6 (dk_at dksJ4_getChars_0 16 rfl rfl)
theorem dJ4_getChars_19 : decode cJ4_getChars 19 = .ok (.iload_n 0, 1) := dk_26 (dk_at dksJ4_getChars_0 19 rfl rfl)
theorem dJ4_getChars_20 : decode cJ4_getChars 20 = .ok (.ineg, 1) := dk_116 (dk_at dksJ4_getChars_0 20 rfl rfl)
theorem dJ4_getChars_21 : decode cJ4_getChars 21 = .ok (.istore_n 0, 1) := dk_59 (dk_at dksJ4_getChars_0 21 rfl rfl)
theorem dJ4_getChars_22 : decode cJ4_getChars 22 = .ok (.iload_n 0, 1) := dk_26 (dk_at dksJ4_getChars_0 22 rfl rfl)
theorem dJ4_getChars_23 : decode cJ4_getChars 23 = .ok (.bipush (-100), 2) := dk_16 156 (dk_at dksJ4_getChars_1 0 rfl rfl)
theorem dJ4_getChars_25 : decode cJ4_getChars 25 = .ok (.if_icmp .gt 47, 3) := dk_163 0 47 (dk_at dksJ4_getChars_1 2 rfl rfl)
theorem dJ4_getChars_28 : decode cJ4_getChars 28 = .ok (.iload_n 0, 1) := dk_26 (dk_at dksJ4_getChars_1 5 rfl rfl)
theorem dJ4_getChars_29 : decode cJ4_getChars 29 = .ok (.bipush 100, 2) := dk_16 100 (dk_at dksJ4_getChars_1 6 rfl rfl)
theorem dJ4_getChars_31 : decode cJ4_getChars 31 = .ok (.idiv, 1) := dk_108 (dk_at dksJ4_getChars_1 8 rfl rfl)
theorem dJ4_getChars_32 : decode cJ4_getChars 32 = .ok (.istore_n 3, 1) := dk_62 (dk_at dksJ4_getChars_1 9 rfl rfl)
theorem dJ4_getChars_33 : decode cJ4_getChars 33 = .ok (.iload_n 3, 1) := dk_29 (dk_at dksJ4_getChars_1 10 rfl rfl)
theorem dJ4_getChars_34 : decode cJ4_getChars 34 = .ok (.bipush 100, 2) := dk_16 100 (dk_at dksJ4_getChars_1 11 rfl rfl)
theorem dJ4_getChars_36 : decode cJ4_getChars 36 = .ok (.imul, 1) := dk_104 (dk_at dksJ4_getChars_1 13 rfl rfl)
theorem dJ4_getChars_37 : decode cJ4_getChars 37 = .ok (.iload_n 0, 1) := dk_26 (dk_at dksJ4_getChars_1 14 rfl rfl)
theorem dJ4_getChars_38 : decode cJ4_getChars 38 = .ok (.isub, 1) := dk_100 (dk_at dksJ4_getChars_1 15 rfl rfl)
theorem dJ4_getChars_39 : decode cJ4_getChars 39 = .ok (.istore 4, 2) := dk_54 4 (dk_at dksJ4_getChars_1 16 rfl rfl)
theorem dJ4_getChars_41 : decode cJ4_getChars 41 = .ok (.iload_n 3, 1) := dk_29 (dk_at dksJ4_getChars_1 18 rfl rfl)
theorem dJ4_getChars_42 : decode cJ4_getChars 42 = .ok (.istore_n 0, 1) := dk_59 (dk_at dksJ4_getChars_1 19 rfl rfl)
theorem dJ4_getChars_43 : decode cJ4_getChars 43 = .ok (.aload_n 2, 1) := dk_44 (dk_at dksJ4_getChars_1 20 rfl rfl)
theorem dJ4_getChars_44 : decode cJ4_getChars 44 = .ok (.iinc 5 (-1), 3) := dk_132 5 255 (dk_at dksJ4_getChars_1 21 rfl rfl)
theorem dJ4_getChars_47 : decode cJ4_getChars 47 = .ok (.iload 5, 2) := dk_21 5 (dk_at dksJ4_getChars_2 0 rfl rfl)
theorem dJ4_getChars_49 : decode cJ4_getChars 49 = .ok (.getstatic 83, 3) := dk_178 0 83 (dk_at dksJ4_getChars_2 2 rfl rfl)
theorem dJ4_getChars_52 : decode cJ4_getChars 52 = .ok (.iload 4, 2) := dk_21 4 (dk_at dksJ4_getChars_2 5 rfl rfl)
theorem dJ4_getChars_54 : decode cJ4_getChars 54 = .ok (.baload, 1) := dk_51 (dk_at dksJ4_getChars_2 7 rfl rfl)
theorem dJ4_getChars_55 : decode cJ4_getChars 55 = .ok (.bastore, 1) := dk_84 (dk_at dksJ4_getChars_2 8 rfl rfl)
theorem dJ4_getChars_56 : decode cJ4_getChars 56 = .ok (.aload_n 2, 1) := dk_44 (dk_at dksJ4_getChars_2 9 rfl rfl)
theorem dJ4_getChars_57 : decode cJ4_getChars 57 = .ok (.iinc 5 (-1), 3) := dk_132 5 255 (dk_at dksJ4_getChars_2 10 rfl rfl)
theorem dJ4_getChars_60 : decode cJ4_getChars 60 = .ok (.iload 5, 2) := dk_21 5 (dk_at dksJ4_getChars_2 13 rfl rfl)
theorem dJ4_getChars_62 : decode cJ4_getChars 62 = .ok (.getstatic 87, 3) := dk_178 0 87 (dk_at dksJ4_getChars_2 15 rfl rfl)
theorem dJ4_getChars_65 : decode cJ4_getChars 65 = .ok (.iload 4, 2) := dk_21 4 (dk_at dksJ4_getChars_2 18 rfl rfl)
theorem dJ4_getChars_67 : decode cJ4_getChars 67 = .ok (.baload, 1) := dk_51 (dk_at dksJ4_getChars_2 20 rfl rfl)
theorem dJ4_getChars_68 : decode cJ4_getChars 68 = .ok (.bastore, 1) := dk_84 (dk_at dksJ4_getChars_2 21 rfl rfl)
theorem dJ4_getChars_69 : decode cJ4_getChars 69 = .ok (.goto (-47), 3) := dk_167 255 209 (dk_at dksJ4_getChars_3 0 rfl rfl)
theorem dJ4_getChars_72 : decode cJ4_getChars 72 = .ok (.aload_n 2, 1) := dk_44 (dk_at dksJ4_getChars_3 3 rfl rfl)
theorem dJ4_getChars_73 : decode cJ4_getChars 73 = .ok (.iinc 5 (-1), 3) := dk_132 5 255 (dk_at dksJ4_getChars_3 4 rfl rfl)
theorem dJ4_getChars_76 : decode cJ4_getChars 76 = .ok (.iload 5, 2) := dk_21 5 (dk_at dksJ4_getChars_3 7 rfl rfl)
theorem dJ4_getChars_78 : decode cJ4_getChars 78 = .ok (.getstatic 83, 3) := dk_178 0 83 (dk_at dksJ4_getChars_3 9 rfl rfl)
theorem dJ4_getChars_81 : decode cJ4_getChars 81 = .ok (.iload_n 0, 1) := dk_26 (dk_at dksJ4_getChars_3 12 rfl rfl)
theorem dJ4_getChars_82 : decode cJ4_getChars 82 = .ok (.ineg, 1) := dk_116 (dk_at dksJ4_getChars_3 13 rfl rfl)
theorem dJ4_getChars_83 : decode cJ4_getChars 83 = .ok (.baload, 1) := dk_51 (dk_at dksJ4_getChars_3 14 rfl rfl)
theorem dJ4_getChars_84 : decode cJ4_getChars 84 = .ok (.bastore, 1) := dk_84 (dk_at dksJ4_getChars_3 15 rfl rfl)
theorem dJ4_getChars_85 : decode cJ4_getChars 85 = .ok (.iload_n 0, 1) := dk_26 (dk_at dksJ4_getChars_3 16 rfl rfl)
theorem dJ4_getChars_86 : decode cJ4_getChars 86 = .ok (.bipush (-9), 2) := dk_16 247 (dk_at dksJ4_getChars_3 17 rfl rfl)
theorem dJ4_getChars_88 : decode cJ4_getChars 88 = .ok (.if_icmp .ge 16, 3) := dk_162 0 16 (dk_at dksJ4_getChars_3 19 rfl rfl)
theorem dJ4_getChars_91 : decode cJ4_getChars 91 = .ok (.aload_n 2, 1) := dk_44 (dk_at dksJ4_getChars_3 22 rfl rfl)
theorem dJ4_getChars_92 : decode cJ4_getChars 92 = .ok (.iinc 5 (-1), 3) := dk_132 5 255 (dk_at dksJ4_getChars_4 0 rfl rfl)
theorem dJ4_getChars_95 : decode cJ4_getChars 95 = .ok (.iload 5, 2) := dk_21 5 (dk_at dksJ4_getChars_4 3 rfl rfl)
theorem dJ4_getChars_97 : decode cJ4_getChars 97 = .ok (.getstatic 87, 3) := dk_178 0 87 (dk_at dksJ4_getChars_4 5 rfl rfl)
theorem dJ4_getChars_100 : decode cJ4_getChars 100 = .ok (.iload_n 0, 1) := dk_26 (dk_at dksJ4_getChars_4 8 rfl rfl)
theorem dJ4_getChars_101 : decode cJ4_getChars 101 = .ok (.ineg, 1) := dk_116 (dk_at dksJ4_getChars_4 9 rfl rfl)
theorem dJ4_getChars_102 : decode cJ4_getChars 102 = .ok (.baload, 1) := dk_51 (dk_at dksJ4_getChars_4 10 rfl rfl)
theorem dJ4_getChars_103 : decode cJ4_getChars 103 = .ok (.bastore, 1) := dk_84 (dk_at dksJ4_getChars_4 11 rfl rfl)
theorem dJ4_getChars_104 : decode cJ4_getChars 104 = .ok (.iload 6, 2) := dk_21 6 (dk_at dksJ4_getChars_4 12 rfl rfl)
theorem dJ4_getChars_106 : decode cJ4_getChars 106 = .ok (.ifCond .eq 12, 3) := dk_153 0 12 (dk_at dksJ4_getChars_4 14 rfl rfl)
theorem dJ4_getChars_109 : decode cJ4_getChars 109 = .ok (.aload_n 2, 1) := dk_44 (dk_at dksJ4_getChars_4 17 rfl rfl)
theorem dJ4_getChars_110 : decode cJ4_getChars 110 = .ok (.iinc 5 (-1), 3) := dk_132 5 255 (dk_at dksJ4_getChars_4 18 rfl rfl)
theorem dJ4_getChars_113 : decode cJ4_getChars 113 = .ok (.iload 5, 2) := dk_21 5 (dk_at dksJ4_getChars_4 21 rfl rfl)
theorem dJ4_getChars_115 : decode cJ4_getChars 115 = .ok (.bipush 45, 2) := dk_16 45 (dk_at dksJ4_getChars_5 0 rfl rfl)
theorem dJ4_getChars_117 : decode cJ4_getChars 117 = .ok (.bastore, 1) := dk_84 (dk_at dksJ4_getChars_5 2 rfl rfl)
theorem dJ4_getChars_118 : decode cJ4_getChars 118 = .ok (.iload 5, 2) := dk_21 5 (dk_at dksJ4_getChars_5 3 rfl rfl)
theorem dJ4_getChars_120 : decode cJ4_getChars 120 = .ok (.ireturn, 1) := dk_172 (dk_at dksJ4_getChars_5 5 rfl rfl)
theorem q76 : (Jvm.Cond.initialized "java/lang/Integer") ∈ lw_all := lw_g (lw_at lw_m1 7 rfl) rfl
theorem q173 : (Jvm.Cond.static ({ cls := "java/lang/Integer", name := "valueOf", desc := "(I)Ljava/lang/Integer;" } : Jvm.MethodName)) ∈ lw_all := lw_g (lw_at lw_m1 104 rfl) rfl
theorem q174 : (Jvm.Cond.code ({ cls := "java/lang/Integer", name := "valueOf", desc := "(I)Ljava/lang/Integer;" } : Jvm.MethodName) prog_32_method_22_code (1 : Nat) (Option.some (Jvm.ClassFile.FieldType.object "java/lang/Integer"))) ∈ lw_all := lw_g (lw_at lw_m1 105 rfl) rfl
theorem q175 : (Jvm.Cond.fieldLink "java/lang/Integer" (191 : Nat) "java/lang/Integer$IntegerCache" "high" "I") ∈ lw_all := lw_g (lw_at lw_m1 106 rfl) rfl
theorem q177 : (Jvm.Cond.fieldLink "java/lang/Integer" (195 : Nat) "java/lang/Integer$IntegerCache" "cache" "[Ljava/lang/Integer;") ∈ lw_all := lw_g (lw_at lw_m1 108 rfl) rfl
theorem q179 : (Jvm.Cond.classLink "java/lang/Integer" (1 : Nat) "java/lang/Integer") ∈ lw_all := lw_g (lw_at lw_m1 110 rfl) rfl
theorem q180 : (Jvm.Cond.instantiable "java/lang/Integer" (1 : Nat)) ∈ lw_all := lw_g (lw_at lw_m1 111 rfl) rfl
theorem q181 : (Jvm.Cond.methodLink "java/lang/Integer" (199 : Nat) ({ cls := "java/lang/Integer", name := "<init>", desc := "(I)V" } : Jvm.MethodName)) ∈ lw_all := lw_g (lw_at lw_m1 112 rfl) rfl
theorem q182 : (Jvm.Cond.instanceMethod ({ cls := "java/lang/Integer", name := "<init>", desc := "(I)V" } : Jvm.MethodName)) ∈ lw_all := lw_g (lw_at lw_m1 113 rfl) rfl
theorem q183 : (Jvm.Cond.code ({ cls := "java/lang/Integer", name := "<init>", desc := "(I)V" } : Jvm.MethodName) prog_32_method_23_code (2 : Nat) (Option.none : Option Jvm.ClassFile.FieldType)) ∈ lw_all := lw_g (lw_at lw_m1 114 rfl) rfl
theorem q184 : (Jvm.Cond.methodLink "java/lang/Integer" (202 : Nat) ({ cls := "java/lang/Number", name := "<init>", desc := "()V" } : Jvm.MethodName)) ∈ lw_all := lw_g (lw_at lw_m1 115 rfl) rfl
theorem q188 : (Jvm.Cond.fieldLink "java/lang/Integer" (205 : Nat) "java/lang/Integer" "value" "I") ∈ lw_all := lw_g (lw_at lw_m1 119 rfl) rfl
theorem q189 : (Jvm.Cond.laysFinal "java/lang/Integer" "java/lang/Integer" "value" "I") ∈ lw_all := lw_g (lw_at lw_m1 120 rfl) rfl
theorem q190 : (Jvm.Cond.soleField "java/lang/Integer" "value") ∈ lw_all := lw_g (lw_at lw_m1 121 rfl) rfl
theorem q191 : (Jvm.Cond.superclass "java/lang/Integer" "java/lang/Number") ∈ lw_all := lw_g (lw_at lw_m1 122 rfl) rfl
theorem q252 : (Jvm.Cond.selects "java/lang/Integer" ({ cls := "java/lang/Object", name := "getClass", desc := "()Ljava/lang/Class;" } : Jvm.MethodName) ({ cls := "java/lang/Object", name := "getClass", desc := "()Ljava/lang/Class;" } : Jvm.MethodName)) ∈ lw_all := lw_g (lw_at lw_m1 183 rfl) rfl
theorem q464 : (Jvm.Cond.instanceMethod ({ cls := "java/lang/Integer", name := "intValue", desc := "()I" } : Jvm.MethodName)) ∈ lw_all := lw_g (lw_at lw_m2 155 rfl) rfl
theorem q465 : (Jvm.Cond.selects "java/lang/Integer" ({ cls := "java/lang/Integer", name := "intValue", desc := "()I" } : Jvm.MethodName) ({ cls := "java/lang/Integer", name := "intValue", desc := "()I" } : Jvm.MethodName)) ∈ lw_all := lw_g (lw_at lw_m2 156 rfl) rfl
theorem q466 : (Jvm.Cond.code ({ cls := "java/lang/Integer", name := "intValue", desc := "()I" } : Jvm.MethodName) prog_32_method_27_code (1 : Nat) (Option.some Jvm.ClassFile.FieldType.int)) ∈ lw_all := lw_g (lw_at lw_m2 157 rfl) rfl
theorem q1403 : (Jvm.Cond.static ({ cls := "java/lang/Integer", name := "stringSize", desc := "(I)I" } : Jvm.MethodName)) ∈ lw_all := lw_g (lw_at lw_m6 134 rfl) rfl
theorem q1404 : (Jvm.Cond.code ({ cls := "java/lang/Integer", name := "stringSize", desc := "(I)I" } : Jvm.MethodName) prog_32_method_13_code (4 : Nat) (Option.some Jvm.ClassFile.FieldType.int)) ∈ lw_all := lw_g (lw_at lw_m6 135 rfl) rfl
theorem q1406 : (Jvm.Cond.static ({ cls := "java/lang/Integer", name := "getChars", desc := "(II[B)I" } : Jvm.MethodName)) ∈ lw_all := lw_g (lw_at lw_m6 137 rfl) rfl
theorem q1407 : (Jvm.Cond.code ({ cls := "java/lang/Integer", name := "getChars", desc := "(II[B)I" } : Jvm.MethodName) prog_32_method_12_code (7 : Nat) (Option.some Jvm.ClassFile.FieldType.int)) ∈ lw_all := lw_g (lw_at lw_m6 138 rfl) rfl
theorem q1408 : (Jvm.Cond.fieldLink "java/lang/Integer" (83 : Nat) "java/lang/Integer" "DigitOnes" "[B") ∈ lw_all := lw_g (lw_at lw_m6 139 rfl) rfl
theorem q1409 : (Jvm.Cond.laysStatic "java/lang/Integer" "DigitOnes" "[B") ∈ lw_tbl := lw_at lw_m6 140 rfl
theorem q1410 : (Jvm.Cond.fieldLink "java/lang/Integer" (87 : Nat) "java/lang/Integer" "DigitTens" "[B") ∈ lw_all := lw_g (lw_at lw_m6 141 rfl) rfl
theorem q1411 : (Jvm.Cond.laysStatic "java/lang/Integer" "DigitTens" "[B") ∈ lw_tbl := lw_at lw_m6 142 rfl
theorem q2099 : (Jvm.Cond.castable "java/lang/Integer" "java/lang/Object") ∈ lw_tbl := lw_at lw_m9 110 rfl
theorem in_J4 : ∀ w ∈ wsJ40, w ∈ lw_all := lw_in wsJ40 [189] (by decide +kernel) (by decide +kernel)
/-! jdk/internal/util/ArraysSupport -/
set_option maxRecDepth 100000
def RJ5 : String := "jdk/internal/util/ArraysSupport"
abbrev cJ5_newLength : ByteArray := prog_58_method_27_code
def yJ5_newLength : MethodName := ⟨RJ5, "newLength", "(III)I"⟩
def dkwJ5_newLength_1 : List UInt8 := [184, 0, 201, 172]
abbrev dktJ5_newLength_1 : List UInt8 := dkwJ5_newLength_1 ++ []
def dkwJ5_newLength_0 : List UInt8 := [26, 27, 28, 184, 0, 194, 96, 62, 3, 29, 162, 0, 11, 29, 18, 200, 163, 0, 5, 29, 172, 26, 27]
abbrev dktJ5_newLength_0 : List UInt8 := dkwJ5_newLength_0 ++ dktJ5_newLength_1
theorem dksJ5_newLength_0 : cJ5_newLength.data.toList.drop 0 = dktJ5_newLength_0 := by decide +kernel
theorem dksJ5_newLength_1 : cJ5_newLength.data.toList.drop 23 = dktJ5_newLength_1 := dk_seg dksJ5_newLength_0 23 rfl rfl
theorem dJ5_newLength_0 : decode cJ5_newLength 0 = .ok (.iload_n 0, 1) := dk_26 (dk_at dksJ5_newLength_0 0 rfl rfl)
theorem dJ5_newLength_1 : decode cJ5_newLength 1 = .ok (.iload_n 1, 1) := dk_27 (dk_at dksJ5_newLength_0 1 rfl rfl)
theorem dJ5_newLength_2 : decode cJ5_newLength 2 = .ok (.iload_n 2, 1) := dk_28 (dk_at dksJ5_newLength_0 2 rfl rfl)
theorem dJ5_newLength_3 : decode cJ5_newLength 3 = .ok (.invokestatic 194, 3) := dk_184 0 194 (dk_at dksJ5_newLength_0 3 rfl rfl)
theorem dJ5_newLength_6 : decode cJ5_newLength 6 = .ok (.iadd, 1) := dk_96 (dk_at dksJ5_newLength_0 6 rfl rfl)
theorem dJ5_newLength_7 : decode cJ5_newLength 7 = .ok (.istore_n 3, 1) := dk_62 (dk_at dksJ5_newLength_0 7 rfl rfl)
theorem dJ5_newLength_8 : decode cJ5_newLength 8 = .ok (.iconst 0, 1) := dk_3 (dk_at dksJ5_newLength_0 8 rfl rfl)
theorem dJ5_newLength_9 : decode cJ5_newLength 9 = .ok (.iload_n 3, 1) := dk_29 (dk_at dksJ5_newLength_0 9 rfl rfl)
theorem dJ5_newLength_10 : decode cJ5_newLength 10 = .ok (.if_icmp .ge 11, 3) := dk_162 0 11 (dk_at dksJ5_newLength_0 10 rfl rfl)
theorem dJ5_newLength_13 : decode cJ5_newLength 13 = .ok (.iload_n 3, 1) := dk_29 (dk_at dksJ5_newLength_0 13 rfl rfl)
theorem dJ5_newLength_14 : decode cJ5_newLength 14 = .ok (.ldc 200, 2) := dk_18 200 (dk_at dksJ5_newLength_0 14 rfl rfl)
theorem dJ5_newLength_16 : decode cJ5_newLength 16 = .ok (.if_icmp .gt 5, 3) := dk_163 0 5 (dk_at dksJ5_newLength_0 16 rfl rfl)
theorem dJ5_newLength_19 : decode cJ5_newLength 19 = .ok (.iload_n 3, 1) := dk_29 (dk_at dksJ5_newLength_0 19 rfl rfl)
theorem dJ5_newLength_20 : decode cJ5_newLength 20 = .ok (.ireturn, 1) := dk_172 (dk_at dksJ5_newLength_0 20 rfl rfl)
theorem dJ5_newLength_21 : decode cJ5_newLength 21 = .ok (.iload_n 0, 1) := dk_26 (dk_at dksJ5_newLength_0 21 rfl rfl)
theorem dJ5_newLength_22 : decode cJ5_newLength 22 = .ok (.iload_n 1, 1) := dk_27 (dk_at dksJ5_newLength_0 22 rfl rfl)
theorem dJ5_newLength_23 : decode cJ5_newLength 23 = .ok (.invokestatic 201, 3) := dk_184 0 201 (dk_at dksJ5_newLength_1 0 rfl rfl)
theorem dJ5_newLength_26 : decode cJ5_newLength 26 = .ok (.ireturn, 1) := dk_172 (dk_at dksJ5_newLength_1 3 rfl rfl)
abbrev cJ5_hugeLength : ByteArray := prog_58_method_28_code
def yJ5_hugeLength : MethodName := ⟨RJ5, "hugeLength", "(II)I"⟩
def dkwJ5_hugeLength_2 : List UInt8 := [191, 28, 18, 200, 163, 0, 6, 18, 200, 172, 28, 172]
abbrev dktJ5_hugeLength_2 : List UInt8 := dkwJ5_hugeLength_2 ++ []
def dkwJ5_hugeLength_1 : List UInt8 := [26, 182, 0, 98, 18, 208, 182, 0, 94, 27, 182, 0, 98, 18, 210, 182, 0, 94, 182, 0, 101, 183, 0, 212]
abbrev dktJ5_hugeLength_1 : List UInt8 := dkwJ5_hugeLength_1 ++ dktJ5_hugeLength_2
def dkwJ5_hugeLength_0 : List UInt8 := [26, 27, 96, 61, 28, 156, 0, 44, 187, 0, 204, 89, 187, 0, 89, 89, 183, 0, 91, 18, 206, 182, 0, 94]
abbrev dktJ5_hugeLength_0 : List UInt8 := dkwJ5_hugeLength_0 ++ dktJ5_hugeLength_1
theorem dksJ5_hugeLength_0 : cJ5_hugeLength.data.toList.drop 0 = dktJ5_hugeLength_0 := by decide +kernel
theorem dksJ5_hugeLength_1 : cJ5_hugeLength.data.toList.drop 24 = dktJ5_hugeLength_1 := dk_seg dksJ5_hugeLength_0 24 rfl rfl
theorem dksJ5_hugeLength_2 : cJ5_hugeLength.data.toList.drop 48 = dktJ5_hugeLength_2 := dk_seg dksJ5_hugeLength_1 24 rfl rfl
theorem dJ5_hugeLength_0 : decode cJ5_hugeLength 0 = .ok (.iload_n 0, 1) := dk_26 (dk_at dksJ5_hugeLength_0 0 rfl rfl)
theorem dJ5_hugeLength_1 : decode cJ5_hugeLength 1 = .ok (.iload_n 1, 1) := dk_27 (dk_at dksJ5_hugeLength_0 1 rfl rfl)
theorem dJ5_hugeLength_2 : decode cJ5_hugeLength 2 = .ok (.iadd, 1) := dk_96 (dk_at dksJ5_hugeLength_0 2 rfl rfl)
theorem dJ5_hugeLength_3 : decode cJ5_hugeLength 3 = .ok (.istore_n 2, 1) := dk_61 (dk_at dksJ5_hugeLength_0 3 rfl rfl)
theorem dJ5_hugeLength_4 : decode cJ5_hugeLength 4 = .ok (.iload_n 2, 1) := dk_28 (dk_at dksJ5_hugeLength_0 4 rfl rfl)
theorem dJ5_hugeLength_5 : decode cJ5_hugeLength 5 = .ok (.ifCond .ge 44, 3) := dk_156 0 44 (dk_at dksJ5_hugeLength_0 5 rfl rfl)
theorem dJ5_hugeLength_8 : decode cJ5_hugeLength 8 = .ok (.new 204, 3) := dk_187 0 204 (dk_at dksJ5_hugeLength_0 8 rfl rfl)
theorem dJ5_hugeLength_11 : decode cJ5_hugeLength 11 = .ok (.dup, 1) := dk_89 (dk_at dksJ5_hugeLength_0 11 rfl rfl)
theorem dJ5_hugeLength_12 : decode cJ5_hugeLength 12 = .ok (.new 89, 3) := dk_187 0 89 (dk_at dksJ5_hugeLength_0 12 rfl rfl)
theorem dJ5_hugeLength_15 : decode cJ5_hugeLength 15 = .ok (.dup, 1) := dk_89 (dk_at dksJ5_hugeLength_0 15 rfl rfl)
theorem dJ5_hugeLength_16 : decode cJ5_hugeLength 16 = .ok (.invokespecial 91, 3) := dk_183 0 91 (dk_at dksJ5_hugeLength_0 16 rfl rfl)
theorem dJ5_hugeLength_19 : decode cJ5_hugeLength 19 = .ok (.ldc 206, 2) := dk_18 206 (dk_at dksJ5_hugeLength_0 19 rfl rfl)
theorem dJ5_hugeLength_21 : decode cJ5_hugeLength 21 = .ok (.invokevirtual 94, 3) := dk_182 0 94 (dk_at dksJ5_hugeLength_0 21 rfl rfl)
theorem dJ5_hugeLength_24 : decode cJ5_hugeLength 24 = .ok (.iload_n 0, 1) := dk_26 (dk_at dksJ5_hugeLength_1 0 rfl rfl)
theorem dJ5_hugeLength_25 : decode cJ5_hugeLength 25 = .ok (.invokevirtual 98, 3) := dk_182 0 98 (dk_at dksJ5_hugeLength_1 1 rfl rfl)
theorem dJ5_hugeLength_28 : decode cJ5_hugeLength 28 = .ok (.ldc 208, 2) := dk_18 208 (dk_at dksJ5_hugeLength_1 4 rfl rfl)
theorem dJ5_hugeLength_30 : decode cJ5_hugeLength 30 = .ok (.invokevirtual 94, 3) := dk_182 0 94 (dk_at dksJ5_hugeLength_1 6 rfl rfl)
theorem dJ5_hugeLength_33 : decode cJ5_hugeLength 33 = .ok (.iload_n 1, 1) := dk_27 (dk_at dksJ5_hugeLength_1 9 rfl rfl)
theorem dJ5_hugeLength_34 : decode cJ5_hugeLength 34 = .ok (.invokevirtual 98, 3) := dk_182 0 98 (dk_at dksJ5_hugeLength_1 10 rfl rfl)
theorem dJ5_hugeLength_37 : decode cJ5_hugeLength 37 = .ok (.ldc 210, 2) := dk_18 210 (dk_at dksJ5_hugeLength_1 13 rfl rfl)
theorem dJ5_hugeLength_39 : decode cJ5_hugeLength 39 = .ok (.invokevirtual 94, 3) := dk_182 0 94 (dk_at dksJ5_hugeLength_1 15 rfl rfl)
theorem dJ5_hugeLength_42 : decode cJ5_hugeLength 42 = .ok (.invokevirtual 101, 3) := dk_182 0 101 (dk_at dksJ5_hugeLength_1 18 rfl rfl)
theorem dJ5_hugeLength_45 : decode cJ5_hugeLength 45 = .ok (.invokespecial 212, 3) := dk_183 0 212 (dk_at dksJ5_hugeLength_1 21 rfl rfl)
theorem dJ5_hugeLength_48 : decode cJ5_hugeLength 48 = .ok (.athrow, 1) := dk_191 (dk_at dksJ5_hugeLength_2 0 rfl rfl)
theorem dJ5_hugeLength_49 : decode cJ5_hugeLength 49 = .ok (.iload_n 2, 1) := dk_28 (dk_at dksJ5_hugeLength_2 1 rfl rfl)
theorem dJ5_hugeLength_50 : decode cJ5_hugeLength 50 = .ok (.ldc 200, 2) := dk_18 200 (dk_at dksJ5_hugeLength_2 2 rfl rfl)
theorem dJ5_hugeLength_52 : decode cJ5_hugeLength 52 = .ok (.if_icmp .gt 6, 3) := dk_163 0 6 (dk_at dksJ5_hugeLength_2 4 rfl rfl)
theorem dJ5_hugeLength_55 : decode cJ5_hugeLength 55 = .ok (.ldc 200, 2) := dk_18 200 (dk_at dksJ5_hugeLength_2 7 rfl rfl)
theorem dJ5_hugeLength_57 : decode cJ5_hugeLength 57 = .ok (.ireturn, 1) := dk_172 (dk_at dksJ5_hugeLength_2 9 rfl rfl)
theorem dJ5_hugeLength_58 : decode cJ5_hugeLength 58 = .ok (.iload_n 2, 1) := dk_28 (dk_at dksJ5_hugeLength_2 10 rfl rfl)
theorem dJ5_hugeLength_59 : decode cJ5_hugeLength 59 = .ok (.ireturn, 1) := dk_172 (dk_at dksJ5_hugeLength_2 11 rfl rfl)
theorem q78 : (Jvm.Cond.initialized "jdk/internal/util/ArraysSupport") ∈ lw_all := lw_g (lw_at lw_m1 9 rfl) rfl
theorem q215 : (Jvm.Cond.static ({ cls := "jdk/internal/util/ArraysSupport", name := "newLength", desc := "(III)I" } : Jvm.MethodName)) ∈ lw_all := lw_g (lw_at lw_m1 146 rfl) rfl
theorem q216 : (Jvm.Cond.code ({ cls := "jdk/internal/util/ArraysSupport", name := "newLength", desc := "(III)I" } : Jvm.MethodName) prog_58_method_27_code (4 : Nat) (Option.some Jvm.ClassFile.FieldType.int)) ∈ lw_all := lw_g (lw_at lw_m1 147 rfl) rfl
theorem q217 : (Jvm.Cond.methodLink "jdk/internal/util/ArraysSupport" (194 : Nat) ({ cls := "java/lang/Math", name := "max", desc := "(II)I" } : Jvm.MethodName)) ∈ lw_all := lw_g (lw_at lw_m1 148 rfl) rfl
theorem q220 : (Jvm.Cond.constant "jdk/internal/util/ArraysSupport" (200 : Nat) (2147483639 : Int32)) ∈ lw_all := lw_g (lw_at lw_m1 151 rfl) rfl
theorem q221 : (Jvm.Cond.methodLink "jdk/internal/util/ArraysSupport" (201 : Nat) ({ cls := "jdk/internal/util/ArraysSupport", name := "hugeLength", desc := "(II)I" } : Jvm.MethodName)) ∈ lw_all := lw_g (lw_at lw_m1 152 rfl) rfl
theorem q222 : (Jvm.Cond.static ({ cls := "jdk/internal/util/ArraysSupport", name := "hugeLength", desc := "(II)I" } : Jvm.MethodName)) ∈ lw_all := lw_g (lw_at lw_m1 153 rfl) rfl
theorem q223 : (Jvm.Cond.code ({ cls := "jdk/internal/util/ArraysSupport", name := "hugeLength", desc := "(II)I" } : Jvm.MethodName) prog_58_method_28_code (3 : Nat) (Option.some Jvm.ClassFile.FieldType.int)) ∈ lw_all := lw_g (lw_at lw_m1 154 rfl) rfl
/-! java/lang/Math -/
set_option maxRecDepth 100000
def RJ6 : String := "java/lang/Math"
abbrev cJ6_max : ByteArray := prog_35_method_65_code
def yJ6_max : MethodName := ⟨RJ6, "max", "(II)I"⟩
def dkwJ6_max_0 : List UInt8 := [26, 27, 161, 0, 7, 26, 167, 0, 4, 27, 172]
abbrev dktJ6_max_0 : List UInt8 := dkwJ6_max_0 ++ []
theorem dksJ6_max_0 : cJ6_max.data.toList.drop 0 = dktJ6_max_0 := by decide +kernel
theorem dJ6_max_0 : decode cJ6_max 0 = .ok (.iload_n 0, 1) := dk_26 (dk_at dksJ6_max_0 0 rfl rfl)
theorem dJ6_max_1 : decode cJ6_max 1 = .ok (.iload_n 1, 1) := dk_27 (dk_at dksJ6_max_0 1 rfl rfl)
theorem dJ6_max_2 : decode cJ6_max 2 = .ok (.if_icmp .lt 7, 3) := dk_161 0 7 (dk_at dksJ6_max_0 2 rfl rfl)
theorem dJ6_max_5 : decode cJ6_max 5 = .ok (.iload_n 0, 1) := dk_26 (dk_at dksJ6_max_0 5 rfl rfl)
theorem dJ6_max_6 : decode cJ6_max 6 = .ok (.goto 4, 3) := dk_167 0 4 (dk_at dksJ6_max_0 6 rfl rfl)
theorem dJ6_max_9 : decode cJ6_max 9 = .ok (.iload_n 1, 1) := dk_27 (dk_at dksJ6_max_0 9 rfl rfl)
theorem dJ6_max_10 : decode cJ6_max 10 = .ok (.ireturn, 1) := dk_172 (dk_at dksJ6_max_0 10 rfl rfl)
abbrev cJ6_min : ByteArray := prog_35_method_69_code
def yJ6_min : MethodName := ⟨RJ6, "min", "(II)I"⟩
def dkwJ6_min_0 : List UInt8 := [26, 27, 163, 0, 7, 26, 167, 0, 4, 27, 172]
abbrev dktJ6_min_0 : List UInt8 := dkwJ6_min_0 ++ []
theorem dksJ6_min_0 : cJ6_min.data.toList.drop 0 = dktJ6_min_0 := by decide +kernel
theorem dJ6_min_0 : decode cJ6_min 0 = .ok (.iload_n 0, 1) := dk_26 (dk_at dksJ6_min_0 0 rfl rfl)
theorem dJ6_min_1 : decode cJ6_min 1 = .ok (.iload_n 1, 1) := dk_27 (dk_at dksJ6_min_0 1 rfl rfl)
theorem dJ6_min_2 : decode cJ6_min 2 = .ok (.if_icmp .gt 7, 3) := dk_163 0 7 (dk_at dksJ6_min_0 2 rfl rfl)
theorem dJ6_min_5 : decode cJ6_min 5 = .ok (.iload_n 0, 1) := dk_26 (dk_at dksJ6_min_0 5 rfl rfl)
theorem dJ6_min_6 : decode cJ6_min 6 = .ok (.goto 4, 3) := dk_167 0 4 (dk_at dksJ6_min_0 6 rfl rfl)
theorem dJ6_min_9 : decode cJ6_min 9 = .ok (.iload_n 1, 1) := dk_27 (dk_at dksJ6_min_0 9 rfl rfl)
theorem dJ6_min_10 : decode cJ6_min 10 = .ok (.ireturn, 1) := dk_172 (dk_at dksJ6_min_0 10 rfl rfl)
theorem q79 : (Jvm.Cond.initialized "java/lang/Math") ∈ lw_all := lw_g (lw_at lw_m1 10 rfl) rfl
theorem q218 : (Jvm.Cond.static ({ cls := "java/lang/Math", name := "max", desc := "(II)I" } : Jvm.MethodName)) ∈ lw_all := lw_g (lw_at lw_m1 149 rfl) rfl
theorem q219 : (Jvm.Cond.code ({ cls := "java/lang/Math", name := "max", desc := "(II)I" } : Jvm.MethodName) prog_35_method_65_code (2 : Nat) (Option.some Jvm.ClassFile.FieldType.int)) ∈ lw_all := lw_g (lw_at lw_m1 150 rfl) rfl
theorem q266 : (Jvm.Cond.static ({ cls := "java/lang/Math", name := "min", desc := "(II)I" } : Jvm.MethodName)) ∈ lw_all := lw_g (lw_at lw_m1 197 rfl) rfl
theorem q267 : (Jvm.Cond.code ({ cls := "java/lang/Math", name := "min", desc := "(II)I" } : Jvm.MethodName) prog_35_method_69_code (2 : Nat) (Option.some Jvm.ClassFile.FieldType.int)) ∈ lw_all := lw_g (lw_at lw_m1 198 rfl) rfl
/-! java/util/Arrays -/
set_option maxRecDepth 100000
def RJ7 : String := "java/util/Arrays"
abbrev cJ7_copyOf : ByteArray := prog_50_method_119_code
def yJ7_copyOf : MethodName := ⟨RJ7, "copyOf", "([Ljava/lang/Object;I)[Ljava/lang/Object;"⟩
def dkwJ7_copyOf_0 : List UInt8 := [42, 27, 42, 182, 0, 86, 184, 1, 44, 176]
abbrev dktJ7_copyOf_0 : List UInt8 := dkwJ7_copyOf_0 ++ []
theorem dksJ7_copyOf_0 : cJ7_copyOf.data.toList.drop 0 = dktJ7_copyOf_0 := by decide +kernel
theorem dJ7_copyOf_0 : decode cJ7_copyOf 0 = .ok (.aload_n 0, 1) := dk_42 (dk_at dksJ7_copyOf_0 0 rfl rfl)
theorem dJ7_copyOf_1 : decode cJ7_copyOf 1 = .ok (.iload_n 1, 1) := dk_27 (dk_at dksJ7_copyOf_0 1 rfl rfl)
theorem dJ7_copyOf_2 : decode cJ7_copyOf 2 = .ok (.aload_n 0, 1) := dk_42 (dk_at dksJ7_copyOf_0 2 rfl rfl)
theorem dJ7_copyOf_3 : decode cJ7_copyOf 3 = .ok (.invokevirtual 86, 3) := dk_182 0 86 (dk_at dksJ7_copyOf_0 3 rfl rfl)
theorem dJ7_copyOf_6 : decode cJ7_copyOf 6 = .ok (.invokestatic 300, 3) := dk_184 1 44 (dk_at dksJ7_copyOf_0 6 rfl rfl)
theorem dJ7_copyOf_9 : decode cJ7_copyOf 9 = .ok (.areturn, 1) := dk_176 (dk_at dksJ7_copyOf_0 9 rfl rfl)
abbrev cJ7_copyOf_2 : ByteArray := prog_50_method_120_code
def yJ7_copyOf_2 : MethodName := ⟨RJ7, "copyOf", "([Ljava/lang/Object;ILjava/lang/Class;)[Ljava/lang/Object;"⟩
def dkwJ7_copyOf_2_1 : List UInt8 := [78, 42, 3, 45, 3, 42, 190, 27, 184, 1, 48, 184, 0, 150, 45, 176]
abbrev dktJ7_copyOf_2_1 : List UInt8 := dkwJ7_copyOf_2_1 ++ []
def dkwJ7_copyOf_2_0 : List UInt8 := [44, 18, 110, 166, 0, 10, 27, 189, 0, 2, 167, 0, 14, 44, 182, 0, 90, 27, 184, 0, 95, 192, 0, 110]
abbrev dktJ7_copyOf_2_0 : List UInt8 := dkwJ7_copyOf_2_0 ++ dktJ7_copyOf_2_1
theorem dksJ7_copyOf_2_0 : cJ7_copyOf_2.data.toList.drop 0 = dktJ7_copyOf_2_0 := by decide +kernel
theorem dksJ7_copyOf_2_1 : cJ7_copyOf_2.data.toList.drop 24 = dktJ7_copyOf_2_1 := dk_seg dksJ7_copyOf_2_0 24 rfl rfl
theorem dJ7_copyOf_2_0 : decode cJ7_copyOf_2 0 = .ok (.aload_n 2, 1) := dk_44 (dk_at dksJ7_copyOf_2_0 0 rfl rfl)
theorem dJ7_copyOf_2_1 : decode cJ7_copyOf_2 1 = .ok (.ldc 110, 2) := dk_18 110 (dk_at dksJ7_copyOf_2_0 1 rfl rfl)
theorem dJ7_copyOf_2_3 : decode cJ7_copyOf_2 3 = .ok (.if_acmp .ne 10, 3) := dk_166 0 10 (dk_at dksJ7_copyOf_2_0 3 rfl rfl)
theorem dJ7_copyOf_2_6 : decode cJ7_copyOf_2 6 = .ok (.iload_n 1, 1) := dk_27 (dk_at dksJ7_copyOf_2_0 6 rfl rfl)
theorem dJ7_copyOf_2_7 : decode cJ7_copyOf_2 7 = .ok (.anewarray 2, 3) := dk_189 0 2 (dk_at dksJ7_copyOf_2_0 7 rfl rfl)
theorem dJ7_copyOf_2_10 : decode cJ7_copyOf_2 10 = .ok (.goto 14, 3) := dk_167 0 14 (dk_at dksJ7_copyOf_2_0 10 rfl rfl)
theorem dJ7_copyOf_2_13 : decode cJ7_copyOf_2 13 = .ok (.aload_n 2, 1) := dk_44 (dk_at dksJ7_copyOf_2_0 13 rfl rfl)
theorem dJ7_copyOf_2_14 : decode cJ7_copyOf_2 14 = .ok (.invokevirtual 90, 3) := dk_182 0 90 (dk_at dksJ7_copyOf_2_0 14 rfl rfl)
theorem dJ7_copyOf_2_17 : decode cJ7_copyOf_2 17 = .ok (.iload_n 1, 1) := dk_27 (dk_at dksJ7_copyOf_2_0 17 rfl rfl)
theorem dJ7_copyOf_2_18 : decode cJ7_copyOf_2 18 = .ok (.invokestatic 95, 3) := dk_184 0 95 (dk_at dksJ7_copyOf_2_0 18 rfl rfl)
theorem dJ7_copyOf_2_21 : decode cJ7_copyOf_2 21 = .ok (.checkcast 110, 3) := dk_192 0 110 (dk_at dksJ7_copyOf_2_0 21 rfl rfl)
theorem dJ7_copyOf_2_24 : decode cJ7_copyOf_2 24 = .ok (.astore_n 3, 1) := dk_78 (dk_at dksJ7_copyOf_2_1 0 rfl rfl)
theorem dJ7_copyOf_2_25 : decode cJ7_copyOf_2 25 = .ok (.aload_n 0, 1) := dk_42 (dk_at dksJ7_copyOf_2_1 1 rfl rfl)
theorem dJ7_copyOf_2_26 : decode cJ7_copyOf_2 26 = .ok (.iconst 0, 1) := dk_3 (dk_at dksJ7_copyOf_2_1 2 rfl rfl)
theorem dJ7_copyOf_2_27 : decode cJ7_copyOf_2 27 = .ok (.aload_n 3, 1) := dk_45 (dk_at dksJ7_copyOf_2_1 3 rfl rfl)
theorem dJ7_copyOf_2_28 : decode cJ7_copyOf_2 28 = .ok (.iconst 0, 1) := dk_3 (dk_at dksJ7_copyOf_2_1 4 rfl rfl)
theorem dJ7_copyOf_2_29 : decode cJ7_copyOf_2 29 = .ok (.aload_n 0, 1) := dk_42 (dk_at dksJ7_copyOf_2_1 5 rfl rfl)
theorem dJ7_copyOf_2_30 : decode cJ7_copyOf_2 30 = .ok (.arraylength, 1) := dk_190 (dk_at dksJ7_copyOf_2_1 6 rfl rfl)
theorem dJ7_copyOf_2_31 : decode cJ7_copyOf_2 31 = .ok (.iload_n 1, 1) := dk_27 (dk_at dksJ7_copyOf_2_1 7 rfl rfl)
theorem dJ7_copyOf_2_32 : decode cJ7_copyOf_2 32 = .ok (.invokestatic 304, 3) := dk_184 1 48 (dk_at dksJ7_copyOf_2_1 8 rfl rfl)
theorem dJ7_copyOf_2_35 : decode cJ7_copyOf_2 35 = .ok (.invokestatic 150, 3) := dk_184 0 150 (dk_at dksJ7_copyOf_2_1 11 rfl rfl)
theorem dJ7_copyOf_2_38 : decode cJ7_copyOf_2 38 = .ok (.aload_n 3, 1) := dk_45 (dk_at dksJ7_copyOf_2_1 14 rfl rfl)
theorem dJ7_copyOf_2_39 : decode cJ7_copyOf_2 39 = .ok (.areturn, 1) := dk_176 (dk_at dksJ7_copyOf_2_1 15 rfl rfl)
abbrev cJ7_copyOf_3 : ByteArray := prog_50_method_121_code
def yJ7_copyOf_3 : MethodName := ⟨RJ7, "copyOf", "([BI)[B"⟩
def dkwJ7_copyOf_3_1 : List UInt8 := [27, 184, 1, 48, 184, 0, 150, 44, 176]
abbrev dktJ7_copyOf_3_1 : List UInt8 := dkwJ7_copyOf_3_1 ++ []
def dkwJ7_copyOf_3_0 : List UInt8 := [27, 42, 190, 160, 0, 11, 42, 182, 1, 54, 192, 1, 55, 176, 27, 188, 8, 77, 42, 3, 44, 3, 42, 190]
abbrev dktJ7_copyOf_3_0 : List UInt8 := dkwJ7_copyOf_3_0 ++ dktJ7_copyOf_3_1
theorem dksJ7_copyOf_3_0 : cJ7_copyOf_3.data.toList.drop 0 = dktJ7_copyOf_3_0 := by decide +kernel
theorem dksJ7_copyOf_3_1 : cJ7_copyOf_3.data.toList.drop 24 = dktJ7_copyOf_3_1 := dk_seg dksJ7_copyOf_3_0 24 rfl rfl
theorem dJ7_copyOf_3_0 : decode cJ7_copyOf_3 0 = .ok (.iload_n 1, 1) := dk_27 (dk_at dksJ7_copyOf_3_0 0 rfl rfl)
theorem dJ7_copyOf_3_1 : decode cJ7_copyOf_3 1 = .ok (.aload_n 0, 1) := dk_42 (dk_at dksJ7_copyOf_3_0 1 rfl rfl)
theorem dJ7_copyOf_3_2 : decode cJ7_copyOf_3 2 = .ok (.arraylength, 1) := dk_190 (dk_at dksJ7_copyOf_3_0 2 rfl rfl)
theorem dJ7_copyOf_3_3 : decode cJ7_copyOf_3 3 = .ok (.if_icmp .ne 11, 3) := dk_160 0 11 (dk_at dksJ7_copyOf_3_0 3 rfl rfl)
theorem dJ7_copyOf_3_6 : decode cJ7_copyOf_3 6 = .ok (.aload_n 0, 1) := dk_42 (dk_at dksJ7_copyOf_3_0 6 rfl rfl)
theorem dJ7_copyOf_3_7 : decode cJ7_copyOf_3 7 = .ok (.invokevirtual 310, 3) := dk_182 1 54 (dk_at dksJ7_copyOf_3_0 7 rfl rfl)
theorem dJ7_copyOf_3_10 : decode cJ7_copyOf_3 10 = .ok (.checkcast 311, 3) := dk_192 1 55 (dk_at dksJ7_copyOf_3_0 10 rfl rfl)
theorem dJ7_copyOf_3_13 : decode cJ7_copyOf_3 13 = .ok (.areturn, 1) := dk_176 (dk_at dksJ7_copyOf_3_0 13 rfl rfl)
theorem dJ7_copyOf_3_14 : decode cJ7_copyOf_3 14 = .ok (.iload_n 1, 1) := dk_27 (dk_at dksJ7_copyOf_3_0 14 rfl rfl)
theorem dJ7_copyOf_3_15 : decode cJ7_copyOf_3 15 = .ok (.newarray .byte, 2) := dk_188_8 (dk_at dksJ7_copyOf_3_0 15 rfl rfl)
theorem dJ7_copyOf_3_17 : decode cJ7_copyOf_3 17 = .ok (.astore_n 2, 1) := dk_77 (dk_at dksJ7_copyOf_3_0 17 rfl rfl)
theorem dJ7_copyOf_3_18 : decode cJ7_copyOf_3 18 = .ok (.aload_n 0, 1) := dk_42 (dk_at dksJ7_copyOf_3_0 18 rfl rfl)
theorem dJ7_copyOf_3_19 : decode cJ7_copyOf_3 19 = .ok (.iconst 0, 1) := dk_3 (dk_at dksJ7_copyOf_3_0 19 rfl rfl)
theorem dJ7_copyOf_3_20 : decode cJ7_copyOf_3 20 = .ok (.aload_n 2, 1) := dk_44 (dk_at dksJ7_copyOf_3_0 20 rfl rfl)
theorem dJ7_copyOf_3_21 : decode cJ7_copyOf_3 21 = .ok (.iconst 0, 1) := dk_3 (dk_at dksJ7_copyOf_3_0 21 rfl rfl)
theorem dJ7_copyOf_3_22 : decode cJ7_copyOf_3 22 = .ok (.aload_n 0, 1) := dk_42 (dk_at dksJ7_copyOf_3_0 22 rfl rfl)
theorem dJ7_copyOf_3_23 : decode cJ7_copyOf_3 23 = .ok (.arraylength, 1) := dk_190 (dk_at dksJ7_copyOf_3_0 23 rfl rfl)
theorem dJ7_copyOf_3_24 : decode cJ7_copyOf_3 24 = .ok (.iload_n 1, 1) := dk_27 (dk_at dksJ7_copyOf_3_1 0 rfl rfl)
theorem dJ7_copyOf_3_25 : decode cJ7_copyOf_3 25 = .ok (.invokestatic 304, 3) := dk_184 1 48 (dk_at dksJ7_copyOf_3_1 1 rfl rfl)
theorem dJ7_copyOf_3_28 : decode cJ7_copyOf_3 28 = .ok (.invokestatic 150, 3) := dk_184 0 150 (dk_at dksJ7_copyOf_3_1 4 rfl rfl)
theorem dJ7_copyOf_3_31 : decode cJ7_copyOf_3 31 = .ok (.aload_n 2, 1) := dk_44 (dk_at dksJ7_copyOf_3_1 7 rfl rfl)
theorem dJ7_copyOf_3_32 : decode cJ7_copyOf_3 32 = .ok (.areturn, 1) := dk_176 (dk_at dksJ7_copyOf_3_1 8 rfl rfl)
abbrev cJ7_copyOfRange : ByteArray := prog_50_method_132_code
def yJ7_copyOfRange : MethodName := ⟨RJ7, "copyOfRange", "([BII)[B"⟩
def dkwJ7_copyOfRange_1 : List UInt8 := [176]
abbrev dktJ7_copyOfRange_1 : List UInt8 := dkwJ7_copyOfRange_1 ++ []
def dkwJ7_copyOfRange_0 : List UInt8 := [27, 154, 0, 9, 28, 42, 190, 159, 0, 10, 42, 27, 28, 184, 1, 83, 176, 42, 182, 1, 54, 192, 1, 55]
abbrev dktJ7_copyOfRange_0 : List UInt8 := dkwJ7_copyOfRange_0 ++ dktJ7_copyOfRange_1
theorem dksJ7_copyOfRange_0 : cJ7_copyOfRange.data.toList.drop 0 = dktJ7_copyOfRange_0 := by decide +kernel
theorem dksJ7_copyOfRange_1 : cJ7_copyOfRange.data.toList.drop 24 = dktJ7_copyOfRange_1 := dk_seg dksJ7_copyOfRange_0 24 rfl rfl
theorem dJ7_copyOfRange_0 : decode cJ7_copyOfRange 0 = .ok (.iload_n 1, 1) := dk_27 (dk_at dksJ7_copyOfRange_0 0 rfl rfl)
theorem dJ7_copyOfRange_1 : decode cJ7_copyOfRange 1 = .ok (.ifCond .ne 9, 3) := dk_154 0 9 (dk_at dksJ7_copyOfRange_0 1 rfl rfl)
theorem dJ7_copyOfRange_4 : decode cJ7_copyOfRange 4 = .ok (.iload_n 2, 1) := dk_28 (dk_at dksJ7_copyOfRange_0 4 rfl rfl)
theorem dJ7_copyOfRange_5 : decode cJ7_copyOfRange 5 = .ok (.aload_n 0, 1) := dk_42 (dk_at dksJ7_copyOfRange_0 5 rfl rfl)
theorem dJ7_copyOfRange_6 : decode cJ7_copyOfRange 6 = .ok (.arraylength, 1) := dk_190 (dk_at dksJ7_copyOfRange_0 6 rfl rfl)
theorem dJ7_copyOfRange_7 : decode cJ7_copyOfRange 7 = .ok (.if_icmp .eq 10, 3) := dk_159 0 10 (dk_at dksJ7_copyOfRange_0 7 rfl rfl)
theorem dJ7_copyOfRange_10 : decode cJ7_copyOfRange 10 = .ok (.aload_n 0, 1) := dk_42 (dk_at dksJ7_copyOfRange_0 10 rfl rfl)
theorem dJ7_copyOfRange_11 : decode cJ7_copyOfRange 11 = .ok (.iload_n 1, 1) := dk_27 (dk_at dksJ7_copyOfRange_0 11 rfl rfl)
theorem dJ7_copyOfRange_12 : decode cJ7_copyOfRange 12 = .ok (.iload_n 2, 1) := dk_28 (dk_at dksJ7_copyOfRange_0 12 rfl rfl)
theorem dJ7_copyOfRange_13 : decode cJ7_copyOfRange 13 = .ok (.invokestatic 339, 3) := dk_184 1 83 (dk_at dksJ7_copyOfRange_0 13 rfl rfl)
theorem dJ7_copyOfRange_16 : decode cJ7_copyOfRange 16 = .ok (.areturn, 1) := dk_176 (dk_at dksJ7_copyOfRange_0 16 rfl rfl)
theorem dJ7_copyOfRange_17 : decode cJ7_copyOfRange 17 = .ok (.aload_n 0, 1) := dk_42 (dk_at dksJ7_copyOfRange_0 17 rfl rfl)
theorem dJ7_copyOfRange_18 : decode cJ7_copyOfRange 18 = .ok (.invokevirtual 310, 3) := dk_182 1 54 (dk_at dksJ7_copyOfRange_0 18 rfl rfl)
theorem dJ7_copyOfRange_21 : decode cJ7_copyOfRange 21 = .ok (.checkcast 311, 3) := dk_192 1 55 (dk_at dksJ7_copyOfRange_0 21 rfl rfl)
theorem dJ7_copyOfRange_24 : decode cJ7_copyOfRange 24 = .ok (.areturn, 1) := dk_176 (dk_at dksJ7_copyOfRange_1 0 rfl rfl)
abbrev cJ7_copyOfRangeByte : ByteArray := prog_50_method_133_code
def yJ7_copyOfRangeByte : MethodName := ⟨RJ7, "copyOfRangeByte", "([BII)[B"⟩
def dkwJ7_copyOfRangeByte_1 : List UInt8 := [184, 1, 48, 184, 0, 150, 25, 4, 176]
abbrev dktJ7_copyOfRangeByte_1 : List UInt8 := dkwJ7_copyOfRangeByte_1 ++ []
def dkwJ7_copyOfRangeByte_0 : List UInt8 := [27, 28, 184, 1, 87, 28, 27, 100, 62, 29, 188, 8, 58, 4, 42, 27, 25, 4, 3, 42, 190, 27, 100, 29]
abbrev dktJ7_copyOfRangeByte_0 : List UInt8 := dkwJ7_copyOfRangeByte_0 ++ dktJ7_copyOfRangeByte_1
theorem dksJ7_copyOfRangeByte_0 : cJ7_copyOfRangeByte.data.toList.drop 0 = dktJ7_copyOfRangeByte_0 := by decide +kernel
theorem dksJ7_copyOfRangeByte_1 : cJ7_copyOfRangeByte.data.toList.drop 24 = dktJ7_copyOfRangeByte_1 := dk_seg dksJ7_copyOfRangeByte_0 24 rfl rfl
theorem dJ7_copyOfRangeByte_0 : decode cJ7_copyOfRangeByte 0 = .ok (.iload_n 1, 1) := dk_27 (dk_at dksJ7_copyOfRangeByte_0 0 rfl rfl)
theorem dJ7_copyOfRangeByte_1 : decode cJ7_copyOfRangeByte 1 = .ok (.iload_n 2, 1) := dk_28 (dk_at dksJ7_copyOfRangeByte_0 1 rfl rfl)
theorem dJ7_copyOfRangeByte_2 : decode cJ7_copyOfRangeByte 2 = .ok (.invokestatic 343, 3) := dk_184 1 87 (dk_at dksJ7_copyOfRangeByte_0 2 rfl rfl)
theorem dJ7_copyOfRangeByte_5 : decode cJ7_copyOfRangeByte 5 = .ok (.iload_n 2, 1) := dk_28 (dk_at dksJ7_copyOfRangeByte_0 5 rfl rfl)
theorem dJ7_copyOfRangeByte_6 : decode cJ7_copyOfRangeByte 6 = .ok (.iload_n 1, 1) := dk_27 (dk_at dksJ7_copyOfRangeByte_0 6 rfl rfl)
theorem dJ7_copyOfRangeByte_7 : decode cJ7_copyOfRangeByte 7 = .ok (.isub, 1) := dk_100 (dk_at dksJ7_copyOfRangeByte_0 7 rfl rfl)
theorem dJ7_copyOfRangeByte_8 : decode cJ7_copyOfRangeByte 8 = .ok (.istore_n 3, 1) := dk_62 (dk_at dksJ7_copyOfRangeByte_0 8 rfl rfl)
theorem dJ7_copyOfRangeByte_9 : decode cJ7_copyOfRangeByte 9 = .ok (.iload_n 3, 1) := dk_29 (dk_at dksJ7_copyOfRangeByte_0 9 rfl rfl)
theorem dJ7_copyOfRangeByte_10 : decode cJ7_copyOfRangeByte 10 = .ok (.newarray .byte, 2) := dk_188_8 (dk_at dksJ7_copyOfRangeByte_0 10 rfl rfl)
theorem dJ7_copyOfRangeByte_12 : decode cJ7_copyOfRangeByte 12 = .ok (.astore 4, 2) := dk_58 4 (dk_at dksJ7_copyOfRangeByte_0 12 rfl rfl)
theorem dJ7_copyOfRangeByte_14 : decode cJ7_copyOfRangeByte 14 = .ok (.aload_n 0, 1) := dk_42 (dk_at dksJ7_copyOfRangeByte_0 14 rfl rfl)
theorem dJ7_copyOfRangeByte_15 : decode cJ7_copyOfRangeByte 15 = .ok (.iload_n 1, 1) := dk_27 (dk_at dksJ7_copyOfRangeByte_0 15 rfl rfl)
theorem dJ7_copyOfRangeByte_16 : decode cJ7_copyOfRangeByte 16 = .ok (.aload 4, 2) := dk_25 4 (dk_at dksJ7_copyOfRangeByte_0 16 rfl rfl)
theorem dJ7_copyOfRangeByte_18 : decode cJ7_copyOfRangeByte 18 = .ok (.iconst 0, 1) := dk_3 (dk_at dksJ7_copyOfRangeByte_0 18 rfl rfl)
theorem dJ7_copyOfRangeByte_19 : decode cJ7_copyOfRangeByte 19 = .ok (.aload_n 0, 1) := dk_42 (dk_at dksJ7_copyOfRangeByte_0 19 rfl rfl)
theorem dJ7_copyOfRangeByte_20 : decode cJ7_copyOfRangeByte 20 = .ok (.arraylength, 1) := dk_190 (dk_at dksJ7_copyOfRangeByte_0 20 rfl rfl)
theorem dJ7_copyOfRangeByte_21 : decode cJ7_copyOfRangeByte 21 = .ok (.iload_n 1, 1) := dk_27 (dk_at dksJ7_copyOfRangeByte_0 21 rfl rfl)
theorem dJ7_copyOfRangeByte_22 : decode cJ7_copyOfRangeByte 22 = .ok (.isub, 1) := dk_100 (dk_at dksJ7_copyOfRangeByte_0 22 rfl rfl)
theorem dJ7_copyOfRangeByte_23 : decode cJ7_copyOfRangeByte 23 = .ok (.iload_n 3, 1) := dk_29 (dk_at dksJ7_copyOfRangeByte_0 23 rfl rfl)
theorem dJ7_copyOfRangeByte_24 : decode cJ7_copyOfRangeByte 24 = .ok (.invokestatic 304, 3) := dk_184 1 48 (dk_at dksJ7_copyOfRangeByte_1 0 rfl rfl)
theorem dJ7_copyOfRangeByte_27 : decode cJ7_copyOfRangeByte 27 = .ok (.invokestatic 150, 3) := dk_184 0 150 (dk_at dksJ7_copyOfRangeByte_1 3 rfl rfl)
theorem dJ7_copyOfRangeByte_30 : decode cJ7_copyOfRangeByte 30 = .ok (.aload 4, 2) := dk_25 4 (dk_at dksJ7_copyOfRangeByte_1 6 rfl rfl)
theorem dJ7_copyOfRangeByte_32 : decode cJ7_copyOfRangeByte 32 = .ok (.areturn, 1) := dk_176 (dk_at dksJ7_copyOfRangeByte_1 8 rfl rfl)
abbrev cJ7_checkLength : ByteArray := prog_50_method_131_code
def yJ7_checkLength : MethodName := ⟨RJ7, "checkLength", "(II)V"⟩
def dkwJ7_checkLength_1 : List UInt8 := [182, 0, 50, 27, 182, 0, 54, 182, 0, 61, 183, 0, 65, 191, 177]
abbrev dktJ7_checkLength_1 : List UInt8 := dkwJ7_checkLength_1 ++ []
def dkwJ7_checkLength_0 : List UInt8 := [27, 26, 162, 0, 35, 187, 0, 43, 89, 187, 0, 45, 89, 183, 0, 47, 26, 182, 0, 54, 19, 1, 81]
abbrev dktJ7_checkLength_0 : List UInt8 := dkwJ7_checkLength_0 ++ dktJ7_checkLength_1
theorem dksJ7_checkLength_0 : cJ7_checkLength.data.toList.drop 0 = dktJ7_checkLength_0 := by decide +kernel
theorem dksJ7_checkLength_1 : cJ7_checkLength.data.toList.drop 23 = dktJ7_checkLength_1 := dk_seg dksJ7_checkLength_0 23 rfl rfl
theorem dJ7_checkLength_0 : decode cJ7_checkLength 0 = .ok (.iload_n 1, 1) := dk_27 (dk_at dksJ7_checkLength_0 0 rfl rfl)
theorem dJ7_checkLength_1 : decode cJ7_checkLength 1 = .ok (.iload_n 0, 1) := dk_26 (dk_at dksJ7_checkLength_0 1 rfl rfl)
theorem dJ7_checkLength_2 : decode cJ7_checkLength 2 = .ok (.if_icmp .ge 35, 3) := dk_162 0 35 (dk_at dksJ7_checkLength_0 2 rfl rfl)
theorem dJ7_checkLength_5 : decode cJ7_checkLength 5 = .ok (.new 43, 3) := dk_187 0 43 (dk_at dksJ7_checkLength_0 5 rfl rfl)
theorem dJ7_checkLength_8 : decode cJ7_checkLength 8 = .ok (.dup, 1) := dk_89 (dk_at dksJ7_checkLength_0 8 rfl rfl)
theorem dJ7_checkLength_9 : decode cJ7_checkLength 9 = .ok (.new 45, 3) := dk_187 0 45 (dk_at dksJ7_checkLength_0 9 rfl rfl)
theorem dJ7_checkLength_12 : decode cJ7_checkLength 12 = .ok (.dup, 1) := dk_89 (dk_at dksJ7_checkLength_0 12 rfl rfl)
theorem dJ7_checkLength_13 : decode cJ7_checkLength 13 = .ok (.invokespecial 47, 3) := dk_183 0 47 (dk_at dksJ7_checkLength_0 13 rfl rfl)
theorem dJ7_checkLength_16 : decode cJ7_checkLength 16 = .ok (.iload_n 0, 1) := dk_26 (dk_at dksJ7_checkLength_0 16 rfl rfl)
theorem dJ7_checkLength_17 : decode cJ7_checkLength 17 = .ok (.invokevirtual 54, 3) := dk_182 0 54 (dk_at dksJ7_checkLength_0 17 rfl rfl)
theorem dJ7_checkLength_20 : decode cJ7_checkLength 20 = .ok (.ldc_w 337, 3) := dk_19 1 81 (dk_at dksJ7_checkLength_0 20 rfl rfl)
theorem dJ7_checkLength_23 : decode cJ7_checkLength 23 = .ok (.invokevirtual 50, 3) := dk_182 0 50 (dk_at dksJ7_checkLength_1 0 rfl rfl)
theorem dJ7_checkLength_26 : decode cJ7_checkLength 26 = .ok (.iload_n 1, 1) := dk_27 (dk_at dksJ7_checkLength_1 3 rfl rfl)
theorem dJ7_checkLength_27 : decode cJ7_checkLength 27 = .ok (.invokevirtual 54, 3) := dk_182 0 54 (dk_at dksJ7_checkLength_1 4 rfl rfl)
theorem dJ7_checkLength_30 : decode cJ7_checkLength 30 = .ok (.invokevirtual 61, 3) := dk_182 0 61 (dk_at dksJ7_checkLength_1 7 rfl rfl)
theorem dJ7_checkLength_33 : decode cJ7_checkLength 33 = .ok (.invokespecial 65, 3) := dk_183 0 65 (dk_at dksJ7_checkLength_1 10 rfl rfl)
theorem dJ7_checkLength_36 : decode cJ7_checkLength 36 = .ok (.athrow, 1) := dk_191 (dk_at dksJ7_checkLength_1 13 rfl rfl)
theorem dJ7_checkLength_37 : decode cJ7_checkLength 37 = .ok (.return_, 1) := dk_177 (dk_at dksJ7_checkLength_1 14 rfl rfl)
theorem q80 : (Jvm.Cond.initialized "java/util/Arrays") ∈ lw_all := lw_g (lw_at lw_m1 11 rfl) rfl
theorem q225 : (Jvm.Cond.static ({ cls := "java/util/Arrays", name := "copyOf", desc := "([Ljava/lang/Object;I)[Ljava/lang/Object;" } : Jvm.MethodName)) ∈ lw_all := lw_g (lw_at lw_m1 156 rfl) rfl
theorem q226 : (Jvm.Cond.code ({ cls := "java/util/Arrays", name := "copyOf", desc := "([Ljava/lang/Object;I)[Ljava/lang/Object;" } : Jvm.MethodName) prog_50_method_119_code (2 : Nat) (Option.some (Jvm.ClassFile.FieldType.array (Jvm.ClassFile.FieldType.object "java/lang/Object")))) ∈ lw_all := lw_g (lw_at lw_m1 157 rfl) rfl
theorem q227 : (Jvm.Cond.methodLink "java/util/Arrays" (86 : Nat) ({ cls := "java/lang/Object", name := "getClass", desc := "()Ljava/lang/Class;" } : Jvm.MethodName)) ∈ lw_all := lw_g (lw_at lw_m1 158 rfl) rfl
theorem q259 : (Jvm.Cond.methodLink "java/util/Arrays" (300 : Nat) ({ cls := "java/util/Arrays", name := "copyOf", desc := "([Ljava/lang/Object;ILjava/lang/Class;)[Ljava/lang/Object;" } : Jvm.MethodName)) ∈ lw_all := lw_g (lw_at lw_m1 190 rfl) rfl
theorem q260 : (Jvm.Cond.static ({ cls := "java/util/Arrays", name := "copyOf", desc := "([Ljava/lang/Object;ILjava/lang/Class;)[Ljava/lang/Object;" } : Jvm.MethodName)) ∈ lw_all := lw_g (lw_at lw_m1 191 rfl) rfl
theorem q261 : (Jvm.Cond.code ({ cls := "java/util/Arrays", name := "copyOf", desc := "([Ljava/lang/Object;ILjava/lang/Class;)[Ljava/lang/Object;" } : Jvm.MethodName) prog_50_method_120_code (4 : Nat) (Option.some (Jvm.ClassFile.FieldType.array (Jvm.ClassFile.FieldType.object "java/lang/Object")))) ∈ lw_all := lw_g (lw_at lw_m1 192 rfl) rfl
theorem q262 : (Jvm.Cond.classLink "java/util/Arrays" (110 : Nat) "[Ljava/lang/Object;") ∈ lw_all := lw_g (lw_at lw_m1 193 rfl) rfl
theorem q264 : (Jvm.Cond.classLink "java/util/Arrays" (2 : Nat) "java/lang/Object") ∈ lw_all := lw_g (lw_at lw_m1 195 rfl) rfl
theorem q265 : (Jvm.Cond.methodLink "java/util/Arrays" (304 : Nat) ({ cls := "java/lang/Math", name := "min", desc := "(II)I" } : Jvm.MethodName)) ∈ lw_all := lw_g (lw_at lw_m1 196 rfl) rfl
theorem q268 : (Jvm.Cond.methodLink "java/util/Arrays" (150 : Nat) ({ cls := "java/lang/System", name := "arraycopy", desc := "(Ljava/lang/Object;ILjava/lang/Object;II)V" } : Jvm.MethodName)) ∈ lw_all := lw_g (lw_at lw_m1 199 rfl) rfl
theorem q1309 : (Jvm.Cond.static ({ cls := "java/util/Arrays", name := "copyOf", desc := "([BI)[B" } : Jvm.MethodName)) ∈ lw_all := lw_g (lw_at lw_m6 40 rfl) rfl
theorem q1310 : (Jvm.Cond.code ({ cls := "java/util/Arrays", name := "copyOf", desc := "([BI)[B" } : Jvm.MethodName) prog_50_method_121_code (3 : Nat) (Option.some (Jvm.ClassFile.FieldType.array Jvm.ClassFile.FieldType.byte))) ∈ lw_all := lw_g (lw_at lw_m6 41 rfl) rfl
theorem q1311 : (Jvm.Cond.methodLink "java/util/Arrays" (310 : Nat) ({ cls := "[B", name := "clone", desc := "()Ljava/lang/Object;" } : Jvm.MethodName)) ∈ lw_all := lw_g (lw_at lw_m6 42 rfl) rfl
theorem q1317 : (Jvm.Cond.classLink "java/util/Arrays" (311 : Nat) "[B") ∈ lw_all := lw_g (lw_at lw_m6 48 rfl) rfl
theorem q1462 : (Jvm.Cond.static ({ cls := "java/util/Arrays", name := "copyOfRange", desc := "([BII)[B" } : Jvm.MethodName)) ∈ lw_all := lw_g (lw_at lw_m6 193 rfl) rfl
theorem q1463 : (Jvm.Cond.code ({ cls := "java/util/Arrays", name := "copyOfRange", desc := "([BII)[B" } : Jvm.MethodName) prog_50_method_132_code (3 : Nat) (Option.some (Jvm.ClassFile.FieldType.array Jvm.ClassFile.FieldType.byte))) ∈ lw_all := lw_g (lw_at lw_m6 194 rfl) rfl
theorem q1464 : (Jvm.Cond.methodLink "java/util/Arrays" (339 : Nat) ({ cls := "java/util/Arrays", name := "copyOfRangeByte", desc := "([BII)[B" } : Jvm.MethodName)) ∈ lw_all := lw_g (lw_at lw_m6 195 rfl) rfl
theorem q1465 : (Jvm.Cond.static ({ cls := "java/util/Arrays", name := "copyOfRangeByte", desc := "([BII)[B" } : Jvm.MethodName)) ∈ lw_all := lw_g (lw_at lw_m6 196 rfl) rfl
theorem q1466 : (Jvm.Cond.code ({ cls := "java/util/Arrays", name := "copyOfRangeByte", desc := "([BII)[B" } : Jvm.MethodName) prog_50_method_133_code (5 : Nat) (Option.some (Jvm.ClassFile.FieldType.array Jvm.ClassFile.FieldType.byte))) ∈ lw_all := lw_g (lw_at lw_m6 197 rfl) rfl
theorem q1467 : (Jvm.Cond.methodLink "java/util/Arrays" (343 : Nat) ({ cls := "java/util/Arrays", name := "checkLength", desc := "(II)V" } : Jvm.MethodName)) ∈ lw_all := lw_g (lw_at lw_m6 198 rfl) rfl
theorem q1468 : (Jvm.Cond.static ({ cls := "java/util/Arrays", name := "checkLength", desc := "(II)V" } : Jvm.MethodName)) ∈ lw_all := lw_g (lw_at lw_m6 199 rfl) rfl
theorem q1469 : (Jvm.Cond.code ({ cls := "java/util/Arrays", name := "checkLength", desc := "(II)V" } : Jvm.MethodName) prog_50_method_131_code (2 : Nat) (Option.none : Option Jvm.ClassFile.FieldType)) ∈ lw_all := lw_g (lw_at lw_m6 200 rfl) rfl
theorem q1470 : (Jvm.Cond.classLink "java/util/Arrays" (43 : Nat) "java/lang/IllegalArgumentException") ∈ lw_all := lw_g (lw_at lw_m6 201 rfl) rfl
theorem q1471 : (Jvm.Cond.classLink "java/util/Arrays" (45 : Nat) "java/lang/StringBuilder") ∈ lw_all := lw_g (lw_at lw_m6 202 rfl) rfl
theorem q1472 : (Jvm.Cond.methodLink "java/util/Arrays" (47 : Nat) ({ cls := "java/lang/StringBuilder", name := "<init>", desc := "()V" } : Jvm.MethodName)) ∈ lw_all := lw_g (lw_at lw_m6 203 rfl) rfl
theorem q1473 : (Jvm.Cond.methodLink "java/util/Arrays" (54 : Nat) ({ cls := "java/lang/StringBuilder", name := "append", desc := "(I)Ljava/lang/StringBuilder;" } : Jvm.MethodName)) ∈ lw_all := lw_g (lw_at lw_m6 204 rfl) rfl
theorem q1474 : (Jvm.Cond.stringRef "java/util/Arrays" (337 : Nat) " > ") ∈ lw_tbl := lw_at lw_m6 205 rfl
theorem q1475 : (Jvm.Cond.methodLink "java/util/Arrays" (50 : Nat) ({ cls := "java/lang/StringBuilder", name := "append", desc := "(Ljava/lang/String;)Ljava/lang/StringBuilder;" } : Jvm.MethodName)) ∈ lw_all := lw_g (lw_at lw_m6 206 rfl) rfl
theorem q1476 : (Jvm.Cond.methodLink "java/util/Arrays" (61 : Nat) ({ cls := "java/lang/StringBuilder", name := "toString", desc := "()Ljava/lang/String;" } : Jvm.MethodName)) ∈ lw_all := lw_g (lw_at lw_m6 207 rfl) rfl
theorem q1477 : (Jvm.Cond.methodLink "java/util/Arrays" (65 : Nat) ({ cls := "java/lang/IllegalArgumentException", name := "<init>", desc := "(Ljava/lang/String;)V" } : Jvm.MethodName)) ∈ lw_all := lw_g (lw_at lw_m6 208 rfl) rfl
/-! java/lang/Throwable -/
set_option maxRecDepth 100000
def RJ8 : String := "java/lang/Throwable"
def TJ8 : u_T := fun k => match k with
  | 0 => ("java/lang/Throwable", "cause", "Ljava/lang/Throwable;", false)
  | 1 => ("java/lang/Throwable", "stackTrace", "[Ljava/lang/StackTraceElement;", false)
  | 2 => ("java/lang/Throwable", "suppressedExceptions", "Ljava/util/List;", false)
  | 3 => ("java/lang/Throwable", "detailMessage", "Ljava/lang/String;", false)
  | _ => ("java/lang/Throwable", "backtrace", "Ljava/lang/Object;", false)
def tyJ8 : Nat → FieldType := fun k => match k with
  | 0 => .object "java/lang/Throwable"
  | 1 => .array (.object "java/lang/StackTraceElement")
  | 2 => .object "java/util/List"
  | 3 => .object "java/lang/String"
  | _ => .object "java/lang/Object"
abbrev wsJ80 : List Cond := u_ws RJ8 TJ8 5
theorem nmJ8 : ∀ a, a < 5 → ∀ b, b < 5 → a ≠ b → (TJ8 a).2.1 ≠ (TJ8 b).2.1 := by decide +kernel
theorem tyJ8_ok : ∀ k, k < 5 → parseFieldDescriptor (TJ8 k).2.2.1 = some (tyJ8 k) := by decide +kernel
abbrev cJ8_init : ByteArray := prog_43_method_1_code
def yJ8_init : MethodName := ⟨RJ8, "<init>", "()V"⟩
def dkwJ8_init_1 : List UInt8 := [182, 0, 27, 87, 177]
abbrev dktJ8_init_1 : List UInt8 := dkwJ8_init_1 ++ []
def dkwJ8_init_0 : List UInt8 := [42, 183, 0, 1, 42, 42, 181, 0, 7, 42, 178, 0, 13, 181, 0, 17, 42, 178, 0, 20, 181, 0, 24, 42]
abbrev dktJ8_init_0 : List UInt8 := dkwJ8_init_0 ++ dktJ8_init_1
theorem dksJ8_init_0 : cJ8_init.data.toList.drop 0 = dktJ8_init_0 := by decide +kernel
theorem dksJ8_init_1 : cJ8_init.data.toList.drop 24 = dktJ8_init_1 := dk_seg dksJ8_init_0 24 rfl rfl
theorem dJ8_init_0 : decode cJ8_init 0 = .ok (.aload_n 0, 1) := dk_42 (dk_at dksJ8_init_0 0 rfl rfl)
theorem dJ8_init_1 : decode cJ8_init 1 = .ok (.invokespecial 1, 3) := dk_183 0 1 (dk_at dksJ8_init_0 1 rfl rfl)
theorem dJ8_init_4 : decode cJ8_init 4 = .ok (.aload_n 0, 1) := dk_42 (dk_at dksJ8_init_0 4 rfl rfl)
theorem dJ8_init_5 : decode cJ8_init 5 = .ok (.aload_n 0, 1) := dk_42 (dk_at dksJ8_init_0 5 rfl rfl)
theorem dJ8_init_6 : decode cJ8_init 6 = .ok (.putfield 7, 3) := dk_181 0 7 (dk_at dksJ8_init_0 6 rfl rfl)
theorem dJ8_init_9 : decode cJ8_init 9 = .ok (.aload_n 0, 1) := dk_42 (dk_at dksJ8_init_0 9 rfl rfl)
theorem dJ8_init_10 : decode cJ8_init 10 = .ok (.getstatic 13, 3) := dk_178 0 13 (dk_at dksJ8_init_0 10 rfl rfl)
theorem dJ8_init_13 : decode cJ8_init 13 = .ok (.putfield 17, 3) := dk_181 0 17 (dk_at dksJ8_init_0 13 rfl rfl)
theorem dJ8_init_16 : decode cJ8_init 16 = .ok (.aload_n 0, 1) := dk_42 (dk_at dksJ8_init_0 16 rfl rfl)
theorem dJ8_init_17 : decode cJ8_init 17 = .ok (.getstatic 20, 3) := dk_178 0 20 (dk_at dksJ8_init_0 17 rfl rfl)
theorem dJ8_init_20 : decode cJ8_init 20 = .ok (.putfield 24, 3) := dk_181 0 24 (dk_at dksJ8_init_0 20 rfl rfl)
theorem dJ8_init_23 : decode cJ8_init 23 = .ok (.aload_n 0, 1) := dk_42 (dk_at dksJ8_init_0 23 rfl rfl)
theorem dJ8_init_24 : decode cJ8_init 24 = .ok (.invokevirtual 27, 3) := dk_182 0 27 (dk_at dksJ8_init_1 0 rfl rfl)
theorem dJ8_init_27 : decode cJ8_init 27 = .ok (.pop, 1) := dk_87 (dk_at dksJ8_init_1 3 rfl rfl)
theorem dJ8_init_28 : decode cJ8_init 28 = .ok (.return_, 1) := dk_177 (dk_at dksJ8_init_1 4 rfl rfl)
abbrev cJ8_init_2 : ByteArray := prog_43_method_2_code
def yJ8_init_2 : MethodName := ⟨RJ8, "<init>", "(Ljava/lang/String;)V"⟩
def dkwJ8_init_2_1 : List UInt8 := [182, 0, 27, 87, 42, 43, 181, 0, 31, 177]
abbrev dktJ8_init_2_1 : List UInt8 := dkwJ8_init_2_1 ++ []
def dkwJ8_init_2_0 : List UInt8 := [42, 183, 0, 1, 42, 42, 181, 0, 7, 42, 178, 0, 13, 181, 0, 17, 42, 178, 0, 20, 181, 0, 24, 42]
abbrev dktJ8_init_2_0 : List UInt8 := dkwJ8_init_2_0 ++ dktJ8_init_2_1
theorem dksJ8_init_2_0 : cJ8_init_2.data.toList.drop 0 = dktJ8_init_2_0 := by decide +kernel
theorem dksJ8_init_2_1 : cJ8_init_2.data.toList.drop 24 = dktJ8_init_2_1 := dk_seg dksJ8_init_2_0 24 rfl rfl
theorem dJ8_init_2_0 : decode cJ8_init_2 0 = .ok (.aload_n 0, 1) := dk_42 (dk_at dksJ8_init_2_0 0 rfl rfl)
theorem dJ8_init_2_1 : decode cJ8_init_2 1 = .ok (.invokespecial 1, 3) := dk_183 0 1 (dk_at dksJ8_init_2_0 1 rfl rfl)
theorem dJ8_init_2_4 : decode cJ8_init_2 4 = .ok (.aload_n 0, 1) := dk_42 (dk_at dksJ8_init_2_0 4 rfl rfl)
theorem dJ8_init_2_5 : decode cJ8_init_2 5 = .ok (.aload_n 0, 1) := dk_42 (dk_at dksJ8_init_2_0 5 rfl rfl)
theorem dJ8_init_2_6 : decode cJ8_init_2 6 = .ok (.putfield 7, 3) := dk_181 0 7 (dk_at dksJ8_init_2_0 6 rfl rfl)
theorem dJ8_init_2_9 : decode cJ8_init_2 9 = .ok (.aload_n 0, 1) := dk_42 (dk_at dksJ8_init_2_0 9 rfl rfl)
theorem dJ8_init_2_10 : decode cJ8_init_2 10 = .ok (.getstatic 13, 3) := dk_178 0 13 (dk_at dksJ8_init_2_0 10 rfl rfl)
theorem dJ8_init_2_13 : decode cJ8_init_2 13 = .ok (.putfield 17, 3) := dk_181 0 17 (dk_at dksJ8_init_2_0 13 rfl rfl)
theorem dJ8_init_2_16 : decode cJ8_init_2 16 = .ok (.aload_n 0, 1) := dk_42 (dk_at dksJ8_init_2_0 16 rfl rfl)
theorem dJ8_init_2_17 : decode cJ8_init_2 17 = .ok (.getstatic 20, 3) := dk_178 0 20 (dk_at dksJ8_init_2_0 17 rfl rfl)
theorem dJ8_init_2_20 : decode cJ8_init_2 20 = .ok (.putfield 24, 3) := dk_181 0 24 (dk_at dksJ8_init_2_0 20 rfl rfl)
theorem dJ8_init_2_23 : decode cJ8_init_2 23 = .ok (.aload_n 0, 1) := dk_42 (dk_at dksJ8_init_2_0 23 rfl rfl)
theorem dJ8_init_2_24 : decode cJ8_init_2 24 = .ok (.invokevirtual 27, 3) := dk_182 0 27 (dk_at dksJ8_init_2_1 0 rfl rfl)
theorem dJ8_init_2_27 : decode cJ8_init_2 27 = .ok (.pop, 1) := dk_87 (dk_at dksJ8_init_2_1 3 rfl rfl)
theorem dJ8_init_2_28 : decode cJ8_init_2 28 = .ok (.aload_n 0, 1) := dk_42 (dk_at dksJ8_init_2_1 4 rfl rfl)
theorem dJ8_init_2_29 : decode cJ8_init_2 29 = .ok (.aload_n 1, 1) := dk_43 (dk_at dksJ8_init_2_1 5 rfl rfl)
theorem dJ8_init_2_30 : decode cJ8_init_2 30 = .ok (.putfield 31, 3) := dk_181 0 31 (dk_at dksJ8_init_2_1 6 rfl rfl)
theorem dJ8_init_2_33 : decode cJ8_init_2 33 = .ok (.return_, 1) := dk_177 (dk_at dksJ8_init_2_1 9 rfl rfl)
theorem q84 : (Jvm.Cond.initialized "java/lang/Throwable") ∈ lw_all := lw_g (lw_at lw_m1 15 rfl) rfl
theorem q795 : (Jvm.Cond.declares ({ cls := "java/lang/Throwable", name := "<init>", desc := "()V" } : Jvm.MethodName)) ∈ lw_tbl := lw_at lw_m4 6 rfl
theorem q796 : (Jvm.Cond.declares ({ cls := "java/lang/Throwable", name := "<init>", desc := "(Ljava/lang/String;)V" } : Jvm.MethodName)) ∈ lw_tbl := lw_at lw_m4 7 rfl
theorem q800 : (Jvm.Cond.lays "java/lang/Throwable" "java/lang/Throwable" "cause" "Ljava/lang/Throwable;") ∈ lw_all := lw_g (lw_at lw_m4 11 rfl) rfl
theorem q802 : (Jvm.Cond.lays "java/lang/Throwable" "java/lang/Throwable" "stackTrace" "[Ljava/lang/StackTraceElement;") ∈ lw_all := lw_g (lw_at lw_m4 13 rfl) rfl
theorem q804 : (Jvm.Cond.lays "java/lang/Throwable" "java/lang/Throwable" "suppressedExceptions" "Ljava/util/List;") ∈ lw_all := lw_g (lw_at lw_m4 15 rfl) rfl
theorem q806 : (Jvm.Cond.lays "java/lang/Throwable" "java/lang/Throwable" "detailMessage" "Ljava/lang/String;") ∈ lw_all := lw_g (lw_at lw_m4 17 rfl) rfl
theorem q808 : (Jvm.Cond.lays "java/lang/Throwable" "java/lang/Throwable" "backtrace" "Ljava/lang/Object;") ∈ lw_all := lw_g (lw_at lw_m4 19 rfl) rfl
theorem q809 : (Jvm.Cond.fieldLink "java/lang/Throwable" (198 : Nat) "java/lang/Throwable" "backtrace" "Ljava/lang/Object;") ∈ lw_all := lw_g (lw_at lw_m4 20 rfl) rfl
theorem q810 : (Jvm.Cond.superclass "java/lang/Throwable" "java/lang/Object") ∈ lw_all := lw_g (lw_at lw_m4 21 rfl) rfl
theorem q811 : (Jvm.Cond.instanceMethod ({ cls := "java/lang/Throwable", name := "<init>", desc := "()V" } : Jvm.MethodName)) ∈ lw_all := lw_g (lw_at lw_m4 22 rfl) rfl
theorem q812 : (Jvm.Cond.code ({ cls := "java/lang/Throwable", name := "<init>", desc := "()V" } : Jvm.MethodName) prog_43_method_1_code (1 : Nat) (Option.none : Option Jvm.ClassFile.FieldType)) ∈ lw_all := lw_g (lw_at lw_m4 23 rfl) rfl
theorem q813 : (Jvm.Cond.methodLink "java/lang/Throwable" (1 : Nat) ({ cls := "java/lang/Object", name := "<init>", desc := "()V" } : Jvm.MethodName)) ∈ lw_all := lw_g (lw_at lw_m4 24 rfl) rfl
theorem q814 : (Jvm.Cond.fieldLink "java/lang/Throwable" (13 : Nat) "java/lang/Throwable" "UNASSIGNED_STACK" "[Ljava/lang/StackTraceElement;") ∈ lw_all := lw_g (lw_at lw_m4 25 rfl) rfl
theorem q815 : (Jvm.Cond.laysStatic "java/lang/Throwable" "UNASSIGNED_STACK" "[Ljava/lang/StackTraceElement;") ∈ lw_tbl := lw_at lw_m4 26 rfl
theorem q816 : (Jvm.Cond.fieldLink "java/lang/Throwable" (20 : Nat) "java/lang/Throwable" "SUPPRESSED_SENTINEL" "Ljava/util/List;") ∈ lw_all := lw_g (lw_at lw_m4 27 rfl) rfl
theorem q817 : (Jvm.Cond.laysStatic "java/lang/Throwable" "SUPPRESSED_SENTINEL" "Ljava/util/List;") ∈ lw_tbl := lw_at lw_m4 28 rfl
theorem q818 : (Jvm.Cond.methodLink "java/lang/Throwable" (27 : Nat) ({ cls := "java/lang/Throwable", name := "fillInStackTrace", desc := "()Ljava/lang/Throwable;" } : Jvm.MethodName)) ∈ lw_all := lw_g (lw_at lw_m4 29 rfl) rfl
theorem q819 : (Jvm.Cond.instanceMethod ({ cls := "java/lang/Throwable", name := "fillInStackTrace", desc := "()Ljava/lang/Throwable;" } : Jvm.MethodName)) ∈ lw_all := lw_g (lw_at lw_m4 30 rfl) rfl
theorem q820 : (Jvm.Cond.sameMethod "java/lang/Throwable" "java/lang/Throwable" "fillInStackTrace" "()Ljava/lang/Throwable;") ∈ lw_all := lw_g (lw_at lw_m4 31 rfl) rfl
theorem q824 : (Jvm.Cond.codeSync ({ cls := "java/lang/Throwable", name := "fillInStackTrace", desc := "()Ljava/lang/Throwable;" } : Jvm.MethodName) prog_43_method_18_code (1 : Nat) (Option.some (Jvm.ClassFile.FieldType.object "java/lang/Throwable"))) ∈ lw_all := lw_g (lw_at lw_m4 35 rfl) rfl
theorem q825 : (Jvm.Cond.methodLink "java/lang/Throwable" (202 : Nat) ({ cls := "java/lang/Throwable", name := "fillInStackTrace", desc := "(I)Ljava/lang/Throwable;" } : Jvm.MethodName)) ∈ lw_all := lw_g (lw_at lw_m4 36 rfl) rfl
theorem q826 : (Jvm.Cond.privateMethod ({ cls := "java/lang/Throwable", name := "fillInStackTrace", desc := "(I)Ljava/lang/Throwable;" } : Jvm.MethodName)) ∈ lw_tbl := lw_at lw_m4 37 rfl
theorem q827 : (Jvm.Cond.instanceMethod ({ cls := "java/lang/Throwable", name := "fillInStackTrace", desc := "(I)Ljava/lang/Throwable;" } : Jvm.MethodName)) ∈ lw_all := lw_g (lw_at lw_m4 38 rfl) rfl
theorem q828 : (Jvm.Cond.instantiable "java/lang/Throwable" (6 : Nat)) ∈ lw_all := lw_g (lw_at lw_m4 39 rfl) rfl
theorem q829 : (Jvm.Cond.native ({ cls := "java/lang/Throwable", name := "fillInStackTrace", desc := "(I)Ljava/lang/Throwable;" } : Jvm.MethodName)) ∈ lw_all := lw_g (lw_at lw_m4 40 rfl) rfl
theorem q840 : (Jvm.Cond.fieldLink "java/lang/Throwable" (198 : Nat) "java/lang/Throwable" "backtrace" "Ljava/lang/Object;") ∈ lw_all := lw_g (lw_at lw_m4 51 rfl) rfl
theorem q841 : (Jvm.Cond.fieldLink "java/lang/Throwable" (31 : Nat) "java/lang/Throwable" "detailMessage" "Ljava/lang/String;") ∈ lw_all := lw_g (lw_at lw_m4 52 rfl) rfl
theorem q842 : (Jvm.Cond.fieldLink "java/lang/Throwable" (7 : Nat) "java/lang/Throwable" "cause" "Ljava/lang/Throwable;") ∈ lw_all := lw_g (lw_at lw_m4 53 rfl) rfl
theorem q843 : (Jvm.Cond.fieldLink "java/lang/Throwable" (17 : Nat) "java/lang/Throwable" "stackTrace" "[Ljava/lang/StackTraceElement;") ∈ lw_all := lw_g (lw_at lw_m4 54 rfl) rfl
theorem q844 : (Jvm.Cond.fieldLink "java/lang/Throwable" (24 : Nat) "java/lang/Throwable" "suppressedExceptions" "Ljava/util/List;") ∈ lw_all := lw_g (lw_at lw_m4 55 rfl) rfl
theorem q845 : (Jvm.Cond.soleField "java/lang/Throwable" "backtrace") ∈ lw_all := lw_g (lw_at lw_m4 56 rfl) rfl
theorem q846 : (Jvm.Cond.soleField "java/lang/Throwable" "detailMessage") ∈ lw_all := lw_g (lw_at lw_m4 57 rfl) rfl
theorem q847 : (Jvm.Cond.soleField "java/lang/Throwable" "cause") ∈ lw_all := lw_g (lw_at lw_m4 58 rfl) rfl
theorem q848 : (Jvm.Cond.soleField "java/lang/Throwable" "stackTrace") ∈ lw_all := lw_g (lw_at lw_m4 59 rfl) rfl
theorem q850 : (Jvm.Cond.soleField "java/lang/Throwable" "depth") ∈ lw_all := lw_g (lw_at lw_m4 61 rfl) rfl
theorem q851 : (Jvm.Cond.soleField "java/lang/Throwable" "suppressedExceptions") ∈ lw_all := lw_g (lw_at lw_m4 62 rfl) rfl
theorem q934 : (Jvm.Cond.instanceMethod ({ cls := "java/lang/Throwable", name := "<init>", desc := "(Ljava/lang/String;)V" } : Jvm.MethodName)) ∈ lw_all := lw_g (lw_at lw_m4 145 rfl) rfl
theorem q935 : (Jvm.Cond.code ({ cls := "java/lang/Throwable", name := "<init>", desc := "(Ljava/lang/String;)V" } : Jvm.MethodName) prog_43_method_2_code (2 : Nat) (Option.none : Option Jvm.ClassFile.FieldType)) ∈ lw_all := lw_g (lw_at lw_m4 146 rfl) rfl
theorem q2083 : (Jvm.Cond.sameMethod "java/lang/Throwable" "java/lang/Throwable" "fillInStackTrace" "(I)Ljava/lang/Throwable;") ∈ lw_all := lw_g (lw_at lw_m9 94 rfl) rfl
theorem q2124 : (Jvm.Cond.castable "java/lang/Throwable" "java/lang/Object") ∈ lw_tbl := lw_at lw_m9 135 rfl
theorem in_J8 : ∀ w ∈ wsJ80, w ∈ lw_all := lw_in wsJ80 [800, 802, 804, 806, 808] (by decide +kernel) (by decide +kernel)
/-! java/lang/Exception -/
set_option maxRecDepth 100000
def RJ9 : String := "java/lang/Exception"
abbrev cJ9_init : ByteArray := prog_28_method_1_code
def yJ9_init : MethodName := ⟨RJ9, "<init>", "()V"⟩
theorem dJ9_init_0 : decode cJ9_init 0 = .ok (.aload_n 0, 1) := by decide +kernel
theorem dJ9_init_1 : decode cJ9_init 1 = .ok (.invokespecial 1, 3) := by decide +kernel
theorem dJ9_init_4 : decode cJ9_init 4 = .ok (.return_, 1) := by decide +kernel
abbrev cJ9_init_2 : ByteArray := prog_28_method_2_code
def yJ9_init_2 : MethodName := ⟨RJ9, "<init>", "(Ljava/lang/String;)V"⟩
def dkwJ9_init_2_0 : List UInt8 := [42, 43, 183, 0, 7, 177]
abbrev dktJ9_init_2_0 : List UInt8 := dkwJ9_init_2_0 ++ []
theorem dksJ9_init_2_0 : cJ9_init_2.data.toList.drop 0 = dktJ9_init_2_0 := by decide +kernel
theorem dJ9_init_2_0 : decode cJ9_init_2 0 = .ok (.aload_n 0, 1) := dk_42 (dk_at dksJ9_init_2_0 0 rfl rfl)
theorem dJ9_init_2_1 : decode cJ9_init_2 1 = .ok (.aload_n 1, 1) := dk_43 (dk_at dksJ9_init_2_0 1 rfl rfl)
theorem dJ9_init_2_2 : decode cJ9_init_2 2 = .ok (.invokespecial 7, 3) := dk_183 0 7 (dk_at dksJ9_init_2_0 2 rfl rfl)
theorem dJ9_init_2_5 : decode cJ9_init_2 5 = .ok (.return_, 1) := dk_177 (dk_at dksJ9_init_2_0 5 rfl rfl)
theorem q85 : (Jvm.Cond.initialized "java/lang/Exception") ∈ lw_all := lw_g (lw_at lw_m1 16 rfl) rfl
theorem q793 : (Jvm.Cond.declares ({ cls := "java/lang/Exception", name := "<init>", desc := "()V" } : Jvm.MethodName)) ∈ lw_tbl := lw_at lw_m4 4 rfl
theorem q794 : (Jvm.Cond.declares ({ cls := "java/lang/Exception", name := "<init>", desc := "(Ljava/lang/String;)V" } : Jvm.MethodName)) ∈ lw_tbl := lw_at lw_m4 5 rfl
theorem q837 : (Jvm.Cond.instanceMethod ({ cls := "java/lang/Exception", name := "<init>", desc := "()V" } : Jvm.MethodName)) ∈ lw_all := lw_g (lw_at lw_m4 48 rfl) rfl
theorem q838 : (Jvm.Cond.code ({ cls := "java/lang/Exception", name := "<init>", desc := "()V" } : Jvm.MethodName) prog_28_method_1_code (1 : Nat) (Option.none : Option Jvm.ClassFile.FieldType)) ∈ lw_all := lw_g (lw_at lw_m4 49 rfl) rfl
theorem q839 : (Jvm.Cond.methodLink "java/lang/Exception" (1 : Nat) ({ cls := "java/lang/Throwable", name := "<init>", desc := "()V" } : Jvm.MethodName)) ∈ lw_all := lw_g (lw_at lw_m4 50 rfl) rfl
theorem q931 : (Jvm.Cond.instanceMethod ({ cls := "java/lang/Exception", name := "<init>", desc := "(Ljava/lang/String;)V" } : Jvm.MethodName)) ∈ lw_all := lw_g (lw_at lw_m4 142 rfl) rfl
theorem q932 : (Jvm.Cond.code ({ cls := "java/lang/Exception", name := "<init>", desc := "(Ljava/lang/String;)V" } : Jvm.MethodName) prog_28_method_2_code (2 : Nat) (Option.none : Option Jvm.ClassFile.FieldType)) ∈ lw_all := lw_g (lw_at lw_m4 143 rfl) rfl
theorem q933 : (Jvm.Cond.methodLink "java/lang/Exception" (7 : Nat) ({ cls := "java/lang/Throwable", name := "<init>", desc := "(Ljava/lang/String;)V" } : Jvm.MethodName)) ∈ lw_all := lw_g (lw_at lw_m4 144 rfl) rfl
/-! java/lang/RuntimeException -/
set_option maxRecDepth 100000
def RJ10 : String := "java/lang/RuntimeException"
abbrev cJ10_init : ByteArray := prog_37_method_1_code
def yJ10_init : MethodName := ⟨RJ10, "<init>", "()V"⟩
theorem dJ10_init_0 : decode cJ10_init 0 = .ok (.aload_n 0, 1) := by decide +kernel
theorem dJ10_init_1 : decode cJ10_init 1 = .ok (.invokespecial 1, 3) := by decide +kernel
theorem dJ10_init_4 : decode cJ10_init 4 = .ok (.return_, 1) := by decide +kernel
abbrev cJ10_init_2 : ByteArray := prog_37_method_2_code
def yJ10_init_2 : MethodName := ⟨RJ10, "<init>", "(Ljava/lang/String;)V"⟩
def dkwJ10_init_2_0 : List UInt8 := [42, 43, 183, 0, 7, 177]
abbrev dktJ10_init_2_0 : List UInt8 := dkwJ10_init_2_0 ++ []
theorem dksJ10_init_2_0 : cJ10_init_2.data.toList.drop 0 = dktJ10_init_2_0 := by decide +kernel
theorem dJ10_init_2_0 : decode cJ10_init_2 0 = .ok (.aload_n 0, 1) := dk_42 (dk_at dksJ10_init_2_0 0 rfl rfl)
theorem dJ10_init_2_1 : decode cJ10_init_2 1 = .ok (.aload_n 1, 1) := dk_43 (dk_at dksJ10_init_2_0 1 rfl rfl)
theorem dJ10_init_2_2 : decode cJ10_init_2 2 = .ok (.invokespecial 7, 3) := dk_183 0 7 (dk_at dksJ10_init_2_0 2 rfl rfl)
theorem dJ10_init_2_5 : decode cJ10_init_2 5 = .ok (.return_, 1) := dk_177 (dk_at dksJ10_init_2_0 5 rfl rfl)
theorem q86 : (Jvm.Cond.initialized "java/lang/RuntimeException") ∈ lw_all := lw_g (lw_at lw_m1 17 rfl) rfl
theorem q791 : (Jvm.Cond.declares ({ cls := "java/lang/RuntimeException", name := "<init>", desc := "()V" } : Jvm.MethodName)) ∈ lw_tbl := lw_at lw_m4 2 rfl
theorem q792 : (Jvm.Cond.declares ({ cls := "java/lang/RuntimeException", name := "<init>", desc := "(Ljava/lang/String;)V" } : Jvm.MethodName)) ∈ lw_tbl := lw_at lw_m4 3 rfl
theorem q834 : (Jvm.Cond.instanceMethod ({ cls := "java/lang/RuntimeException", name := "<init>", desc := "()V" } : Jvm.MethodName)) ∈ lw_all := lw_g (lw_at lw_m4 45 rfl) rfl
theorem q835 : (Jvm.Cond.code ({ cls := "java/lang/RuntimeException", name := "<init>", desc := "()V" } : Jvm.MethodName) prog_37_method_1_code (1 : Nat) (Option.none : Option Jvm.ClassFile.FieldType)) ∈ lw_all := lw_g (lw_at lw_m4 46 rfl) rfl
theorem q836 : (Jvm.Cond.methodLink "java/lang/RuntimeException" (1 : Nat) ({ cls := "java/lang/Exception", name := "<init>", desc := "()V" } : Jvm.MethodName)) ∈ lw_all := lw_g (lw_at lw_m4 47 rfl) rfl
theorem q928 : (Jvm.Cond.instanceMethod ({ cls := "java/lang/RuntimeException", name := "<init>", desc := "(Ljava/lang/String;)V" } : Jvm.MethodName)) ∈ lw_all := lw_g (lw_at lw_m4 139 rfl) rfl
theorem q929 : (Jvm.Cond.code ({ cls := "java/lang/RuntimeException", name := "<init>", desc := "(Ljava/lang/String;)V" } : Jvm.MethodName) prog_37_method_2_code (2 : Nat) (Option.none : Option Jvm.ClassFile.FieldType)) ∈ lw_all := lw_g (lw_at lw_m4 140 rfl) rfl
theorem q930 : (Jvm.Cond.methodLink "java/lang/RuntimeException" (7 : Nat) ({ cls := "java/lang/Exception", name := "<init>", desc := "(Ljava/lang/String;)V" } : Jvm.MethodName)) ∈ lw_all := lw_g (lw_at lw_m4 141 rfl) rfl
/-! java/lang/IllegalArgumentException -/
set_option maxRecDepth 100000
def RJ11 : String := "java/lang/IllegalArgumentException"
def TJ11 : u_T := fun k => match k with
  | 0 => ("java/lang/Throwable", "cause", "Ljava/lang/Throwable;", false)
  | 1 => ("java/lang/Throwable", "stackTrace", "[Ljava/lang/StackTraceElement;", false)
  | 2 => ("java/lang/Throwable", "suppressedExceptions", "Ljava/util/List;", false)
  | 3 => ("java/lang/Throwable", "detailMessage", "Ljava/lang/String;", false)
  | 4 => ("java/lang/Throwable", "backtrace", "Ljava/lang/Object;", false)
  | _ => ("java/lang/Throwable", "depth", "I", false)
def tyJ11 : Nat → FieldType := fun k => match k with
  | 0 => .object "java/lang/Throwable"
  | 1 => .array (.object "java/lang/StackTraceElement")
  | 2 => .object "java/util/List"
  | 3 => .object "java/lang/String"
  | 4 => .object "java/lang/Object"
  | _ => .int
abbrev wsJ110 : List Cond := u_ws RJ11 TJ11 6
theorem nmJ11 : ∀ a, a < 6 → ∀ b, b < 6 → a ≠ b → (TJ11 a).2.1 ≠ (TJ11 b).2.1 := by decide +kernel
theorem tyJ11_ok : ∀ k, k < 6 → parseFieldDescriptor (TJ11 k).2.2.1 = some (tyJ11 k) := by decide +kernel
abbrev cJ11_init : ByteArray := prog_29_method_1_code
def yJ11_init : MethodName := ⟨RJ11, "<init>", "()V"⟩
theorem dJ11_init_0 : decode cJ11_init 0 = .ok (.aload_n 0, 1) := by decide +kernel
theorem dJ11_init_1 : decode cJ11_init 1 = .ok (.invokespecial 1, 3) := by decide +kernel
theorem dJ11_init_4 : decode cJ11_init 4 = .ok (.return_, 1) := by decide +kernel
abbrev cJ11_init_2 : ByteArray := prog_29_method_2_code
def yJ11_init_2 : MethodName := ⟨RJ11, "<init>", "(Ljava/lang/String;)V"⟩
def dkwJ11_init_2_0 : List UInt8 := [42, 43, 183, 0, 7, 177]
abbrev dktJ11_init_2_0 : List UInt8 := dkwJ11_init_2_0 ++ []
theorem dksJ11_init_2_0 : cJ11_init_2.data.toList.drop 0 = dktJ11_init_2_0 := by decide +kernel
theorem dJ11_init_2_0 : decode cJ11_init_2 0 = .ok (.aload_n 0, 1) := dk_42 (dk_at dksJ11_init_2_0 0 rfl rfl)
theorem dJ11_init_2_1 : decode cJ11_init_2 1 = .ok (.aload_n 1, 1) := dk_43 (dk_at dksJ11_init_2_0 1 rfl rfl)
theorem dJ11_init_2_2 : decode cJ11_init_2 2 = .ok (.invokespecial 7, 3) := dk_183 0 7 (dk_at dksJ11_init_2_0 2 rfl rfl)
theorem dJ11_init_2_5 : decode cJ11_init_2 5 = .ok (.return_, 1) := dk_177 (dk_at dksJ11_init_2_0 5 rfl rfl)
theorem q87 : (Jvm.Cond.initialized "java/lang/IllegalArgumentException") ∈ lw_all := lw_g (lw_at lw_m1 18 rfl) rfl
theorem q249 : (Jvm.Cond.selects "java/lang/IllegalArgumentException" ({ cls := "java/lang/Object", name := "getClass", desc := "()Ljava/lang/Class;" } : Jvm.MethodName) ({ cls := "java/lang/Object", name := "getClass", desc := "()Ljava/lang/Class;" } : Jvm.MethodName)) ∈ lw_all := lw_g (lw_at lw_m1 180 rfl) rfl
theorem q789 : (Jvm.Cond.instantiable "java/lang/IllegalArgumentException" (6 : Nat)) ∈ lw_all := lw_g (lw_at lw_m4 0 rfl) rfl
theorem q790 : (Jvm.Cond.castable "java/lang/IllegalArgumentException" "java/lang/IllegalArgumentException") ∈ lw_tbl := lw_at lw_m4 1 rfl
theorem q797 : (Jvm.Cond.selects "java/lang/IllegalArgumentException" ({ cls := "java/lang/Throwable", name := "fillInStackTrace", desc := "(I)Ljava/lang/Throwable;" } : Jvm.MethodName) ({ cls := "java/lang/Throwable", name := "fillInStackTrace", desc := "(I)Ljava/lang/Throwable;" } : Jvm.MethodName)) ∈ lw_all := lw_g (lw_at lw_m4 8 rfl) rfl
theorem q798 : (Jvm.Cond.selects "java/lang/IllegalArgumentException" ({ cls := "java/lang/Throwable", name := "fillInStackTrace", desc := "()Ljava/lang/Throwable;" } : Jvm.MethodName) ({ cls := "java/lang/Throwable", name := "fillInStackTrace", desc := "()Ljava/lang/Throwable;" } : Jvm.MethodName)) ∈ lw_all := lw_g (lw_at lw_m4 9 rfl) rfl
theorem q799 : (Jvm.Cond.lays "java/lang/IllegalArgumentException" "java/lang/Throwable" "cause" "Ljava/lang/Throwable;") ∈ lw_all := lw_g (lw_at lw_m4 10 rfl) rfl
theorem q801 : (Jvm.Cond.lays "java/lang/IllegalArgumentException" "java/lang/Throwable" "stackTrace" "[Ljava/lang/StackTraceElement;") ∈ lw_all := lw_g (lw_at lw_m4 12 rfl) rfl
theorem q803 : (Jvm.Cond.lays "java/lang/IllegalArgumentException" "java/lang/Throwable" "suppressedExceptions" "Ljava/util/List;") ∈ lw_all := lw_g (lw_at lw_m4 14 rfl) rfl
theorem q805 : (Jvm.Cond.lays "java/lang/IllegalArgumentException" "java/lang/Throwable" "detailMessage" "Ljava/lang/String;") ∈ lw_all := lw_g (lw_at lw_m4 16 rfl) rfl
theorem q807 : (Jvm.Cond.lays "java/lang/IllegalArgumentException" "java/lang/Throwable" "backtrace" "Ljava/lang/Object;") ∈ lw_all := lw_g (lw_at lw_m4 18 rfl) rfl
theorem q831 : (Jvm.Cond.instanceMethod ({ cls := "java/lang/IllegalArgumentException", name := "<init>", desc := "()V" } : Jvm.MethodName)) ∈ lw_all := lw_g (lw_at lw_m4 42 rfl) rfl
theorem q832 : (Jvm.Cond.code ({ cls := "java/lang/IllegalArgumentException", name := "<init>", desc := "()V" } : Jvm.MethodName) prog_29_method_1_code (1 : Nat) (Option.none : Option Jvm.ClassFile.FieldType)) ∈ lw_all := lw_g (lw_at lw_m4 43 rfl) rfl
theorem q833 : (Jvm.Cond.methodLink "java/lang/IllegalArgumentException" (1 : Nat) ({ cls := "java/lang/RuntimeException", name := "<init>", desc := "()V" } : Jvm.MethodName)) ∈ lw_all := lw_g (lw_at lw_m4 44 rfl) rfl
theorem q849 : (Jvm.Cond.lays "java/lang/IllegalArgumentException" "java/lang/Throwable" "depth" "I") ∈ lw_all := lw_g (lw_at lw_m4 60 rfl) rfl
theorem q852 : (Jvm.Cond.superclass "java/lang/IllegalArgumentException" "java/lang/RuntimeException") ∈ lw_all := lw_g (lw_at lw_m4 63 rfl) rfl
theorem q1478 : (Jvm.Cond.instanceMethod ({ cls := "java/lang/IllegalArgumentException", name := "<init>", desc := "(Ljava/lang/String;)V" } : Jvm.MethodName)) ∈ lw_all := lw_g (lw_at lw_m6 209 rfl) rfl
theorem q1479 : (Jvm.Cond.code ({ cls := "java/lang/IllegalArgumentException", name := "<init>", desc := "(Ljava/lang/String;)V" } : Jvm.MethodName) prog_29_method_2_code (2 : Nat) (Option.none : Option Jvm.ClassFile.FieldType)) ∈ lw_all := lw_g (lw_at lw_m6 210 rfl) rfl
theorem q1480 : (Jvm.Cond.methodLink "java/lang/IllegalArgumentException" (7 : Nat) ({ cls := "java/lang/RuntimeException", name := "<init>", desc := "(Ljava/lang/String;)V" } : Jvm.MethodName)) ∈ lw_all := lw_g (lw_at lw_m6 211 rfl) rfl
theorem q2102 : (Jvm.Cond.castable "java/lang/IllegalArgumentException" "java/lang/Object") ∈ lw_tbl := lw_at lw_m9 113 rfl
theorem in_J11 : ∀ w ∈ wsJ110, w ∈ lw_all := lw_in wsJ110 [799, 801, 803, 805, 807, 849] (by decide +kernel) (by decide +kernel)
/-! java/lang/IllegalStateException -/
set_option maxRecDepth 100000
def RJ12 : String := "java/lang/IllegalStateException"
def TJ12 : u_T := fun k => match k with
  | 0 => ("java/lang/Throwable", "cause", "Ljava/lang/Throwable;", false)
  | 1 => ("java/lang/Throwable", "stackTrace", "[Ljava/lang/StackTraceElement;", false)
  | 2 => ("java/lang/Throwable", "suppressedExceptions", "Ljava/util/List;", false)
  | 3 => ("java/lang/Throwable", "detailMessage", "Ljava/lang/String;", false)
  | 4 => ("java/lang/Throwable", "backtrace", "Ljava/lang/Object;", false)
  | _ => ("java/lang/Throwable", "depth", "I", false)
def tyJ12 : Nat → FieldType := fun k => match k with
  | 0 => .object "java/lang/Throwable"
  | 1 => .array (.object "java/lang/StackTraceElement")
  | 2 => .object "java/util/List"
  | 3 => .object "java/lang/String"
  | 4 => .object "java/lang/Object"
  | _ => .int
abbrev wsJ120 : List Cond := u_ws RJ12 TJ12 6
theorem nmJ12 : ∀ a, a < 6 → ∀ b, b < 6 → a ≠ b → (TJ12 a).2.1 ≠ (TJ12 b).2.1 := by decide +kernel
theorem tyJ12_ok : ∀ k, k < 6 → parseFieldDescriptor (TJ12 k).2.2.1 = some (tyJ12 k) := by decide +kernel
abbrev cJ12_init : ByteArray := prog_30_method_1_code
def yJ12_init : MethodName := ⟨RJ12, "<init>", "()V"⟩
theorem dJ12_init_0 : decode cJ12_init 0 = .ok (.aload_n 0, 1) := by decide +kernel
theorem dJ12_init_1 : decode cJ12_init 1 = .ok (.invokespecial 1, 3) := by decide +kernel
theorem dJ12_init_4 : decode cJ12_init 4 = .ok (.return_, 1) := by decide +kernel
theorem q88 : (Jvm.Cond.initialized "java/lang/IllegalStateException") ∈ lw_all := lw_g (lw_at lw_m1 19 rfl) rfl
theorem q250 : (Jvm.Cond.selects "java/lang/IllegalStateException" ({ cls := "java/lang/Object", name := "getClass", desc := "()Ljava/lang/Class;" } : Jvm.MethodName) ({ cls := "java/lang/Object", name := "getClass", desc := "()Ljava/lang/Class;" } : Jvm.MethodName)) ∈ lw_all := lw_g (lw_at lw_m1 181 rfl) rfl
theorem q822 : (Jvm.Cond.selects "java/lang/IllegalStateException" ({ cls := "java/lang/Throwable", name := "fillInStackTrace", desc := "()Ljava/lang/Throwable;" } : Jvm.MethodName) ({ cls := "java/lang/Throwable", name := "fillInStackTrace", desc := "()Ljava/lang/Throwable;" } : Jvm.MethodName)) ∈ lw_all := lw_g (lw_at lw_m4 33 rfl) rfl
theorem q857 : (Jvm.Cond.instantiable "java/lang/IllegalStateException" (6 : Nat)) ∈ lw_all := lw_g (lw_at lw_m4 68 rfl) rfl
theorem q858 : (Jvm.Cond.castable "java/lang/IllegalStateException" "java/lang/IllegalStateException") ∈ lw_tbl := lw_at lw_m4 69 rfl
theorem q859 : (Jvm.Cond.selects "java/lang/IllegalStateException" ({ cls := "java/lang/Throwable", name := "fillInStackTrace", desc := "(I)Ljava/lang/Throwable;" } : Jvm.MethodName) ({ cls := "java/lang/Throwable", name := "fillInStackTrace", desc := "(I)Ljava/lang/Throwable;" } : Jvm.MethodName)) ∈ lw_all := lw_g (lw_at lw_m4 70 rfl) rfl
theorem q860 : (Jvm.Cond.lays "java/lang/IllegalStateException" "java/lang/Throwable" "cause" "Ljava/lang/Throwable;") ∈ lw_all := lw_g (lw_at lw_m4 71 rfl) rfl
theorem q861 : (Jvm.Cond.lays "java/lang/IllegalStateException" "java/lang/Throwable" "stackTrace" "[Ljava/lang/StackTraceElement;") ∈ lw_all := lw_g (lw_at lw_m4 72 rfl) rfl
theorem q862 : (Jvm.Cond.lays "java/lang/IllegalStateException" "java/lang/Throwable" "suppressedExceptions" "Ljava/util/List;") ∈ lw_all := lw_g (lw_at lw_m4 73 rfl) rfl
theorem q863 : (Jvm.Cond.lays "java/lang/IllegalStateException" "java/lang/Throwable" "detailMessage" "Ljava/lang/String;") ∈ lw_all := lw_g (lw_at lw_m4 74 rfl) rfl
theorem q864 : (Jvm.Cond.lays "java/lang/IllegalStateException" "java/lang/Throwable" "backtrace" "Ljava/lang/Object;") ∈ lw_all := lw_g (lw_at lw_m4 75 rfl) rfl
theorem q866 : (Jvm.Cond.instanceMethod ({ cls := "java/lang/IllegalStateException", name := "<init>", desc := "()V" } : Jvm.MethodName)) ∈ lw_all := lw_g (lw_at lw_m4 77 rfl) rfl
theorem q867 : (Jvm.Cond.code ({ cls := "java/lang/IllegalStateException", name := "<init>", desc := "()V" } : Jvm.MethodName) prog_30_method_1_code (1 : Nat) (Option.none : Option Jvm.ClassFile.FieldType)) ∈ lw_all := lw_g (lw_at lw_m4 78 rfl) rfl
theorem q868 : (Jvm.Cond.methodLink "java/lang/IllegalStateException" (1 : Nat) ({ cls := "java/lang/RuntimeException", name := "<init>", desc := "()V" } : Jvm.MethodName)) ∈ lw_all := lw_g (lw_at lw_m4 79 rfl) rfl
theorem q869 : (Jvm.Cond.lays "java/lang/IllegalStateException" "java/lang/Throwable" "depth" "I") ∈ lw_all := lw_g (lw_at lw_m4 80 rfl) rfl
theorem q870 : (Jvm.Cond.superclass "java/lang/IllegalStateException" "java/lang/RuntimeException") ∈ lw_all := lw_g (lw_at lw_m4 81 rfl) rfl
theorem q2103 : (Jvm.Cond.castable "java/lang/IllegalStateException" "java/lang/Object") ∈ lw_tbl := lw_at lw_m9 114 rfl
theorem in_J12 : ∀ w ∈ wsJ120, w ∈ lw_all := lw_in wsJ120 [860, 861, 862, 863, 864, 869] (by decide +kernel) (by decide +kernel)
/-! java/lang/IndexOutOfBoundsException -/
set_option maxRecDepth 100000
def RJ13 : String := "java/lang/IndexOutOfBoundsException"
def TJ13 : u_T := fun k => match k with
  | 0 => ("java/lang/Throwable", "cause", "Ljava/lang/Throwable;", false)
  | 1 => ("java/lang/Throwable", "stackTrace", "[Ljava/lang/StackTraceElement;", false)
  | 2 => ("java/lang/Throwable", "suppressedExceptions", "Ljava/util/List;", false)
  | 3 => ("java/lang/Throwable", "detailMessage", "Ljava/lang/String;", false)
  | 4 => ("java/lang/Throwable", "backtrace", "Ljava/lang/Object;", false)
  | _ => ("java/lang/Throwable", "depth", "I", false)
def tyJ13 : Nat → FieldType := fun k => match k with
  | 0 => .object "java/lang/Throwable"
  | 1 => .array (.object "java/lang/StackTraceElement")
  | 2 => .object "java/util/List"
  | 3 => .object "java/lang/String"
  | 4 => .object "java/lang/Object"
  | _ => .int
abbrev wsJ130 : List Cond := u_ws RJ13 TJ13 6
theorem nmJ13 : ∀ a, a < 6 → ∀ b, b < 6 → a ≠ b → (TJ13 a).2.1 ≠ (TJ13 b).2.1 := by decide +kernel
theorem tyJ13_ok : ∀ k, k < 6 → parseFieldDescriptor (TJ13 k).2.2.1 = some (tyJ13 k) := by decide +kernel
abbrev cJ13_init : ByteArray := prog_31_method_2_code
def yJ13_init : MethodName := ⟨RJ13, "<init>", "(Ljava/lang/String;)V"⟩
def dkwJ13_init_0 : List UInt8 := [42, 43, 183, 0, 7, 177]
abbrev dktJ13_init_0 : List UInt8 := dkwJ13_init_0 ++ []
theorem dksJ13_init_0 : cJ13_init.data.toList.drop 0 = dktJ13_init_0 := by decide +kernel
theorem dJ13_init_0 : decode cJ13_init 0 = .ok (.aload_n 0, 1) := dk_42 (dk_at dksJ13_init_0 0 rfl rfl)
theorem dJ13_init_1 : decode cJ13_init 1 = .ok (.aload_n 1, 1) := dk_43 (dk_at dksJ13_init_0 1 rfl rfl)
theorem dJ13_init_2 : decode cJ13_init 2 = .ok (.invokespecial 7, 3) := dk_183 0 7 (dk_at dksJ13_init_0 2 rfl rfl)
theorem dJ13_init_5 : decode cJ13_init 5 = .ok (.return_, 1) := dk_177 (dk_at dksJ13_init_0 5 rfl rfl)
abbrev cJ13_init_2 : ByteArray := prog_31_method_1_code
def yJ13_init_2 : MethodName := ⟨RJ13, "<init>", "()V"⟩
theorem dJ13_init_2_0 : decode cJ13_init_2 0 = .ok (.aload_n 0, 1) := by decide +kernel
theorem dJ13_init_2_1 : decode cJ13_init_2 1 = .ok (.invokespecial 1, 3) := by decide +kernel
theorem dJ13_init_2_4 : decode cJ13_init_2 4 = .ok (.return_, 1) := by decide +kernel
theorem q91 : (Jvm.Cond.initialized "java/lang/IndexOutOfBoundsException") ∈ lw_all := lw_g (lw_at lw_m1 22 rfl) rfl
theorem q251 : (Jvm.Cond.selects "java/lang/IndexOutOfBoundsException" ({ cls := "java/lang/Object", name := "getClass", desc := "()Ljava/lang/Class;" } : Jvm.MethodName) ({ cls := "java/lang/Object", name := "getClass", desc := "()Ljava/lang/Class;" } : Jvm.MethodName)) ∈ lw_all := lw_g (lw_at lw_m1 182 rfl) rfl
theorem q823 : (Jvm.Cond.selects "java/lang/IndexOutOfBoundsException" ({ cls := "java/lang/Throwable", name := "fillInStackTrace", desc := "()Ljava/lang/Throwable;" } : Jvm.MethodName) ({ cls := "java/lang/Throwable", name := "fillInStackTrace", desc := "()Ljava/lang/Throwable;" } : Jvm.MethodName)) ∈ lw_all := lw_g (lw_at lw_m4 34 rfl) rfl
theorem q925 : (Jvm.Cond.instanceMethod ({ cls := "java/lang/IndexOutOfBoundsException", name := "<init>", desc := "(Ljava/lang/String;)V" } : Jvm.MethodName)) ∈ lw_all := lw_g (lw_at lw_m4 136 rfl) rfl
theorem q926 : (Jvm.Cond.code ({ cls := "java/lang/IndexOutOfBoundsException", name := "<init>", desc := "(Ljava/lang/String;)V" } : Jvm.MethodName) prog_31_method_2_code (2 : Nat) (Option.none : Option Jvm.ClassFile.FieldType)) ∈ lw_all := lw_g (lw_at lw_m4 137 rfl) rfl
theorem q927 : (Jvm.Cond.methodLink "java/lang/IndexOutOfBoundsException" (7 : Nat) ({ cls := "java/lang/RuntimeException", name := "<init>", desc := "(Ljava/lang/String;)V" } : Jvm.MethodName)) ∈ lw_all := lw_g (lw_at lw_m4 138 rfl) rfl
theorem q944 : (Jvm.Cond.declares ({ cls := "java/lang/IndexOutOfBoundsException", name := "<init>", desc := "()V" } : Jvm.MethodName)) ∈ lw_tbl := lw_at lw_m4 155 rfl
theorem q945 : (Jvm.Cond.declares ({ cls := "java/lang/IndexOutOfBoundsException", name := "<init>", desc := "(Ljava/lang/String;)V" } : Jvm.MethodName)) ∈ lw_tbl := lw_at lw_m4 156 rfl
theorem q965 : (Jvm.Cond.instantiable "java/lang/IndexOutOfBoundsException" (6 : Nat)) ∈ lw_all := lw_g (lw_at lw_m4 176 rfl) rfl
theorem q966 : (Jvm.Cond.castable "java/lang/IndexOutOfBoundsException" "java/lang/IndexOutOfBoundsException") ∈ lw_tbl := lw_at lw_m4 177 rfl
theorem q967 : (Jvm.Cond.selects "java/lang/IndexOutOfBoundsException" ({ cls := "java/lang/Throwable", name := "fillInStackTrace", desc := "(I)Ljava/lang/Throwable;" } : Jvm.MethodName) ({ cls := "java/lang/Throwable", name := "fillInStackTrace", desc := "(I)Ljava/lang/Throwable;" } : Jvm.MethodName)) ∈ lw_all := lw_g (lw_at lw_m4 178 rfl) rfl
theorem q968 : (Jvm.Cond.lays "java/lang/IndexOutOfBoundsException" "java/lang/Throwable" "cause" "Ljava/lang/Throwable;") ∈ lw_all := lw_g (lw_at lw_m4 179 rfl) rfl
theorem q969 : (Jvm.Cond.lays "java/lang/IndexOutOfBoundsException" "java/lang/Throwable" "stackTrace" "[Ljava/lang/StackTraceElement;") ∈ lw_all := lw_g (lw_at lw_m4 180 rfl) rfl
theorem q970 : (Jvm.Cond.lays "java/lang/IndexOutOfBoundsException" "java/lang/Throwable" "suppressedExceptions" "Ljava/util/List;") ∈ lw_all := lw_g (lw_at lw_m4 181 rfl) rfl
theorem q971 : (Jvm.Cond.lays "java/lang/IndexOutOfBoundsException" "java/lang/Throwable" "detailMessage" "Ljava/lang/String;") ∈ lw_all := lw_g (lw_at lw_m4 182 rfl) rfl
theorem q972 : (Jvm.Cond.lays "java/lang/IndexOutOfBoundsException" "java/lang/Throwable" "backtrace" "Ljava/lang/Object;") ∈ lw_all := lw_g (lw_at lw_m4 183 rfl) rfl
theorem q974 : (Jvm.Cond.instanceMethod ({ cls := "java/lang/IndexOutOfBoundsException", name := "<init>", desc := "()V" } : Jvm.MethodName)) ∈ lw_all := lw_g (lw_at lw_m4 185 rfl) rfl
theorem q975 : (Jvm.Cond.code ({ cls := "java/lang/IndexOutOfBoundsException", name := "<init>", desc := "()V" } : Jvm.MethodName) prog_31_method_1_code (1 : Nat) (Option.none : Option Jvm.ClassFile.FieldType)) ∈ lw_all := lw_g (lw_at lw_m4 186 rfl) rfl
theorem q976 : (Jvm.Cond.methodLink "java/lang/IndexOutOfBoundsException" (1 : Nat) ({ cls := "java/lang/RuntimeException", name := "<init>", desc := "()V" } : Jvm.MethodName)) ∈ lw_all := lw_g (lw_at lw_m4 187 rfl) rfl
theorem q977 : (Jvm.Cond.lays "java/lang/IndexOutOfBoundsException" "java/lang/Throwable" "depth" "I") ∈ lw_all := lw_g (lw_at lw_m4 188 rfl) rfl
theorem q978 : (Jvm.Cond.superclass "java/lang/IndexOutOfBoundsException" "java/lang/RuntimeException") ∈ lw_all := lw_g (lw_at lw_m4 189 rfl) rfl
theorem q2107 : (Jvm.Cond.castable "java/lang/IndexOutOfBoundsException" "java/lang/Object") ∈ lw_tbl := lw_at lw_m9 118 rfl
theorem in_J13 : ∀ w ∈ wsJ130, w ∈ lw_all := lw_in wsJ130 [968, 969, 970, 971, 972, 977] (by decide +kernel) (by decide +kernel)
/-! java/lang/ArrayIndexOutOfBoundsException -/
set_option maxRecDepth 100000
def RJ14 : String := "java/lang/ArrayIndexOutOfBoundsException"
def TJ14 : u_T := fun k => match k with
  | 0 => ("java/lang/Throwable", "backtrace", "Ljava/lang/Object;", false)
  | 1 => ("java/lang/Throwable", "detailMessage", "Ljava/lang/String;", false)
  | 2 => ("java/lang/Throwable", "cause", "Ljava/lang/Throwable;", false)
  | 3 => ("java/lang/Throwable", "stackTrace", "[Ljava/lang/StackTraceElement;", false)
  | 4 => ("java/lang/Throwable", "depth", "I", false)
  | _ => ("java/lang/Throwable", "suppressedExceptions", "Ljava/util/List;", false)
def tyJ14 : Nat → FieldType := fun k => match k with
  | 0 => .object "java/lang/Object"
  | 1 => .object "java/lang/String"
  | 2 => .object "java/lang/Throwable"
  | 3 => .array (.object "java/lang/StackTraceElement")
  | 4 => .int
  | _ => .object "java/util/List"
abbrev wsJ140 : List Cond := u_ws RJ14 TJ14 6
theorem nmJ14 : ∀ a, a < 6 → ∀ b, b < 6 → a ≠ b → (TJ14 a).2.1 ≠ (TJ14 b).2.1 := by decide +kernel
theorem tyJ14_ok : ∀ k, k < 6 → parseFieldDescriptor (TJ14 k).2.2.1 = some (tyJ14 k) := by decide +kernel
abbrev cJ14_init : ByteArray := prog_23_method_2_code
def yJ14_init : MethodName := ⟨RJ14, "<init>", "(Ljava/lang/String;)V"⟩
def dkwJ14_init_0 : List UInt8 := [42, 43, 183, 0, 7, 177]
abbrev dktJ14_init_0 : List UInt8 := dkwJ14_init_0 ++ []
theorem dksJ14_init_0 : cJ14_init.data.toList.drop 0 = dktJ14_init_0 := by decide +kernel
theorem dJ14_init_0 : decode cJ14_init 0 = .ok (.aload_n 0, 1) := dk_42 (dk_at dksJ14_init_0 0 rfl rfl)
theorem dJ14_init_1 : decode cJ14_init 1 = .ok (.aload_n 1, 1) := dk_43 (dk_at dksJ14_init_0 1 rfl rfl)
theorem dJ14_init_2 : decode cJ14_init 2 = .ok (.invokespecial 7, 3) := dk_183 0 7 (dk_at dksJ14_init_0 2 rfl rfl)
theorem dJ14_init_5 : decode cJ14_init 5 = .ok (.return_, 1) := dk_177 (dk_at dksJ14_init_0 5 rfl rfl)
theorem q92 : (Jvm.Cond.initialized "java/lang/ArrayIndexOutOfBoundsException") ∈ lw_all := lw_g (lw_at lw_m1 23 rfl) rfl
theorem q248 : (Jvm.Cond.selects "java/lang/ArrayIndexOutOfBoundsException" ({ cls := "java/lang/Object", name := "getClass", desc := "()Ljava/lang/Class;" } : Jvm.MethodName) ({ cls := "java/lang/Object", name := "getClass", desc := "()Ljava/lang/Class;" } : Jvm.MethodName)) ∈ lw_all := lw_g (lw_at lw_m1 179 rfl) rfl
theorem q821 : (Jvm.Cond.selects "java/lang/ArrayIndexOutOfBoundsException" ({ cls := "java/lang/Throwable", name := "fillInStackTrace", desc := "()Ljava/lang/Throwable;" } : Jvm.MethodName) ({ cls := "java/lang/Throwable", name := "fillInStackTrace", desc := "()Ljava/lang/Throwable;" } : Jvm.MethodName)) ∈ lw_all := lw_g (lw_at lw_m4 32 rfl) rfl
theorem q921 : (Jvm.Cond.instantiable "java/lang/ArrayIndexOutOfBoundsException" (6 : Nat)) ∈ lw_all := lw_g (lw_at lw_m4 132 rfl) rfl
theorem q922 : (Jvm.Cond.instanceMethod ({ cls := "java/lang/ArrayIndexOutOfBoundsException", name := "<init>", desc := "(Ljava/lang/String;)V" } : Jvm.MethodName)) ∈ lw_all := lw_g (lw_at lw_m4 133 rfl) rfl
theorem q923 : (Jvm.Cond.code ({ cls := "java/lang/ArrayIndexOutOfBoundsException", name := "<init>", desc := "(Ljava/lang/String;)V" } : Jvm.MethodName) prog_23_method_2_code (2 : Nat) (Option.none : Option Jvm.ClassFile.FieldType)) ∈ lw_all := lw_g (lw_at lw_m4 134 rfl) rfl
theorem q924 : (Jvm.Cond.methodLink "java/lang/ArrayIndexOutOfBoundsException" (7 : Nat) ({ cls := "java/lang/IndexOutOfBoundsException", name := "<init>", desc := "(Ljava/lang/String;)V" } : Jvm.MethodName)) ∈ lw_all := lw_g (lw_at lw_m4 135 rfl) rfl
theorem q936 : (Jvm.Cond.lays "java/lang/ArrayIndexOutOfBoundsException" "java/lang/Throwable" "backtrace" "Ljava/lang/Object;") ∈ lw_all := lw_g (lw_at lw_m4 147 rfl) rfl
theorem q937 : (Jvm.Cond.lays "java/lang/ArrayIndexOutOfBoundsException" "java/lang/Throwable" "detailMessage" "Ljava/lang/String;") ∈ lw_all := lw_g (lw_at lw_m4 148 rfl) rfl
theorem q938 : (Jvm.Cond.lays "java/lang/ArrayIndexOutOfBoundsException" "java/lang/Throwable" "cause" "Ljava/lang/Throwable;") ∈ lw_all := lw_g (lw_at lw_m4 149 rfl) rfl
theorem q939 : (Jvm.Cond.lays "java/lang/ArrayIndexOutOfBoundsException" "java/lang/Throwable" "stackTrace" "[Ljava/lang/StackTraceElement;") ∈ lw_all := lw_g (lw_at lw_m4 150 rfl) rfl
theorem q940 : (Jvm.Cond.lays "java/lang/ArrayIndexOutOfBoundsException" "java/lang/Throwable" "depth" "I") ∈ lw_all := lw_g (lw_at lw_m4 151 rfl) rfl
theorem q941 : (Jvm.Cond.lays "java/lang/ArrayIndexOutOfBoundsException" "java/lang/Throwable" "suppressedExceptions" "Ljava/util/List;") ∈ lw_all := lw_g (lw_at lw_m4 152 rfl) rfl
theorem q942 : (Jvm.Cond.superclass "java/lang/ArrayIndexOutOfBoundsException" "java/lang/IndexOutOfBoundsException") ∈ lw_all := lw_g (lw_at lw_m4 153 rfl) rfl
theorem q943 : (Jvm.Cond.castable "java/lang/ArrayIndexOutOfBoundsException" "java/lang/ArrayIndexOutOfBoundsException") ∈ lw_tbl := lw_at lw_m4 154 rfl
theorem q946 : (Jvm.Cond.selects "java/lang/ArrayIndexOutOfBoundsException" ({ cls := "java/lang/Throwable", name := "fillInStackTrace", desc := "(I)Ljava/lang/Throwable;" } : Jvm.MethodName) ({ cls := "java/lang/Throwable", name := "fillInStackTrace", desc := "(I)Ljava/lang/Throwable;" } : Jvm.MethodName)) ∈ lw_all := lw_g (lw_at lw_m4 157 rfl) rfl
theorem q2095 : (Jvm.Cond.castable "java/lang/ArrayIndexOutOfBoundsException" "java/lang/IndexOutOfBoundsException") ∈ lw_tbl := lw_at lw_m9 106 rfl
theorem q2106 : (Jvm.Cond.castable "java/lang/ArrayIndexOutOfBoundsException" "java/lang/Object") ∈ lw_tbl := lw_at lw_m9 117 rfl
theorem in_J14 : ∀ w ∈ wsJ140, w ∈ lw_all := lw_in wsJ140 [936, 937, 938, 939, 940, 941] (by decide +kernel) (by decide +kernel)
/-! java/lang/String -/
set_option maxRecDepth 100000
def RJ15 : String := "java/lang/String"
def TJ15 : u_T := fun k => match k with
  | 0 => ("java/lang/String", "value", "[B", true)
  | 1 => ("java/lang/String", "coder", "B", true)
  | 2 => ("java/lang/String", "hash", "I", false)
  | _ => ("java/lang/String", "hashIsZero", "Z", false)
def tyJ15 : Nat → FieldType := fun k => match k with
  | 0 => .array .byte
  | 1 => .byte
  | 2 => .int
  | _ => .boolean
abbrev wsJ150 : List Cond := u_ws RJ15 TJ15 4
theorem nmJ15 : ∀ a, a < 4 → ∀ b, b < 4 → a ≠ b → (TJ15 a).2.1 ≠ (TJ15 b).2.1 := by decide +kernel
theorem tyJ15_ok : ∀ k, k < 4 → parseFieldDescriptor (TJ15 k).2.2.1 = some (tyJ15 k) := by decide +kernel
abbrev cJ15_length : ByteArray := prog_38_method_54_code
def yJ15_length : MethodName := ⟨RJ15, "length", "()I"⟩
def dkwJ15_length_0 : List UInt8 := [42, 180, 0, 9, 190, 42, 182, 1, 79, 122, 172]
abbrev dktJ15_length_0 : List UInt8 := dkwJ15_length_0 ++ []
theorem dksJ15_length_0 : cJ15_length.data.toList.drop 0 = dktJ15_length_0 := by decide +kernel
theorem dJ15_length_0 : decode cJ15_length 0 = .ok (.aload_n 0, 1) := dk_42 (dk_at dksJ15_length_0 0 rfl rfl)
theorem dJ15_length_1 : decode cJ15_length 1 = .ok (.getfield 9, 3) := dk_180 0 9 (dk_at dksJ15_length_0 1 rfl rfl)
theorem dJ15_length_4 : decode cJ15_length 4 = .ok (.arraylength, 1) := dk_190 (dk_at dksJ15_length_0 4 rfl rfl)
theorem dJ15_length_5 : decode cJ15_length 5 = .ok (.aload_n 0, 1) := dk_42 (dk_at dksJ15_length_0 5 rfl rfl)
theorem dJ15_length_6 : decode cJ15_length 6 = .ok (.invokevirtual 335, 3) := dk_182 1 79 (dk_at dksJ15_length_0 6 rfl rfl)
theorem dJ15_length_9 : decode cJ15_length 9 = .ok (.ishr, 1) := dk_122 (dk_at dksJ15_length_0 9 rfl rfl)
theorem dJ15_length_10 : decode cJ15_length 10 = .ok (.ireturn, 1) := dk_172 (dk_at dksJ15_length_0 10 rfl rfl)
abbrev cJ15_coder : ByteArray := prog_38_method_152_code
def yJ15_coder : MethodName := ⟨RJ15, "coder", "()B"⟩
def dkwJ15_coder_0 : List UInt8 := [178, 0, 38, 153, 0, 10, 42, 180, 0, 15, 167, 0, 4, 4, 172]
abbrev dktJ15_coder_0 : List UInt8 := dkwJ15_coder_0 ++ []
theorem dksJ15_coder_0 : cJ15_coder.data.toList.drop 0 = dktJ15_coder_0 := by decide +kernel
theorem dJ15_coder_0 : decode cJ15_coder 0 = .ok (.getstatic 38, 3) := dk_178 0 38 (dk_at dksJ15_coder_0 0 rfl rfl)
theorem dJ15_coder_3 : decode cJ15_coder 3 = .ok (.ifCond .eq 10, 3) := dk_153 0 10 (dk_at dksJ15_coder_0 3 rfl rfl)
theorem dJ15_coder_6 : decode cJ15_coder 6 = .ok (.aload_n 0, 1) := dk_42 (dk_at dksJ15_coder_0 6 rfl rfl)
theorem dJ15_coder_7 : decode cJ15_coder 7 = .ok (.getfield 15, 3) := dk_180 0 15 (dk_at dksJ15_coder_0 7 rfl rfl)
theorem dJ15_coder_10 : decode cJ15_coder 10 = .ok (.goto 4, 3) := dk_167 0 4 (dk_at dksJ15_coder_0 10 rfl rfl)
theorem dJ15_coder_13 : decode cJ15_coder 13 = .ok (.iconst 1, 1) := dk_4 (dk_at dksJ15_coder_0 13 rfl rfl)
theorem dJ15_coder_14 : decode cJ15_coder 14 = .ok (.ireturn, 1) := dk_172 (dk_at dksJ15_coder_0 14 rfl rfl)
abbrev cJ15_checkBoundsBeginEnd : ByteArray := prog_38_method_158_code
def yJ15_checkBoundsBeginEnd : MethodName := ⟨RJ15, "checkBoundsBeginEnd", "(III)V"⟩
def dkwJ15_checkBoundsBeginEnd_0 : List UInt8 := [26, 27, 28, 178, 4, 29, 184, 4, 38, 87, 177]
abbrev dktJ15_checkBoundsBeginEnd_0 : List UInt8 := dkwJ15_checkBoundsBeginEnd_0 ++ []
theorem dksJ15_checkBoundsBeginEnd_0 : cJ15_checkBoundsBeginEnd.data.toList.drop 0 = dktJ15_checkBoundsBeginEnd_0 := by decide +kernel
theorem dJ15_checkBoundsBeginEnd_0 : decode cJ15_checkBoundsBeginEnd 0 = .ok (.iload_n 0, 1) := dk_26 (dk_at dksJ15_checkBoundsBeginEnd_0 0 rfl rfl)
theorem dJ15_checkBoundsBeginEnd_1 : decode cJ15_checkBoundsBeginEnd 1 = .ok (.iload_n 1, 1) := dk_27 (dk_at dksJ15_checkBoundsBeginEnd_0 1 rfl rfl)
theorem dJ15_checkBoundsBeginEnd_2 : decode cJ15_checkBoundsBeginEnd 2 = .ok (.iload_n 2, 1) := dk_28 (dk_at dksJ15_checkBoundsBeginEnd_0 2 rfl rfl)
theorem dJ15_checkBoundsBeginEnd_3 : decode cJ15_checkBoundsBeginEnd 3 = .ok (.getstatic 1053, 3) := dk_178 4 29 (dk_at dksJ15_checkBoundsBeginEnd_0 3 rfl rfl)
theorem dJ15_checkBoundsBeginEnd_6 : decode cJ15_checkBoundsBeginEnd 6 = .ok (.invokestatic 1062, 3) := dk_184 4 38 (dk_at dksJ15_checkBoundsBeginEnd_0 6 rfl rfl)
theorem dJ15_checkBoundsBeginEnd_9 : decode cJ15_checkBoundsBeginEnd 9 = .ok (.pop, 1) := dk_87 (dk_at dksJ15_checkBoundsBeginEnd_0 9 rfl rfl)
theorem dJ15_checkBoundsBeginEnd_10 : decode cJ15_checkBoundsBeginEnd 10 = .ok (.return_, 1) := dk_177 (dk_at dksJ15_checkBoundsBeginEnd_0 10 rfl rfl)
abbrev cJ15_checkBoundsOffCount : ByteArray := prog_38_method_157_code
def yJ15_checkBoundsOffCount : MethodName := ⟨RJ15, "checkBoundsOffCount", "(III)I"⟩
def dkwJ15_checkBoundsOffCount_0 : List UInt8 := [26, 27, 28, 178, 4, 29, 184, 4, 41, 172]
abbrev dktJ15_checkBoundsOffCount_0 : List UInt8 := dkwJ15_checkBoundsOffCount_0 ++ []
theorem dksJ15_checkBoundsOffCount_0 : cJ15_checkBoundsOffCount.data.toList.drop 0 = dktJ15_checkBoundsOffCount_0 := by decide +kernel
theorem dJ15_checkBoundsOffCount_0 : decode cJ15_checkBoundsOffCount 0 = .ok (.iload_n 0, 1) := dk_26 (dk_at dksJ15_checkBoundsOffCount_0 0 rfl rfl)
theorem dJ15_checkBoundsOffCount_1 : decode cJ15_checkBoundsOffCount 1 = .ok (.iload_n 1, 1) := dk_27 (dk_at dksJ15_checkBoundsOffCount_0 1 rfl rfl)
theorem dJ15_checkBoundsOffCount_2 : decode cJ15_checkBoundsOffCount 2 = .ok (.iload_n 2, 1) := dk_28 (dk_at dksJ15_checkBoundsOffCount_0 2 rfl rfl)
theorem dJ15_checkBoundsOffCount_3 : decode cJ15_checkBoundsOffCount 3 = .ok (.getstatic 1053, 3) := dk_178 4 29 (dk_at dksJ15_checkBoundsOffCount_0 3 rfl rfl)
theorem dJ15_checkBoundsOffCount_6 : decode cJ15_checkBoundsOffCount 6 = .ok (.invokestatic 1065, 3) := dk_184 4 41 (dk_at dksJ15_checkBoundsOffCount_0 6 rfl rfl)
theorem dJ15_checkBoundsOffCount_9 : decode cJ15_checkBoundsOffCount 9 = .ok (.ireturn, 1) := dk_172 (dk_at dksJ15_checkBoundsOffCount_0 9 rfl rfl)
abbrev cJ15_getBytes : ByteArray := prog_38_method_147_code
def yJ15_getBytes : MethodName := ⟨RJ15, "getBytes", "([BIB)V"⟩
def dkwJ15_getBytes_1 : List UInt8 := [184, 0, 212, 167, 0, 18, 42, 180, 0, 9, 3, 43, 28, 42, 180, 0, 9, 190, 184, 0, 106, 177]
abbrev dktJ15_getBytes_1 : List UInt8 := dkwJ15_getBytes_1 ++ []
def dkwJ15_getBytes_0 : List UInt8 := [42, 182, 1, 79, 29, 160, 0, 23, 42, 180, 0, 9, 3, 43, 28, 29, 120, 42, 180, 0, 9, 190]
abbrev dktJ15_getBytes_0 : List UInt8 := dkwJ15_getBytes_0 ++ dktJ15_getBytes_1
theorem dksJ15_getBytes_0 : cJ15_getBytes.data.toList.drop 0 = dktJ15_getBytes_0 := by decide +kernel
theorem dksJ15_getBytes_1 : cJ15_getBytes.data.toList.drop 22 = dktJ15_getBytes_1 := dk_seg dksJ15_getBytes_0 22 rfl rfl
theorem dJ15_getBytes_0 : decode cJ15_getBytes 0 = .ok (.aload_n 0, 1) := dk_42 (dk_at dksJ15_getBytes_0 0 rfl rfl)
theorem dJ15_getBytes_1 : decode cJ15_getBytes 1 = .ok (.invokevirtual 335, 3) := dk_182 1 79 (dk_at dksJ15_getBytes_0 1 rfl rfl)
theorem dJ15_getBytes_4 : decode cJ15_getBytes 4 = .ok (.iload_n 3, 1) := dk_29 (dk_at dksJ15_getBytes_0 4 rfl rfl)
theorem dJ15_getBytes_5 : decode cJ15_getBytes 5 = .ok (.if_icmp .ne 23, 3) := dk_160 0 23 (dk_at dksJ15_getBytes_0 5 rfl rfl)
theorem dJ15_getBytes_8 : decode cJ15_getBytes 8 = .ok (.aload_n 0, 1) := dk_42 (dk_at dksJ15_getBytes_0 8 rfl rfl)
theorem dJ15_getBytes_9 : decode cJ15_getBytes 9 = .ok (.getfield 9, 3) := dk_180 0 9 (dk_at dksJ15_getBytes_0 9 rfl rfl)
theorem dJ15_getBytes_12 : decode cJ15_getBytes 12 = .ok (.iconst 0, 1) := dk_3 (dk_at dksJ15_getBytes_0 12 rfl rfl)
theorem dJ15_getBytes_13 : decode cJ15_getBytes 13 = .ok (.aload_n 1, 1) := dk_43 (dk_at dksJ15_getBytes_0 13 rfl rfl)
theorem dJ15_getBytes_14 : decode cJ15_getBytes 14 = .ok (.iload_n 2, 1) := dk_28 (dk_at dksJ15_getBytes_0 14 rfl rfl)
theorem dJ15_getBytes_15 : decode cJ15_getBytes 15 = .ok (.iload_n 3, 1) := dk_29 (dk_at dksJ15_getBytes_0 15 rfl rfl)
theorem dJ15_getBytes_16 : decode cJ15_getBytes 16 = .ok (.ishl, 1) := dk_120 (dk_at dksJ15_getBytes_0 16 rfl rfl)
theorem dJ15_getBytes_17 : decode cJ15_getBytes 17 = .ok (.aload_n 0, 1) := dk_42 (dk_at dksJ15_getBytes_0 17 rfl rfl)
theorem dJ15_getBytes_18 : decode cJ15_getBytes 18 = .ok (.getfield 9, 3) := dk_180 0 9 (dk_at dksJ15_getBytes_0 18 rfl rfl)
theorem dJ15_getBytes_21 : decode cJ15_getBytes 21 = .ok (.arraylength, 1) := dk_190 (dk_at dksJ15_getBytes_0 21 rfl rfl)
theorem dJ15_getBytes_22 : decode cJ15_getBytes 22 = .ok (.invokestatic 212, 3) := dk_184 0 212 (dk_at dksJ15_getBytes_1 0 rfl rfl)
theorem dJ15_getBytes_25 : decode cJ15_getBytes 25 = .ok (.goto 18, 3) := dk_167 0 18 (dk_at dksJ15_getBytes_1 3 rfl rfl)
theorem dJ15_getBytes_28 : decode cJ15_getBytes 28 = .ok (.aload_n 0, 1) := dk_42 (dk_at dksJ15_getBytes_1 6 rfl rfl)
theorem dJ15_getBytes_29 : decode cJ15_getBytes 29 = .ok (.getfield 9, 3) := dk_180 0 9 (dk_at dksJ15_getBytes_1 7 rfl rfl)
theorem dJ15_getBytes_32 : decode cJ15_getBytes 32 = .ok (.iconst 0, 1) := dk_3 (dk_at dksJ15_getBytes_1 10 rfl rfl)
theorem dJ15_getBytes_33 : decode cJ15_getBytes 33 = .ok (.aload_n 1, 1) := dk_43 (dk_at dksJ15_getBytes_1 11 rfl rfl)
theorem dJ15_getBytes_34 : decode cJ15_getBytes 34 = .ok (.iload_n 2, 1) := dk_28 (dk_at dksJ15_getBytes_1 12 rfl rfl)
theorem dJ15_getBytes_35 : decode cJ15_getBytes 35 = .ok (.aload_n 0, 1) := dk_42 (dk_at dksJ15_getBytes_1 13 rfl rfl)
theorem dJ15_getBytes_36 : decode cJ15_getBytes 36 = .ok (.getfield 9, 3) := dk_180 0 9 (dk_at dksJ15_getBytes_1 14 rfl rfl)
theorem dJ15_getBytes_39 : decode cJ15_getBytes 39 = .ok (.arraylength, 1) := dk_190 (dk_at dksJ15_getBytes_1 17 rfl rfl)
theorem dJ15_getBytes_40 : decode cJ15_getBytes 40 = .ok (.invokestatic 106, 3) := dk_184 0 106 (dk_at dksJ15_getBytes_1 18 rfl rfl)
theorem dJ15_getBytes_43 : decode cJ15_getBytes 43 = .ok (.return_, 1) := dk_177 (dk_at dksJ15_getBytes_1 21 rfl rfl)
abbrev cJ15_init : ByteArray := prog_38_method_53_code
def yJ15_init : MethodName := ⟨RJ15, "<init>", "(Ljava/lang/StringBuilder;)V"⟩
def dkwJ15_init_0 : List UInt8 := [42, 43, 1, 183, 1, 233, 177]
abbrev dktJ15_init_0 : List UInt8 := dkwJ15_init_0 ++ []
theorem dksJ15_init_0 : cJ15_init.data.toList.drop 0 = dktJ15_init_0 := by decide +kernel
theorem dJ15_init_0 : decode cJ15_init 0 = .ok (.aload_n 0, 1) := dk_42 (dk_at dksJ15_init_0 0 rfl rfl)
theorem dJ15_init_1 : decode cJ15_init 1 = .ok (.aload_n 1, 1) := dk_43 (dk_at dksJ15_init_0 1 rfl rfl)
theorem dJ15_init_2 : decode cJ15_init 2 = .ok (.aconst_null, 1) := dk_1 (dk_at dksJ15_init_0 2 rfl rfl)
theorem dJ15_init_3 : decode cJ15_init 3 = .ok (.invokespecial 489, 3) := dk_183 1 233 (dk_at dksJ15_init_0 3 rfl rfl)
theorem dJ15_init_6 : decode cJ15_init 6 = .ok (.return_, 1) := dk_177 (dk_at dksJ15_init_0 6 rfl rfl)
abbrev cJ15_init_2 : ByteArray := prog_38_method_150_code
def yJ15_init_2 : MethodName := ⟨RJ15, "<init>", "(Ljava/lang/AbstractStringBuilder;Ljava/lang/Void;)V"⟩
def dkwJ15_init_2_4 : List UInt8 := [181, 0, 9, 177]
abbrev dktJ15_init_2_4 : List UInt8 := dkwJ15_init_2_4 ++ []
def dkwJ15_init_2_3 : List UInt8 := [184, 0, 47, 181, 0, 15, 177, 42, 4, 181, 0, 15, 42, 45, 3, 21, 4, 4, 120, 184, 0, 54]
abbrev dktJ15_init_2_3 : List UInt8 := dkwJ15_init_2_3 ++ dktJ15_init_2_4
def dkwJ15_init_2_2 : List UInt8 := [180, 4, 24, 153, 0, 28, 42, 45, 3, 21, 4, 184, 4, 27, 181, 0, 9, 42, 42, 180, 0, 9, 21, 4]
abbrev dktJ15_init_2_2 : List UInt8 := dkwJ15_init_2_2 ++ dktJ15_init_2_3
def dkwJ15_init_2_1 : List UInt8 := [181, 0, 15, 42, 45, 3, 21, 4, 184, 0, 54, 181, 0, 9, 167, 0, 59, 178, 0, 38, 153, 0, 35, 43]
abbrev dktJ15_init_2_1 : List UInt8 := dkwJ15_init_2_1 ++ dktJ15_init_2_2
def dkwJ15_init_2_0 : List UInt8 := [42, 183, 0, 1, 43, 182, 2, 40, 78, 43, 182, 2, 37, 54, 4, 43, 182, 4, 23, 153, 0, 22, 42, 3]
abbrev dktJ15_init_2_0 : List UInt8 := dkwJ15_init_2_0 ++ dktJ15_init_2_1
theorem dksJ15_init_2_0 : cJ15_init_2.data.toList.drop 0 = dktJ15_init_2_0 := by decide +kernel
theorem dksJ15_init_2_1 : cJ15_init_2.data.toList.drop 24 = dktJ15_init_2_1 := dk_seg dksJ15_init_2_0 24 rfl rfl
theorem dksJ15_init_2_2 : cJ15_init_2.data.toList.drop 48 = dktJ15_init_2_2 := dk_seg dksJ15_init_2_1 24 rfl rfl
theorem dksJ15_init_2_3 : cJ15_init_2.data.toList.drop 72 = dktJ15_init_2_3 := dk_seg dksJ15_init_2_2 24 rfl rfl
theorem dksJ15_init_2_4 : cJ15_init_2.data.toList.drop 94 = dktJ15_init_2_4 := dk_seg dksJ15_init_2_3 22 rfl rfl
theorem dJ15_init_2_0 : decode cJ15_init_2 0 = .ok (.aload_n 0, 1) := dk_42 (dk_at dksJ15_init_2_0 0 rfl rfl)
theorem dJ15_init_2_1 : decode cJ15_init_2 1 = .ok (.invokespecial 1, 3) := dk_183 0 1 (dk_at dksJ15_init_2_0 1 rfl rfl)
theorem dJ15_init_2_4 : decode cJ15_init_2 4 = .ok (.aload_n 1, 1) := dk_43 (dk_at dksJ15_init_2_0 4 rfl rfl)
theorem dJ15_init_2_5 : decode cJ15_init_2 5 = .ok (.invokevirtual 552, 3) := dk_182 2 40 (dk_at dksJ15_init_2_0 5 rfl rfl)
theorem dJ15_init_2_8 : decode cJ15_init_2 8 = .ok (.astore_n 3, 1) := dk_78 (dk_at dksJ15_init_2_0 8 rfl rfl)
theorem dJ15_init_2_9 : decode cJ15_init_2 9 = .ok (.aload_n 1, 1) := dk_43 (dk_at dksJ15_init_2_0 9 rfl rfl)
theorem dJ15_init_2_10 : decode cJ15_init_2 10 = .ok (.invokevirtual 549, 3) := dk_182 2 37 (dk_at dksJ15_init_2_0 10 rfl rfl)
theorem dJ15_init_2_13 : decode cJ15_init_2 13 = .ok (.istore 4, 2) := dk_54 4 (dk_at dksJ15_init_2_0 13 rfl rfl)
theorem dJ15_init_2_15 : decode cJ15_init_2 15 = .ok (.aload_n 1, 1) := dk_43 (dk_at dksJ15_init_2_0 15 rfl rfl)
theorem dJ15_init_2_16 : decode cJ15_init_2 16 = .ok (.invokevirtual 1047, 3) := dk_182 4 23 (dk_at dksJ15_init_2_0 16 rfl rfl)
theorem dJ15_init_2_19 : decode cJ15_init_2 19 = .ok (.ifCond .eq 22, 3) := dk_153 0 22 (dk_at dksJ15_init_2_0 19 rfl rfl)
theorem dJ15_init_2_22 : decode cJ15_init_2 22 = .ok (.aload_n 0, 1) := dk_42 (dk_at dksJ15_init_2_0 22 rfl rfl)
theorem dJ15_init_2_23 : decode cJ15_init_2 23 = .ok (.iconst 0, 1) := dk_3 (dk_at dksJ15_init_2_0 23 rfl rfl)
theorem dJ15_init_2_24 : decode cJ15_init_2 24 = .ok (.putfield 15, 3) := dk_181 0 15 (dk_at dksJ15_init_2_1 0 rfl rfl)
theorem dJ15_init_2_27 : decode cJ15_init_2 27 = .ok (.aload_n 0, 1) := dk_42 (dk_at dksJ15_init_2_1 3 rfl rfl)
theorem dJ15_init_2_28 : decode cJ15_init_2 28 = .ok (.aload_n 3, 1) := dk_45 (dk_at dksJ15_init_2_1 4 rfl rfl)
theorem dJ15_init_2_29 : decode cJ15_init_2 29 = .ok (.iconst 0, 1) := dk_3 (dk_at dksJ15_init_2_1 5 rfl rfl)
theorem dJ15_init_2_30 : decode cJ15_init_2 30 = .ok (.iload 4, 2) := dk_21 4 (dk_at dksJ15_init_2_1 6 rfl rfl)
theorem dJ15_init_2_32 : decode cJ15_init_2 32 = .ok (.invokestatic 54, 3) := dk_184 0 54 (dk_at dksJ15_init_2_1 8 rfl rfl)
theorem dJ15_init_2_35 : decode cJ15_init_2 35 = .ok (.putfield 9, 3) := dk_181 0 9 (dk_at dksJ15_init_2_1 11 rfl rfl)
theorem dJ15_init_2_38 : decode cJ15_init_2 38 = .ok (.goto 59, 3) := dk_167 0 59 (dk_at dksJ15_init_2_1 14 rfl rfl)
theorem dJ15_init_2_41 : decode cJ15_init_2 41 = .ok (.getstatic 38, 3) := dk_178 0 38 (dk_at dksJ15_init_2_1 17 rfl rfl)
theorem dJ15_init_2_44 : decode cJ15_init_2 44 = .ok (.ifCond .eq 35, 3) := dk_153 0 35 (dk_at dksJ15_init_2_1 20 rfl rfl)
theorem dJ15_init_2_47 : decode cJ15_init_2 47 = .ok (.aload_n 1, 1) := dk_43 (dk_at dksJ15_init_2_1 23 rfl rfl)
theorem dJ15_init_2_48 : decode cJ15_init_2 48 = .ok (.getfield 1048, 3) := dk_180 4 24 (dk_at dksJ15_init_2_2 0 rfl rfl)
theorem dJ15_init_2_51 : decode cJ15_init_2 51 = .ok (.ifCond .eq 28, 3) := dk_153 0 28 (dk_at dksJ15_init_2_2 3 rfl rfl)
theorem dJ15_init_2_54 : decode cJ15_init_2 54 = .ok (.aload_n 0, 1) := dk_42 (dk_at dksJ15_init_2_2 6 rfl rfl)
theorem dJ15_init_2_55 : decode cJ15_init_2 55 = .ok (.aload_n 3, 1) := dk_45 (dk_at dksJ15_init_2_2 7 rfl rfl)
theorem dJ15_init_2_56 : decode cJ15_init_2 56 = .ok (.iconst 0, 1) := dk_3 (dk_at dksJ15_init_2_2 8 rfl rfl)
theorem dJ15_init_2_57 : decode cJ15_init_2 57 = .ok (.iload 4, 2) := dk_21 4 (dk_at dksJ15_init_2_2 9 rfl rfl)
theorem dJ15_init_2_59 : decode cJ15_init_2 59 = .ok (.invokestatic 1051, 3) := dk_184 4 27 (dk_at dksJ15_init_2_2 11 rfl rfl)
theorem dJ15_init_2_62 : decode cJ15_init_2 62 = .ok (.putfield 9, 3) := dk_181 0 9 (dk_at dksJ15_init_2_2 14 rfl rfl)
theorem dJ15_init_2_65 : decode cJ15_init_2 65 = .ok (.aload_n 0, 1) := dk_42 (dk_at dksJ15_init_2_2 17 rfl rfl)
theorem dJ15_init_2_66 : decode cJ15_init_2 66 = .ok (.aload_n 0, 1) := dk_42 (dk_at dksJ15_init_2_2 18 rfl rfl)
theorem dJ15_init_2_67 : decode cJ15_init_2 67 = .ok (.getfield 9, 3) := dk_180 0 9 (dk_at dksJ15_init_2_2 19 rfl rfl)
theorem dJ15_init_2_70 : decode cJ15_init_2 70 = .ok (.iload 4, 2) := dk_21 4 (dk_at dksJ15_init_2_2 22 rfl rfl)
theorem dJ15_init_2_72 : decode cJ15_init_2 72 = .ok (.invokestatic 47, 3) := dk_184 0 47 (dk_at dksJ15_init_2_3 0 rfl rfl)
theorem dJ15_init_2_75 : decode cJ15_init_2 75 = .ok (.putfield 15, 3) := dk_181 0 15 (dk_at dksJ15_init_2_3 3 rfl rfl)
theorem dJ15_init_2_78 : decode cJ15_init_2 78 = .ok (.return_, 1) := dk_177 (dk_at dksJ15_init_2_3 6 rfl rfl)
theorem dJ15_init_2_79 : decode cJ15_init_2 79 = .ok (.aload_n 0, 1) := dk_42 (dk_at dksJ15_init_2_3 7 rfl rfl)
theorem dJ15_init_2_80 : decode cJ15_init_2 80 = .ok (.iconst 1, 1) := dk_4 (dk_at dksJ15_init_2_3 8 rfl rfl)
theorem dJ15_init_2_81 : decode cJ15_init_2 81 = .ok (.putfield 15, 3) := dk_181 0 15 (dk_at dksJ15_init_2_3 9 rfl rfl)
theorem dJ15_init_2_84 : decode cJ15_init_2 84 = .ok (.aload_n 0, 1) := dk_42 (dk_at dksJ15_init_2_3 12 rfl rfl)
theorem dJ15_init_2_85 : decode cJ15_init_2 85 = .ok (.aload_n 3, 1) := dk_45 (dk_at dksJ15_init_2_3 13 rfl rfl)
theorem dJ15_init_2_86 : decode cJ15_init_2 86 = .ok (.iconst 0, 1) := dk_3 (dk_at dksJ15_init_2_3 14 rfl rfl)
theorem dJ15_init_2_87 : decode cJ15_init_2 87 = .ok (.iload 4, 2) := dk_21 4 (dk_at dksJ15_init_2_3 15 rfl rfl)
theorem dJ15_init_2_89 : decode cJ15_init_2 89 = .ok (.iconst 1, 1) := dk_4 (dk_at dksJ15_init_2_3 17 rfl rfl)
theorem dJ15_init_2_90 : decode cJ15_init_2 90 = .ok (.ishl, 1) := dk_120 (dk_at dksJ15_init_2_3 18 rfl rfl)
theorem dJ15_init_2_91 : decode cJ15_init_2 91 = .ok (.invokestatic 54, 3) := dk_184 0 54 (dk_at dksJ15_init_2_3 19 rfl rfl)
theorem dJ15_init_2_94 : decode cJ15_init_2 94 = .ok (.putfield 9, 3) := dk_181 0 9 (dk_at dksJ15_init_2_4 0 rfl rfl)
theorem dJ15_init_2_97 : decode cJ15_init_2 97 = .ok (.return_, 1) := dk_177 (dk_at dksJ15_init_2_4 3 rfl rfl)
abbrev cJ15_equals : ByteArray := prog_38_method_66_code
def yJ15_equals : MethodName := ⟨RJ15, "equals", "(Ljava/lang/Object;)Z"⟩
def dkwJ15_equals_2 : List UInt8 := [184, 2, 29, 153, 0, 7, 4, 167, 0, 4, 3, 172]
abbrev dktJ15_equals_2 : List UInt8 := dkwJ15_equals_2 ++ []
def dkwJ15_equals_1 : List UInt8 := [153, 0, 14, 42, 180, 0, 15, 44, 180, 0, 15, 160, 0, 21, 42, 180, 0, 9, 44, 180, 0, 9]
abbrev dktJ15_equals_1 : List UInt8 := dkwJ15_equals_1 ++ dktJ15_equals_2
def dkwJ15_equals_0 : List UInt8 := [42, 43, 166, 0, 5, 4, 172, 43, 193, 0, 10, 153, 0, 43, 43, 192, 0, 10, 77, 178, 0, 38]
abbrev dktJ15_equals_0 : List UInt8 := dkwJ15_equals_0 ++ dktJ15_equals_1
theorem dksJ15_equals_0 : cJ15_equals.data.toList.drop 0 = dktJ15_equals_0 := by decide +kernel
theorem dksJ15_equals_1 : cJ15_equals.data.toList.drop 22 = dktJ15_equals_1 := dk_seg dksJ15_equals_0 22 rfl rfl
theorem dksJ15_equals_2 : cJ15_equals.data.toList.drop 44 = dktJ15_equals_2 := dk_seg dksJ15_equals_1 22 rfl rfl
theorem dJ15_equals_0 : decode cJ15_equals 0 = .ok (.aload_n 0, 1) := dk_42 (dk_at dksJ15_equals_0 0 rfl rfl)
theorem dJ15_equals_1 : decode cJ15_equals 1 = .ok (.aload_n 1, 1) := dk_43 (dk_at dksJ15_equals_0 1 rfl rfl)
theorem dJ15_equals_2 : decode cJ15_equals 2 = .ok (.if_acmp .ne 5, 3) := dk_166 0 5 (dk_at dksJ15_equals_0 2 rfl rfl)
theorem dJ15_equals_5 : decode cJ15_equals 5 = .ok (.iconst 1, 1) := dk_4 (dk_at dksJ15_equals_0 5 rfl rfl)
theorem dJ15_equals_6 : decode cJ15_equals 6 = .ok (.ireturn, 1) := dk_172 (dk_at dksJ15_equals_0 6 rfl rfl)
theorem dJ15_equals_7 : decode cJ15_equals 7 = .ok (.aload_n 1, 1) := dk_43 (dk_at dksJ15_equals_0 7 rfl rfl)
theorem dJ15_equals_8 : decode cJ15_equals 8 = .ok (.instanceof 10, 3) := dk_193 0 10 (dk_at dksJ15_equals_0 8 rfl rfl)
theorem dJ15_equals_11 : decode cJ15_equals 11 = .ok (.ifCond .eq 43, 3) := dk_153 0 43 (dk_at dksJ15_equals_0 11 rfl rfl)
theorem dJ15_equals_14 : decode cJ15_equals 14 = .ok (.aload_n 1, 1) := dk_43 (dk_at dksJ15_equals_0 14 rfl rfl)
theorem dJ15_equals_15 : decode cJ15_equals 15 = .ok (.checkcast 10, 3) := dk_192 0 10 (dk_at dksJ15_equals_0 15 rfl rfl)
theorem dJ15_equals_18 : decode cJ15_equals 18 = .ok (.astore_n 2, 1) := dk_77 (dk_at dksJ15_equals_0 18 rfl rfl)
theorem dJ15_equals_19 : decode cJ15_equals 19 = .ok (.getstatic 38, 3) := dk_178 0 38 (dk_at dksJ15_equals_0 19 rfl rfl)
theorem dJ15_equals_22 : decode cJ15_equals 22 = .ok (.ifCond .eq 14, 3) := dk_153 0 14 (dk_at dksJ15_equals_1 0 rfl rfl)
theorem dJ15_equals_25 : decode cJ15_equals 25 = .ok (.aload_n 0, 1) := dk_42 (dk_at dksJ15_equals_1 3 rfl rfl)
theorem dJ15_equals_26 : decode cJ15_equals 26 = .ok (.getfield 15, 3) := dk_180 0 15 (dk_at dksJ15_equals_1 4 rfl rfl)
theorem dJ15_equals_29 : decode cJ15_equals 29 = .ok (.aload_n 2, 1) := dk_44 (dk_at dksJ15_equals_1 7 rfl rfl)
theorem dJ15_equals_30 : decode cJ15_equals 30 = .ok (.getfield 15, 3) := dk_180 0 15 (dk_at dksJ15_equals_1 8 rfl rfl)
theorem dJ15_equals_33 : decode cJ15_equals 33 = .ok (.if_icmp .ne 21, 3) := dk_160 0 21 (dk_at dksJ15_equals_1 11 rfl rfl)
theorem dJ15_equals_36 : decode cJ15_equals 36 = .ok (.aload_n 0, 1) := dk_42 (dk_at dksJ15_equals_1 14 rfl rfl)
theorem dJ15_equals_37 : decode cJ15_equals 37 = .ok (.getfield 9, 3) := dk_180 0 9 (dk_at dksJ15_equals_1 15 rfl rfl)
theorem dJ15_equals_40 : decode cJ15_equals 40 = .ok (.aload_n 2, 1) := dk_44 (dk_at dksJ15_equals_1 18 rfl rfl)
theorem dJ15_equals_41 : decode cJ15_equals 41 = .ok (.getfield 9, 3) := dk_180 0 9 (dk_at dksJ15_equals_1 19 rfl rfl)
theorem dJ15_equals_44 : decode cJ15_equals 44 = .ok (.invokestatic 541, 3) := dk_184 2 29 (dk_at dksJ15_equals_2 0 rfl rfl)
theorem dJ15_equals_47 : decode cJ15_equals 47 = .ok (.ifCond .eq 7, 3) := dk_153 0 7 (dk_at dksJ15_equals_2 3 rfl rfl)
theorem dJ15_equals_50 : decode cJ15_equals 50 = .ok (.iconst 1, 1) := dk_4 (dk_at dksJ15_equals_2 6 rfl rfl)
theorem dJ15_equals_51 : decode cJ15_equals 51 = .ok (.goto 4, 3) := dk_167 0 4 (dk_at dksJ15_equals_2 7 rfl rfl)
theorem dJ15_equals_54 : decode cJ15_equals 54 = .ok (.iconst 0, 1) := dk_3 (dk_at dksJ15_equals_2 10 rfl rfl)
theorem dJ15_equals_55 : decode cJ15_equals 55 = .ok (.ireturn, 1) := dk_172 (dk_at dksJ15_equals_2 11 rfl rfl)
theorem q93 : (Jvm.Cond.initialized "java/lang/String") ∈ lw_all := lw_g (lw_at lw_m1 24 rfl) rfl
theorem q253 : (Jvm.Cond.selects "java/lang/String" ({ cls := "java/lang/Object", name := "getClass", desc := "()Ljava/lang/Class;" } : Jvm.MethodName) ({ cls := "java/lang/Object", name := "getClass", desc := "()Ljava/lang/Class;" } : Jvm.MethodName)) ∈ lw_all := lw_g (lw_at lw_m1 184 rfl) rfl
theorem q947 : (Jvm.Cond.instantiable "java/lang/String" (4 : Nat)) ∈ lw_all := lw_g (lw_at lw_m4 158 rfl) rfl
theorem q949 : (Jvm.Cond.laysFinal "java/lang/String" "java/lang/String" "value" "[B") ∈ lw_all := lw_g (lw_at lw_m4 160 rfl) rfl
theorem q950 : (Jvm.Cond.soleField "java/lang/String" "value") ∈ lw_all := lw_g (lw_at lw_m4 161 rfl) rfl
theorem q951 : (Jvm.Cond.laysFinal "java/lang/String" "java/lang/String" "coder" "B") ∈ lw_all := lw_g (lw_at lw_m4 162 rfl) rfl
theorem q952 : (Jvm.Cond.soleField "java/lang/String" "coder") ∈ lw_all := lw_g (lw_at lw_m4 163 rfl) rfl
theorem q1263 : (Jvm.Cond.instanceMethod ({ cls := "java/lang/String", name := "length", desc := "()I" } : Jvm.MethodName)) ∈ lw_all := lw_g (lw_at lw_m5 234 rfl) rfl
theorem q1264 : (Jvm.Cond.selects "java/lang/String" ({ cls := "java/lang/String", name := "length", desc := "()I" } : Jvm.MethodName) ({ cls := "java/lang/String", name := "length", desc := "()I" } : Jvm.MethodName)) ∈ lw_all := lw_g (lw_at lw_m5 235 rfl) rfl
theorem q1265 : (Jvm.Cond.code ({ cls := "java/lang/String", name := "length", desc := "()I" } : Jvm.MethodName) prog_38_method_54_code (1 : Nat) (Option.some Jvm.ClassFile.FieldType.int)) ∈ lw_all := lw_g (lw_at lw_m5 236 rfl) rfl
theorem q1266 : (Jvm.Cond.methodLink "java/lang/String" (335 : Nat) ({ cls := "java/lang/String", name := "coder", desc := "()B" } : Jvm.MethodName)) ∈ lw_all := lw_g (lw_at lw_m5 237 rfl) rfl
theorem q1267 : (Jvm.Cond.instanceMethod ({ cls := "java/lang/String", name := "coder", desc := "()B" } : Jvm.MethodName)) ∈ lw_all := lw_g (lw_at lw_m5 238 rfl) rfl
theorem q1268 : (Jvm.Cond.selects "java/lang/String" ({ cls := "java/lang/String", name := "coder", desc := "()B" } : Jvm.MethodName) ({ cls := "java/lang/String", name := "coder", desc := "()B" } : Jvm.MethodName)) ∈ lw_all := lw_g (lw_at lw_m5 239 rfl) rfl
theorem q1269 : (Jvm.Cond.code ({ cls := "java/lang/String", name := "coder", desc := "()B" } : Jvm.MethodName) prog_38_method_152_code (1 : Nat) (Option.some Jvm.ClassFile.FieldType.byte)) ∈ lw_all := lw_g (lw_at lw_m6 0 rfl) rfl
theorem q1270 : (Jvm.Cond.fieldLink "java/lang/String" (38 : Nat) "java/lang/String" "COMPACT_STRINGS" "Z") ∈ lw_all := lw_g (lw_at lw_m6 1 rfl) rfl
theorem q1271 : (Jvm.Cond.laysStatic "java/lang/String" "COMPACT_STRINGS" "Z") ∈ lw_tbl := lw_at lw_m6 2 rfl
theorem q1334 : (Jvm.Cond.static ({ cls := "java/lang/String", name := "checkBoundsBeginEnd", desc := "(III)V" } : Jvm.MethodName)) ∈ lw_all := lw_g (lw_at lw_m6 65 rfl) rfl
theorem q1335 : (Jvm.Cond.code ({ cls := "java/lang/String", name := "checkBoundsBeginEnd", desc := "(III)V" } : Jvm.MethodName) prog_38_method_158_code (3 : Nat) (Option.none : Option Jvm.ClassFile.FieldType)) ∈ lw_all := lw_g (lw_at lw_m6 66 rfl) rfl
theorem q1336 : (Jvm.Cond.fieldLink "java/lang/String" (1053 : Nat) "jdk/internal/util/Preconditions" "SIOOBE_FORMATTER" "Ljava/util/function/BiFunction;") ∈ lw_all := lw_g (lw_at lw_m6 67 rfl) rfl
theorem q1338 : (Jvm.Cond.methodLink "java/lang/String" (1062 : Nat) ({ cls := "jdk/internal/util/Preconditions", name := "checkFromToIndex", desc := "(IIILjava/util/function/BiFunction;)I" } : Jvm.MethodName)) ∈ lw_all := lw_g (lw_at lw_m6 69 rfl) rfl
theorem q1372 : (Jvm.Cond.static ({ cls := "java/lang/String", name := "checkBoundsOffCount", desc := "(III)I" } : Jvm.MethodName)) ∈ lw_all := lw_g (lw_at lw_m6 103 rfl) rfl
theorem q1373 : (Jvm.Cond.code ({ cls := "java/lang/String", name := "checkBoundsOffCount", desc := "(III)I" } : Jvm.MethodName) prog_38_method_157_code (3 : Nat) (Option.some Jvm.ClassFile.FieldType.int)) ∈ lw_all := lw_g (lw_at lw_m6 104 rfl) rfl
theorem q1374 : (Jvm.Cond.methodLink "java/lang/String" (1065 : Nat) ({ cls := "jdk/internal/util/Preconditions", name := "checkFromIndexSize", desc := "(IIILjava/util/function/BiFunction;)I" } : Jvm.MethodName)) ∈ lw_all := lw_g (lw_at lw_m6 105 rfl) rfl
theorem q1378 : (Jvm.Cond.instanceMethod ({ cls := "java/lang/String", name := "getBytes", desc := "([BIB)V" } : Jvm.MethodName)) ∈ lw_all := lw_g (lw_at lw_m6 109 rfl) rfl
theorem q1379 : (Jvm.Cond.selects "java/lang/String" ({ cls := "java/lang/String", name := "getBytes", desc := "([BIB)V" } : Jvm.MethodName) ({ cls := "java/lang/String", name := "getBytes", desc := "([BIB)V" } : Jvm.MethodName)) ∈ lw_all := lw_g (lw_at lw_m6 110 rfl) rfl
theorem q1380 : (Jvm.Cond.code ({ cls := "java/lang/String", name := "getBytes", desc := "([BIB)V" } : Jvm.MethodName) prog_38_method_147_code (4 : Nat) (Option.none : Option Jvm.ClassFile.FieldType)) ∈ lw_all := lw_g (lw_at lw_m6 111 rfl) rfl
theorem q1381 : (Jvm.Cond.methodLink "java/lang/String" (212 : Nat) ({ cls := "java/lang/System", name := "arraycopy", desc := "(Ljava/lang/Object;ILjava/lang/Object;II)V" } : Jvm.MethodName)) ∈ lw_all := lw_g (lw_at lw_m6 112 rfl) rfl
theorem q1382 : (Jvm.Cond.methodLink "java/lang/String" (106 : Nat) ({ cls := "java/lang/StringLatin1", name := "inflate", desc := "([BI[BII)V" } : Jvm.MethodName)) ∈ lw_all := lw_g (lw_at lw_m6 113 rfl) rfl
theorem q1385 : (Jvm.Cond.fieldLink "java/lang/String" (1048 : Nat) "java/lang/AbstractStringBuilder" "maybeLatin1" "Z") ∈ lw_all := lw_g (lw_at lw_m6 116 rfl) rfl
theorem q1441 : (Jvm.Cond.instanceMethod ({ cls := "java/lang/String", name := "<init>", desc := "(Ljava/lang/StringBuilder;)V" } : Jvm.MethodName)) ∈ lw_all := lw_g (lw_at lw_m6 172 rfl) rfl
theorem q1442 : (Jvm.Cond.code ({ cls := "java/lang/String", name := "<init>", desc := "(Ljava/lang/StringBuilder;)V" } : Jvm.MethodName) prog_38_method_53_code (2 : Nat) (Option.none : Option Jvm.ClassFile.FieldType)) ∈ lw_all := lw_g (lw_at lw_m6 173 rfl) rfl
theorem q1443 : (Jvm.Cond.methodLink "java/lang/String" (489 : Nat) ({ cls := "java/lang/String", name := "<init>", desc := "(Ljava/lang/AbstractStringBuilder;Ljava/lang/Void;)V" } : Jvm.MethodName)) ∈ lw_all := lw_g (lw_at lw_m6 174 rfl) rfl
theorem q1444 : (Jvm.Cond.instanceMethod ({ cls := "java/lang/String", name := "<init>", desc := "(Ljava/lang/AbstractStringBuilder;Ljava/lang/Void;)V" } : Jvm.MethodName)) ∈ lw_all := lw_g (lw_at lw_m6 175 rfl) rfl
theorem q1445 : (Jvm.Cond.code ({ cls := "java/lang/String", name := "<init>", desc := "(Ljava/lang/AbstractStringBuilder;Ljava/lang/Void;)V" } : Jvm.MethodName) prog_38_method_150_code (5 : Nat) (Option.none : Option Jvm.ClassFile.FieldType)) ∈ lw_all := lw_g (lw_at lw_m6 176 rfl) rfl
theorem q1446 : (Jvm.Cond.methodLink "java/lang/String" (1 : Nat) ({ cls := "java/lang/Object", name := "<init>", desc := "()V" } : Jvm.MethodName)) ∈ lw_all := lw_g (lw_at lw_m6 177 rfl) rfl
theorem q1447 : (Jvm.Cond.methodLink "java/lang/String" (552 : Nat) ({ cls := "java/lang/AbstractStringBuilder", name := "getValue", desc := "()[B" } : Jvm.MethodName)) ∈ lw_all := lw_g (lw_at lw_m6 178 rfl) rfl
theorem q1452 : (Jvm.Cond.methodLink "java/lang/String" (549 : Nat) ({ cls := "java/lang/AbstractStringBuilder", name := "length", desc := "()I" } : Jvm.MethodName)) ∈ lw_all := lw_g (lw_at lw_m6 183 rfl) rfl
theorem q1460 : (Jvm.Cond.methodLink "java/lang/String" (1047 : Nat) ({ cls := "java/lang/AbstractStringBuilder", name := "isLatin1", desc := "()Z" } : Jvm.MethodName)) ∈ lw_all := lw_g (lw_at lw_m6 191 rfl) rfl
theorem q1461 : (Jvm.Cond.methodLink "java/lang/String" (54 : Nat) ({ cls := "java/util/Arrays", name := "copyOfRange", desc := "([BII)[B" } : Jvm.MethodName)) ∈ lw_all := lw_g (lw_at lw_m6 192 rfl) rfl
theorem q1481 : (Jvm.Cond.methodLink "java/lang/String" (1051 : Nat) ({ cls := "java/lang/StringUTF16", name := "compress", desc := "([BII)[B" } : Jvm.MethodName)) ∈ lw_all := lw_g (lw_at lw_m6 212 rfl) rfl
theorem q1491 : (Jvm.Cond.methodLink "java/lang/String" (47 : Nat) ({ cls := "java/lang/StringUTF16", name := "coderFromArrayLen", desc := "([BI)B" } : Jvm.MethodName)) ∈ lw_all := lw_g (lw_at lw_m6 222 rfl) rfl
theorem q1494 : (Jvm.Cond.fieldLink "java/lang/String" (9 : Nat) "java/lang/String" "value" "[B") ∈ lw_all := lw_g (lw_at lw_m6 225 rfl) rfl
theorem q1495 : (Jvm.Cond.fieldLink "java/lang/String" (15 : Nat) "java/lang/String" "coder" "B") ∈ lw_all := lw_g (lw_at lw_m6 226 rfl) rfl
theorem q1496 : (Jvm.Cond.lays "java/lang/String" "java/lang/String" "hash" "I") ∈ lw_all := lw_g (lw_at lw_m6 227 rfl) rfl
theorem q1497 : (Jvm.Cond.soleField "java/lang/String" "hash") ∈ lw_all := lw_g (lw_at lw_m6 228 rfl) rfl
theorem q1498 : (Jvm.Cond.lays "java/lang/String" "java/lang/String" "hashIsZero" "Z") ∈ lw_all := lw_g (lw_at lw_m6 229 rfl) rfl
theorem q1499 : (Jvm.Cond.soleField "java/lang/String" "hashIsZero") ∈ lw_all := lw_g (lw_at lw_m6 230 rfl) rfl
theorem q1500 : (Jvm.Cond.superclass "java/lang/String" "java/lang/Object") ∈ lw_all := lw_g (lw_at lw_m6 231 rfl) rfl
theorem q2076 : (Jvm.Cond.instanceMethod ({ cls := "java/lang/String", name := "equals", desc := "(Ljava/lang/Object;)Z" } : Jvm.MethodName)) ∈ lw_all := lw_g (lw_at lw_m9 87 rfl) rfl
theorem q2077 : (Jvm.Cond.selects "java/lang/String" ({ cls := "java/lang/String", name := "equals", desc := "(Ljava/lang/Object;)Z" } : Jvm.MethodName) ({ cls := "java/lang/String", name := "equals", desc := "(Ljava/lang/Object;)Z" } : Jvm.MethodName)) ∈ lw_all := lw_g (lw_at lw_m9 88 rfl) rfl
theorem q2078 : (Jvm.Cond.code ({ cls := "java/lang/String", name := "equals", desc := "(Ljava/lang/Object;)Z" } : Jvm.MethodName) prog_38_method_66_code (3 : Nat) (Option.some Jvm.ClassFile.FieldType.boolean)) ∈ lw_all := lw_g (lw_at lw_m9 89 rfl) rfl
theorem q2079 : (Jvm.Cond.classLink "java/lang/String" (10 : Nat) "java/lang/String") ∈ lw_all := lw_g (lw_at lw_m9 90 rfl) rfl
theorem q2080 : (Jvm.Cond.methodLink "java/lang/String" (541 : Nat) ({ cls := "java/lang/StringLatin1", name := "equals", desc := "([B[B)Z" } : Jvm.MethodName)) ∈ lw_all := lw_g (lw_at lw_m9 91 rfl) rfl
theorem q2122 : (Jvm.Cond.castable "java/lang/String" "java/lang/Object") ∈ lw_tbl := lw_at lw_m9 133 rfl
theorem in_J15 : ∀ w ∈ wsJ150, w ∈ lw_all := lw_in wsJ150 [949, 951, 1496, 1498] (by decide +kernel) (by decide +kernel)
/-! java/util/Objects -/
set_option maxRecDepth 100000
def RJ16 : String := "java/util/Objects"
abbrev cJ16_checkIndex : ByteArray := prog_54_method_17_code
def yJ16_checkIndex : MethodName := ⟨RJ16, "checkIndex", "(II)I"⟩
def dkwJ16_checkIndex_0 : List UInt8 := [26, 27, 1, 184, 0, 105, 172]
abbrev dktJ16_checkIndex_0 : List UInt8 := dkwJ16_checkIndex_0 ++ []
theorem dksJ16_checkIndex_0 : cJ16_checkIndex.data.toList.drop 0 = dktJ16_checkIndex_0 := by decide +kernel
theorem dJ16_checkIndex_0 : decode cJ16_checkIndex 0 = .ok (.iload_n 0, 1) := dk_26 (dk_at dksJ16_checkIndex_0 0 rfl rfl)
theorem dJ16_checkIndex_1 : decode cJ16_checkIndex 1 = .ok (.iload_n 1, 1) := dk_27 (dk_at dksJ16_checkIndex_0 1 rfl rfl)
theorem dJ16_checkIndex_2 : decode cJ16_checkIndex 2 = .ok (.aconst_null, 1) := dk_1 (dk_at dksJ16_checkIndex_0 2 rfl rfl)
theorem dJ16_checkIndex_3 : decode cJ16_checkIndex 3 = .ok (.invokestatic 105, 3) := dk_184 0 105 (dk_at dksJ16_checkIndex_0 3 rfl rfl)
theorem dJ16_checkIndex_6 : decode cJ16_checkIndex 6 = .ok (.ireturn, 1) := dk_172 (dk_at dksJ16_checkIndex_0 6 rfl rfl)
abbrev cJ16_requireNonNull : ByteArray := prog_54_method_10_code
def yJ16_requireNonNull : MethodName := ⟨RJ16, "requireNonNull", "(Ljava/lang/Object;)Ljava/lang/Object;"⟩
def dkwJ16_requireNonNull_0 : List UInt8 := [42, 199, 0, 11, 187, 0, 84, 89, 183, 0, 86, 191, 42, 176]
abbrev dktJ16_requireNonNull_0 : List UInt8 := dkwJ16_requireNonNull_0 ++ []
theorem dksJ16_requireNonNull_0 : cJ16_requireNonNull.data.toList.drop 0 = dktJ16_requireNonNull_0 := by decide +kernel
theorem dJ16_requireNonNull_0 : decode cJ16_requireNonNull 0 = .ok (.aload_n 0, 1) := dk_42 (dk_at dksJ16_requireNonNull_0 0 rfl rfl)
theorem dJ16_requireNonNull_1 : decode cJ16_requireNonNull 1 = .ok (.ifnonnull 11, 3) := dk_199 0 11 (dk_at dksJ16_requireNonNull_0 1 rfl rfl)
theorem dJ16_requireNonNull_4 : decode cJ16_requireNonNull 4 = .ok (.new 84, 3) := dk_187 0 84 (dk_at dksJ16_requireNonNull_0 4 rfl rfl)
theorem dJ16_requireNonNull_7 : decode cJ16_requireNonNull 7 = .ok (.dup, 1) := dk_89 (dk_at dksJ16_requireNonNull_0 7 rfl rfl)
theorem dJ16_requireNonNull_8 : decode cJ16_requireNonNull 8 = .ok (.invokespecial 86, 3) := dk_183 0 86 (dk_at dksJ16_requireNonNull_0 8 rfl rfl)
theorem dJ16_requireNonNull_11 : decode cJ16_requireNonNull 11 = .ok (.athrow, 1) := dk_191 (dk_at dksJ16_requireNonNull_0 11 rfl rfl)
theorem dJ16_requireNonNull_12 : decode cJ16_requireNonNull 12 = .ok (.aload_n 0, 1) := dk_42 (dk_at dksJ16_requireNonNull_0 12 rfl rfl)
theorem dJ16_requireNonNull_13 : decode cJ16_requireNonNull 13 = .ok (.areturn, 1) := dk_176 (dk_at dksJ16_requireNonNull_0 13 rfl rfl)
theorem q94 : (Jvm.Cond.initialized "java/util/Objects") ∈ lw_all := lw_g (lw_at lw_m1 25 rfl) rfl
theorem q429 : (Jvm.Cond.static ({ cls := "java/util/Objects", name := "checkIndex", desc := "(II)I" } : Jvm.MethodName)) ∈ lw_all := lw_g (lw_at lw_m2 120 rfl) rfl
theorem q430 : (Jvm.Cond.code ({ cls := "java/util/Objects", name := "checkIndex", desc := "(II)I" } : Jvm.MethodName) prog_54_method_17_code (2 : Nat) (Option.some Jvm.ClassFile.FieldType.int)) ∈ lw_all := lw_g (lw_at lw_m2 121 rfl) rfl
theorem q431 : (Jvm.Cond.methodLink "java/util/Objects" (105 : Nat) ({ cls := "jdk/internal/util/Preconditions", name := "checkIndex", desc := "(IILjava/util/function/BiFunction;)I" } : Jvm.MethodName)) ∈ lw_all := lw_g (lw_at lw_m2 122 rfl) rfl
theorem q553 : (Jvm.Cond.static ({ cls := "java/util/Objects", name := "requireNonNull", desc := "(Ljava/lang/Object;)Ljava/lang/Object;" } : Jvm.MethodName)) ∈ lw_all := lw_g (lw_at lw_m3 4 rfl) rfl
theorem q554 : (Jvm.Cond.code ({ cls := "java/util/Objects", name := "requireNonNull", desc := "(Ljava/lang/Object;)Ljava/lang/Object;" } : Jvm.MethodName) prog_54_method_10_code (1 : Nat) (Option.some (Jvm.ClassFile.FieldType.object "java/lang/Object"))) ∈ lw_all := lw_g (lw_at lw_m3 5 rfl) rfl
/-! jdk/internal/util/Preconditions -/
set_option maxRecDepth 100000
def RJ17 : String := "jdk/internal/util/Preconditions"
abbrev cJ17_checkIndex : ByteArray := prog_59_method_11_code
def yJ17_checkIndex : MethodName := ⟨RJ17, "checkIndex", "(IILjava/util/function/BiFunction;)I"⟩
def dkwJ17_checkIndex_0 : List UInt8 := [26, 155, 0, 8, 26, 27, 161, 0, 10, 44, 26, 27, 184, 0, 95, 191, 26, 172]
abbrev dktJ17_checkIndex_0 : List UInt8 := dkwJ17_checkIndex_0 ++ []
theorem dksJ17_checkIndex_0 : cJ17_checkIndex.data.toList.drop 0 = dktJ17_checkIndex_0 := by decide +kernel
theorem dJ17_checkIndex_0 : decode cJ17_checkIndex 0 = .ok (.iload_n 0, 1) := dk_26 (dk_at dksJ17_checkIndex_0 0 rfl rfl)
theorem dJ17_checkIndex_1 : decode cJ17_checkIndex 1 = .ok (.ifCond .lt 8, 3) := dk_155 0 8 (dk_at dksJ17_checkIndex_0 1 rfl rfl)
theorem dJ17_checkIndex_4 : decode cJ17_checkIndex 4 = .ok (.iload_n 0, 1) := dk_26 (dk_at dksJ17_checkIndex_0 4 rfl rfl)
theorem dJ17_checkIndex_5 : decode cJ17_checkIndex 5 = .ok (.iload_n 1, 1) := dk_27 (dk_at dksJ17_checkIndex_0 5 rfl rfl)
theorem dJ17_checkIndex_6 : decode cJ17_checkIndex 6 = .ok (.if_icmp .lt 10, 3) := dk_161 0 10 (dk_at dksJ17_checkIndex_0 6 rfl rfl)
theorem dJ17_checkIndex_9 : decode cJ17_checkIndex 9 = .ok (.aload_n 2, 1) := dk_44 (dk_at dksJ17_checkIndex_0 9 rfl rfl)
theorem dJ17_checkIndex_10 : decode cJ17_checkIndex 10 = .ok (.iload_n 0, 1) := dk_26 (dk_at dksJ17_checkIndex_0 10 rfl rfl)
theorem dJ17_checkIndex_11 : decode cJ17_checkIndex 11 = .ok (.iload_n 1, 1) := dk_27 (dk_at dksJ17_checkIndex_0 11 rfl rfl)
theorem dJ17_checkIndex_12 : decode cJ17_checkIndex 12 = .ok (.invokestatic 95, 3) := dk_184 0 95 (dk_at dksJ17_checkIndex_0 12 rfl rfl)
theorem dJ17_checkIndex_15 : decode cJ17_checkIndex 15 = .ok (.athrow, 1) := dk_191 (dk_at dksJ17_checkIndex_0 15 rfl rfl)
theorem dJ17_checkIndex_16 : decode cJ17_checkIndex 16 = .ok (.iload_n 0, 1) := dk_26 (dk_at dksJ17_checkIndex_0 16 rfl rfl)
theorem dJ17_checkIndex_17 : decode cJ17_checkIndex 17 = .ok (.ireturn, 1) := dk_172 (dk_at dksJ17_checkIndex_0 17 rfl rfl)
abbrev cJ17_checkFromToIndex : ByteArray := prog_59_method_12_code
def yJ17_checkFromToIndex : MethodName := ⟨RJ17, "checkFromToIndex", "(IIILjava/util/function/BiFunction;)I"⟩
def dkwJ17_checkFromToIndex_0 : List UInt8 := [26, 155, 0, 13, 26, 27, 163, 0, 8, 27, 28, 164, 0, 11, 45, 26, 27, 28, 184, 0, 99, 191, 26, 172]
abbrev dktJ17_checkFromToIndex_0 : List UInt8 := dkwJ17_checkFromToIndex_0 ++ []
theorem dksJ17_checkFromToIndex_0 : cJ17_checkFromToIndex.data.toList.drop 0 = dktJ17_checkFromToIndex_0 := by decide +kernel
theorem dJ17_checkFromToIndex_0 : decode cJ17_checkFromToIndex 0 = .ok (.iload_n 0, 1) := dk_26 (dk_at dksJ17_checkFromToIndex_0 0 rfl rfl)
theorem dJ17_checkFromToIndex_1 : decode cJ17_checkFromToIndex 1 = .ok (.ifCond .lt 13, 3) := dk_155 0 13 (dk_at dksJ17_checkFromToIndex_0 1 rfl rfl)
theorem dJ17_checkFromToIndex_4 : decode cJ17_checkFromToIndex 4 = .ok (.iload_n 0, 1) := dk_26 (dk_at dksJ17_checkFromToIndex_0 4 rfl rfl)
theorem dJ17_checkFromToIndex_5 : decode cJ17_checkFromToIndex 5 = .ok (.iload_n 1, 1) := dk_27 (dk_at dksJ17_checkFromToIndex_0 5 rfl rfl)
theorem dJ17_checkFromToIndex_6 : decode cJ17_checkFromToIndex 6 = .ok (.if_icmp .gt 8, 3) := dk_163 0 8 (dk_at dksJ17_checkFromToIndex_0 6 rfl rfl)
theorem dJ17_checkFromToIndex_9 : decode cJ17_checkFromToIndex 9 = .ok (.iload_n 1, 1) := dk_27 (dk_at dksJ17_checkFromToIndex_0 9 rfl rfl)
theorem dJ17_checkFromToIndex_10 : decode cJ17_checkFromToIndex 10 = .ok (.iload_n 2, 1) := dk_28 (dk_at dksJ17_checkFromToIndex_0 10 rfl rfl)
theorem dJ17_checkFromToIndex_11 : decode cJ17_checkFromToIndex 11 = .ok (.if_icmp .le 11, 3) := dk_164 0 11 (dk_at dksJ17_checkFromToIndex_0 11 rfl rfl)
theorem dJ17_checkFromToIndex_14 : decode cJ17_checkFromToIndex 14 = .ok (.aload_n 3, 1) := dk_45 (dk_at dksJ17_checkFromToIndex_0 14 rfl rfl)
theorem dJ17_checkFromToIndex_15 : decode cJ17_checkFromToIndex 15 = .ok (.iload_n 0, 1) := dk_26 (dk_at dksJ17_checkFromToIndex_0 15 rfl rfl)
theorem dJ17_checkFromToIndex_16 : decode cJ17_checkFromToIndex 16 = .ok (.iload_n 1, 1) := dk_27 (dk_at dksJ17_checkFromToIndex_0 16 rfl rfl)
theorem dJ17_checkFromToIndex_17 : decode cJ17_checkFromToIndex 17 = .ok (.iload_n 2, 1) := dk_28 (dk_at dksJ17_checkFromToIndex_0 17 rfl rfl)
theorem dJ17_checkFromToIndex_18 : decode cJ17_checkFromToIndex 18 = .ok (.invokestatic 99, 3) := dk_184 0 99 (dk_at dksJ17_checkFromToIndex_0 18 rfl rfl)
theorem dJ17_checkFromToIndex_21 : decode cJ17_checkFromToIndex 21 = .ok (.athrow, 1) := dk_191 (dk_at dksJ17_checkFromToIndex_0 21 rfl rfl)
theorem dJ17_checkFromToIndex_22 : decode cJ17_checkFromToIndex 22 = .ok (.iload_n 0, 1) := dk_26 (dk_at dksJ17_checkFromToIndex_0 22 rfl rfl)
theorem dJ17_checkFromToIndex_23 : decode cJ17_checkFromToIndex 23 = .ok (.ireturn, 1) := dk_172 (dk_at dksJ17_checkFromToIndex_0 23 rfl rfl)
abbrev cJ17_checkFromIndexSize : ByteArray := prog_59_method_13_code
def yJ17_checkFromIndexSize : MethodName := ⟨RJ17, "checkFromIndexSize", "(IIILjava/util/function/BiFunction;)I"⟩
def dkwJ17_checkFromIndexSize_1 : List UInt8 := [172]
abbrev dktJ17_checkFromIndexSize_1 : List UInt8 := dkwJ17_checkFromIndexSize_1 ++ []
def dkwJ17_checkFromIndexSize_0 : List UInt8 := [28, 26, 128, 27, 128, 155, 0, 10, 27, 28, 26, 100, 164, 0, 11, 45, 26, 27, 28, 184, 0, 103, 191, 26]
abbrev dktJ17_checkFromIndexSize_0 : List UInt8 := dkwJ17_checkFromIndexSize_0 ++ dktJ17_checkFromIndexSize_1
theorem dksJ17_checkFromIndexSize_0 : cJ17_checkFromIndexSize.data.toList.drop 0 = dktJ17_checkFromIndexSize_0 := by decide +kernel
theorem dksJ17_checkFromIndexSize_1 : cJ17_checkFromIndexSize.data.toList.drop 24 = dktJ17_checkFromIndexSize_1 := dk_seg dksJ17_checkFromIndexSize_0 24 rfl rfl
theorem dJ17_checkFromIndexSize_0 : decode cJ17_checkFromIndexSize 0 = .ok (.iload_n 2, 1) := dk_28 (dk_at dksJ17_checkFromIndexSize_0 0 rfl rfl)
theorem dJ17_checkFromIndexSize_1 : decode cJ17_checkFromIndexSize 1 = .ok (.iload_n 0, 1) := dk_26 (dk_at dksJ17_checkFromIndexSize_0 1 rfl rfl)
theorem dJ17_checkFromIndexSize_2 : decode cJ17_checkFromIndexSize 2 = .ok (.ior, 1) := dk_128 (dk_at dksJ17_checkFromIndexSize_0 2 rfl rfl)
theorem dJ17_checkFromIndexSize_3 : decode cJ17_checkFromIndexSize 3 = .ok (.iload_n 1, 1) := dk_27 (dk_at dksJ17_checkFromIndexSize_0 3 rfl rfl)
theorem dJ17_checkFromIndexSize_4 : decode cJ17_checkFromIndexSize 4 = .ok (.ior, 1) := dk_128 (dk_at dksJ17_checkFromIndexSize_0 4 rfl rfl)
theorem dJ17_checkFromIndexSize_5 : decode cJ17_checkFromIndexSize 5 = .ok (.ifCond .lt 10, 3) := dk_155 0 10 (dk_at dksJ17_checkFromIndexSize_0 5 rfl rfl)
theorem dJ17_checkFromIndexSize_8 : decode cJ17_checkFromIndexSize 8 = .ok (.iload_n 1, 1) := dk_27 (dk_at dksJ17_checkFromIndexSize_0 8 rfl rfl)
theorem dJ17_checkFromIndexSize_9 : decode cJ17_checkFromIndexSize 9 = .ok (.iload_n 2, 1) := dk_28 (dk_at dksJ17_checkFromIndexSize_0 9 rfl rfl)
theorem dJ17_checkFromIndexSize_10 : decode cJ17_checkFromIndexSize 10 = .ok (.iload_n 0, 1) := dk_26 (dk_at dksJ17_checkFromIndexSize_0 10 rfl rfl)
theorem dJ17_checkFromIndexSize_11 : decode cJ17_checkFromIndexSize 11 = .ok (.isub, 1) := dk_100 (dk_at dksJ17_checkFromIndexSize_0 11 rfl rfl)
theorem dJ17_checkFromIndexSize_12 : decode cJ17_checkFromIndexSize 12 = .ok (.if_icmp .le 11, 3) := dk_164 0 11 (dk_at dksJ17_checkFromIndexSize_0 12 rfl rfl)
theorem dJ17_checkFromIndexSize_15 : decode cJ17_checkFromIndexSize 15 = .ok (.aload_n 3, 1) := dk_45 (dk_at dksJ17_checkFromIndexSize_0 15 rfl rfl)
theorem dJ17_checkFromIndexSize_16 : decode cJ17_checkFromIndexSize 16 = .ok (.iload_n 0, 1) := dk_26 (dk_at dksJ17_checkFromIndexSize_0 16 rfl rfl)
theorem dJ17_checkFromIndexSize_17 : decode cJ17_checkFromIndexSize 17 = .ok (.iload_n 1, 1) := dk_27 (dk_at dksJ17_checkFromIndexSize_0 17 rfl rfl)
theorem dJ17_checkFromIndexSize_18 : decode cJ17_checkFromIndexSize 18 = .ok (.iload_n 2, 1) := dk_28 (dk_at dksJ17_checkFromIndexSize_0 18 rfl rfl)
theorem dJ17_checkFromIndexSize_19 : decode cJ17_checkFromIndexSize 19 = .ok (.invokestatic 103, 3) := dk_184 0 103 (dk_at dksJ17_checkFromIndexSize_0 19 rfl rfl)
theorem dJ17_checkFromIndexSize_22 : decode cJ17_checkFromIndexSize 22 = .ok (.athrow, 1) := dk_191 (dk_at dksJ17_checkFromIndexSize_0 22 rfl rfl)
theorem dJ17_checkFromIndexSize_23 : decode cJ17_checkFromIndexSize 23 = .ok (.iload_n 0, 1) := dk_26 (dk_at dksJ17_checkFromIndexSize_0 23 rfl rfl)
theorem dJ17_checkFromIndexSize_24 : decode cJ17_checkFromIndexSize 24 = .ok (.ireturn, 1) := dk_172 (dk_at dksJ17_checkFromIndexSize_1 0 rfl rfl)
theorem q95 : (Jvm.Cond.initialized "jdk/internal/util/Preconditions") ∈ lw_all := lw_g (lw_at lw_m1 26 rfl) rfl
theorem q432 : (Jvm.Cond.static ({ cls := "jdk/internal/util/Preconditions", name := "checkIndex", desc := "(IILjava/util/function/BiFunction;)I" } : Jvm.MethodName)) ∈ lw_all := lw_g (lw_at lw_m2 123 rfl) rfl
theorem q433 : (Jvm.Cond.code ({ cls := "jdk/internal/util/Preconditions", name := "checkIndex", desc := "(IILjava/util/function/BiFunction;)I" } : Jvm.MethodName) prog_59_method_11_code (3 : Nat) (Option.some Jvm.ClassFile.FieldType.int)) ∈ lw_all := lw_g (lw_at lw_m2 124 rfl) rfl
theorem q1337 : (Jvm.Cond.laysStatic "jdk/internal/util/Preconditions" "SIOOBE_FORMATTER" "Ljava/util/function/BiFunction;") ∈ lw_tbl := lw_at lw_m6 68 rfl
theorem q1339 : (Jvm.Cond.static ({ cls := "jdk/internal/util/Preconditions", name := "checkFromToIndex", desc := "(IIILjava/util/function/BiFunction;)I" } : Jvm.MethodName)) ∈ lw_all := lw_g (lw_at lw_m6 70 rfl) rfl
theorem q1340 : (Jvm.Cond.code ({ cls := "jdk/internal/util/Preconditions", name := "checkFromToIndex", desc := "(IIILjava/util/function/BiFunction;)I" } : Jvm.MethodName) prog_59_method_12_code (4 : Nat) (Option.some Jvm.ClassFile.FieldType.int)) ∈ lw_all := lw_g (lw_at lw_m6 71 rfl) rfl
theorem q1375 : (Jvm.Cond.static ({ cls := "jdk/internal/util/Preconditions", name := "checkFromIndexSize", desc := "(IIILjava/util/function/BiFunction;)I" } : Jvm.MethodName)) ∈ lw_all := lw_g (lw_at lw_m6 106 rfl) rfl
theorem q1376 : (Jvm.Cond.code ({ cls := "jdk/internal/util/Preconditions", name := "checkFromIndexSize", desc := "(IIILjava/util/function/BiFunction;)I" } : Jvm.MethodName) prog_59_method_13_code (4 : Nat) (Option.some Jvm.ClassFile.FieldType.int)) ∈ lw_all := lw_g (lw_at lw_m6 107 rfl) rfl
/-! java/util/ArrayList$Itr -/
set_option maxRecDepth 100000
def RJ18 : String := "java/util/ArrayList$Itr"
def TJ18 : u_T := fun k => match k with
  | 0 => ("java/util/ArrayList$Itr", "cursor", "I", false)
  | 1 => ("java/util/ArrayList$Itr", "lastRet", "I", false)
  | 2 => ("java/util/ArrayList$Itr", "expectedModCount", "I", false)
  | _ => ("java/util/ArrayList$Itr", "this$0", "Ljava/util/ArrayList;", true)
def tyJ18 : Nat → FieldType := fun k => match k with
  | 0 => .int
  | 1 => .int
  | 2 => .int
  | _ => .object "java/util/ArrayList"
abbrev wsJ180 : List Cond := u_ws RJ18 TJ18 4
theorem nmJ18 : ∀ a, a < 4 → ∀ b, b < 4 → a ≠ b → (TJ18 a).2.1 ≠ (TJ18 b).2.1 := by decide +kernel
theorem tyJ18_ok : ∀ k, k < 4 → parseFieldDescriptor (TJ18 k).2.2.1 = some (tyJ18 k) := by decide +kernel
abbrev cJ18_init : ByteArray := prog_49_method_1_code
def yJ18_init : MethodName := ⟨RJ18, "<init>", "(Ljava/util/ArrayList;)V"⟩
def dkwJ18_init_1 : List UInt8 := [181, 0, 22, 177]
abbrev dktJ18_init_1 : List UInt8 := dkwJ18_init_1 ++ []
def dkwJ18_init_0 : List UInt8 := [42, 43, 181, 0, 1, 42, 183, 0, 7, 42, 2, 181, 0, 13, 42, 42, 180, 0, 1, 180, 0, 17]
abbrev dktJ18_init_0 : List UInt8 := dkwJ18_init_0 ++ dktJ18_init_1
theorem dksJ18_init_0 : cJ18_init.data.toList.drop 0 = dktJ18_init_0 := by decide +kernel
theorem dksJ18_init_1 : cJ18_init.data.toList.drop 22 = dktJ18_init_1 := dk_seg dksJ18_init_0 22 rfl rfl
theorem dJ18_init_0 : decode cJ18_init 0 = .ok (.aload_n 0, 1) := dk_42 (dk_at dksJ18_init_0 0 rfl rfl)
theorem dJ18_init_1 : decode cJ18_init 1 = .ok (.aload_n 1, 1) := dk_43 (dk_at dksJ18_init_0 1 rfl rfl)
theorem dJ18_init_2 : decode cJ18_init 2 = .ok (.putfield 1, 3) := dk_181 0 1 (dk_at dksJ18_init_0 2 rfl rfl)
theorem dJ18_init_5 : decode cJ18_init 5 = .ok (.aload_n 0, 1) := dk_42 (dk_at dksJ18_init_0 5 rfl rfl)
theorem dJ18_init_6 : decode cJ18_init 6 = .ok (.invokespecial 7, 3) := dk_183 0 7 (dk_at dksJ18_init_0 6 rfl rfl)
theorem dJ18_init_9 : decode cJ18_init 9 = .ok (.aload_n 0, 1) := dk_42 (dk_at dksJ18_init_0 9 rfl rfl)
theorem dJ18_init_10 : decode cJ18_init 10 = .ok (.iconst (-1), 1) := dk_2 (dk_at dksJ18_init_0 10 rfl rfl)
theorem dJ18_init_11 : decode cJ18_init 11 = .ok (.putfield 13, 3) := dk_181 0 13 (dk_at dksJ18_init_0 11 rfl rfl)
theorem dJ18_init_14 : decode cJ18_init 14 = .ok (.aload_n 0, 1) := dk_42 (dk_at dksJ18_init_0 14 rfl rfl)
theorem dJ18_init_15 : decode cJ18_init 15 = .ok (.aload_n 0, 1) := dk_42 (dk_at dksJ18_init_0 15 rfl rfl)
theorem dJ18_init_16 : decode cJ18_init 16 = .ok (.getfield 1, 3) := dk_180 0 1 (dk_at dksJ18_init_0 16 rfl rfl)
theorem dJ18_init_19 : decode cJ18_init 19 = .ok (.getfield 17, 3) := dk_180 0 17 (dk_at dksJ18_init_0 19 rfl rfl)
theorem dJ18_init_22 : decode cJ18_init 22 = .ok (.putfield 22, 3) := dk_181 0 22 (dk_at dksJ18_init_1 0 rfl rfl)
theorem dJ18_init_25 : decode cJ18_init 25 = .ok (.return_, 1) := dk_177 (dk_at dksJ18_init_1 3 rfl rfl)
abbrev cJ18_hasNext : ByteArray := prog_49_method_2_code
def yJ18_hasNext : MethodName := ⟨RJ18, "hasNext", "()Z"⟩
def dkwJ18_hasNext_0 : List UInt8 := [42, 180, 0, 25, 42, 180, 0, 1, 180, 0, 28, 159, 0, 7, 4, 167, 0, 4, 3, 172]
abbrev dktJ18_hasNext_0 : List UInt8 := dkwJ18_hasNext_0 ++ []
theorem dksJ18_hasNext_0 : cJ18_hasNext.data.toList.drop 0 = dktJ18_hasNext_0 := by decide +kernel
theorem dJ18_hasNext_0 : decode cJ18_hasNext 0 = .ok (.aload_n 0, 1) := dk_42 (dk_at dksJ18_hasNext_0 0 rfl rfl)
theorem dJ18_hasNext_1 : decode cJ18_hasNext 1 = .ok (.getfield 25, 3) := dk_180 0 25 (dk_at dksJ18_hasNext_0 1 rfl rfl)
theorem dJ18_hasNext_4 : decode cJ18_hasNext 4 = .ok (.aload_n 0, 1) := dk_42 (dk_at dksJ18_hasNext_0 4 rfl rfl)
theorem dJ18_hasNext_5 : decode cJ18_hasNext 5 = .ok (.getfield 1, 3) := dk_180 0 1 (dk_at dksJ18_hasNext_0 5 rfl rfl)
theorem dJ18_hasNext_8 : decode cJ18_hasNext 8 = .ok (.getfield 28, 3) := dk_180 0 28 (dk_at dksJ18_hasNext_0 8 rfl rfl)
theorem dJ18_hasNext_11 : decode cJ18_hasNext 11 = .ok (.if_icmp .eq 7, 3) := dk_159 0 7 (dk_at dksJ18_hasNext_0 11 rfl rfl)
theorem dJ18_hasNext_14 : decode cJ18_hasNext 14 = .ok (.iconst 1, 1) := dk_4 (dk_at dksJ18_hasNext_0 14 rfl rfl)
theorem dJ18_hasNext_15 : decode cJ18_hasNext 15 = .ok (.goto 4, 3) := dk_167 0 4 (dk_at dksJ18_hasNext_0 15 rfl rfl)
theorem dJ18_hasNext_18 : decode cJ18_hasNext 18 = .ok (.iconst 0, 1) := dk_3 (dk_at dksJ18_hasNext_0 18 rfl rfl)
theorem dJ18_hasNext_19 : decode cJ18_hasNext 19 = .ok (.ireturn, 1) := dk_172 (dk_at dksJ18_hasNext_0 19 rfl rfl)
abbrev cJ18_next : ByteArray := prog_49_method_3_code
def yJ18_next : MethodName := ⟨RJ18, "next", "()Ljava/lang/Object;"⟩
def dkwJ18_next_2 : List UInt8 := [183, 0, 43, 191, 42, 27, 4, 96, 181, 0, 25, 44, 42, 27, 90, 181, 0, 13, 50, 176]
abbrev dktJ18_next_2 : List UInt8 := dkwJ18_next_2 ++ []
def dkwJ18_next_1 : List UInt8 := [183, 0, 36, 191, 42, 180, 0, 1, 180, 0, 37, 77, 27, 44, 190, 161, 0, 11, 187, 0, 41, 89]
abbrev dktJ18_next_1 : List UInt8 := dkwJ18_next_1 ++ dktJ18_next_2
def dkwJ18_next_0 : List UInt8 := [42, 182, 0, 31, 42, 180, 0, 25, 60, 27, 42, 180, 0, 1, 180, 0, 28, 161, 0, 11, 187, 0, 34, 89]
abbrev dktJ18_next_0 : List UInt8 := dkwJ18_next_0 ++ dktJ18_next_1
theorem dksJ18_next_0 : cJ18_next.data.toList.drop 0 = dktJ18_next_0 := by decide +kernel
theorem dksJ18_next_1 : cJ18_next.data.toList.drop 24 = dktJ18_next_1 := dk_seg dksJ18_next_0 24 rfl rfl
theorem dksJ18_next_2 : cJ18_next.data.toList.drop 46 = dktJ18_next_2 := dk_seg dksJ18_next_1 22 rfl rfl
theorem dJ18_next_0 : decode cJ18_next 0 = .ok (.aload_n 0, 1) := dk_42 (dk_at dksJ18_next_0 0 rfl rfl)
theorem dJ18_next_1 : decode cJ18_next 1 = .ok (.invokevirtual 31, 3) := dk_182 0 31 (dk_at dksJ18_next_0 1 rfl rfl)
theorem dJ18_next_4 : decode cJ18_next 4 = .ok (.aload_n 0, 1) := dk_42 (dk_at dksJ18_next_0 4 rfl rfl)
theorem dJ18_next_5 : decode cJ18_next 5 = .ok (.getfield 25, 3) := dk_180 0 25 (dk_at dksJ18_next_0 5 rfl rfl)
theorem dJ18_next_8 : decode cJ18_next 8 = .ok (.istore_n 1, 1) := dk_60 (dk_at dksJ18_next_0 8 rfl rfl)
theorem dJ18_next_9 : decode cJ18_next 9 = .ok (.iload_n 1, 1) := dk_27 (dk_at dksJ18_next_0 9 rfl rfl)
theorem dJ18_next_10 : decode cJ18_next 10 = .ok (.aload_n 0, 1) := dk_42 (dk_at dksJ18_next_0 10 rfl rfl)
theorem dJ18_next_11 : decode cJ18_next 11 = .ok (.getfield 1, 3) := dk_180 0 1 (dk_at dksJ18_next_0 11 rfl rfl)
theorem dJ18_next_14 : decode cJ18_next 14 = .ok (.getfield 28, 3) := dk_180 0 28 (dk_at dksJ18_next_0 14 rfl rfl)
theorem dJ18_next_17 : decode cJ18_next 17 = .ok (.if_icmp .lt 11, 3) := dk_161 0 11 (dk_at dksJ18_next_0 17 rfl rfl)
theorem dJ18_next_20 : decode cJ18_next 20 = .ok (.new 34, 3) := dk_187 0 34 (dk_at dksJ18_next_0 20 rfl rfl)
theorem dJ18_next_23 : decode cJ18_next 23 = .ok (.dup, 1) := dk_89 (dk_at dksJ18_next_0 23 rfl rfl)
theorem dJ18_next_24 : decode cJ18_next 24 = .ok (.invokespecial 36, 3) := dk_183 0 36 (dk_at dksJ18_next_1 0 rfl rfl)
theorem dJ18_next_27 : decode cJ18_next 27 = .ok (.athrow, 1) := dk_191 (dk_at dksJ18_next_1 3 rfl rfl)
theorem dJ18_next_28 : decode cJ18_next 28 = .ok (.aload_n 0, 1) := dk_42 (dk_at dksJ18_next_1 4 rfl rfl)
theorem dJ18_next_29 : decode cJ18_next 29 = .ok (.getfield 1, 3) := dk_180 0 1 (dk_at dksJ18_next_1 5 rfl rfl)
theorem dJ18_next_32 : decode cJ18_next 32 = .ok (.getfield 37, 3) := dk_180 0 37 (dk_at dksJ18_next_1 8 rfl rfl)
theorem dJ18_next_35 : decode cJ18_next 35 = .ok (.astore_n 2, 1) := dk_77 (dk_at dksJ18_next_1 11 rfl rfl)
theorem dJ18_next_36 : decode cJ18_next 36 = .ok (.iload_n 1, 1) := dk_27 (dk_at dksJ18_next_1 12 rfl rfl)
theorem dJ18_next_37 : decode cJ18_next 37 = .ok (.aload_n 2, 1) := dk_44 (dk_at dksJ18_next_1 13 rfl rfl)
theorem dJ18_next_38 : decode cJ18_next 38 = .ok (.arraylength, 1) := dk_190 (dk_at dksJ18_next_1 14 rfl rfl)
theorem dJ18_next_39 : decode cJ18_next 39 = .ok (.if_icmp .lt 11, 3) := dk_161 0 11 (dk_at dksJ18_next_1 15 rfl rfl)
theorem dJ18_next_42 : decode cJ18_next 42 = .ok (.new 41, 3) := dk_187 0 41 (dk_at dksJ18_next_1 18 rfl rfl)
theorem dJ18_next_45 : decode cJ18_next 45 = .ok (.dup, 1) := dk_89 (dk_at dksJ18_next_1 21 rfl rfl)
theorem dJ18_next_46 : decode cJ18_next 46 = .ok (.invokespecial 43, 3) := dk_183 0 43 (dk_at dksJ18_next_2 0 rfl rfl)
theorem dJ18_next_49 : decode cJ18_next 49 = .ok (.athrow, 1) := dk_191 (dk_at dksJ18_next_2 3 rfl rfl)
theorem dJ18_next_50 : decode cJ18_next 50 = .ok (.aload_n 0, 1) := dk_42 (dk_at dksJ18_next_2 4 rfl rfl)
theorem dJ18_next_51 : decode cJ18_next 51 = .ok (.iload_n 1, 1) := dk_27 (dk_at dksJ18_next_2 5 rfl rfl)
theorem dJ18_next_52 : decode cJ18_next 52 = .ok (.iconst 1, 1) := dk_4 (dk_at dksJ18_next_2 6 rfl rfl)
theorem dJ18_next_53 : decode cJ18_next 53 = .ok (.iadd, 1) := dk_96 (dk_at dksJ18_next_2 7 rfl rfl)
theorem dJ18_next_54 : decode cJ18_next 54 = .ok (.putfield 25, 3) := dk_181 0 25 (dk_at dksJ18_next_2 8 rfl rfl)
theorem dJ18_next_57 : decode cJ18_next 57 = .ok (.aload_n 2, 1) := dk_44 (dk_at dksJ18_next_2 11 rfl rfl)
theorem dJ18_next_58 : decode cJ18_next 58 = .ok (.aload_n 0, 1) := dk_42 (dk_at dksJ18_next_2 12 rfl rfl)
theorem dJ18_next_59 : decode cJ18_next 59 = .ok (.iload_n 1, 1) := dk_27 (dk_at dksJ18_next_2 13 rfl rfl)
theorem dJ18_next_60 : decode cJ18_next 60 = .ok (.dup_x1, 1) := dk_90 (dk_at dksJ18_next_2 14 rfl rfl)
theorem dJ18_next_61 : decode cJ18_next 61 = .ok (.putfield 13, 3) := dk_181 0 13 (dk_at dksJ18_next_2 15 rfl rfl)
theorem dJ18_next_64 : decode cJ18_next 64 = .ok (.aaload, 1) := dk_50 (dk_at dksJ18_next_2 18 rfl rfl)
theorem dJ18_next_65 : decode cJ18_next 65 = .ok (.areturn, 1) := dk_176 (dk_at dksJ18_next_2 19 rfl rfl)
abbrev cJ18_checkForComodification : ByteArray := prog_49_method_6_code
def yJ18_checkForComodification : MethodName := ⟨RJ18, "checkForComodification", "()V"⟩
def dkwJ18_checkForComodification_0 : List UInt8 := [42, 180, 0, 1, 180, 0, 17, 42, 180, 0, 22, 159, 0, 11, 187, 0, 41, 89, 183, 0, 43, 191, 177]
abbrev dktJ18_checkForComodification_0 : List UInt8 := dkwJ18_checkForComodification_0 ++ []
theorem dksJ18_checkForComodification_0 : cJ18_checkForComodification.data.toList.drop 0 = dktJ18_checkForComodification_0 := by decide +kernel
theorem dJ18_checkForComodification_0 : decode cJ18_checkForComodification 0 = .ok (.aload_n 0, 1) := dk_42 (dk_at dksJ18_checkForComodification_0 0 rfl rfl)
theorem dJ18_checkForComodification_1 : decode cJ18_checkForComodification 1 = .ok (.getfield 1, 3) := dk_180 0 1 (dk_at dksJ18_checkForComodification_0 1 rfl rfl)
theorem dJ18_checkForComodification_4 : decode cJ18_checkForComodification 4 = .ok (.getfield 17, 3) := dk_180 0 17 (dk_at dksJ18_checkForComodification_0 4 rfl rfl)
theorem dJ18_checkForComodification_7 : decode cJ18_checkForComodification 7 = .ok (.aload_n 0, 1) := dk_42 (dk_at dksJ18_checkForComodification_0 7 rfl rfl)
theorem dJ18_checkForComodification_8 : decode cJ18_checkForComodification 8 = .ok (.getfield 22, 3) := dk_180 0 22 (dk_at dksJ18_checkForComodification_0 8 rfl rfl)
theorem dJ18_checkForComodification_11 : decode cJ18_checkForComodification 11 = .ok (.if_icmp .eq 11, 3) := dk_159 0 11 (dk_at dksJ18_checkForComodification_0 11 rfl rfl)
theorem dJ18_checkForComodification_14 : decode cJ18_checkForComodification 14 = .ok (.new 41, 3) := dk_187 0 41 (dk_at dksJ18_checkForComodification_0 14 rfl rfl)
theorem dJ18_checkForComodification_17 : decode cJ18_checkForComodification 17 = .ok (.dup, 1) := dk_89 (dk_at dksJ18_checkForComodification_0 17 rfl rfl)
theorem dJ18_checkForComodification_18 : decode cJ18_checkForComodification 18 = .ok (.invokespecial 43, 3) := dk_183 0 43 (dk_at dksJ18_checkForComodification_0 18 rfl rfl)
theorem dJ18_checkForComodification_21 : decode cJ18_checkForComodification 21 = .ok (.athrow, 1) := dk_191 (dk_at dksJ18_checkForComodification_0 21 rfl rfl)
theorem dJ18_checkForComodification_22 : decode cJ18_checkForComodification 22 = .ok (.return_, 1) := dk_177 (dk_at dksJ18_checkForComodification_0 22 rfl rfl)
theorem q98 : (Jvm.Cond.initialized "java/util/ArrayList$Itr") ∈ lw_all := lw_g (lw_at lw_m1 29 rfl) rfl
theorem q138 : (Jvm.Cond.fieldLink "java/util/ArrayList$Itr" (37 : Nat) "java/util/ArrayList" "elementData" "[Ljava/lang/Object;") ∈ lw_all := lw_g (lw_at lw_m1 69 rfl) rfl
theorem q139 : (Jvm.Cond.fieldLinkNest "java/util/ArrayList$Itr" (28 : Nat) "java/util/ArrayList" "size" "I" "java/util/ArrayList") ∈ lw_tbl := lw_at lw_m1 70 rfl
theorem q142 : (Jvm.Cond.fieldLink "java/util/ArrayList$Itr" (17 : Nat) "java/util/ArrayList" "modCount" "I") ∈ lw_all := lw_g (lw_at lw_m1 73 rfl) rfl
theorem q256 : (Jvm.Cond.selects "java/util/ArrayList$Itr" ({ cls := "java/lang/Object", name := "getClass", desc := "()Ljava/lang/Class;" } : Jvm.MethodName) ({ cls := "java/lang/Object", name := "getClass", desc := "()Ljava/lang/Class;" } : Jvm.MethodName)) ∈ lw_all := lw_g (lw_at lw_m1 187 rfl) rfl
theorem q1701 : (Jvm.Cond.instantiable "java/util/ArrayList$Itr" (4 : Nat)) ∈ lw_all := lw_g (lw_at lw_m7 192 rfl) rfl
theorem q1703 : (Jvm.Cond.instanceMethod ({ cls := "java/util/ArrayList$Itr", name := "<init>", desc := "(Ljava/util/ArrayList;)V" } : Jvm.MethodName)) ∈ lw_all := lw_g (lw_at lw_m7 194 rfl) rfl
theorem q1704 : (Jvm.Cond.code ({ cls := "java/util/ArrayList$Itr", name := "<init>", desc := "(Ljava/util/ArrayList;)V" } : Jvm.MethodName) prog_49_method_1_code (2 : Nat) (Option.none : Option Jvm.ClassFile.FieldType)) ∈ lw_all := lw_g (lw_at lw_m7 195 rfl) rfl
theorem q1705 : (Jvm.Cond.methodLink "java/util/ArrayList$Itr" (7 : Nat) ({ cls := "java/lang/Object", name := "<init>", desc := "()V" } : Jvm.MethodName)) ∈ lw_all := lw_g (lw_at lw_m7 196 rfl) rfl
theorem q1706 : (Jvm.Cond.fieldLink "java/util/ArrayList$Itr" (25 : Nat) "java/util/ArrayList$Itr" "cursor" "I") ∈ lw_all := lw_g (lw_at lw_m7 197 rfl) rfl
theorem q1707 : (Jvm.Cond.fieldLink "java/util/ArrayList$Itr" (13 : Nat) "java/util/ArrayList$Itr" "lastRet" "I") ∈ lw_all := lw_g (lw_at lw_m7 198 rfl) rfl
theorem q1708 : (Jvm.Cond.fieldLink "java/util/ArrayList$Itr" (22 : Nat) "java/util/ArrayList$Itr" "expectedModCount" "I") ∈ lw_all := lw_g (lw_at lw_m7 199 rfl) rfl
theorem q1709 : (Jvm.Cond.fieldLink "java/util/ArrayList$Itr" (1 : Nat) "java/util/ArrayList$Itr" "this$0" "Ljava/util/ArrayList;") ∈ lw_all := lw_g (lw_at lw_m7 200 rfl) rfl
theorem q1710 : (Jvm.Cond.lays "java/util/ArrayList$Itr" "java/util/ArrayList$Itr" "cursor" "I") ∈ lw_all := lw_g (lw_at lw_m7 201 rfl) rfl
theorem q1711 : (Jvm.Cond.soleField "java/util/ArrayList$Itr" "cursor") ∈ lw_all := lw_g (lw_at lw_m7 202 rfl) rfl
theorem q1712 : (Jvm.Cond.lays "java/util/ArrayList$Itr" "java/util/ArrayList$Itr" "lastRet" "I") ∈ lw_all := lw_g (lw_at lw_m7 203 rfl) rfl
theorem q1713 : (Jvm.Cond.soleField "java/util/ArrayList$Itr" "lastRet") ∈ lw_all := lw_g (lw_at lw_m7 204 rfl) rfl
theorem q1714 : (Jvm.Cond.lays "java/util/ArrayList$Itr" "java/util/ArrayList$Itr" "expectedModCount" "I") ∈ lw_all := lw_g (lw_at lw_m7 205 rfl) rfl
theorem q1715 : (Jvm.Cond.soleField "java/util/ArrayList$Itr" "expectedModCount") ∈ lw_all := lw_g (lw_at lw_m7 206 rfl) rfl
theorem q1716 : (Jvm.Cond.laysFinal "java/util/ArrayList$Itr" "java/util/ArrayList$Itr" "this$0" "Ljava/util/ArrayList;") ∈ lw_all := lw_g (lw_at lw_m7 207 rfl) rfl
theorem q1717 : (Jvm.Cond.soleField "java/util/ArrayList$Itr" "this$0") ∈ lw_all := lw_g (lw_at lw_m7 208 rfl) rfl
theorem q1718 : (Jvm.Cond.superclass "java/util/ArrayList$Itr" "java/lang/Object") ∈ lw_all := lw_g (lw_at lw_m7 209 rfl) rfl
theorem q1723 : (Jvm.Cond.castable "java/util/ArrayList$Itr" "java/util/Iterator") ∈ lw_tbl := lw_at lw_m7 214 rfl
theorem q1724 : (Jvm.Cond.selects "java/util/ArrayList$Itr" ({ cls := "java/util/Iterator", name := "hasNext", desc := "()Z" } : Jvm.MethodName) ({ cls := "java/util/ArrayList$Itr", name := "hasNext", desc := "()Z" } : Jvm.MethodName)) ∈ lw_all := lw_g (lw_at lw_m7 215 rfl) rfl
theorem q1725 : (Jvm.Cond.unhidden "java/util/ArrayList$Itr" "hasNext" "()Z") ∈ lw_tbl := lw_at lw_m7 216 rfl
theorem q1726 : (Jvm.Cond.instanceMethod ({ cls := "java/util/ArrayList$Itr", name := "hasNext", desc := "()Z" } : Jvm.MethodName)) ∈ lw_all := lw_g (lw_at lw_m7 217 rfl) rfl
theorem q1727 : (Jvm.Cond.publicMethod ({ cls := "java/util/ArrayList$Itr", name := "hasNext", desc := "()Z" } : Jvm.MethodName)) ∈ lw_tbl := lw_at lw_m7 218 rfl
theorem q1728 : (Jvm.Cond.code ({ cls := "java/util/ArrayList$Itr", name := "hasNext", desc := "()Z" } : Jvm.MethodName) prog_49_method_2_code (1 : Nat) (Option.some Jvm.ClassFile.FieldType.boolean)) ∈ lw_all := lw_g (lw_at lw_m7 219 rfl) rfl
theorem q1733 : (Jvm.Cond.selects "java/util/ArrayList$Itr" ({ cls := "java/util/Iterator", name := "next", desc := "()Ljava/lang/Object;" } : Jvm.MethodName) ({ cls := "java/util/ArrayList$Itr", name := "next", desc := "()Ljava/lang/Object;" } : Jvm.MethodName)) ∈ lw_all := lw_g (lw_at lw_m7 224 rfl) rfl
theorem q1734 : (Jvm.Cond.unhidden "java/util/ArrayList$Itr" "next" "()Ljava/lang/Object;") ∈ lw_tbl := lw_at lw_m7 225 rfl
theorem q1735 : (Jvm.Cond.instanceMethod ({ cls := "java/util/ArrayList$Itr", name := "next", desc := "()Ljava/lang/Object;" } : Jvm.MethodName)) ∈ lw_all := lw_g (lw_at lw_m7 226 rfl) rfl
theorem q1736 : (Jvm.Cond.publicMethod ({ cls := "java/util/ArrayList$Itr", name := "next", desc := "()Ljava/lang/Object;" } : Jvm.MethodName)) ∈ lw_tbl := lw_at lw_m7 227 rfl
theorem q1737 : (Jvm.Cond.code ({ cls := "java/util/ArrayList$Itr", name := "next", desc := "()Ljava/lang/Object;" } : Jvm.MethodName) prog_49_method_3_code (3 : Nat) (Option.some (Jvm.ClassFile.FieldType.object "java/lang/Object"))) ∈ lw_all := lw_g (lw_at lw_m7 228 rfl) rfl
theorem q1738 : (Jvm.Cond.methodLink "java/util/ArrayList$Itr" (31 : Nat) ({ cls := "java/util/ArrayList$Itr", name := "checkForComodification", desc := "()V" } : Jvm.MethodName)) ∈ lw_all := lw_g (lw_at lw_m7 229 rfl) rfl
theorem q1739 : (Jvm.Cond.instanceMethod ({ cls := "java/util/ArrayList$Itr", name := "checkForComodification", desc := "()V" } : Jvm.MethodName)) ∈ lw_all := lw_g (lw_at lw_m7 230 rfl) rfl
theorem q1740 : (Jvm.Cond.selects "java/util/ArrayList$Itr" ({ cls := "java/util/ArrayList$Itr", name := "checkForComodification", desc := "()V" } : Jvm.MethodName) ({ cls := "java/util/ArrayList$Itr", name := "checkForComodification", desc := "()V" } : Jvm.MethodName)) ∈ lw_all := lw_g (lw_at lw_m7 231 rfl) rfl
theorem q1741 : (Jvm.Cond.code ({ cls := "java/util/ArrayList$Itr", name := "checkForComodification", desc := "()V" } : Jvm.MethodName) prog_49_method_6_code (1 : Nat) (Option.none : Option Jvm.ClassFile.FieldType)) ∈ lw_all := lw_g (lw_at lw_m7 232 rfl) rfl
theorem q2110 : (Jvm.Cond.castable "java/util/ArrayList$Itr" "java/lang/Object") ∈ lw_tbl := lw_at lw_m9 121 rfl
theorem in_J18 : ∀ w ∈ wsJ180, w ∈ lw_all := lw_in wsJ180 [1710, 1712, 1714, 1716] (by decide +kernel) (by decide +kernel)
/-! java/lang/Enum -/
set_option maxRecDepth 100000
def RJ19 : String := "java/lang/Enum"
abbrev cJ19_ordinal : ByteArray := prog_27_method_2_code
def yJ19_ordinal : MethodName := ⟨RJ19, "ordinal", "()I"⟩
theorem dJ19_ordinal_0 : decode cJ19_ordinal 0 = .ok (.aload_n 0, 1) := by decide +kernel
theorem dJ19_ordinal_1 : decode cJ19_ordinal 1 = .ok (.getfield 7, 3) := by decide +kernel
theorem dJ19_ordinal_4 : decode cJ19_ordinal 4 = .ok (.ireturn, 1) := by decide +kernel
theorem q100 : (Jvm.Cond.initialized "java/lang/Enum") ∈ lw_all := lw_g (lw_at lw_m1 31 rfl) rfl
theorem q496 : (Jvm.Cond.declares ({ cls := "java/lang/Enum", name := "ordinal", desc := "()I" } : Jvm.MethodName)) ∈ lw_tbl := lw_at lw_m2 187 rfl
theorem q498 : (Jvm.Cond.instanceMethod ({ cls := "java/lang/Enum", name := "ordinal", desc := "()I" } : Jvm.MethodName)) ∈ lw_all := lw_g (lw_at lw_m2 189 rfl) rfl
theorem q499 : (Jvm.Cond.code ({ cls := "java/lang/Enum", name := "ordinal", desc := "()I" } : Jvm.MethodName) prog_27_method_2_code (1 : Nat) (Option.some Jvm.ClassFile.FieldType.int)) ∈ lw_all := lw_g (lw_at lw_m2 190 rfl) rfl
theorem q2132 : (Jvm.Cond.fieldLink "java/lang/Enum" (7 : Nat) "java/lang/Enum" "ordinal" "I") ∈ lw_all := lw_g (lw_at lw_m9 143 rfl) rfl
/-! java/util/Optional -/
set_option maxRecDepth 100000
def RJ20 : String := "java/util/Optional"
def TJ20 : u_T := fun k => match k with
  | _ => ("java/util/Optional", "value", "Ljava/lang/Object;", true)
def tyJ20 : Nat → FieldType := fun k => match k with
  | _ => .object "java/lang/Object"
abbrev wsJ200 : List Cond := u_ws RJ20 TJ20 1
theorem nmJ20 : ∀ a, a < 1 → ∀ b, b < 1 → a ≠ b → (TJ20 a).2.1 ≠ (TJ20 b).2.1 := by decide +kernel
theorem tyJ20_ok : ∀ k, k < 1 → parseFieldDescriptor (TJ20 k).2.2.1 = some (tyJ20 k) := by decide +kernel
abbrev cJ20_empty : ByteArray := prog_55_method_1_code
def yJ20_empty : MethodName := ⟨RJ20, "empty", "()Ljava/util/Optional;"⟩
def dkwJ20_empty_0 : List UInt8 := [178, 0, 1, 75, 42, 176]
abbrev dktJ20_empty_0 : List UInt8 := dkwJ20_empty_0 ++ []
theorem dksJ20_empty_0 : cJ20_empty.data.toList.drop 0 = dktJ20_empty_0 := by decide +kernel
theorem dJ20_empty_0 : decode cJ20_empty 0 = .ok (.getstatic 1, 3) := dk_178 0 1 (dk_at dksJ20_empty_0 0 rfl rfl)
theorem dJ20_empty_3 : decode cJ20_empty 3 = .ok (.astore_n 0, 1) := dk_75 (dk_at dksJ20_empty_0 3 rfl rfl)
theorem dJ20_empty_4 : decode cJ20_empty 4 = .ok (.aload_n 0, 1) := dk_42 (dk_at dksJ20_empty_0 4 rfl rfl)
theorem dJ20_empty_5 : decode cJ20_empty 5 = .ok (.areturn, 1) := dk_176 (dk_at dksJ20_empty_0 5 rfl rfl)
abbrev cJ20_isPresent : ByteArray := prog_55_method_6_code
def yJ20_isPresent : MethodName := ⟨RJ20, "isPresent", "()Z"⟩
def dkwJ20_isPresent_0 : List UInt8 := [42, 180, 0, 13, 198, 0, 7, 4, 167, 0, 4, 3, 172]
abbrev dktJ20_isPresent_0 : List UInt8 := dkwJ20_isPresent_0 ++ []
theorem dksJ20_isPresent_0 : cJ20_isPresent.data.toList.drop 0 = dktJ20_isPresent_0 := by decide +kernel
theorem dJ20_isPresent_0 : decode cJ20_isPresent 0 = .ok (.aload_n 0, 1) := dk_42 (dk_at dksJ20_isPresent_0 0 rfl rfl)
theorem dJ20_isPresent_1 : decode cJ20_isPresent 1 = .ok (.getfield 13, 3) := dk_180 0 13 (dk_at dksJ20_isPresent_0 1 rfl rfl)
theorem dJ20_isPresent_4 : decode cJ20_isPresent 4 = .ok (.ifnull 7, 3) := dk_198 0 7 (dk_at dksJ20_isPresent_0 4 rfl rfl)
theorem dJ20_isPresent_7 : decode cJ20_isPresent 7 = .ok (.iconst 1, 1) := dk_4 (dk_at dksJ20_isPresent_0 7 rfl rfl)
theorem dJ20_isPresent_8 : decode cJ20_isPresent 8 = .ok (.goto 4, 3) := dk_167 0 4 (dk_at dksJ20_isPresent_0 8 rfl rfl)
theorem dJ20_isPresent_11 : decode cJ20_isPresent 11 = .ok (.iconst 0, 1) := dk_3 (dk_at dksJ20_isPresent_0 11 rfl rfl)
theorem dJ20_isPresent_12 : decode cJ20_isPresent 12 = .ok (.ireturn, 1) := dk_172 (dk_at dksJ20_isPresent_0 12 rfl rfl)
abbrev cJ20_get : ByteArray := prog_55_method_5_code
def yJ20_get : MethodName := ⟨RJ20, "get", "()Ljava/lang/Object;"⟩
def dkwJ20_get_0 : List UInt8 := [42, 180, 0, 13, 199, 0, 13, 187, 0, 26, 89, 18, 28, 183, 0, 30, 191, 42, 180, 0, 13, 176]
abbrev dktJ20_get_0 : List UInt8 := dkwJ20_get_0 ++ []
theorem dksJ20_get_0 : cJ20_get.data.toList.drop 0 = dktJ20_get_0 := by decide +kernel
theorem dJ20_get_0 : decode cJ20_get 0 = .ok (.aload_n 0, 1) := dk_42 (dk_at dksJ20_get_0 0 rfl rfl)
theorem dJ20_get_1 : decode cJ20_get 1 = .ok (.getfield 13, 3) := dk_180 0 13 (dk_at dksJ20_get_0 1 rfl rfl)
theorem dJ20_get_4 : decode cJ20_get 4 = .ok (.ifnonnull 13, 3) := dk_199 0 13 (dk_at dksJ20_get_0 4 rfl rfl)
theorem dJ20_get_7 : decode cJ20_get 7 = .ok (.new 26, 3) := dk_187 0 26 (dk_at dksJ20_get_0 7 rfl rfl)
theorem dJ20_get_10 : decode cJ20_get 10 = .ok (.dup, 1) := dk_89 (dk_at dksJ20_get_0 10 rfl rfl)
theorem dJ20_get_11 : decode cJ20_get 11 = .ok (.ldc 28, 2) := dk_18 28 (dk_at dksJ20_get_0 11 rfl rfl)
theorem dJ20_get_13 : decode cJ20_get 13 = .ok (.invokespecial 30, 3) := dk_183 0 30 (dk_at dksJ20_get_0 13 rfl rfl)
theorem dJ20_get_16 : decode cJ20_get 16 = .ok (.athrow, 1) := dk_191 (dk_at dksJ20_get_0 16 rfl rfl)
theorem dJ20_get_17 : decode cJ20_get 17 = .ok (.aload_n 0, 1) := dk_42 (dk_at dksJ20_get_0 17 rfl rfl)
theorem dJ20_get_18 : decode cJ20_get 18 = .ok (.getfield 13, 3) := dk_180 0 13 (dk_at dksJ20_get_0 18 rfl rfl)
theorem dJ20_get_21 : decode cJ20_get 21 = .ok (.areturn, 1) := dk_176 (dk_at dksJ20_get_0 21 rfl rfl)
abbrev cJ20_of : ByteArray := prog_55_method_3_code
def yJ20_of : MethodName := ⟨RJ20, "of", "(Ljava/lang/Object;)Ljava/util/Optional;"⟩
def dkwJ20_of_0 : List UInt8 := [187, 0, 2, 89, 42, 184, 0, 17, 183, 0, 23, 176]
abbrev dktJ20_of_0 : List UInt8 := dkwJ20_of_0 ++ []
theorem dksJ20_of_0 : cJ20_of.data.toList.drop 0 = dktJ20_of_0 := by decide +kernel
theorem dJ20_of_0 : decode cJ20_of 0 = .ok (.new 2, 3) := dk_187 0 2 (dk_at dksJ20_of_0 0 rfl rfl)
theorem dJ20_of_3 : decode cJ20_of 3 = .ok (.dup, 1) := dk_89 (dk_at dksJ20_of_0 3 rfl rfl)
theorem dJ20_of_4 : decode cJ20_of 4 = .ok (.aload_n 0, 1) := dk_42 (dk_at dksJ20_of_0 4 rfl rfl)
theorem dJ20_of_5 : decode cJ20_of 5 = .ok (.invokestatic 17, 3) := dk_184 0 17 (dk_at dksJ20_of_0 5 rfl rfl)
theorem dJ20_of_8 : decode cJ20_of 8 = .ok (.invokespecial 23, 3) := dk_183 0 23 (dk_at dksJ20_of_0 8 rfl rfl)
theorem dJ20_of_11 : decode cJ20_of 11 = .ok (.areturn, 1) := dk_176 (dk_at dksJ20_of_0 11 rfl rfl)
abbrev cJ20_init : ByteArray := prog_55_method_2_code
def yJ20_init : MethodName := ⟨RJ20, "<init>", "(Ljava/lang/Object;)V"⟩
def dkwJ20_init_0 : List UInt8 := [42, 183, 0, 7, 42, 43, 181, 0, 13, 177]
abbrev dktJ20_init_0 : List UInt8 := dkwJ20_init_0 ++ []
theorem dksJ20_init_0 : cJ20_init.data.toList.drop 0 = dktJ20_init_0 := by decide +kernel
theorem dJ20_init_0 : decode cJ20_init 0 = .ok (.aload_n 0, 1) := dk_42 (dk_at dksJ20_init_0 0 rfl rfl)
theorem dJ20_init_1 : decode cJ20_init 1 = .ok (.invokespecial 7, 3) := dk_183 0 7 (dk_at dksJ20_init_0 1 rfl rfl)
theorem dJ20_init_4 : decode cJ20_init 4 = .ok (.aload_n 0, 1) := dk_42 (dk_at dksJ20_init_0 4 rfl rfl)
theorem dJ20_init_5 : decode cJ20_init 5 = .ok (.aload_n 1, 1) := dk_43 (dk_at dksJ20_init_0 5 rfl rfl)
theorem dJ20_init_6 : decode cJ20_init 6 = .ok (.putfield 13, 3) := dk_181 0 13 (dk_at dksJ20_init_0 6 rfl rfl)
theorem dJ20_init_9 : decode cJ20_init 9 = .ok (.return_, 1) := dk_177 (dk_at dksJ20_init_0 9 rfl rfl)
theorem q108 : (Jvm.Cond.initialized "java/util/Optional") ∈ lw_all := lw_g (lw_at lw_m1 39 rfl) rfl
theorem q257 : (Jvm.Cond.selects "java/util/Optional" ({ cls := "java/lang/Object", name := "getClass", desc := "()Ljava/lang/Class;" } : Jvm.MethodName) ({ cls := "java/lang/Object", name := "getClass", desc := "()Ljava/lang/Class;" } : Jvm.MethodName)) ∈ lw_all := lw_g (lw_at lw_m1 188 rfl) rfl
theorem q531 : (Jvm.Cond.static ({ cls := "java/util/Optional", name := "empty", desc := "()Ljava/util/Optional;" } : Jvm.MethodName)) ∈ lw_all := lw_g (lw_at lw_m2 222 rfl) rfl
theorem q532 : (Jvm.Cond.code ({ cls := "java/util/Optional", name := "empty", desc := "()Ljava/util/Optional;" } : Jvm.MethodName) prog_55_method_1_code (1 : Nat) (Option.some (Jvm.ClassFile.FieldType.object "java/util/Optional"))) ∈ lw_all := lw_g (lw_at lw_m2 223 rfl) rfl
theorem q533 : (Jvm.Cond.fieldLink "java/util/Optional" (1 : Nat) "java/util/Optional" "EMPTY" "Ljava/util/Optional;") ∈ lw_all := lw_g (lw_at lw_m2 224 rfl) rfl
theorem q534 : (Jvm.Cond.laysStatic "java/util/Optional" "EMPTY" "Ljava/util/Optional;") ∈ lw_tbl := lw_at lw_m2 225 rfl
theorem q540 : (Jvm.Cond.instanceMethod ({ cls := "java/util/Optional", name := "isPresent", desc := "()Z" } : Jvm.MethodName)) ∈ lw_all := lw_g (lw_at lw_m2 231 rfl) rfl
theorem q541 : (Jvm.Cond.selects "java/util/Optional" ({ cls := "java/util/Optional", name := "isPresent", desc := "()Z" } : Jvm.MethodName) ({ cls := "java/util/Optional", name := "isPresent", desc := "()Z" } : Jvm.MethodName)) ∈ lw_all := lw_g (lw_at lw_m2 232 rfl) rfl
theorem q542 : (Jvm.Cond.code ({ cls := "java/util/Optional", name := "isPresent", desc := "()Z" } : Jvm.MethodName) prog_55_method_6_code (1 : Nat) (Option.some Jvm.ClassFile.FieldType.boolean)) ∈ lw_all := lw_g (lw_at lw_m2 233 rfl) rfl
theorem q544 : (Jvm.Cond.instanceMethod ({ cls := "java/util/Optional", name := "get", desc := "()Ljava/lang/Object;" } : Jvm.MethodName)) ∈ lw_all := lw_g (lw_at lw_m2 235 rfl) rfl
theorem q545 : (Jvm.Cond.selects "java/util/Optional" ({ cls := "java/util/Optional", name := "get", desc := "()Ljava/lang/Object;" } : Jvm.MethodName) ({ cls := "java/util/Optional", name := "get", desc := "()Ljava/lang/Object;" } : Jvm.MethodName)) ∈ lw_all := lw_g (lw_at lw_m2 236 rfl) rfl
theorem q546 : (Jvm.Cond.code ({ cls := "java/util/Optional", name := "get", desc := "()Ljava/lang/Object;" } : Jvm.MethodName) prog_55_method_5_code (1 : Nat) (Option.some (Jvm.ClassFile.FieldType.object "java/lang/Object"))) ∈ lw_all := lw_g (lw_at lw_m2 237 rfl) rfl
theorem q548 : (Jvm.Cond.static ({ cls := "java/util/Optional", name := "of", desc := "(Ljava/lang/Object;)Ljava/util/Optional;" } : Jvm.MethodName)) ∈ lw_all := lw_g (lw_at lw_m2 239 rfl) rfl
theorem q549 : (Jvm.Cond.code ({ cls := "java/util/Optional", name := "of", desc := "(Ljava/lang/Object;)Ljava/util/Optional;" } : Jvm.MethodName) prog_55_method_3_code (1 : Nat) (Option.some (Jvm.ClassFile.FieldType.object "java/util/Optional"))) ∈ lw_all := lw_g (lw_at lw_m3 0 rfl) rfl
theorem q550 : (Jvm.Cond.classLink "java/util/Optional" (2 : Nat) "java/util/Optional") ∈ lw_all := lw_g (lw_at lw_m3 1 rfl) rfl
theorem q551 : (Jvm.Cond.instantiable "java/util/Optional" (1 : Nat)) ∈ lw_all := lw_g (lw_at lw_m3 2 rfl) rfl
theorem q552 : (Jvm.Cond.methodLink "java/util/Optional" (17 : Nat) ({ cls := "java/util/Objects", name := "requireNonNull", desc := "(Ljava/lang/Object;)Ljava/lang/Object;" } : Jvm.MethodName)) ∈ lw_all := lw_g (lw_at lw_m3 3 rfl) rfl
theorem q555 : (Jvm.Cond.methodLink "java/util/Optional" (23 : Nat) ({ cls := "java/util/Optional", name := "<init>", desc := "(Ljava/lang/Object;)V" } : Jvm.MethodName)) ∈ lw_all := lw_g (lw_at lw_m3 6 rfl) rfl
theorem q556 : (Jvm.Cond.instanceMethod ({ cls := "java/util/Optional", name := "<init>", desc := "(Ljava/lang/Object;)V" } : Jvm.MethodName)) ∈ lw_all := lw_g (lw_at lw_m3 7 rfl) rfl
theorem q557 : (Jvm.Cond.code ({ cls := "java/util/Optional", name := "<init>", desc := "(Ljava/lang/Object;)V" } : Jvm.MethodName) prog_55_method_2_code (2 : Nat) (Option.none : Option Jvm.ClassFile.FieldType)) ∈ lw_all := lw_g (lw_at lw_m3 8 rfl) rfl
theorem q558 : (Jvm.Cond.methodLink "java/util/Optional" (7 : Nat) ({ cls := "java/lang/Object", name := "<init>", desc := "()V" } : Jvm.MethodName)) ∈ lw_all := lw_g (lw_at lw_m3 9 rfl) rfl
theorem q559 : (Jvm.Cond.fieldLink "java/util/Optional" (13 : Nat) "java/util/Optional" "value" "Ljava/lang/Object;") ∈ lw_all := lw_g (lw_at lw_m3 10 rfl) rfl
theorem q560 : (Jvm.Cond.laysFinal "java/util/Optional" "java/util/Optional" "value" "Ljava/lang/Object;") ∈ lw_all := lw_g (lw_at lw_m3 11 rfl) rfl
theorem q561 : (Jvm.Cond.soleField "java/util/Optional" "value") ∈ lw_all := lw_g (lw_at lw_m3 12 rfl) rfl
theorem q562 : (Jvm.Cond.superclass "java/util/Optional" "java/lang/Object") ∈ lw_all := lw_g (lw_at lw_m3 13 rfl) rfl
theorem q2119 : (Jvm.Cond.castable "java/util/Optional" "java/lang/Object") ∈ lw_tbl := lw_at lw_m9 130 rfl
theorem in_J20 : ∀ w ∈ wsJ200, w ∈ lw_all := lw_in wsJ200 [560] (by decide +kernel) (by decide +kernel)
/-! java/lang/AbstractStringBuilder -/
set_option maxRecDepth 100000
def RJ21 : String := "java/lang/AbstractStringBuilder"
abbrev cJ21_init : ByteArray := prog_21_method_3_code
def yJ21_init : MethodName := ⟨RJ21, "<init>", "(Ljava/lang/String;)V"⟩
def dkwJ21_init_2 : List UInt8 := [167, 0, 7, 29, 184, 0, 26, 181, 0, 15, 42, 43, 182, 0, 43, 87, 177]
abbrev dktJ21_init_2 : List UInt8 := dkwJ21_init_2 ++ []
def dkwJ21_init_1 : List UInt8 := [62, 43, 182, 0, 40, 54, 4, 42, 21, 4, 181, 0, 22, 42, 21, 4, 154, 0, 9, 29, 188, 8]
abbrev dktJ21_init_1 : List UInt8 := dkwJ21_init_1 ++ dktJ21_init_2
def dkwJ21_init_0 : List UInt8 := [42, 183, 0, 3, 43, 182, 0, 32, 61, 28, 18, 38, 162, 0, 10, 28, 16, 16, 96, 167, 0, 5, 18, 39]
abbrev dktJ21_init_0 : List UInt8 := dkwJ21_init_0 ++ dktJ21_init_1
theorem dksJ21_init_0 : cJ21_init.data.toList.drop 0 = dktJ21_init_0 := by decide +kernel
theorem dksJ21_init_1 : cJ21_init.data.toList.drop 24 = dktJ21_init_1 := dk_seg dksJ21_init_0 24 rfl rfl
theorem dksJ21_init_2 : cJ21_init.data.toList.drop 46 = dktJ21_init_2 := dk_seg dksJ21_init_1 22 rfl rfl
theorem dJ21_init_0 : decode cJ21_init 0 = .ok (.aload_n 0, 1) := dk_42 (dk_at dksJ21_init_0 0 rfl rfl)
theorem dJ21_init_1 : decode cJ21_init 1 = .ok (.invokespecial 3, 3) := dk_183 0 3 (dk_at dksJ21_init_0 1 rfl rfl)
theorem dJ21_init_4 : decode cJ21_init 4 = .ok (.aload_n 1, 1) := dk_43 (dk_at dksJ21_init_0 4 rfl rfl)
theorem dJ21_init_5 : decode cJ21_init 5 = .ok (.invokevirtual 32, 3) := dk_182 0 32 (dk_at dksJ21_init_0 5 rfl rfl)
theorem dJ21_init_8 : decode cJ21_init 8 = .ok (.istore_n 2, 1) := dk_61 (dk_at dksJ21_init_0 8 rfl rfl)
theorem dJ21_init_9 : decode cJ21_init 9 = .ok (.iload_n 2, 1) := dk_28 (dk_at dksJ21_init_0 9 rfl rfl)
theorem dJ21_init_10 : decode cJ21_init 10 = .ok (.ldc 38, 2) := dk_18 38 (dk_at dksJ21_init_0 10 rfl rfl)
theorem dJ21_init_12 : decode cJ21_init 12 = .ok (.if_icmp .ge 10, 3) := dk_162 0 10 (dk_at dksJ21_init_0 12 rfl rfl)
theorem dJ21_init_15 : decode cJ21_init 15 = .ok (.iload_n 2, 1) := dk_28 (dk_at dksJ21_init_0 15 rfl rfl)
theorem dJ21_init_16 : decode cJ21_init 16 = .ok (.bipush 16, 2) := dk_16 16 (dk_at dksJ21_init_0 16 rfl rfl)
theorem dJ21_init_18 : decode cJ21_init 18 = .ok (.iadd, 1) := dk_96 (dk_at dksJ21_init_0 18 rfl rfl)
theorem dJ21_init_19 : decode cJ21_init 19 = .ok (.goto 5, 3) := dk_167 0 5 (dk_at dksJ21_init_0 19 rfl rfl)
theorem dJ21_init_22 : decode cJ21_init 22 = .ok (.ldc 39, 2) := dk_18 39 (dk_at dksJ21_init_0 22 rfl rfl)
theorem dJ21_init_24 : decode cJ21_init 24 = .ok (.istore_n 3, 1) := dk_62 (dk_at dksJ21_init_1 0 rfl rfl)
theorem dJ21_init_25 : decode cJ21_init 25 = .ok (.aload_n 1, 1) := dk_43 (dk_at dksJ21_init_1 1 rfl rfl)
theorem dJ21_init_26 : decode cJ21_init 26 = .ok (.invokevirtual 40, 3) := dk_182 0 40 (dk_at dksJ21_init_1 2 rfl rfl)
theorem dJ21_init_29 : decode cJ21_init 29 = .ok (.istore 4, 2) := dk_54 4 (dk_at dksJ21_init_1 5 rfl rfl)
theorem dJ21_init_31 : decode cJ21_init 31 = .ok (.aload_n 0, 1) := dk_42 (dk_at dksJ21_init_1 7 rfl rfl)
theorem dJ21_init_32 : decode cJ21_init 32 = .ok (.iload 4, 2) := dk_21 4 (dk_at dksJ21_init_1 8 rfl rfl)
theorem dJ21_init_34 : decode cJ21_init 34 = .ok (.putfield 22, 3) := dk_181 0 22 (dk_at dksJ21_init_1 10 rfl rfl)
theorem dJ21_init_37 : decode cJ21_init 37 = .ok (.aload_n 0, 1) := dk_42 (dk_at dksJ21_init_1 13 rfl rfl)
theorem dJ21_init_38 : decode cJ21_init 38 = .ok (.iload 4, 2) := dk_21 4 (dk_at dksJ21_init_1 14 rfl rfl)
theorem dJ21_init_40 : decode cJ21_init 40 = .ok (.ifCond .ne 9, 3) := dk_154 0 9 (dk_at dksJ21_init_1 16 rfl rfl)
theorem dJ21_init_43 : decode cJ21_init 43 = .ok (.iload_n 3, 1) := dk_29 (dk_at dksJ21_init_1 19 rfl rfl)
theorem dJ21_init_44 : decode cJ21_init 44 = .ok (.newarray .byte, 2) := dk_188_8 (dk_at dksJ21_init_1 20 rfl rfl)
theorem dJ21_init_46 : decode cJ21_init 46 = .ok (.goto 7, 3) := dk_167 0 7 (dk_at dksJ21_init_2 0 rfl rfl)
theorem dJ21_init_49 : decode cJ21_init 49 = .ok (.iload_n 3, 1) := dk_29 (dk_at dksJ21_init_2 3 rfl rfl)
theorem dJ21_init_50 : decode cJ21_init 50 = .ok (.invokestatic 26, 3) := dk_184 0 26 (dk_at dksJ21_init_2 4 rfl rfl)
theorem dJ21_init_53 : decode cJ21_init 53 = .ok (.putfield 15, 3) := dk_181 0 15 (dk_at dksJ21_init_2 7 rfl rfl)
theorem dJ21_init_56 : decode cJ21_init 56 = .ok (.aload_n 0, 1) := dk_42 (dk_at dksJ21_init_2 10 rfl rfl)
theorem dJ21_init_57 : decode cJ21_init 57 = .ok (.aload_n 1, 1) := dk_43 (dk_at dksJ21_init_2 11 rfl rfl)
theorem dJ21_init_58 : decode cJ21_init 58 = .ok (.invokevirtual 43, 3) := dk_182 0 43 (dk_at dksJ21_init_2 12 rfl rfl)
theorem dJ21_init_61 : decode cJ21_init 61 = .ok (.pop, 1) := dk_87 (dk_at dksJ21_init_2 15 rfl rfl)
theorem dJ21_init_62 : decode cJ21_init 62 = .ok (.return_, 1) := dk_177 (dk_at dksJ21_init_2 16 rfl rfl)
abbrev cJ21_append : ByteArray := prog_21_method_22_code
def yJ21_append : MethodName := ⟨RJ21, "append", "(Ljava/lang/String;)Ljava/lang/AbstractStringBuilder;"⟩
def dkwJ21_append_1 : List UInt8 := [42, 42, 180, 0, 79, 43, 182, 0, 208, 42, 89, 180, 0, 79, 28, 96, 181, 0, 79, 42, 176]
abbrev dktJ21_append_1 : List UInt8 := dkwJ21_append_1 ++ []
def dkwJ21_append_0 : List UInt8 := [43, 199, 0, 8, 42, 182, 0, 204, 176, 43, 182, 0, 32, 61, 42, 42, 180, 0, 79, 28, 96, 182, 0, 100]
abbrev dktJ21_append_0 : List UInt8 := dkwJ21_append_0 ++ dktJ21_append_1
theorem dksJ21_append_0 : cJ21_append.data.toList.drop 0 = dktJ21_append_0 := by decide +kernel
theorem dksJ21_append_1 : cJ21_append.data.toList.drop 24 = dktJ21_append_1 := dk_seg dksJ21_append_0 24 rfl rfl
theorem dJ21_append_0 : decode cJ21_append 0 = .ok (.aload_n 1, 1) := dk_43 (dk_at dksJ21_append_0 0 rfl rfl)
theorem dJ21_append_1 : decode cJ21_append 1 = .ok (.ifnonnull 8, 3) := dk_199 0 8 (dk_at dksJ21_append_0 1 rfl rfl)
theorem dJ21_append_4 : decode cJ21_append 4 = .ok (.aload_n 0, 1) := dk_42 (dk_at dksJ21_append_0 4 rfl rfl)
theorem dJ21_append_5 : decode cJ21_append 5 = .ok (.invokevirtual 204, 3) := dk_182 0 204 (dk_at dksJ21_append_0 5 rfl rfl)
theorem dJ21_append_8 : decode cJ21_append 8 = .ok (.areturn, 1) := dk_176 (dk_at dksJ21_append_0 8 rfl rfl)
theorem dJ21_append_9 : decode cJ21_append 9 = .ok (.aload_n 1, 1) := dk_43 (dk_at dksJ21_append_0 9 rfl rfl)
theorem dJ21_append_10 : decode cJ21_append 10 = .ok (.invokevirtual 32, 3) := dk_182 0 32 (dk_at dksJ21_append_0 10 rfl rfl)
theorem dJ21_append_13 : decode cJ21_append 13 = .ok (.istore_n 2, 1) := dk_61 (dk_at dksJ21_append_0 13 rfl rfl)
theorem dJ21_append_14 : decode cJ21_append 14 = .ok (.aload_n 0, 1) := dk_42 (dk_at dksJ21_append_0 14 rfl rfl)
theorem dJ21_append_15 : decode cJ21_append 15 = .ok (.aload_n 0, 1) := dk_42 (dk_at dksJ21_append_0 15 rfl rfl)
theorem dJ21_append_16 : decode cJ21_append 16 = .ok (.getfield 79, 3) := dk_180 0 79 (dk_at dksJ21_append_0 16 rfl rfl)
theorem dJ21_append_19 : decode cJ21_append 19 = .ok (.iload_n 2, 1) := dk_28 (dk_at dksJ21_append_0 19 rfl rfl)
theorem dJ21_append_20 : decode cJ21_append 20 = .ok (.iadd, 1) := dk_96 (dk_at dksJ21_append_0 20 rfl rfl)
theorem dJ21_append_21 : decode cJ21_append 21 = .ok (.invokevirtual 100, 3) := dk_182 0 100 (dk_at dksJ21_append_0 21 rfl rfl)
theorem dJ21_append_24 : decode cJ21_append 24 = .ok (.aload_n 0, 1) := dk_42 (dk_at dksJ21_append_1 0 rfl rfl)
theorem dJ21_append_25 : decode cJ21_append 25 = .ok (.aload_n 0, 1) := dk_42 (dk_at dksJ21_append_1 1 rfl rfl)
theorem dJ21_append_26 : decode cJ21_append 26 = .ok (.getfield 79, 3) := dk_180 0 79 (dk_at dksJ21_append_1 2 rfl rfl)
theorem dJ21_append_29 : decode cJ21_append 29 = .ok (.aload_n 1, 1) := dk_43 (dk_at dksJ21_append_1 5 rfl rfl)
theorem dJ21_append_30 : decode cJ21_append 30 = .ok (.invokevirtual 208, 3) := dk_182 0 208 (dk_at dksJ21_append_1 6 rfl rfl)
theorem dJ21_append_33 : decode cJ21_append 33 = .ok (.aload_n 0, 1) := dk_42 (dk_at dksJ21_append_1 9 rfl rfl)
theorem dJ21_append_34 : decode cJ21_append 34 = .ok (.dup, 1) := dk_89 (dk_at dksJ21_append_1 10 rfl rfl)
theorem dJ21_append_35 : decode cJ21_append 35 = .ok (.getfield 79, 3) := dk_180 0 79 (dk_at dksJ21_append_1 11 rfl rfl)
theorem dJ21_append_38 : decode cJ21_append 38 = .ok (.iload_n 2, 1) := dk_28 (dk_at dksJ21_append_1 14 rfl rfl)
theorem dJ21_append_39 : decode cJ21_append 39 = .ok (.iadd, 1) := dk_96 (dk_at dksJ21_append_1 15 rfl rfl)
theorem dJ21_append_40 : decode cJ21_append 40 = .ok (.putfield 79, 3) := dk_181 0 79 (dk_at dksJ21_append_1 16 rfl rfl)
theorem dJ21_append_43 : decode cJ21_append 43 = .ok (.aload_n 0, 1) := dk_42 (dk_at dksJ21_append_1 19 rfl rfl)
theorem dJ21_append_44 : decode cJ21_append 44 = .ok (.areturn, 1) := dk_176 (dk_at dksJ21_append_1 20 rfl rfl)
abbrev cJ21_appendNull : ByteArray := prog_21_method_26_code
def yJ21_appendNull : MethodName := ⟨RJ21, "appendNull", "()Ljava/lang/AbstractStringBuilder;"⟩
def dkwJ21_appendNull_3 : List UInt8 := [184, 0, 226, 60, 42, 27, 181, 0, 79, 42, 176]
abbrev dktJ21_appendNull_3 : List UInt8 := dkwJ21_appendNull_3 ++ []
def dkwJ21_appendNull_2 : List UInt8 := [16, 108, 84, 44, 27, 132, 1, 1, 16, 108, 84, 167, 0, 17, 44, 27, 16, 110, 16, 117, 16, 108, 16, 108]
abbrev dktJ21_appendNull_2 : List UInt8 := dkwJ21_appendNull_2 ++ dktJ21_appendNull_3
def dkwJ21_appendNull_1 : List UInt8 := [153, 0, 38, 44, 27, 132, 1, 1, 16, 110, 84, 44, 27, 132, 1, 1, 16, 117, 84, 44, 27, 132, 1, 1]
abbrev dktJ21_appendNull_1 : List UInt8 := dkwJ21_appendNull_1 ++ dktJ21_appendNull_2
def dkwJ21_appendNull_0 : List UInt8 := [42, 42, 180, 0, 79, 7, 96, 182, 0, 100, 42, 180, 0, 79, 60, 42, 180, 0, 15, 77, 42, 182, 0, 83]
abbrev dktJ21_appendNull_0 : List UInt8 := dkwJ21_appendNull_0 ++ dktJ21_appendNull_1
theorem dksJ21_appendNull_0 : cJ21_appendNull.data.toList.drop 0 = dktJ21_appendNull_0 := by decide +kernel
theorem dksJ21_appendNull_1 : cJ21_appendNull.data.toList.drop 24 = dktJ21_appendNull_1 := dk_seg dksJ21_appendNull_0 24 rfl rfl
theorem dksJ21_appendNull_2 : cJ21_appendNull.data.toList.drop 48 = dktJ21_appendNull_2 := dk_seg dksJ21_appendNull_1 24 rfl rfl
theorem dksJ21_appendNull_3 : cJ21_appendNull.data.toList.drop 72 = dktJ21_appendNull_3 := dk_seg dksJ21_appendNull_2 24 rfl rfl
theorem dJ21_appendNull_0 : decode cJ21_appendNull 0 = .ok (.aload_n 0, 1) := dk_42 (dk_at dksJ21_appendNull_0 0 rfl rfl)
theorem dJ21_appendNull_1 : decode cJ21_appendNull 1 = .ok (.aload_n 0, 1) := dk_42 (dk_at dksJ21_appendNull_0 1 rfl rfl)
theorem dJ21_appendNull_2 : decode cJ21_appendNull 2 = .ok (.getfield 79, 3) := dk_180 0 79 (dk_at dksJ21_appendNull_0 2 rfl rfl)
theorem dJ21_appendNull_5 : decode cJ21_appendNull 5 = .ok (.iconst 4, 1) := dk_7 (dk_at dksJ21_appendNull_0 5 rfl rfl)
theorem dJ21_appendNull_6 : decode cJ21_appendNull 6 = .ok (.iadd, 1) := dk_96 (dk_at dksJ21_appendNull_0 6 rfl rfl)
theorem dJ21_appendNull_7 : decode cJ21_appendNull 7 = .ok (.invokevirtual 100, 3) := dk_182 0 100 (dk_at dksJ21_appendNull_0 7 rfl rfl)
theorem dJ21_appendNull_10 : decode cJ21_appendNull 10 = .ok (.aload_n 0, 1) := dk_42 (dk_at dksJ21_appendNull_0 10 rfl rfl)
theorem dJ21_appendNull_11 : decode cJ21_appendNull 11 = .ok (.getfield 79, 3) := dk_180 0 79 (dk_at dksJ21_appendNull_0 11 rfl rfl)
theorem dJ21_appendNull_14 : decode cJ21_appendNull 14 = .ok (.istore_n 1, 1) := dk_60 (dk_at dksJ21_appendNull_0 14 rfl rfl)
theorem dJ21_appendNull_15 : decode cJ21_appendNull 15 = .ok (.aload_n 0, 1) := dk_42 (dk_at dksJ21_appendNull_0 15 rfl rfl)
theorem dJ21_appendNull_16 : decode cJ21_appendNull 16 = .ok (.getfield 15, 3) := dk_180 0 15 (dk_at dksJ21_appendNull_0 16 rfl rfl)
theorem dJ21_appendNull_19 : decode cJ21_appendNull 19 = .ok (.astore_n 2, 1) := dk_77 (dk_at dksJ21_appendNull_0 19 rfl rfl)
theorem dJ21_appendNull_20 : decode cJ21_appendNull 20 = .ok (.aload_n 0, 1) := dk_42 (dk_at dksJ21_appendNull_0 20 rfl rfl)
theorem dJ21_appendNull_21 : decode cJ21_appendNull 21 = .ok (.invokevirtual 83, 3) := dk_182 0 83 (dk_at dksJ21_appendNull_0 21 rfl rfl)
theorem dJ21_appendNull_24 : decode cJ21_appendNull 24 = .ok (.ifCond .eq 38, 3) := dk_153 0 38 (dk_at dksJ21_appendNull_1 0 rfl rfl)
theorem dJ21_appendNull_27 : decode cJ21_appendNull 27 = .ok (.aload_n 2, 1) := dk_44 (dk_at dksJ21_appendNull_1 3 rfl rfl)
theorem dJ21_appendNull_28 : decode cJ21_appendNull 28 = .ok (.iload_n 1, 1) := dk_27 (dk_at dksJ21_appendNull_1 4 rfl rfl)
theorem dJ21_appendNull_29 : decode cJ21_appendNull 29 = .ok (.iinc 1 1, 3) := dk_132 1 1 (dk_at dksJ21_appendNull_1 5 rfl rfl)
theorem dJ21_appendNull_32 : decode cJ21_appendNull 32 = .ok (.bipush 110, 2) := dk_16 110 (dk_at dksJ21_appendNull_1 8 rfl rfl)
theorem dJ21_appendNull_34 : decode cJ21_appendNull 34 = .ok (.bastore, 1) := dk_84 (dk_at dksJ21_appendNull_1 10 rfl rfl)
theorem dJ21_appendNull_35 : decode cJ21_appendNull 35 = .ok (.aload_n 2, 1) := dk_44 (dk_at dksJ21_appendNull_1 11 rfl rfl)
theorem dJ21_appendNull_36 : decode cJ21_appendNull 36 = .ok (.iload_n 1, 1) := dk_27 (dk_at dksJ21_appendNull_1 12 rfl rfl)
theorem dJ21_appendNull_37 : decode cJ21_appendNull 37 = .ok (.iinc 1 1, 3) := dk_132 1 1 (dk_at dksJ21_appendNull_1 13 rfl rfl)
theorem dJ21_appendNull_40 : decode cJ21_appendNull 40 = .ok (.bipush 117, 2) := dk_16 117 (dk_at dksJ21_appendNull_1 16 rfl rfl)
theorem dJ21_appendNull_42 : decode cJ21_appendNull 42 = .ok (.bastore, 1) := dk_84 (dk_at dksJ21_appendNull_1 18 rfl rfl)
theorem dJ21_appendNull_43 : decode cJ21_appendNull 43 = .ok (.aload_n 2, 1) := dk_44 (dk_at dksJ21_appendNull_1 19 rfl rfl)
theorem dJ21_appendNull_44 : decode cJ21_appendNull 44 = .ok (.iload_n 1, 1) := dk_27 (dk_at dksJ21_appendNull_1 20 rfl rfl)
theorem dJ21_appendNull_45 : decode cJ21_appendNull 45 = .ok (.iinc 1 1, 3) := dk_132 1 1 (dk_at dksJ21_appendNull_1 21 rfl rfl)
theorem dJ21_appendNull_48 : decode cJ21_appendNull 48 = .ok (.bipush 108, 2) := dk_16 108 (dk_at dksJ21_appendNull_2 0 rfl rfl)
theorem dJ21_appendNull_50 : decode cJ21_appendNull 50 = .ok (.bastore, 1) := dk_84 (dk_at dksJ21_appendNull_2 2 rfl rfl)
theorem dJ21_appendNull_51 : decode cJ21_appendNull 51 = .ok (.aload_n 2, 1) := dk_44 (dk_at dksJ21_appendNull_2 3 rfl rfl)
theorem dJ21_appendNull_52 : decode cJ21_appendNull 52 = .ok (.iload_n 1, 1) := dk_27 (dk_at dksJ21_appendNull_2 4 rfl rfl)
theorem dJ21_appendNull_53 : decode cJ21_appendNull 53 = .ok (.iinc 1 1, 3) := dk_132 1 1 (dk_at dksJ21_appendNull_2 5 rfl rfl)
theorem dJ21_appendNull_56 : decode cJ21_appendNull 56 = .ok (.bipush 108, 2) := dk_16 108 (dk_at dksJ21_appendNull_2 8 rfl rfl)
theorem dJ21_appendNull_58 : decode cJ21_appendNull 58 = .ok (.bastore, 1) := dk_84 (dk_at dksJ21_appendNull_2 10 rfl rfl)
theorem dJ21_appendNull_59 : decode cJ21_appendNull 59 = .ok (.goto 17, 3) := dk_167 0 17 (dk_at dksJ21_appendNull_2 11 rfl rfl)
theorem dJ21_appendNull_62 : decode cJ21_appendNull 62 = .ok (.aload_n 2, 1) := dk_44 (dk_at dksJ21_appendNull_2 14 rfl rfl)
theorem dJ21_appendNull_63 : decode cJ21_appendNull 63 = .ok (.iload_n 1, 1) := dk_27 (dk_at dksJ21_appendNull_2 15 rfl rfl)
theorem dJ21_appendNull_64 : decode cJ21_appendNull 64 = .ok (.bipush 110, 2) := dk_16 110 (dk_at dksJ21_appendNull_2 16 rfl rfl)
theorem dJ21_appendNull_66 : decode cJ21_appendNull 66 = .ok (.bipush 117, 2) := dk_16 117 (dk_at dksJ21_appendNull_2 18 rfl rfl)
theorem dJ21_appendNull_68 : decode cJ21_appendNull 68 = .ok (.bipush 108, 2) := dk_16 108 (dk_at dksJ21_appendNull_2 20 rfl rfl)
theorem dJ21_appendNull_70 : decode cJ21_appendNull 70 = .ok (.bipush 108, 2) := dk_16 108 (dk_at dksJ21_appendNull_2 22 rfl rfl)
theorem dJ21_appendNull_72 : decode cJ21_appendNull 72 = .ok (.invokestatic 226, 3) := dk_184 0 226 (dk_at dksJ21_appendNull_3 0 rfl rfl)
theorem dJ21_appendNull_75 : decode cJ21_appendNull 75 = .ok (.istore_n 1, 1) := dk_60 (dk_at dksJ21_appendNull_3 3 rfl rfl)
theorem dJ21_appendNull_76 : decode cJ21_appendNull 76 = .ok (.aload_n 0, 1) := dk_42 (dk_at dksJ21_appendNull_3 4 rfl rfl)
theorem dJ21_appendNull_77 : decode cJ21_appendNull 77 = .ok (.iload_n 1, 1) := dk_27 (dk_at dksJ21_appendNull_3 5 rfl rfl)
theorem dJ21_appendNull_78 : decode cJ21_appendNull 78 = .ok (.putfield 79, 3) := dk_181 0 79 (dk_at dksJ21_appendNull_3 6 rfl rfl)
theorem dJ21_appendNull_81 : decode cJ21_appendNull 81 = .ok (.aload_n 0, 1) := dk_42 (dk_at dksJ21_appendNull_3 9 rfl rfl)
theorem dJ21_appendNull_82 : decode cJ21_appendNull 82 = .ok (.areturn, 1) := dk_176 (dk_at dksJ21_appendNull_3 10 rfl rfl)
abbrev cJ21_ensureCapacityInternal : ByteArray := prog_21_method_9_code
def yJ21_ensureCapacityInternal : MethodName := ⟨RJ21, "ensureCapacityInternal", "(I)V"⟩
def dkwJ21_ensureCapacityInternal_1 : List UInt8 := [182, 0, 104, 42, 180, 0, 22, 120, 184, 0, 108, 181, 0, 15, 177]
abbrev dktJ21_ensureCapacityInternal_1 : List UInt8 := dkwJ21_ensureCapacityInternal_1 ++ []
def dkwJ21_ensureCapacityInternal_0 : List UInt8 := [42, 180, 0, 15, 190, 42, 180, 0, 22, 122, 61, 27, 28, 100, 158, 0, 24, 42, 42, 180, 0, 15, 42, 27]
abbrev dktJ21_ensureCapacityInternal_0 : List UInt8 := dkwJ21_ensureCapacityInternal_0 ++ dktJ21_ensureCapacityInternal_1
theorem dksJ21_ensureCapacityInternal_0 : cJ21_ensureCapacityInternal.data.toList.drop 0 = dktJ21_ensureCapacityInternal_0 := by decide +kernel
theorem dksJ21_ensureCapacityInternal_1 : cJ21_ensureCapacityInternal.data.toList.drop 24 = dktJ21_ensureCapacityInternal_1 := dk_seg dksJ21_ensureCapacityInternal_0 24 rfl rfl
theorem dJ21_ensureCapacityInternal_0 : decode cJ21_ensureCapacityInternal 0 = .ok (.aload_n 0, 1) := dk_42 (dk_at dksJ21_ensureCapacityInternal_0 0 rfl rfl)
theorem dJ21_ensureCapacityInternal_1 : decode cJ21_ensureCapacityInternal 1 = .ok (.getfield 15, 3) := dk_180 0 15 (dk_at dksJ21_ensureCapacityInternal_0 1 rfl rfl)
theorem dJ21_ensureCapacityInternal_4 : decode cJ21_ensureCapacityInternal 4 = .ok (.arraylength, 1) := dk_190 (dk_at dksJ21_ensureCapacityInternal_0 4 rfl rfl)
theorem dJ21_ensureCapacityInternal_5 : decode cJ21_ensureCapacityInternal 5 = .ok (.aload_n 0, 1) := dk_42 (dk_at dksJ21_ensureCapacityInternal_0 5 rfl rfl)
theorem dJ21_ensureCapacityInternal_6 : decode cJ21_ensureCapacityInternal 6 = .ok (.getfield 22, 3) := dk_180 0 22 (dk_at dksJ21_ensureCapacityInternal_0 6 rfl rfl)
theorem dJ21_ensureCapacityInternal_9 : decode cJ21_ensureCapacityInternal 9 = .ok (.ishr, 1) := dk_122 (dk_at dksJ21_ensureCapacityInternal_0 9 rfl rfl)
theorem dJ21_ensureCapacityInternal_10 : decode cJ21_ensureCapacityInternal 10 = .ok (.istore_n 2, 1) := dk_61 (dk_at dksJ21_ensureCapacityInternal_0 10 rfl rfl)
theorem dJ21_ensureCapacityInternal_11 : decode cJ21_ensureCapacityInternal 11 = .ok (.iload_n 1, 1) := dk_27 (dk_at dksJ21_ensureCapacityInternal_0 11 rfl rfl)
theorem dJ21_ensureCapacityInternal_12 : decode cJ21_ensureCapacityInternal 12 = .ok (.iload_n 2, 1) := dk_28 (dk_at dksJ21_ensureCapacityInternal_0 12 rfl rfl)
theorem dJ21_ensureCapacityInternal_13 : decode cJ21_ensureCapacityInternal 13 = .ok (.isub, 1) := dk_100 (dk_at dksJ21_ensureCapacityInternal_0 13 rfl rfl)
theorem dJ21_ensureCapacityInternal_14 : decode cJ21_ensureCapacityInternal 14 = .ok (.ifCond .le 24, 3) := dk_158 0 24 (dk_at dksJ21_ensureCapacityInternal_0 14 rfl rfl)
theorem dJ21_ensureCapacityInternal_17 : decode cJ21_ensureCapacityInternal 17 = .ok (.aload_n 0, 1) := dk_42 (dk_at dksJ21_ensureCapacityInternal_0 17 rfl rfl)
theorem dJ21_ensureCapacityInternal_18 : decode cJ21_ensureCapacityInternal 18 = .ok (.aload_n 0, 1) := dk_42 (dk_at dksJ21_ensureCapacityInternal_0 18 rfl rfl)
theorem dJ21_ensureCapacityInternal_19 : decode cJ21_ensureCapacityInternal 19 = .ok (.getfield 15, 3) := dk_180 0 15 (dk_at dksJ21_ensureCapacityInternal_0 19 rfl rfl)
theorem dJ21_ensureCapacityInternal_22 : decode cJ21_ensureCapacityInternal 22 = .ok (.aload_n 0, 1) := dk_42 (dk_at dksJ21_ensureCapacityInternal_0 22 rfl rfl)
theorem dJ21_ensureCapacityInternal_23 : decode cJ21_ensureCapacityInternal 23 = .ok (.iload_n 1, 1) := dk_27 (dk_at dksJ21_ensureCapacityInternal_0 23 rfl rfl)
theorem dJ21_ensureCapacityInternal_24 : decode cJ21_ensureCapacityInternal 24 = .ok (.invokevirtual 104, 3) := dk_182 0 104 (dk_at dksJ21_ensureCapacityInternal_1 0 rfl rfl)
theorem dJ21_ensureCapacityInternal_27 : decode cJ21_ensureCapacityInternal 27 = .ok (.aload_n 0, 1) := dk_42 (dk_at dksJ21_ensureCapacityInternal_1 3 rfl rfl)
theorem dJ21_ensureCapacityInternal_28 : decode cJ21_ensureCapacityInternal 28 = .ok (.getfield 22, 3) := dk_180 0 22 (dk_at dksJ21_ensureCapacityInternal_1 4 rfl rfl)
theorem dJ21_ensureCapacityInternal_31 : decode cJ21_ensureCapacityInternal 31 = .ok (.ishl, 1) := dk_120 (dk_at dksJ21_ensureCapacityInternal_1 7 rfl rfl)
theorem dJ21_ensureCapacityInternal_32 : decode cJ21_ensureCapacityInternal 32 = .ok (.invokestatic 108, 3) := dk_184 0 108 (dk_at dksJ21_ensureCapacityInternal_1 8 rfl rfl)
theorem dJ21_ensureCapacityInternal_35 : decode cJ21_ensureCapacityInternal 35 = .ok (.putfield 15, 3) := dk_181 0 15 (dk_at dksJ21_ensureCapacityInternal_1 11 rfl rfl)
theorem dJ21_ensureCapacityInternal_38 : decode cJ21_ensureCapacityInternal 38 = .ok (.return_, 1) := dk_177 (dk_at dksJ21_ensureCapacityInternal_1 14 rfl rfl)
abbrev cJ21_newCapacity : ByteArray := prog_21_method_10_code
def yJ21_newCapacity : MethodName := ⟨RJ21, "newCapacity", "(I)I"⟩
def dkwJ21_newCapacity_2 : List UInt8 := [183, 0, 124, 191, 21, 5, 42, 180, 0, 22, 122, 172]
abbrev dktJ21_newCapacity_2 : List UInt8 := dkwJ21_newCapacity_2 ++ []
def dkwJ21_newCapacity_1 : List UInt8 := [180, 0, 22, 120, 96, 184, 0, 114, 54, 5, 21, 5, 18, 39, 160, 0, 13, 187, 0, 120, 89, 18, 122]
abbrev dktJ21_newCapacity_1 : List UInt8 := dkwJ21_newCapacity_1 ++ dktJ21_newCapacity_2
def dkwJ21_newCapacity_0 : List UInt8 := [42, 180, 0, 15, 190, 61, 27, 42, 180, 0, 22, 120, 62, 29, 28, 100, 54, 4, 28, 21, 4, 28, 5, 42]
abbrev dktJ21_newCapacity_0 : List UInt8 := dkwJ21_newCapacity_0 ++ dktJ21_newCapacity_1
theorem dksJ21_newCapacity_0 : cJ21_newCapacity.data.toList.drop 0 = dktJ21_newCapacity_0 := by decide +kernel
theorem dksJ21_newCapacity_1 : cJ21_newCapacity.data.toList.drop 24 = dktJ21_newCapacity_1 := dk_seg dksJ21_newCapacity_0 24 rfl rfl
theorem dksJ21_newCapacity_2 : cJ21_newCapacity.data.toList.drop 47 = dktJ21_newCapacity_2 := dk_seg dksJ21_newCapacity_1 23 rfl rfl
theorem dJ21_newCapacity_0 : decode cJ21_newCapacity 0 = .ok (.aload_n 0, 1) := dk_42 (dk_at dksJ21_newCapacity_0 0 rfl rfl)
theorem dJ21_newCapacity_1 : decode cJ21_newCapacity 1 = .ok (.getfield 15, 3) := dk_180 0 15 (dk_at dksJ21_newCapacity_0 1 rfl rfl)
theorem dJ21_newCapacity_4 : decode cJ21_newCapacity 4 = .ok (.arraylength, 1) := dk_190 (dk_at dksJ21_newCapacity_0 4 rfl rfl)
theorem dJ21_newCapacity_5 : decode cJ21_newCapacity 5 = .ok (.istore_n 2, 1) := dk_61 (dk_at dksJ21_newCapacity_0 5 rfl rfl)
theorem dJ21_newCapacity_6 : decode cJ21_newCapacity 6 = .ok (.iload_n 1, 1) := dk_27 (dk_at dksJ21_newCapacity_0 6 rfl rfl)
theorem dJ21_newCapacity_7 : decode cJ21_newCapacity 7 = .ok (.aload_n 0, 1) := dk_42 (dk_at dksJ21_newCapacity_0 7 rfl rfl)
theorem dJ21_newCapacity_8 : decode cJ21_newCapacity 8 = .ok (.getfield 22, 3) := dk_180 0 22 (dk_at dksJ21_newCapacity_0 8 rfl rfl)
theorem dJ21_newCapacity_11 : decode cJ21_newCapacity 11 = .ok (.ishl, 1) := dk_120 (dk_at dksJ21_newCapacity_0 11 rfl rfl)
theorem dJ21_newCapacity_12 : decode cJ21_newCapacity 12 = .ok (.istore_n 3, 1) := dk_62 (dk_at dksJ21_newCapacity_0 12 rfl rfl)
theorem dJ21_newCapacity_13 : decode cJ21_newCapacity 13 = .ok (.iload_n 3, 1) := dk_29 (dk_at dksJ21_newCapacity_0 13 rfl rfl)
theorem dJ21_newCapacity_14 : decode cJ21_newCapacity 14 = .ok (.iload_n 2, 1) := dk_28 (dk_at dksJ21_newCapacity_0 14 rfl rfl)
theorem dJ21_newCapacity_15 : decode cJ21_newCapacity 15 = .ok (.isub, 1) := dk_100 (dk_at dksJ21_newCapacity_0 15 rfl rfl)
theorem dJ21_newCapacity_16 : decode cJ21_newCapacity 16 = .ok (.istore 4, 2) := dk_54 4 (dk_at dksJ21_newCapacity_0 16 rfl rfl)
theorem dJ21_newCapacity_18 : decode cJ21_newCapacity 18 = .ok (.iload_n 2, 1) := dk_28 (dk_at dksJ21_newCapacity_0 18 rfl rfl)
theorem dJ21_newCapacity_19 : decode cJ21_newCapacity 19 = .ok (.iload 4, 2) := dk_21 4 (dk_at dksJ21_newCapacity_0 19 rfl rfl)
theorem dJ21_newCapacity_21 : decode cJ21_newCapacity 21 = .ok (.iload_n 2, 1) := dk_28 (dk_at dksJ21_newCapacity_0 21 rfl rfl)
theorem dJ21_newCapacity_22 : decode cJ21_newCapacity 22 = .ok (.iconst 2, 1) := dk_5 (dk_at dksJ21_newCapacity_0 22 rfl rfl)
theorem dJ21_newCapacity_23 : decode cJ21_newCapacity 23 = .ok (.aload_n 0, 1) := dk_42 (dk_at dksJ21_newCapacity_0 23 rfl rfl)
theorem dJ21_newCapacity_24 : decode cJ21_newCapacity 24 = .ok (.getfield 22, 3) := dk_180 0 22 (dk_at dksJ21_newCapacity_1 0 rfl rfl)
theorem dJ21_newCapacity_27 : decode cJ21_newCapacity 27 = .ok (.ishl, 1) := dk_120 (dk_at dksJ21_newCapacity_1 3 rfl rfl)
theorem dJ21_newCapacity_28 : decode cJ21_newCapacity 28 = .ok (.iadd, 1) := dk_96 (dk_at dksJ21_newCapacity_1 4 rfl rfl)
theorem dJ21_newCapacity_29 : decode cJ21_newCapacity 29 = .ok (.invokestatic 114, 3) := dk_184 0 114 (dk_at dksJ21_newCapacity_1 5 rfl rfl)
theorem dJ21_newCapacity_32 : decode cJ21_newCapacity 32 = .ok (.istore 5, 2) := dk_54 5 (dk_at dksJ21_newCapacity_1 8 rfl rfl)
theorem dJ21_newCapacity_34 : decode cJ21_newCapacity 34 = .ok (.iload 5, 2) := dk_21 5 (dk_at dksJ21_newCapacity_1 10 rfl rfl)
theorem dJ21_newCapacity_36 : decode cJ21_newCapacity 36 = .ok (.ldc 39, 2) := dk_18 39 (dk_at dksJ21_newCapacity_1 12 rfl rfl)
theorem dJ21_newCapacity_38 : decode cJ21_newCapacity 38 = .ok (.if_icmp .ne 13, 3) := dk_160 0 13 (dk_at dksJ21_newCapacity_1 14 rfl rfl)
theorem dJ21_newCapacity_41 : decode cJ21_newCapacity 41 = .ok (.new 120, 3) := dk_187 0 120 (dk_at dksJ21_newCapacity_1 17 rfl rfl)
theorem dJ21_newCapacity_44 : decode cJ21_newCapacity 44 = .ok (.dup, 1) := dk_89 (dk_at dksJ21_newCapacity_1 20 rfl rfl)
theorem dJ21_newCapacity_45 : decode cJ21_newCapacity 45 = .ok (.ldc 122, 2) := dk_18 122 (dk_at dksJ21_newCapacity_1 21 rfl rfl)
theorem dJ21_newCapacity_47 : decode cJ21_newCapacity 47 = .ok (.invokespecial 124, 3) := dk_183 0 124 (dk_at dksJ21_newCapacity_2 0 rfl rfl)
theorem dJ21_newCapacity_50 : decode cJ21_newCapacity 50 = .ok (.athrow, 1) := dk_191 (dk_at dksJ21_newCapacity_2 3 rfl rfl)
theorem dJ21_newCapacity_51 : decode cJ21_newCapacity 51 = .ok (.iload 5, 2) := dk_21 5 (dk_at dksJ21_newCapacity_2 4 rfl rfl)
theorem dJ21_newCapacity_53 : decode cJ21_newCapacity 53 = .ok (.aload_n 0, 1) := dk_42 (dk_at dksJ21_newCapacity_2 6 rfl rfl)
theorem dJ21_newCapacity_54 : decode cJ21_newCapacity 54 = .ok (.getfield 22, 3) := dk_180 0 22 (dk_at dksJ21_newCapacity_2 7 rfl rfl)
theorem dJ21_newCapacity_57 : decode cJ21_newCapacity 57 = .ok (.ishr, 1) := dk_122 (dk_at dksJ21_newCapacity_2 10 rfl rfl)
theorem dJ21_newCapacity_58 : decode cJ21_newCapacity 58 = .ok (.ireturn, 1) := dk_172 (dk_at dksJ21_newCapacity_2 11 rfl rfl)
abbrev cJ21_isLatin1 : ByteArray := prog_21_method_68_code
def yJ21_isLatin1 : MethodName := ⟨RJ21, "isLatin1", "()Z"⟩
def dkwJ21_isLatin1_0 : List UInt8 := [178, 0, 18, 153, 0, 14, 42, 180, 0, 22, 154, 0, 7, 4, 167, 0, 4, 3, 172]
abbrev dktJ21_isLatin1_0 : List UInt8 := dkwJ21_isLatin1_0 ++ []
theorem dksJ21_isLatin1_0 : cJ21_isLatin1.data.toList.drop 0 = dktJ21_isLatin1_0 := by decide +kernel
theorem dJ21_isLatin1_0 : decode cJ21_isLatin1 0 = .ok (.getstatic 18, 3) := dk_178 0 18 (dk_at dksJ21_isLatin1_0 0 rfl rfl)
theorem dJ21_isLatin1_3 : decode cJ21_isLatin1 3 = .ok (.ifCond .eq 14, 3) := dk_153 0 14 (dk_at dksJ21_isLatin1_0 3 rfl rfl)
theorem dJ21_isLatin1_6 : decode cJ21_isLatin1 6 = .ok (.aload_n 0, 1) := dk_42 (dk_at dksJ21_isLatin1_0 6 rfl rfl)
theorem dJ21_isLatin1_7 : decode cJ21_isLatin1 7 = .ok (.getfield 22, 3) := dk_180 0 22 (dk_at dksJ21_isLatin1_0 7 rfl rfl)
theorem dJ21_isLatin1_10 : decode cJ21_isLatin1 10 = .ok (.ifCond .ne 7, 3) := dk_154 0 7 (dk_at dksJ21_isLatin1_0 10 rfl rfl)
theorem dJ21_isLatin1_13 : decode cJ21_isLatin1 13 = .ok (.iconst 1, 1) := dk_4 (dk_at dksJ21_isLatin1_0 13 rfl rfl)
theorem dJ21_isLatin1_14 : decode cJ21_isLatin1 14 = .ok (.goto 4, 3) := dk_167 0 4 (dk_at dksJ21_isLatin1_0 14 rfl rfl)
theorem dJ21_isLatin1_17 : decode cJ21_isLatin1 17 = .ok (.iconst 0, 1) := dk_3 (dk_at dksJ21_isLatin1_0 17 rfl rfl)
theorem dJ21_isLatin1_18 : decode cJ21_isLatin1 18 = .ok (.ireturn, 1) := dk_172 (dk_at dksJ21_isLatin1_0 18 rfl rfl)
abbrev cJ21_putStringAt : ByteArray := prog_21_method_73_code
def yJ21_putStringAt : MethodName := ⟨RJ21, "putStringAt", "(ILjava/lang/String;)V"⟩
def dkwJ21_putStringAt_0 : List UInt8 := [42, 44, 182, 1, 141, 44, 42, 180, 0, 15, 27, 42, 180, 0, 22, 182, 1, 143, 177]
abbrev dktJ21_putStringAt_0 : List UInt8 := dkwJ21_putStringAt_0 ++ []
theorem dksJ21_putStringAt_0 : cJ21_putStringAt.data.toList.drop 0 = dktJ21_putStringAt_0 := by decide +kernel
theorem dJ21_putStringAt_0 : decode cJ21_putStringAt 0 = .ok (.aload_n 0, 1) := dk_42 (dk_at dksJ21_putStringAt_0 0 rfl rfl)
theorem dJ21_putStringAt_1 : decode cJ21_putStringAt 1 = .ok (.aload_n 2, 1) := dk_44 (dk_at dksJ21_putStringAt_0 1 rfl rfl)
theorem dJ21_putStringAt_2 : decode cJ21_putStringAt 2 = .ok (.invokevirtual 397, 3) := dk_182 1 141 (dk_at dksJ21_putStringAt_0 2 rfl rfl)
theorem dJ21_putStringAt_5 : decode cJ21_putStringAt 5 = .ok (.aload_n 2, 1) := dk_44 (dk_at dksJ21_putStringAt_0 5 rfl rfl)
theorem dJ21_putStringAt_6 : decode cJ21_putStringAt 6 = .ok (.aload_n 0, 1) := dk_42 (dk_at dksJ21_putStringAt_0 6 rfl rfl)
theorem dJ21_putStringAt_7 : decode cJ21_putStringAt 7 = .ok (.getfield 15, 3) := dk_180 0 15 (dk_at dksJ21_putStringAt_0 7 rfl rfl)
theorem dJ21_putStringAt_10 : decode cJ21_putStringAt 10 = .ok (.iload_n 1, 1) := dk_27 (dk_at dksJ21_putStringAt_0 10 rfl rfl)
theorem dJ21_putStringAt_11 : decode cJ21_putStringAt 11 = .ok (.aload_n 0, 1) := dk_42 (dk_at dksJ21_putStringAt_0 11 rfl rfl)
theorem dJ21_putStringAt_12 : decode cJ21_putStringAt 12 = .ok (.getfield 22, 3) := dk_180 0 22 (dk_at dksJ21_putStringAt_0 12 rfl rfl)
theorem dJ21_putStringAt_15 : decode cJ21_putStringAt 15 = .ok (.invokevirtual 399, 3) := dk_182 1 143 (dk_at dksJ21_putStringAt_0 15 rfl rfl)
theorem dJ21_putStringAt_18 : decode cJ21_putStringAt 18 = .ok (.return_, 1) := dk_177 (dk_at dksJ21_putStringAt_0 18 rfl rfl)
abbrev cJ21_inflateIfNeededFor : ByteArray := prog_21_method_71_code
def yJ21_inflateIfNeededFor : MethodName := ⟨RJ21, "inflateIfNeededFor", "(Ljava/lang/String;)V"⟩
def dkwJ21_inflateIfNeededFor_0 : List UInt8 := [178, 0, 18, 153, 0, 18, 42, 180, 0, 22, 43, 182, 0, 40, 159, 0, 7, 42, 182, 0, 195, 177]
abbrev dktJ21_inflateIfNeededFor_0 : List UInt8 := dkwJ21_inflateIfNeededFor_0 ++ []
theorem dksJ21_inflateIfNeededFor_0 : cJ21_inflateIfNeededFor.data.toList.drop 0 = dktJ21_inflateIfNeededFor_0 := by decide +kernel
theorem dJ21_inflateIfNeededFor_0 : decode cJ21_inflateIfNeededFor 0 = .ok (.getstatic 18, 3) := dk_178 0 18 (dk_at dksJ21_inflateIfNeededFor_0 0 rfl rfl)
theorem dJ21_inflateIfNeededFor_3 : decode cJ21_inflateIfNeededFor 3 = .ok (.ifCond .eq 18, 3) := dk_153 0 18 (dk_at dksJ21_inflateIfNeededFor_0 3 rfl rfl)
theorem dJ21_inflateIfNeededFor_6 : decode cJ21_inflateIfNeededFor 6 = .ok (.aload_n 0, 1) := dk_42 (dk_at dksJ21_inflateIfNeededFor_0 6 rfl rfl)
theorem dJ21_inflateIfNeededFor_7 : decode cJ21_inflateIfNeededFor 7 = .ok (.getfield 22, 3) := dk_180 0 22 (dk_at dksJ21_inflateIfNeededFor_0 7 rfl rfl)
theorem dJ21_inflateIfNeededFor_10 : decode cJ21_inflateIfNeededFor 10 = .ok (.aload_n 1, 1) := dk_43 (dk_at dksJ21_inflateIfNeededFor_0 10 rfl rfl)
theorem dJ21_inflateIfNeededFor_11 : decode cJ21_inflateIfNeededFor 11 = .ok (.invokevirtual 40, 3) := dk_182 0 40 (dk_at dksJ21_inflateIfNeededFor_0 11 rfl rfl)
theorem dJ21_inflateIfNeededFor_14 : decode cJ21_inflateIfNeededFor 14 = .ok (.if_icmp .eq 7, 3) := dk_159 0 7 (dk_at dksJ21_inflateIfNeededFor_0 14 rfl rfl)
theorem dJ21_inflateIfNeededFor_17 : decode cJ21_inflateIfNeededFor 17 = .ok (.aload_n 0, 1) := dk_42 (dk_at dksJ21_inflateIfNeededFor_0 17 rfl rfl)
theorem dJ21_inflateIfNeededFor_18 : decode cJ21_inflateIfNeededFor 18 = .ok (.invokevirtual 195, 3) := dk_182 0 195 (dk_at dksJ21_inflateIfNeededFor_0 18 rfl rfl)
theorem dJ21_inflateIfNeededFor_21 : decode cJ21_inflateIfNeededFor 21 = .ok (.return_, 1) := dk_177 (dk_at dksJ21_inflateIfNeededFor_0 21 rfl rfl)
abbrev cJ21_inflate : ByteArray := prog_21_method_11_code
def yJ21_inflate : MethodName := ⟨RJ21, "inflate", "()V"⟩
def dkwJ21_inflate_1 : List UInt8 := [42, 180, 0, 79, 184, 0, 125, 42, 43, 181, 0, 15, 42, 4, 181, 0, 22, 177]
abbrev dktJ21_inflate_1 : List UInt8 := dkwJ21_inflate_1 ++ []
def dkwJ21_inflate_0 : List UInt8 := [42, 182, 0, 83, 154, 0, 4, 177, 42, 180, 0, 15, 190, 184, 0, 26, 76, 42, 180, 0, 15, 3, 43, 3]
abbrev dktJ21_inflate_0 : List UInt8 := dkwJ21_inflate_0 ++ dktJ21_inflate_1
theorem dksJ21_inflate_0 : cJ21_inflate.data.toList.drop 0 = dktJ21_inflate_0 := by decide +kernel
theorem dksJ21_inflate_1 : cJ21_inflate.data.toList.drop 24 = dktJ21_inflate_1 := dk_seg dksJ21_inflate_0 24 rfl rfl
theorem dJ21_inflate_0 : decode cJ21_inflate 0 = .ok (.aload_n 0, 1) := dk_42 (dk_at dksJ21_inflate_0 0 rfl rfl)
theorem dJ21_inflate_1 : decode cJ21_inflate 1 = .ok (.invokevirtual 83, 3) := dk_182 0 83 (dk_at dksJ21_inflate_0 1 rfl rfl)
theorem dJ21_inflate_4 : decode cJ21_inflate 4 = .ok (.ifCond .ne 4, 3) := dk_154 0 4 (dk_at dksJ21_inflate_0 4 rfl rfl)
theorem dJ21_inflate_7 : decode cJ21_inflate 7 = .ok (.return_, 1) := dk_177 (dk_at dksJ21_inflate_0 7 rfl rfl)
theorem dJ21_inflate_8 : decode cJ21_inflate 8 = .ok (.aload_n 0, 1) := dk_42 (dk_at dksJ21_inflate_0 8 rfl rfl)
theorem dJ21_inflate_9 : decode cJ21_inflate 9 = .ok (.getfield 15, 3) := dk_180 0 15 (dk_at dksJ21_inflate_0 9 rfl rfl)
theorem dJ21_inflate_12 : decode cJ21_inflate 12 = .ok (.arraylength, 1) := dk_190 (dk_at dksJ21_inflate_0 12 rfl rfl)
theorem dJ21_inflate_13 : decode cJ21_inflate 13 = .ok (.invokestatic 26, 3) := dk_184 0 26 (dk_at dksJ21_inflate_0 13 rfl rfl)
theorem dJ21_inflate_16 : decode cJ21_inflate 16 = .ok (.astore_n 1, 1) := dk_76 (dk_at dksJ21_inflate_0 16 rfl rfl)
theorem dJ21_inflate_17 : decode cJ21_inflate 17 = .ok (.aload_n 0, 1) := dk_42 (dk_at dksJ21_inflate_0 17 rfl rfl)
theorem dJ21_inflate_18 : decode cJ21_inflate 18 = .ok (.getfield 15, 3) := dk_180 0 15 (dk_at dksJ21_inflate_0 18 rfl rfl)
theorem dJ21_inflate_21 : decode cJ21_inflate 21 = .ok (.iconst 0, 1) := dk_3 (dk_at dksJ21_inflate_0 21 rfl rfl)
theorem dJ21_inflate_22 : decode cJ21_inflate 22 = .ok (.aload_n 1, 1) := dk_43 (dk_at dksJ21_inflate_0 22 rfl rfl)
theorem dJ21_inflate_23 : decode cJ21_inflate 23 = .ok (.iconst 0, 1) := dk_3 (dk_at dksJ21_inflate_0 23 rfl rfl)
theorem dJ21_inflate_24 : decode cJ21_inflate 24 = .ok (.aload_n 0, 1) := dk_42 (dk_at dksJ21_inflate_1 0 rfl rfl)
theorem dJ21_inflate_25 : decode cJ21_inflate 25 = .ok (.getfield 79, 3) := dk_180 0 79 (dk_at dksJ21_inflate_1 1 rfl rfl)
theorem dJ21_inflate_28 : decode cJ21_inflate 28 = .ok (.invokestatic 125, 3) := dk_184 0 125 (dk_at dksJ21_inflate_1 4 rfl rfl)
theorem dJ21_inflate_31 : decode cJ21_inflate 31 = .ok (.aload_n 0, 1) := dk_42 (dk_at dksJ21_inflate_1 7 rfl rfl)
theorem dJ21_inflate_32 : decode cJ21_inflate 32 = .ok (.aload_n 1, 1) := dk_43 (dk_at dksJ21_inflate_1 8 rfl rfl)
theorem dJ21_inflate_33 : decode cJ21_inflate 33 = .ok (.putfield 15, 3) := dk_181 0 15 (dk_at dksJ21_inflate_1 9 rfl rfl)
theorem dJ21_inflate_36 : decode cJ21_inflate 36 = .ok (.aload_n 0, 1) := dk_42 (dk_at dksJ21_inflate_1 12 rfl rfl)
theorem dJ21_inflate_37 : decode cJ21_inflate 37 = .ok (.iconst 1, 1) := dk_4 (dk_at dksJ21_inflate_1 13 rfl rfl)
theorem dJ21_inflate_38 : decode cJ21_inflate 38 = .ok (.putfield 22, 3) := dk_181 0 22 (dk_at dksJ21_inflate_1 14 rfl rfl)
theorem dJ21_inflate_41 : decode cJ21_inflate 41 = .ok (.return_, 1) := dk_177 (dk_at dksJ21_inflate_1 17 rfl rfl)
abbrev cJ21_append_2 : ByteArray := prog_21_method_32_code
def yJ21_append_2 : MethodName := ⟨RJ21, "append", "(I)Ljava/lang/AbstractStringBuilder;"⟩
def dkwJ21_append_2_2 : List UInt8 := [42, 29, 181, 0, 79, 42, 176]
abbrev dktJ21_append_2_2 : List UInt8 := dkwJ21_append_2_2 ++ []
def dkwJ21_append_2_1 : List UInt8 := [27, 29, 42, 180, 0, 15, 184, 0, 248, 87, 167, 0, 14, 27, 28, 29, 42, 180, 0, 15, 184, 0, 251, 87]
abbrev dktJ21_append_2_1 : List UInt8 := dkwJ21_append_2_1 ++ dktJ21_append_2_2
def dkwJ21_append_2_0 : List UInt8 := [42, 180, 0, 79, 61, 28, 27, 184, 0, 245, 96, 62, 42, 29, 182, 0, 100, 42, 182, 0, 83, 153, 0, 16]
abbrev dktJ21_append_2_0 : List UInt8 := dkwJ21_append_2_0 ++ dktJ21_append_2_1
theorem dksJ21_append_2_0 : cJ21_append_2.data.toList.drop 0 = dktJ21_append_2_0 := by decide +kernel
theorem dksJ21_append_2_1 : cJ21_append_2.data.toList.drop 24 = dktJ21_append_2_1 := dk_seg dksJ21_append_2_0 24 rfl rfl
theorem dksJ21_append_2_2 : cJ21_append_2.data.toList.drop 48 = dktJ21_append_2_2 := dk_seg dksJ21_append_2_1 24 rfl rfl
theorem dJ21_append_2_0 : decode cJ21_append_2 0 = .ok (.aload_n 0, 1) := dk_42 (dk_at dksJ21_append_2_0 0 rfl rfl)
theorem dJ21_append_2_1 : decode cJ21_append_2 1 = .ok (.getfield 79, 3) := dk_180 0 79 (dk_at dksJ21_append_2_0 1 rfl rfl)
theorem dJ21_append_2_4 : decode cJ21_append_2 4 = .ok (.istore_n 2, 1) := dk_61 (dk_at dksJ21_append_2_0 4 rfl rfl)
theorem dJ21_append_2_5 : decode cJ21_append_2 5 = .ok (.iload_n 2, 1) := dk_28 (dk_at dksJ21_append_2_0 5 rfl rfl)
theorem dJ21_append_2_6 : decode cJ21_append_2 6 = .ok (.iload_n 1, 1) := dk_27 (dk_at dksJ21_append_2_0 6 rfl rfl)
theorem dJ21_append_2_7 : decode cJ21_append_2 7 = .ok (.invokestatic 245, 3) := dk_184 0 245 (dk_at dksJ21_append_2_0 7 rfl rfl)
theorem dJ21_append_2_10 : decode cJ21_append_2 10 = .ok (.iadd, 1) := dk_96 (dk_at dksJ21_append_2_0 10 rfl rfl)
theorem dJ21_append_2_11 : decode cJ21_append_2 11 = .ok (.istore_n 3, 1) := dk_62 (dk_at dksJ21_append_2_0 11 rfl rfl)
theorem dJ21_append_2_12 : decode cJ21_append_2 12 = .ok (.aload_n 0, 1) := dk_42 (dk_at dksJ21_append_2_0 12 rfl rfl)
theorem dJ21_append_2_13 : decode cJ21_append_2 13 = .ok (.iload_n 3, 1) := dk_29 (dk_at dksJ21_append_2_0 13 rfl rfl)
theorem dJ21_append_2_14 : decode cJ21_append_2 14 = .ok (.invokevirtual 100, 3) := dk_182 0 100 (dk_at dksJ21_append_2_0 14 rfl rfl)
theorem dJ21_append_2_17 : decode cJ21_append_2 17 = .ok (.aload_n 0, 1) := dk_42 (dk_at dksJ21_append_2_0 17 rfl rfl)
theorem dJ21_append_2_18 : decode cJ21_append_2 18 = .ok (.invokevirtual 83, 3) := dk_182 0 83 (dk_at dksJ21_append_2_0 18 rfl rfl)
theorem dJ21_append_2_21 : decode cJ21_append_2 21 = .ok (.ifCond .eq 16, 3) := dk_153 0 16 (dk_at dksJ21_append_2_0 21 rfl rfl)
theorem dJ21_append_2_24 : decode cJ21_append_2 24 = .ok (.iload_n 1, 1) := dk_27 (dk_at dksJ21_append_2_1 0 rfl rfl)
theorem dJ21_append_2_25 : decode cJ21_append_2 25 = .ok (.iload_n 3, 1) := dk_29 (dk_at dksJ21_append_2_1 1 rfl rfl)
theorem dJ21_append_2_26 : decode cJ21_append_2 26 = .ok (.aload_n 0, 1) := dk_42 (dk_at dksJ21_append_2_1 2 rfl rfl)
theorem dJ21_append_2_27 : decode cJ21_append_2 27 = .ok (.getfield 15, 3) := dk_180 0 15 (dk_at dksJ21_append_2_1 3 rfl rfl)
theorem dJ21_append_2_30 : decode cJ21_append_2 30 = .ok (.invokestatic 248, 3) := dk_184 0 248 (dk_at dksJ21_append_2_1 6 rfl rfl)
theorem dJ21_append_2_33 : decode cJ21_append_2 33 = .ok (.pop, 1) := dk_87 (dk_at dksJ21_append_2_1 9 rfl rfl)
theorem dJ21_append_2_34 : decode cJ21_append_2 34 = .ok (.goto 14, 3) := dk_167 0 14 (dk_at dksJ21_append_2_1 10 rfl rfl)
theorem dJ21_append_2_37 : decode cJ21_append_2 37 = .ok (.iload_n 1, 1) := dk_27 (dk_at dksJ21_append_2_1 13 rfl rfl)
theorem dJ21_append_2_38 : decode cJ21_append_2 38 = .ok (.iload_n 2, 1) := dk_28 (dk_at dksJ21_append_2_1 14 rfl rfl)
theorem dJ21_append_2_39 : decode cJ21_append_2 39 = .ok (.iload_n 3, 1) := dk_29 (dk_at dksJ21_append_2_1 15 rfl rfl)
theorem dJ21_append_2_40 : decode cJ21_append_2 40 = .ok (.aload_n 0, 1) := dk_42 (dk_at dksJ21_append_2_1 16 rfl rfl)
theorem dJ21_append_2_41 : decode cJ21_append_2 41 = .ok (.getfield 15, 3) := dk_180 0 15 (dk_at dksJ21_append_2_1 17 rfl rfl)
theorem dJ21_append_2_44 : decode cJ21_append_2 44 = .ok (.invokestatic 251, 3) := dk_184 0 251 (dk_at dksJ21_append_2_1 20 rfl rfl)
theorem dJ21_append_2_47 : decode cJ21_append_2 47 = .ok (.pop, 1) := dk_87 (dk_at dksJ21_append_2_1 23 rfl rfl)
theorem dJ21_append_2_48 : decode cJ21_append_2 48 = .ok (.aload_n 0, 1) := dk_42 (dk_at dksJ21_append_2_2 0 rfl rfl)
theorem dJ21_append_2_49 : decode cJ21_append_2 49 = .ok (.iload_n 3, 1) := dk_29 (dk_at dksJ21_append_2_2 1 rfl rfl)
theorem dJ21_append_2_50 : decode cJ21_append_2 50 = .ok (.putfield 79, 3) := dk_181 0 79 (dk_at dksJ21_append_2_2 2 rfl rfl)
theorem dJ21_append_2_53 : decode cJ21_append_2 53 = .ok (.aload_n 0, 1) := dk_42 (dk_at dksJ21_append_2_2 5 rfl rfl)
theorem dJ21_append_2_54 : decode cJ21_append_2 54 = .ok (.areturn, 1) := dk_176 (dk_at dksJ21_append_2_2 6 rfl rfl)
abbrev cJ21_init_2 : ByteArray := prog_21_method_2_code
def yJ21_init_2 : MethodName := ⟨RJ21, "<init>", "(I)V"⟩
def dkwJ21_init_2_1 : List UInt8 := [167, 0, 16, 42, 27, 184, 0, 26, 181, 0, 15, 42, 4, 181, 0, 22, 177]
abbrev dktJ21_init_2_1 : List UInt8 := dkwJ21_init_2_1 ++ []
def dkwJ21_init_2_0 : List UInt8 := [42, 183, 0, 3, 178, 0, 18, 153, 0, 18, 42, 27, 188, 8, 181, 0, 15, 42, 3, 181, 0, 22]
abbrev dktJ21_init_2_0 : List UInt8 := dkwJ21_init_2_0 ++ dktJ21_init_2_1
theorem dksJ21_init_2_0 : cJ21_init_2.data.toList.drop 0 = dktJ21_init_2_0 := by decide +kernel
theorem dksJ21_init_2_1 : cJ21_init_2.data.toList.drop 22 = dktJ21_init_2_1 := dk_seg dksJ21_init_2_0 22 rfl rfl
theorem dJ21_init_2_0 : decode cJ21_init_2 0 = .ok (.aload_n 0, 1) := dk_42 (dk_at dksJ21_init_2_0 0 rfl rfl)
theorem dJ21_init_2_1 : decode cJ21_init_2 1 = .ok (.invokespecial 3, 3) := dk_183 0 3 (dk_at dksJ21_init_2_0 1 rfl rfl)
theorem dJ21_init_2_4 : decode cJ21_init_2 4 = .ok (.getstatic 18, 3) := dk_178 0 18 (dk_at dksJ21_init_2_0 4 rfl rfl)
theorem dJ21_init_2_7 : decode cJ21_init_2 7 = .ok (.ifCond .eq 18, 3) := dk_153 0 18 (dk_at dksJ21_init_2_0 7 rfl rfl)
theorem dJ21_init_2_10 : decode cJ21_init_2 10 = .ok (.aload_n 0, 1) := dk_42 (dk_at dksJ21_init_2_0 10 rfl rfl)
theorem dJ21_init_2_11 : decode cJ21_init_2 11 = .ok (.iload_n 1, 1) := dk_27 (dk_at dksJ21_init_2_0 11 rfl rfl)
theorem dJ21_init_2_12 : decode cJ21_init_2 12 = .ok (.newarray .byte, 2) := dk_188_8 (dk_at dksJ21_init_2_0 12 rfl rfl)
theorem dJ21_init_2_14 : decode cJ21_init_2 14 = .ok (.putfield 15, 3) := dk_181 0 15 (dk_at dksJ21_init_2_0 14 rfl rfl)
theorem dJ21_init_2_17 : decode cJ21_init_2 17 = .ok (.aload_n 0, 1) := dk_42 (dk_at dksJ21_init_2_0 17 rfl rfl)
theorem dJ21_init_2_18 : decode cJ21_init_2 18 = .ok (.iconst 0, 1) := dk_3 (dk_at dksJ21_init_2_0 18 rfl rfl)
theorem dJ21_init_2_19 : decode cJ21_init_2 19 = .ok (.putfield 22, 3) := dk_181 0 22 (dk_at dksJ21_init_2_0 19 rfl rfl)
theorem dJ21_init_2_22 : decode cJ21_init_2 22 = .ok (.goto 16, 3) := dk_167 0 16 (dk_at dksJ21_init_2_1 0 rfl rfl)
theorem dJ21_init_2_25 : decode cJ21_init_2 25 = .ok (.aload_n 0, 1) := dk_42 (dk_at dksJ21_init_2_1 3 rfl rfl)
theorem dJ21_init_2_26 : decode cJ21_init_2 26 = .ok (.iload_n 1, 1) := dk_27 (dk_at dksJ21_init_2_1 4 rfl rfl)
theorem dJ21_init_2_27 : decode cJ21_init_2 27 = .ok (.invokestatic 26, 3) := dk_184 0 26 (dk_at dksJ21_init_2_1 5 rfl rfl)
theorem dJ21_init_2_30 : decode cJ21_init_2 30 = .ok (.putfield 15, 3) := dk_181 0 15 (dk_at dksJ21_init_2_1 8 rfl rfl)
theorem dJ21_init_2_33 : decode cJ21_init_2 33 = .ok (.aload_n 0, 1) := dk_42 (dk_at dksJ21_init_2_1 11 rfl rfl)
theorem dJ21_init_2_34 : decode cJ21_init_2 34 = .ok (.iconst 1, 1) := dk_4 (dk_at dksJ21_init_2_1 12 rfl rfl)
theorem dJ21_init_2_35 : decode cJ21_init_2 35 = .ok (.putfield 22, 3) := dk_181 0 22 (dk_at dksJ21_init_2_1 13 rfl rfl)
theorem dJ21_init_2_38 : decode cJ21_init_2 38 = .ok (.return_, 1) := dk_177 (dk_at dksJ21_init_2_1 16 rfl rfl)
abbrev cJ21_getValue : ByteArray := prog_21_method_64_code
def yJ21_getValue : MethodName := ⟨RJ21, "getValue", "()[B"⟩
theorem dJ21_getValue_0 : decode cJ21_getValue 0 = .ok (.aload_n 0, 1) := by decide +kernel
theorem dJ21_getValue_1 : decode cJ21_getValue 1 = .ok (.getfield 15, 3) := by decide +kernel
theorem dJ21_getValue_4 : decode cJ21_getValue 4 = .ok (.areturn, 1) := by decide +kernel
abbrev cJ21_length : ByteArray := prog_21_method_6_code
def yJ21_length : MethodName := ⟨RJ21, "length", "()I"⟩
theorem dJ21_length_0 : decode cJ21_length 0 = .ok (.aload_n 0, 1) := by decide +kernel
theorem dJ21_length_1 : decode cJ21_length 1 = .ok (.getfield 79, 3) := by decide +kernel
theorem dJ21_length_4 : decode cJ21_length 4 = .ok (.ireturn, 1) := by decide +kernel
theorem q110 : (Jvm.Cond.initialized "java/lang/AbstractStringBuilder") ∈ lw_all := lw_g (lw_at lw_m1 41 rfl) rfl
theorem q1259 : (Jvm.Cond.instanceMethod ({ cls := "java/lang/AbstractStringBuilder", name := "<init>", desc := "(Ljava/lang/String;)V" } : Jvm.MethodName)) ∈ lw_all := lw_g (lw_at lw_m5 230 rfl) rfl
theorem q1260 : (Jvm.Cond.code ({ cls := "java/lang/AbstractStringBuilder", name := "<init>", desc := "(Ljava/lang/String;)V" } : Jvm.MethodName) prog_21_method_3_code (5 : Nat) (Option.none : Option Jvm.ClassFile.FieldType)) ∈ lw_all := lw_g (lw_at lw_m5 231 rfl) rfl
theorem q1261 : (Jvm.Cond.methodLink "java/lang/AbstractStringBuilder" (3 : Nat) ({ cls := "java/lang/Object", name := "<init>", desc := "()V" } : Jvm.MethodName)) ∈ lw_all := lw_g (lw_at lw_m5 232 rfl) rfl
theorem q1262 : (Jvm.Cond.methodLink "java/lang/AbstractStringBuilder" (32 : Nat) ({ cls := "java/lang/String", name := "length", desc := "()I" } : Jvm.MethodName)) ∈ lw_all := lw_g (lw_at lw_m5 233 rfl) rfl
theorem q1272 : (Jvm.Cond.constant "java/lang/AbstractStringBuilder" (38 : Nat) (2147483631 : Int32)) ∈ lw_all := lw_g (lw_at lw_m6 3 rfl) rfl
theorem q1273 : (Jvm.Cond.constant "java/lang/AbstractStringBuilder" (39 : Nat) (2147483647 : Int32)) ∈ lw_all := lw_g (lw_at lw_m6 4 rfl) rfl
theorem q1274 : (Jvm.Cond.methodLink "java/lang/AbstractStringBuilder" (40 : Nat) ({ cls := "java/lang/String", name := "coder", desc := "()B" } : Jvm.MethodName)) ∈ lw_all := lw_g (lw_at lw_m6 5 rfl) rfl
theorem q1275 : (Jvm.Cond.methodLink "java/lang/AbstractStringBuilder" (26 : Nat) ({ cls := "java/lang/StringUTF16", name := "newBytesFor", desc := "(I)[B" } : Jvm.MethodName)) ∈ lw_all := lw_g (lw_at lw_m6 6 rfl) rfl
theorem q1282 : (Jvm.Cond.methodLink "java/lang/AbstractStringBuilder" (43 : Nat) ({ cls := "java/lang/AbstractStringBuilder", name := "append", desc := "(Ljava/lang/String;)Ljava/lang/AbstractStringBuilder;" } : Jvm.MethodName)) ∈ lw_all := lw_g (lw_at lw_m6 13 rfl) rfl
theorem q1283 : (Jvm.Cond.instanceMethod ({ cls := "java/lang/AbstractStringBuilder", name := "append", desc := "(Ljava/lang/String;)Ljava/lang/AbstractStringBuilder;" } : Jvm.MethodName)) ∈ lw_all := lw_g (lw_at lw_m6 14 rfl) rfl
theorem q1284 : (Jvm.Cond.sameMethod "java/lang/AbstractStringBuilder" "java/lang/AbstractStringBuilder" "append" "(Ljava/lang/String;)Ljava/lang/AbstractStringBuilder;") ∈ lw_all := lw_g (lw_at lw_m6 15 rfl) rfl
theorem q1294 : (Jvm.Cond.code ({ cls := "java/lang/AbstractStringBuilder", name := "append", desc := "(Ljava/lang/String;)Ljava/lang/AbstractStringBuilder;" } : Jvm.MethodName) prog_21_method_22_code (3 : Nat) (Option.some (Jvm.ClassFile.FieldType.object "java/lang/AbstractStringBuilder"))) ∈ lw_all := lw_g (lw_at lw_m6 25 rfl) rfl
theorem q1295 : (Jvm.Cond.methodLink "java/lang/AbstractStringBuilder" (204 : Nat) ({ cls := "java/lang/AbstractStringBuilder", name := "appendNull", desc := "()Ljava/lang/AbstractStringBuilder;" } : Jvm.MethodName)) ∈ lw_all := lw_g (lw_at lw_m6 26 rfl) rfl
theorem q1296 : (Jvm.Cond.privateMethod ({ cls := "java/lang/AbstractStringBuilder", name := "appendNull", desc := "()Ljava/lang/AbstractStringBuilder;" } : Jvm.MethodName)) ∈ lw_tbl := lw_at lw_m6 27 rfl
theorem q1297 : (Jvm.Cond.instanceMethod ({ cls := "java/lang/AbstractStringBuilder", name := "appendNull", desc := "()Ljava/lang/AbstractStringBuilder;" } : Jvm.MethodName)) ∈ lw_all := lw_g (lw_at lw_m6 28 rfl) rfl
theorem q1298 : (Jvm.Cond.code ({ cls := "java/lang/AbstractStringBuilder", name := "appendNull", desc := "()Ljava/lang/AbstractStringBuilder;" } : Jvm.MethodName) prog_21_method_26_code (3 : Nat) (Option.some (Jvm.ClassFile.FieldType.object "java/lang/AbstractStringBuilder"))) ∈ lw_all := lw_g (lw_at lw_m6 29 rfl) rfl
theorem q1299 : (Jvm.Cond.methodLink "java/lang/AbstractStringBuilder" (100 : Nat) ({ cls := "java/lang/AbstractStringBuilder", name := "ensureCapacityInternal", desc := "(I)V" } : Jvm.MethodName)) ∈ lw_all := lw_g (lw_at lw_m6 30 rfl) rfl
theorem q1300 : (Jvm.Cond.privateMethod ({ cls := "java/lang/AbstractStringBuilder", name := "ensureCapacityInternal", desc := "(I)V" } : Jvm.MethodName)) ∈ lw_tbl := lw_at lw_m6 31 rfl
theorem q1301 : (Jvm.Cond.instanceMethod ({ cls := "java/lang/AbstractStringBuilder", name := "ensureCapacityInternal", desc := "(I)V" } : Jvm.MethodName)) ∈ lw_all := lw_g (lw_at lw_m6 32 rfl) rfl
theorem q1302 : (Jvm.Cond.code ({ cls := "java/lang/AbstractStringBuilder", name := "ensureCapacityInternal", desc := "(I)V" } : Jvm.MethodName) prog_21_method_9_code (3 : Nat) (Option.none : Option Jvm.ClassFile.FieldType)) ∈ lw_all := lw_g (lw_at lw_m6 33 rfl) rfl
theorem q1303 : (Jvm.Cond.methodLink "java/lang/AbstractStringBuilder" (104 : Nat) ({ cls := "java/lang/AbstractStringBuilder", name := "newCapacity", desc := "(I)I" } : Jvm.MethodName)) ∈ lw_all := lw_g (lw_at lw_m6 34 rfl) rfl
theorem q1304 : (Jvm.Cond.privateMethod ({ cls := "java/lang/AbstractStringBuilder", name := "newCapacity", desc := "(I)I" } : Jvm.MethodName)) ∈ lw_tbl := lw_at lw_m6 35 rfl
theorem q1305 : (Jvm.Cond.instanceMethod ({ cls := "java/lang/AbstractStringBuilder", name := "newCapacity", desc := "(I)I" } : Jvm.MethodName)) ∈ lw_all := lw_g (lw_at lw_m6 36 rfl) rfl
theorem q1306 : (Jvm.Cond.code ({ cls := "java/lang/AbstractStringBuilder", name := "newCapacity", desc := "(I)I" } : Jvm.MethodName) prog_21_method_10_code (6 : Nat) (Option.some Jvm.ClassFile.FieldType.int)) ∈ lw_all := lw_g (lw_at lw_m6 37 rfl) rfl
theorem q1307 : (Jvm.Cond.methodLink "java/lang/AbstractStringBuilder" (114 : Nat) ({ cls := "jdk/internal/util/ArraysSupport", name := "newLength", desc := "(III)I" } : Jvm.MethodName)) ∈ lw_all := lw_g (lw_at lw_m6 38 rfl) rfl
theorem q1308 : (Jvm.Cond.methodLink "java/lang/AbstractStringBuilder" (108 : Nat) ({ cls := "java/util/Arrays", name := "copyOf", desc := "([BI)[B" } : Jvm.MethodName)) ∈ lw_all := lw_g (lw_at lw_m6 39 rfl) rfl
theorem q1318 : (Jvm.Cond.methodLink "java/lang/AbstractStringBuilder" (83 : Nat) ({ cls := "java/lang/AbstractStringBuilder", name := "isLatin1", desc := "()Z" } : Jvm.MethodName)) ∈ lw_all := lw_g (lw_at lw_m6 49 rfl) rfl
theorem q1319 : (Jvm.Cond.instanceMethod ({ cls := "java/lang/AbstractStringBuilder", name := "isLatin1", desc := "()Z" } : Jvm.MethodName)) ∈ lw_all := lw_g (lw_at lw_m6 50 rfl) rfl
theorem q1320 : (Jvm.Cond.sameMethod "java/lang/AbstractStringBuilder" "java/lang/AbstractStringBuilder" "isLatin1" "()Z") ∈ lw_all := lw_g (lw_at lw_m6 51 rfl) rfl
theorem q1322 : (Jvm.Cond.code ({ cls := "java/lang/AbstractStringBuilder", name := "isLatin1", desc := "()Z" } : Jvm.MethodName) prog_21_method_68_code (1 : Nat) (Option.some Jvm.ClassFile.FieldType.boolean)) ∈ lw_all := lw_g (lw_at lw_m6 53 rfl) rfl
theorem q1323 : (Jvm.Cond.fieldLink "java/lang/AbstractStringBuilder" (18 : Nat) "java/lang/String" "COMPACT_STRINGS" "Z") ∈ lw_all := lw_g (lw_at lw_m6 54 rfl) rfl
theorem q1324 : (Jvm.Cond.methodLink "java/lang/AbstractStringBuilder" (226 : Nat) ({ cls := "java/lang/StringUTF16", name := "putCharsAt", desc := "([BICCCC)I" } : Jvm.MethodName)) ∈ lw_all := lw_g (lw_at lw_m6 55 rfl) rfl
theorem q1350 : (Jvm.Cond.methodLink "java/lang/AbstractStringBuilder" (208 : Nat) ({ cls := "java/lang/AbstractStringBuilder", name := "putStringAt", desc := "(ILjava/lang/String;)V" } : Jvm.MethodName)) ∈ lw_all := lw_g (lw_at lw_m6 81 rfl) rfl
theorem q1351 : (Jvm.Cond.privateMethod ({ cls := "java/lang/AbstractStringBuilder", name := "putStringAt", desc := "(ILjava/lang/String;)V" } : Jvm.MethodName)) ∈ lw_tbl := lw_at lw_m6 82 rfl
theorem q1352 : (Jvm.Cond.instanceMethod ({ cls := "java/lang/AbstractStringBuilder", name := "putStringAt", desc := "(ILjava/lang/String;)V" } : Jvm.MethodName)) ∈ lw_all := lw_g (lw_at lw_m6 83 rfl) rfl
theorem q1353 : (Jvm.Cond.code ({ cls := "java/lang/AbstractStringBuilder", name := "putStringAt", desc := "(ILjava/lang/String;)V" } : Jvm.MethodName) prog_21_method_73_code (3 : Nat) (Option.none : Option Jvm.ClassFile.FieldType)) ∈ lw_all := lw_g (lw_at lw_m6 84 rfl) rfl
theorem q1354 : (Jvm.Cond.methodLink "java/lang/AbstractStringBuilder" (397 : Nat) ({ cls := "java/lang/AbstractStringBuilder", name := "inflateIfNeededFor", desc := "(Ljava/lang/String;)V" } : Jvm.MethodName)) ∈ lw_all := lw_g (lw_at lw_m6 85 rfl) rfl
theorem q1355 : (Jvm.Cond.privateMethod ({ cls := "java/lang/AbstractStringBuilder", name := "inflateIfNeededFor", desc := "(Ljava/lang/String;)V" } : Jvm.MethodName)) ∈ lw_tbl := lw_at lw_m6 86 rfl
theorem q1356 : (Jvm.Cond.instanceMethod ({ cls := "java/lang/AbstractStringBuilder", name := "inflateIfNeededFor", desc := "(Ljava/lang/String;)V" } : Jvm.MethodName)) ∈ lw_all := lw_g (lw_at lw_m6 87 rfl) rfl
theorem q1357 : (Jvm.Cond.code ({ cls := "java/lang/AbstractStringBuilder", name := "inflateIfNeededFor", desc := "(Ljava/lang/String;)V" } : Jvm.MethodName) prog_21_method_71_code (2 : Nat) (Option.none : Option Jvm.ClassFile.FieldType)) ∈ lw_all := lw_g (lw_at lw_m6 88 rfl) rfl
theorem q1358 : (Jvm.Cond.methodLink "java/lang/AbstractStringBuilder" (195 : Nat) ({ cls := "java/lang/AbstractStringBuilder", name := "inflate", desc := "()V" } : Jvm.MethodName)) ∈ lw_all := lw_g (lw_at lw_m6 89 rfl) rfl
theorem q1359 : (Jvm.Cond.privateMethod ({ cls := "java/lang/AbstractStringBuilder", name := "inflate", desc := "()V" } : Jvm.MethodName)) ∈ lw_tbl := lw_at lw_m6 90 rfl
theorem q1360 : (Jvm.Cond.instanceMethod ({ cls := "java/lang/AbstractStringBuilder", name := "inflate", desc := "()V" } : Jvm.MethodName)) ∈ lw_all := lw_g (lw_at lw_m6 91 rfl) rfl
theorem q1361 : (Jvm.Cond.code ({ cls := "java/lang/AbstractStringBuilder", name := "inflate", desc := "()V" } : Jvm.MethodName) prog_21_method_11_code (2 : Nat) (Option.none : Option Jvm.ClassFile.FieldType)) ∈ lw_all := lw_g (lw_at lw_m6 92 rfl) rfl
theorem q1362 : (Jvm.Cond.methodLink "java/lang/AbstractStringBuilder" (125 : Nat) ({ cls := "java/lang/StringLatin1", name := "inflate", desc := "([BI[BII)V" } : Jvm.MethodName)) ∈ lw_all := lw_g (lw_at lw_m6 93 rfl) rfl
theorem q1377 : (Jvm.Cond.methodLink "java/lang/AbstractStringBuilder" (399 : Nat) ({ cls := "java/lang/String", name := "getBytes", desc := "([BIB)V" } : Jvm.MethodName)) ∈ lw_all := lw_g (lw_at lw_m6 108 rfl) rfl
theorem q1383 : (Jvm.Cond.fieldLink "java/lang/AbstractStringBuilder" (15 : Nat) "java/lang/AbstractStringBuilder" "value" "[B") ∈ lw_all := lw_g (lw_at lw_m6 114 rfl) rfl
theorem q1384 : (Jvm.Cond.fieldLink "java/lang/AbstractStringBuilder" (22 : Nat) "java/lang/AbstractStringBuilder" "coder" "B") ∈ lw_all := lw_g (lw_at lw_m6 115 rfl) rfl
theorem q1386 : (Jvm.Cond.fieldLink "java/lang/AbstractStringBuilder" (79 : Nat) "java/lang/AbstractStringBuilder" "count" "I") ∈ lw_all := lw_g (lw_at lw_m6 117 rfl) rfl
theorem q1388 : (Jvm.Cond.soleField "java/lang/AbstractStringBuilder" "value") ∈ lw_all := lw_g (lw_at lw_m6 119 rfl) rfl
theorem q1390 : (Jvm.Cond.soleField "java/lang/AbstractStringBuilder" "coder") ∈ lw_all := lw_g (lw_at lw_m6 121 rfl) rfl
theorem q1392 : (Jvm.Cond.soleField "java/lang/AbstractStringBuilder" "maybeLatin1") ∈ lw_all := lw_g (lw_at lw_m6 123 rfl) rfl
theorem q1394 : (Jvm.Cond.soleField "java/lang/AbstractStringBuilder" "count") ∈ lw_all := lw_g (lw_at lw_m6 125 rfl) rfl
theorem q1400 : (Jvm.Cond.instanceMethod ({ cls := "java/lang/AbstractStringBuilder", name := "append", desc := "(I)Ljava/lang/AbstractStringBuilder;" } : Jvm.MethodName)) ∈ lw_all := lw_g (lw_at lw_m6 131 rfl) rfl
theorem q1401 : (Jvm.Cond.code ({ cls := "java/lang/AbstractStringBuilder", name := "append", desc := "(I)Ljava/lang/AbstractStringBuilder;" } : Jvm.MethodName) prog_21_method_32_code (4 : Nat) (Option.some (Jvm.ClassFile.FieldType.object "java/lang/AbstractStringBuilder"))) ∈ lw_all := lw_g (lw_at lw_m6 132 rfl) rfl
theorem q1402 : (Jvm.Cond.methodLink "java/lang/AbstractStringBuilder" (245 : Nat) ({ cls := "java/lang/Integer", name := "stringSize", desc := "(I)I" } : Jvm.MethodName)) ∈ lw_all := lw_g (lw_at lw_m6 133 rfl) rfl
theorem q1405 : (Jvm.Cond.methodLink "java/lang/AbstractStringBuilder" (248 : Nat) ({ cls := "java/lang/Integer", name := "getChars", desc := "(II[B)I" } : Jvm.MethodName)) ∈ lw_all := lw_g (lw_at lw_m6 136 rfl) rfl
theorem q1412 : (Jvm.Cond.methodLink "java/lang/AbstractStringBuilder" (251 : Nat) ({ cls := "java/lang/StringUTF16", name := "getChars", desc := "(III[B)I" } : Jvm.MethodName)) ∈ lw_all := lw_g (lw_at lw_m6 143 rfl) rfl
theorem q1432 : (Jvm.Cond.instanceMethod ({ cls := "java/lang/AbstractStringBuilder", name := "<init>", desc := "(I)V" } : Jvm.MethodName)) ∈ lw_all := lw_g (lw_at lw_m6 163 rfl) rfl
theorem q1433 : (Jvm.Cond.code ({ cls := "java/lang/AbstractStringBuilder", name := "<init>", desc := "(I)V" } : Jvm.MethodName) prog_21_method_2_code (2 : Nat) (Option.none : Option Jvm.ClassFile.FieldType)) ∈ lw_all := lw_g (lw_at lw_m6 164 rfl) rfl
theorem q1448 : (Jvm.Cond.instanceMethod ({ cls := "java/lang/AbstractStringBuilder", name := "getValue", desc := "()[B" } : Jvm.MethodName)) ∈ lw_all := lw_g (lw_at lw_m6 179 rfl) rfl
theorem q1449 : (Jvm.Cond.sameMethod "java/lang/AbstractStringBuilder" "java/lang/AbstractStringBuilder" "getValue" "()[B") ∈ lw_all := lw_g (lw_at lw_m6 180 rfl) rfl
theorem q1451 : (Jvm.Cond.code ({ cls := "java/lang/AbstractStringBuilder", name := "getValue", desc := "()[B" } : Jvm.MethodName) prog_21_method_64_code (1 : Nat) (Option.some (Jvm.ClassFile.FieldType.array Jvm.ClassFile.FieldType.byte))) ∈ lw_all := lw_g (lw_at lw_m6 182 rfl) rfl
theorem q1453 : (Jvm.Cond.instanceMethod ({ cls := "java/lang/AbstractStringBuilder", name := "length", desc := "()I" } : Jvm.MethodName)) ∈ lw_all := lw_g (lw_at lw_m6 184 rfl) rfl
theorem q1454 : (Jvm.Cond.sameMethod "java/lang/AbstractStringBuilder" "java/lang/AbstractStringBuilder" "length" "()I") ∈ lw_all := lw_g (lw_at lw_m6 185 rfl) rfl
theorem q1459 : (Jvm.Cond.code ({ cls := "java/lang/AbstractStringBuilder", name := "length", desc := "()I" } : Jvm.MethodName) prog_21_method_6_code (1 : Nat) (Option.some Jvm.ClassFile.FieldType.int)) ∈ lw_all := lw_g (lw_at lw_m6 190 rfl) rfl
theorem q2084 : (Jvm.Cond.sameMethod "java/lang/AbstractStringBuilder" "java/lang/AbstractStringBuilder" "appendNull" "()Ljava/lang/AbstractStringBuilder;") ∈ lw_all := lw_g (lw_at lw_m9 95 rfl) rfl
theorem q2085 : (Jvm.Cond.sameMethod "java/lang/AbstractStringBuilder" "java/lang/AbstractStringBuilder" "ensureCapacityInternal" "(I)V") ∈ lw_all := lw_g (lw_at lw_m9 96 rfl) rfl
theorem q2086 : (Jvm.Cond.sameMethod "java/lang/AbstractStringBuilder" "java/lang/AbstractStringBuilder" "newCapacity" "(I)I") ∈ lw_all := lw_g (lw_at lw_m9 97 rfl) rfl
theorem q2087 : (Jvm.Cond.sameMethod "java/lang/AbstractStringBuilder" "java/lang/AbstractStringBuilder" "putStringAt" "(ILjava/lang/String;)V") ∈ lw_all := lw_g (lw_at lw_m9 98 rfl) rfl
theorem q2088 : (Jvm.Cond.sameMethod "java/lang/AbstractStringBuilder" "java/lang/AbstractStringBuilder" "inflateIfNeededFor" "(Ljava/lang/String;)V") ∈ lw_all := lw_g (lw_at lw_m9 99 rfl) rfl
theorem q2089 : (Jvm.Cond.sameMethod "java/lang/AbstractStringBuilder" "java/lang/AbstractStringBuilder" "inflate" "()V") ∈ lw_all := lw_g (lw_at lw_m9 100 rfl) rfl
theorem q2090 : (Jvm.Cond.sameMethod "java/lang/AbstractStringBuilder" "java/lang/AbstractStringBuilder" "append" "(I)Ljava/lang/AbstractStringBuilder;") ∈ lw_all := lw_g (lw_at lw_m9 101 rfl) rfl
/-! java/lang/StringBuilder -/
set_option maxRecDepth 100000
def RJ22 : String := "java/lang/StringBuilder"
def TJ22 : u_T := fun k => match k with
  | 0 => ("java/lang/AbstractStringBuilder", "value", "[B", false)
  | 1 => ("java/lang/AbstractStringBuilder", "coder", "B", false)
  | 2 => ("java/lang/AbstractStringBuilder", "maybeLatin1", "Z", false)
  | _ => ("java/lang/AbstractStringBuilder", "count", "I", false)
def tyJ22 : Nat → FieldType := fun k => match k with
  | 0 => .array .byte
  | 1 => .byte
  | 2 => .boolean
  | _ => .int
abbrev wsJ220 : List Cond := u_ws RJ22 TJ22 4
theorem nmJ22 : ∀ a, a < 4 → ∀ b, b < 4 → a ≠ b → (TJ22 a).2.1 ≠ (TJ22 b).2.1 := by decide +kernel
theorem tyJ22_ok : ∀ k, k < 4 → parseFieldDescriptor (TJ22 k).2.2.1 = some (tyJ22 k) := by decide +kernel
abbrev cJ22_init : ByteArray := prog_39_method_3_code
def yJ22_init : MethodName := ⟨RJ22, "<init>", "(Ljava/lang/String;)V"⟩
def dkwJ22_init_0 : List UInt8 := [42, 43, 183, 0, 7, 177]
abbrev dktJ22_init_0 : List UInt8 := dkwJ22_init_0 ++ []
theorem dksJ22_init_0 : cJ22_init.data.toList.drop 0 = dktJ22_init_0 := by decide +kernel
theorem dJ22_init_0 : decode cJ22_init 0 = .ok (.aload_n 0, 1) := dk_42 (dk_at dksJ22_init_0 0 rfl rfl)
theorem dJ22_init_1 : decode cJ22_init 1 = .ok (.aload_n 1, 1) := dk_43 (dk_at dksJ22_init_0 1 rfl rfl)
theorem dJ22_init_2 : decode cJ22_init 2 = .ok (.invokespecial 7, 3) := dk_183 0 7 (dk_at dksJ22_init_0 2 rfl rfl)
theorem dJ22_init_5 : decode cJ22_init 5 = .ok (.return_, 1) := dk_177 (dk_at dksJ22_init_0 5 rfl rfl)
abbrev cJ22_append : ByteArray := prog_39_method_80_code
def yJ22_append : MethodName := ⟨RJ22, "append", "(Ljava/lang/String;)Ljava/lang/AbstractStringBuilder;"⟩
def dkwJ22_append_0 : List UInt8 := [42, 43, 182, 0, 23, 176]
abbrev dktJ22_append_0 : List UInt8 := dkwJ22_append_0 ++ []
theorem dksJ22_append_0 : cJ22_append.data.toList.drop 0 = dktJ22_append_0 := by decide +kernel
theorem dJ22_append_0 : decode cJ22_append 0 = .ok (.aload_n 0, 1) := dk_42 (dk_at dksJ22_append_0 0 rfl rfl)
theorem dJ22_append_1 : decode cJ22_append 1 = .ok (.aload_n 1, 1) := dk_43 (dk_at dksJ22_append_0 1 rfl rfl)
theorem dJ22_append_2 : decode cJ22_append 2 = .ok (.invokevirtual 23, 3) := dk_182 0 23 (dk_at dksJ22_append_0 2 rfl rfl)
theorem dJ22_append_5 : decode cJ22_append 5 = .ok (.areturn, 1) := dk_176 (dk_at dksJ22_append_0 5 rfl rfl)
abbrev cJ22_append_2 : ByteArray := prog_39_method_7_code
def yJ22_append_2 : MethodName := ⟨RJ22, "append", "(Ljava/lang/String;)Ljava/lang/StringBuilder;"⟩
def dkwJ22_append_2_0 : List UInt8 := [42, 43, 183, 0, 29, 87, 42, 176]
abbrev dktJ22_append_2_0 : List UInt8 := dkwJ22_append_2_0 ++ []
theorem dksJ22_append_2_0 : cJ22_append_2.data.toList.drop 0 = dktJ22_append_2_0 := by decide +kernel
theorem dJ22_append_2_0 : decode cJ22_append_2 0 = .ok (.aload_n 0, 1) := dk_42 (dk_at dksJ22_append_2_0 0 rfl rfl)
theorem dJ22_append_2_1 : decode cJ22_append_2 1 = .ok (.aload_n 1, 1) := dk_43 (dk_at dksJ22_append_2_0 1 rfl rfl)
theorem dJ22_append_2_2 : decode cJ22_append_2 2 = .ok (.invokespecial 29, 3) := dk_183 0 29 (dk_at dksJ22_append_2_0 2 rfl rfl)
theorem dJ22_append_2_5 : decode cJ22_append_2 5 = .ok (.pop, 1) := dk_87 (dk_at dksJ22_append_2_0 5 rfl rfl)
theorem dJ22_append_2_6 : decode cJ22_append_2 6 = .ok (.aload_n 0, 1) := dk_42 (dk_at dksJ22_append_2_0 6 rfl rfl)
theorem dJ22_append_2_7 : decode cJ22_append_2 7 = .ok (.areturn, 1) := dk_176 (dk_at dksJ22_append_2_0 7 rfl rfl)
abbrev cJ22_append_3 : ByteArray := prog_39_method_15_code
def yJ22_append_3 : MethodName := ⟨RJ22, "append", "(I)Ljava/lang/StringBuilder;"⟩
def dkwJ22_append_3_0 : List UInt8 := [42, 27, 183, 0, 53, 87, 42, 176]
abbrev dktJ22_append_3_0 : List UInt8 := dkwJ22_append_3_0 ++ []
theorem dksJ22_append_3_0 : cJ22_append_3.data.toList.drop 0 = dktJ22_append_3_0 := by decide +kernel
theorem dJ22_append_3_0 : decode cJ22_append_3 0 = .ok (.aload_n 0, 1) := dk_42 (dk_at dksJ22_append_3_0 0 rfl rfl)
theorem dJ22_append_3_1 : decode cJ22_append_3 1 = .ok (.iload_n 1, 1) := dk_27 (dk_at dksJ22_append_3_0 1 rfl rfl)
theorem dJ22_append_3_2 : decode cJ22_append_3 2 = .ok (.invokespecial 53, 3) := dk_183 0 53 (dk_at dksJ22_append_3_0 2 rfl rfl)
theorem dJ22_append_3_5 : decode cJ22_append_3 5 = .ok (.pop, 1) := dk_87 (dk_at dksJ22_append_3_0 5 rfl rfl)
theorem dJ22_append_3_6 : decode cJ22_append_3 6 = .ok (.aload_n 0, 1) := dk_42 (dk_at dksJ22_append_3_0 6 rfl rfl)
theorem dJ22_append_3_7 : decode cJ22_append_3 7 = .ok (.areturn, 1) := dk_176 (dk_at dksJ22_append_3_0 7 rfl rfl)
abbrev cJ22_init_2 : ByteArray := prog_39_method_1_code
def yJ22_init_2 : MethodName := ⟨RJ22, "<init>", "()V"⟩
def dkwJ22_init_2_0 : List UInt8 := [42, 16, 16, 183, 0, 1, 177]
abbrev dktJ22_init_2_0 : List UInt8 := dkwJ22_init_2_0 ++ []
theorem dksJ22_init_2_0 : cJ22_init_2.data.toList.drop 0 = dktJ22_init_2_0 := by decide +kernel
theorem dJ22_init_2_0 : decode cJ22_init_2 0 = .ok (.aload_n 0, 1) := dk_42 (dk_at dksJ22_init_2_0 0 rfl rfl)
theorem dJ22_init_2_1 : decode cJ22_init_2 1 = .ok (.bipush 16, 2) := dk_16 16 (dk_at dksJ22_init_2_0 1 rfl rfl)
theorem dJ22_init_2_3 : decode cJ22_init_2 3 = .ok (.invokespecial 1, 3) := dk_183 0 1 (dk_at dksJ22_init_2_0 3 rfl rfl)
theorem dJ22_init_2_6 : decode cJ22_init_2 6 = .ok (.return_, 1) := dk_177 (dk_at dksJ22_init_2_0 6 rfl rfl)
abbrev cJ22_toString : ByteArray := prog_39_method_42_code
def yJ22_toString : MethodName := ⟨RJ22, "toString", "()Ljava/lang/String;"⟩
def dkwJ22_toString_0 : List UInt8 := [187, 0, 18, 89, 42, 183, 0, 137, 176]
abbrev dktJ22_toString_0 : List UInt8 := dkwJ22_toString_0 ++ []
theorem dksJ22_toString_0 : cJ22_toString.data.toList.drop 0 = dktJ22_toString_0 := by decide +kernel
theorem dJ22_toString_0 : decode cJ22_toString 0 = .ok (.new 18, 3) := dk_187 0 18 (dk_at dksJ22_toString_0 0 rfl rfl)
theorem dJ22_toString_3 : decode cJ22_toString 3 = .ok (.dup, 1) := dk_89 (dk_at dksJ22_toString_0 3 rfl rfl)
theorem dJ22_toString_4 : decode cJ22_toString 4 = .ok (.aload_n 0, 1) := dk_42 (dk_at dksJ22_toString_0 4 rfl rfl)
theorem dJ22_toString_5 : decode cJ22_toString 5 = .ok (.invokespecial 137, 3) := dk_183 0 137 (dk_at dksJ22_toString_0 5 rfl rfl)
theorem dJ22_toString_8 : decode cJ22_toString 8 = .ok (.areturn, 1) := dk_176 (dk_at dksJ22_toString_0 8 rfl rfl)
abbrev cJ22_length : ByteArray := prog_39_method_93_code
def yJ22_length : MethodName := ⟨RJ22, "length", "()I"⟩
theorem dJ22_length_0 : decode cJ22_length 0 = .ok (.aload_n 0, 1) := by decide +kernel
theorem dJ22_length_1 : decode cJ22_length 1 = .ok (.invokespecial 343, 3) := by decide +kernel
theorem dJ22_length_4 : decode cJ22_length 4 = .ok (.ireturn, 1) := by decide +kernel
theorem q111 : (Jvm.Cond.initialized "java/lang/StringBuilder") ∈ lw_all := lw_g (lw_at lw_m1 42 rfl) rfl
theorem q254 : (Jvm.Cond.selects "java/lang/StringBuilder" ({ cls := "java/lang/Object", name := "getClass", desc := "()Ljava/lang/Class;" } : Jvm.MethodName) ({ cls := "java/lang/Object", name := "getClass", desc := "()Ljava/lang/Class;" } : Jvm.MethodName)) ∈ lw_all := lw_g (lw_at lw_m1 185 rfl) rfl
theorem q1254 : (Jvm.Cond.instantiable "java/lang/StringBuilder" (4 : Nat)) ∈ lw_all := lw_g (lw_at lw_m5 225 rfl) rfl
theorem q1256 : (Jvm.Cond.instanceMethod ({ cls := "java/lang/StringBuilder", name := "<init>", desc := "(Ljava/lang/String;)V" } : Jvm.MethodName)) ∈ lw_all := lw_g (lw_at lw_m5 227 rfl) rfl
theorem q1257 : (Jvm.Cond.code ({ cls := "java/lang/StringBuilder", name := "<init>", desc := "(Ljava/lang/String;)V" } : Jvm.MethodName) prog_39_method_3_code (2 : Nat) (Option.none : Option Jvm.ClassFile.FieldType)) ∈ lw_all := lw_g (lw_at lw_m5 228 rfl) rfl
theorem q1258 : (Jvm.Cond.methodLink "java/lang/StringBuilder" (7 : Nat) ({ cls := "java/lang/AbstractStringBuilder", name := "<init>", desc := "(Ljava/lang/String;)V" } : Jvm.MethodName)) ∈ lw_all := lw_g (lw_at lw_m5 229 rfl) rfl
theorem q1285 : (Jvm.Cond.selects "java/lang/StringBuilder" ({ cls := "java/lang/AbstractStringBuilder", name := "append", desc := "(Ljava/lang/String;)Ljava/lang/AbstractStringBuilder;" } : Jvm.MethodName) ({ cls := "java/lang/StringBuilder", name := "append", desc := "(Ljava/lang/String;)Ljava/lang/AbstractStringBuilder;" } : Jvm.MethodName)) ∈ lw_all := lw_g (lw_at lw_m6 16 rfl) rfl
theorem q1286 : (Jvm.Cond.instanceMethod ({ cls := "java/lang/StringBuilder", name := "append", desc := "(Ljava/lang/String;)Ljava/lang/AbstractStringBuilder;" } : Jvm.MethodName)) ∈ lw_all := lw_g (lw_at lw_m6 17 rfl) rfl
theorem q1287 : (Jvm.Cond.code ({ cls := "java/lang/StringBuilder", name := "append", desc := "(Ljava/lang/String;)Ljava/lang/AbstractStringBuilder;" } : Jvm.MethodName) prog_39_method_80_code (2 : Nat) (Option.some (Jvm.ClassFile.FieldType.object "java/lang/AbstractStringBuilder"))) ∈ lw_all := lw_g (lw_at lw_m6 18 rfl) rfl
theorem q1288 : (Jvm.Cond.methodLink "java/lang/StringBuilder" (23 : Nat) ({ cls := "java/lang/StringBuilder", name := "append", desc := "(Ljava/lang/String;)Ljava/lang/StringBuilder;" } : Jvm.MethodName)) ∈ lw_all := lw_g (lw_at lw_m6 19 rfl) rfl
theorem q1289 : (Jvm.Cond.instanceMethod ({ cls := "java/lang/StringBuilder", name := "append", desc := "(Ljava/lang/String;)Ljava/lang/StringBuilder;" } : Jvm.MethodName)) ∈ lw_all := lw_g (lw_at lw_m6 20 rfl) rfl
theorem q1290 : (Jvm.Cond.selects "java/lang/StringBuilder" ({ cls := "java/lang/StringBuilder", name := "append", desc := "(Ljava/lang/String;)Ljava/lang/StringBuilder;" } : Jvm.MethodName) ({ cls := "java/lang/StringBuilder", name := "append", desc := "(Ljava/lang/String;)Ljava/lang/StringBuilder;" } : Jvm.MethodName)) ∈ lw_all := lw_g (lw_at lw_m6 21 rfl) rfl
theorem q1291 : (Jvm.Cond.code ({ cls := "java/lang/StringBuilder", name := "append", desc := "(Ljava/lang/String;)Ljava/lang/StringBuilder;" } : Jvm.MethodName) prog_39_method_7_code (2 : Nat) (Option.some (Jvm.ClassFile.FieldType.object "java/lang/StringBuilder"))) ∈ lw_all := lw_g (lw_at lw_m6 22 rfl) rfl
theorem q1292 : (Jvm.Cond.methodLink "java/lang/StringBuilder" (29 : Nat) ({ cls := "java/lang/AbstractStringBuilder", name := "append", desc := "(Ljava/lang/String;)Ljava/lang/AbstractStringBuilder;" } : Jvm.MethodName)) ∈ lw_all := lw_g (lw_at lw_m6 23 rfl) rfl
theorem q1293 : (Jvm.Cond.superclass "java/lang/StringBuilder" "java/lang/AbstractStringBuilder") ∈ lw_all := lw_g (lw_at lw_m6 24 rfl) rfl
theorem q1321 : (Jvm.Cond.selects "java/lang/StringBuilder" ({ cls := "java/lang/AbstractStringBuilder", name := "isLatin1", desc := "()Z" } : Jvm.MethodName) ({ cls := "java/lang/AbstractStringBuilder", name := "isLatin1", desc := "()Z" } : Jvm.MethodName)) ∈ lw_all := lw_g (lw_at lw_m6 52 rfl) rfl
theorem q1387 : (Jvm.Cond.lays "java/lang/StringBuilder" "java/lang/AbstractStringBuilder" "value" "[B") ∈ lw_all := lw_g (lw_at lw_m6 118 rfl) rfl
theorem q1389 : (Jvm.Cond.lays "java/lang/StringBuilder" "java/lang/AbstractStringBuilder" "coder" "B") ∈ lw_all := lw_g (lw_at lw_m6 120 rfl) rfl
theorem q1391 : (Jvm.Cond.lays "java/lang/StringBuilder" "java/lang/AbstractStringBuilder" "maybeLatin1" "Z") ∈ lw_all := lw_g (lw_at lw_m6 122 rfl) rfl
theorem q1393 : (Jvm.Cond.lays "java/lang/StringBuilder" "java/lang/AbstractStringBuilder" "count" "I") ∈ lw_all := lw_g (lw_at lw_m6 124 rfl) rfl
theorem q1396 : (Jvm.Cond.instanceMethod ({ cls := "java/lang/StringBuilder", name := "append", desc := "(I)Ljava/lang/StringBuilder;" } : Jvm.MethodName)) ∈ lw_all := lw_g (lw_at lw_m6 127 rfl) rfl
theorem q1397 : (Jvm.Cond.selects "java/lang/StringBuilder" ({ cls := "java/lang/StringBuilder", name := "append", desc := "(I)Ljava/lang/StringBuilder;" } : Jvm.MethodName) ({ cls := "java/lang/StringBuilder", name := "append", desc := "(I)Ljava/lang/StringBuilder;" } : Jvm.MethodName)) ∈ lw_all := lw_g (lw_at lw_m6 128 rfl) rfl
theorem q1398 : (Jvm.Cond.code ({ cls := "java/lang/StringBuilder", name := "append", desc := "(I)Ljava/lang/StringBuilder;" } : Jvm.MethodName) prog_39_method_15_code (2 : Nat) (Option.some (Jvm.ClassFile.FieldType.object "java/lang/StringBuilder"))) ∈ lw_all := lw_g (lw_at lw_m6 129 rfl) rfl
theorem q1399 : (Jvm.Cond.methodLink "java/lang/StringBuilder" (53 : Nat) ({ cls := "java/lang/AbstractStringBuilder", name := "append", desc := "(I)Ljava/lang/AbstractStringBuilder;" } : Jvm.MethodName)) ∈ lw_all := lw_g (lw_at lw_m6 130 rfl) rfl
theorem q1429 : (Jvm.Cond.instanceMethod ({ cls := "java/lang/StringBuilder", name := "<init>", desc := "()V" } : Jvm.MethodName)) ∈ lw_all := lw_g (lw_at lw_m6 160 rfl) rfl
theorem q1430 : (Jvm.Cond.code ({ cls := "java/lang/StringBuilder", name := "<init>", desc := "()V" } : Jvm.MethodName) prog_39_method_1_code (1 : Nat) (Option.none : Option Jvm.ClassFile.FieldType)) ∈ lw_all := lw_g (lw_at lw_m6 161 rfl) rfl
theorem q1431 : (Jvm.Cond.methodLink "java/lang/StringBuilder" (1 : Nat) ({ cls := "java/lang/AbstractStringBuilder", name := "<init>", desc := "(I)V" } : Jvm.MethodName)) ∈ lw_all := lw_g (lw_at lw_m6 162 rfl) rfl
theorem q1436 : (Jvm.Cond.instanceMethod ({ cls := "java/lang/StringBuilder", name := "toString", desc := "()Ljava/lang/String;" } : Jvm.MethodName)) ∈ lw_all := lw_g (lw_at lw_m6 167 rfl) rfl
theorem q1437 : (Jvm.Cond.selects "java/lang/StringBuilder" ({ cls := "java/lang/StringBuilder", name := "toString", desc := "()Ljava/lang/String;" } : Jvm.MethodName) ({ cls := "java/lang/StringBuilder", name := "toString", desc := "()Ljava/lang/String;" } : Jvm.MethodName)) ∈ lw_all := lw_g (lw_at lw_m6 168 rfl) rfl
theorem q1438 : (Jvm.Cond.code ({ cls := "java/lang/StringBuilder", name := "toString", desc := "()Ljava/lang/String;" } : Jvm.MethodName) prog_39_method_42_code (1 : Nat) (Option.some (Jvm.ClassFile.FieldType.object "java/lang/String"))) ∈ lw_all := lw_g (lw_at lw_m6 169 rfl) rfl
theorem q1439 : (Jvm.Cond.classLink "java/lang/StringBuilder" (18 : Nat) "java/lang/String") ∈ lw_all := lw_g (lw_at lw_m6 170 rfl) rfl
theorem q1440 : (Jvm.Cond.methodLink "java/lang/StringBuilder" (137 : Nat) ({ cls := "java/lang/String", name := "<init>", desc := "(Ljava/lang/StringBuilder;)V" } : Jvm.MethodName)) ∈ lw_all := lw_g (lw_at lw_m6 171 rfl) rfl
theorem q1450 : (Jvm.Cond.selects "java/lang/StringBuilder" ({ cls := "java/lang/AbstractStringBuilder", name := "getValue", desc := "()[B" } : Jvm.MethodName) ({ cls := "java/lang/AbstractStringBuilder", name := "getValue", desc := "()[B" } : Jvm.MethodName)) ∈ lw_all := lw_g (lw_at lw_m6 181 rfl) rfl
theorem q1455 : (Jvm.Cond.selects "java/lang/StringBuilder" ({ cls := "java/lang/AbstractStringBuilder", name := "length", desc := "()I" } : Jvm.MethodName) ({ cls := "java/lang/StringBuilder", name := "length", desc := "()I" } : Jvm.MethodName)) ∈ lw_all := lw_g (lw_at lw_m6 186 rfl) rfl
theorem q1456 : (Jvm.Cond.instanceMethod ({ cls := "java/lang/StringBuilder", name := "length", desc := "()I" } : Jvm.MethodName)) ∈ lw_all := lw_g (lw_at lw_m6 187 rfl) rfl
theorem q1457 : (Jvm.Cond.code ({ cls := "java/lang/StringBuilder", name := "length", desc := "()I" } : Jvm.MethodName) prog_39_method_93_code (1 : Nat) (Option.some Jvm.ClassFile.FieldType.int)) ∈ lw_all := lw_g (lw_at lw_m6 188 rfl) rfl
theorem q1458 : (Jvm.Cond.methodLink "java/lang/StringBuilder" (343 : Nat) ({ cls := "java/lang/AbstractStringBuilder", name := "length", desc := "()I" } : Jvm.MethodName)) ∈ lw_all := lw_g (lw_at lw_m6 189 rfl) rfl
theorem q2121 : (Jvm.Cond.castable "java/lang/StringBuilder" "java/lang/Object") ∈ lw_tbl := lw_at lw_m9 132 rfl
theorem in_J22 : ∀ w ∈ wsJ220, w ∈ lw_all := lw_in wsJ220 [1387, 1389, 1391, 1393] (by decide +kernel) (by decide +kernel)
/-! java/lang/StringLatin1 -/
set_option maxRecDepth 100000
def RJ24 : String := "java/lang/StringLatin1"
abbrev cJ24_inflate : ByteArray := prog_40_method_50_code
def yJ24_inflate : MethodName := ⟨RJ24, "inflate", "([BI[BII)V"⟩
def dkwJ24_inflate_0 : List UInt8 := [42, 27, 44, 29, 21, 4, 184, 0, 240, 177]
abbrev dktJ24_inflate_0 : List UInt8 := dkwJ24_inflate_0 ++ []
theorem dksJ24_inflate_0 : cJ24_inflate.data.toList.drop 0 = dktJ24_inflate_0 := by decide +kernel
theorem dJ24_inflate_0 : decode cJ24_inflate 0 = .ok (.aload_n 0, 1) := dk_42 (dk_at dksJ24_inflate_0 0 rfl rfl)
theorem dJ24_inflate_1 : decode cJ24_inflate 1 = .ok (.iload_n 1, 1) := dk_27 (dk_at dksJ24_inflate_0 1 rfl rfl)
theorem dJ24_inflate_2 : decode cJ24_inflate 2 = .ok (.aload_n 2, 1) := dk_44 (dk_at dksJ24_inflate_0 2 rfl rfl)
theorem dJ24_inflate_3 : decode cJ24_inflate 3 = .ok (.iload_n 3, 1) := dk_29 (dk_at dksJ24_inflate_0 3 rfl rfl)
theorem dJ24_inflate_4 : decode cJ24_inflate 4 = .ok (.iload 4, 2) := dk_21 4 (dk_at dksJ24_inflate_0 4 rfl rfl)
theorem dJ24_inflate_6 : decode cJ24_inflate 6 = .ok (.invokestatic 240, 3) := dk_184 0 240 (dk_at dksJ24_inflate_0 6 rfl rfl)
theorem dJ24_inflate_9 : decode cJ24_inflate 9 = .ok (.return_, 1) := dk_177 (dk_at dksJ24_inflate_0 9 rfl rfl)
abbrev cJ24_equals : ByteArray := prog_40_method_13_code
def yJ24_equals : MethodName := ⟨RJ24, "equals", "([B[B)Z"⟩
def dkwJ24_equals_1 : List UInt8 := [3, 172, 132, 2, 1, 167, 255, 236, 4, 172, 3, 172]
abbrev dktJ24_equals_1 : List UInt8 := dkwJ24_equals_1 ++ []
def dkwJ24_equals_0 : List UInt8 := [42, 190, 43, 190, 160, 0, 30, 3, 61, 28, 42, 190, 162, 0, 20, 42, 28, 51, 43, 28, 51, 159, 0, 5]
abbrev dktJ24_equals_0 : List UInt8 := dkwJ24_equals_0 ++ dktJ24_equals_1
theorem dksJ24_equals_0 : cJ24_equals.data.toList.drop 0 = dktJ24_equals_0 := by decide +kernel
theorem dksJ24_equals_1 : cJ24_equals.data.toList.drop 24 = dktJ24_equals_1 := dk_seg dksJ24_equals_0 24 rfl rfl
theorem dJ24_equals_0 : decode cJ24_equals 0 = .ok (.aload_n 0, 1) := dk_42 (dk_at dksJ24_equals_0 0 rfl rfl)
theorem dJ24_equals_1 : decode cJ24_equals 1 = .ok (.arraylength, 1) := dk_190 (dk_at dksJ24_equals_0 1 rfl rfl)
theorem dJ24_equals_2 : decode cJ24_equals 2 = .ok (.aload_n 1, 1) := dk_43 (dk_at dksJ24_equals_0 2 rfl rfl)
theorem dJ24_equals_3 : decode cJ24_equals 3 = .ok (.arraylength, 1) := dk_190 (dk_at dksJ24_equals_0 3 rfl rfl)
theorem dJ24_equals_4 : decode cJ24_equals 4 = .ok (.if_icmp .ne 30, 3) := dk_160 0 30 (dk_at dksJ24_equals_0 4 rfl rfl)
theorem dJ24_equals_7 : decode cJ24_equals 7 = .ok (.iconst 0, 1) := dk_3 (dk_at dksJ24_equals_0 7 rfl rfl)
theorem dJ24_equals_8 : decode cJ24_equals 8 = .ok (.istore_n 2, 1) := dk_61 (dk_at dksJ24_equals_0 8 rfl rfl)
theorem dJ24_equals_9 : decode cJ24_equals 9 = .ok (.iload_n 2, 1) := dk_28 (dk_at dksJ24_equals_0 9 rfl rfl)
theorem dJ24_equals_10 : decode cJ24_equals 10 = .ok (.aload_n 0, 1) := dk_42 (dk_at dksJ24_equals_0 10 rfl rfl)
theorem dJ24_equals_11 : decode cJ24_equals 11 = .ok (.arraylength, 1) := dk_190 (dk_at dksJ24_equals_0 11 rfl rfl)
theorem dJ24_equals_12 : decode cJ24_equals 12 = .ok (.if_icmp .ge 20, 3) := dk_162 0 20 (dk_at dksJ24_equals_0 12 rfl rfl)
theorem dJ24_equals_15 : decode cJ24_equals 15 = .ok (.aload_n 0, 1) := dk_42 (dk_at dksJ24_equals_0 15 rfl rfl)
theorem dJ24_equals_16 : decode cJ24_equals 16 = .ok (.iload_n 2, 1) := dk_28 (dk_at dksJ24_equals_0 16 rfl rfl)
theorem dJ24_equals_17 : decode cJ24_equals 17 = .ok (.baload, 1) := dk_51 (dk_at dksJ24_equals_0 17 rfl rfl)
theorem dJ24_equals_18 : decode cJ24_equals 18 = .ok (.aload_n 1, 1) := dk_43 (dk_at dksJ24_equals_0 18 rfl rfl)
theorem dJ24_equals_19 : decode cJ24_equals 19 = .ok (.iload_n 2, 1) := dk_28 (dk_at dksJ24_equals_0 19 rfl rfl)
theorem dJ24_equals_20 : decode cJ24_equals 20 = .ok (.baload, 1) := dk_51 (dk_at dksJ24_equals_0 20 rfl rfl)
theorem dJ24_equals_21 : decode cJ24_equals 21 = .ok (.if_icmp .eq 5, 3) := dk_159 0 5 (dk_at dksJ24_equals_0 21 rfl rfl)
theorem dJ24_equals_24 : decode cJ24_equals 24 = .ok (.iconst 0, 1) := dk_3 (dk_at dksJ24_equals_1 0 rfl rfl)
theorem dJ24_equals_25 : decode cJ24_equals 25 = .ok (.ireturn, 1) := dk_172 (dk_at dksJ24_equals_1 1 rfl rfl)
theorem dJ24_equals_26 : decode cJ24_equals 26 = .ok (.iinc 2 1, 3) := dk_132 2 1 (dk_at dksJ24_equals_1 2 rfl rfl)
theorem dJ24_equals_29 : decode cJ24_equals 29 = .ok (.goto (-20), 3) := dk_167 255 236 (dk_at dksJ24_equals_1 5 rfl rfl)
theorem dJ24_equals_32 : decode cJ24_equals 32 = .ok (.iconst 1, 1) := dk_4 (dk_at dksJ24_equals_1 8 rfl rfl)
theorem dJ24_equals_33 : decode cJ24_equals 33 = .ok (.ireturn, 1) := dk_172 (dk_at dksJ24_equals_1 9 rfl rfl)
theorem dJ24_equals_34 : decode cJ24_equals 34 = .ok (.iconst 0, 1) := dk_3 (dk_at dksJ24_equals_1 10 rfl rfl)
theorem dJ24_equals_35 : decode cJ24_equals 35 = .ok (.ireturn, 1) := dk_172 (dk_at dksJ24_equals_1 11 rfl rfl)
theorem q113 : (Jvm.Cond.initialized "java/lang/StringLatin1") ∈ lw_all := lw_g (lw_at lw_m1 44 rfl) rfl
theorem q1363 : (Jvm.Cond.static ({ cls := "java/lang/StringLatin1", name := "inflate", desc := "([BI[BII)V" } : Jvm.MethodName)) ∈ lw_all := lw_g (lw_at lw_m6 94 rfl) rfl
theorem q1364 : (Jvm.Cond.code ({ cls := "java/lang/StringLatin1", name := "inflate", desc := "([BI[BII)V" } : Jvm.MethodName) prog_40_method_50_code (5 : Nat) (Option.none : Option Jvm.ClassFile.FieldType)) ∈ lw_all := lw_g (lw_at lw_m6 95 rfl) rfl
theorem q1365 : (Jvm.Cond.methodLink "java/lang/StringLatin1" (240 : Nat) ({ cls := "java/lang/StringUTF16", name := "inflate", desc := "([BI[BII)V" } : Jvm.MethodName)) ∈ lw_all := lw_g (lw_at lw_m6 96 rfl) rfl
theorem q2081 : (Jvm.Cond.static ({ cls := "java/lang/StringLatin1", name := "equals", desc := "([B[B)Z" } : Jvm.MethodName)) ∈ lw_all := lw_g (lw_at lw_m9 92 rfl) rfl
theorem q2082 : (Jvm.Cond.code ({ cls := "java/lang/StringLatin1", name := "equals", desc := "([B[B)Z" } : Jvm.MethodName) prog_40_method_13_code (3 : Nat) (Option.some Jvm.ClassFile.FieldType.boolean)) ∈ lw_all := lw_g (lw_at lw_m9 93 rfl) rfl
/-! java/lang/Object -/
set_option maxRecDepth 100000
def RJ25 : String := "java/lang/Object"
abbrev cJ25_init : ByteArray := object_method_1_code
def yJ25_init : MethodName := ⟨RJ25, "<init>", "()V"⟩
theorem dJ25_init_0 : decode cJ25_init 0 = .ok (.return_, 1) := by decide +kernel
theorem q121 : (Jvm.Cond.instanceMethod ({ cls := "java/lang/Object", name := "<init>", desc := "()V" } : Jvm.MethodName)) ∈ lw_all := lw_g (lw_at lw_m1 52 rfl) rfl
theorem q122 : (Jvm.Cond.code ({ cls := "java/lang/Object", name := "<init>", desc := "()V" } : Jvm.MethodName) object_method_1_code (1 : Nat) (Option.none : Option Jvm.ClassFile.FieldType)) ∈ lw_all := lw_g (lw_at lw_m1 53 rfl) rfl
theorem q228 : (Jvm.Cond.instanceMethod ({ cls := "java/lang/Object", name := "getClass", desc := "()Ljava/lang/Class;" } : Jvm.MethodName)) ∈ lw_all := lw_g (lw_at lw_m1 159 rfl) rfl
theorem q229 : (Jvm.Cond.sameMethod "java/lang/Object" "java/lang/Object" "getClass" "()Ljava/lang/Class;") ∈ lw_all := lw_g (lw_at lw_m1 160 rfl) rfl
theorem q258 : (Jvm.Cond.native ({ cls := "java/lang/Object", name := "getClass", desc := "()Ljava/lang/Class;" } : Jvm.MethodName)) ∈ lw_all := lw_g (lw_at lw_m1 189 rfl) rfl
theorem q1313 : (Jvm.Cond.native ({ cls := "java/lang/Object", name := "clone", desc := "()Ljava/lang/Object;" } : Jvm.MethodName)) ∈ lw_all := lw_g (lw_at lw_m6 44 rfl) rfl
theorem q1314 : (Jvm.Cond.instanceMethod ({ cls := "java/lang/Object", name := "clone", desc := "()Ljava/lang/Object;" } : Jvm.MethodName)) ∈ lw_all := lw_g (lw_at lw_m6 45 rfl) rfl
theorem q2094 : (Jvm.Cond.initialized "java/lang/Object") ∈ lw_all := lw_g (lw_at lw_m9 105 rfl) rfl
theorem q2127 : (Jvm.Cond.declares ({ cls := "java/lang/Object", name := "getClass", desc := "()Ljava/lang/Class;" } : Jvm.MethodName)) ∈ lw_tbl := lw_at lw_m9 138 rfl
theorem q101 : (Jvm.Cond.initialized "Rollover$Kind") ∈ lw_all := lw_g (lw_at lw_m1 32 rfl) rfl
set_option maxRecDepth 100000
theorem q235 : (Jvm.Cond.selects "Rollover$Kind" ({ cls := "java/lang/Object", name := "getClass", desc := "()Ljava/lang/Class;" } : Jvm.MethodName) ({ cls := "java/lang/Object", name := "getClass", desc := "()Ljava/lang/Class;" } : Jvm.MethodName)) ∈ lw_all := lw_g (lw_at lw_m1 166 rfl) rfl
theorem q495 : (Jvm.Cond.sameMethod "Rollover$Kind" "java/lang/Enum" "ordinal" "()I") ∈ lw_all := lw_g (lw_at lw_m2 186 rfl) rfl
theorem q497 : (Jvm.Cond.selects "Rollover$Kind" ({ cls := "Rollover$Kind", name := "ordinal", desc := "()I" } : Jvm.MethodName) ({ cls := "java/lang/Enum", name := "ordinal", desc := "()I" } : Jvm.MethodName)) ∈ lw_all := lw_g (lw_at lw_m2 188 rfl) rfl
theorem q673 : (Jvm.Cond.laysStatic "Rollover$Kind" "CALL" "LRollover$Kind;") ∈ lw_tbl := lw_at lw_m3 124 rfl
theorem q1148 : (Jvm.Cond.laysStatic "Rollover$Kind" "GIFT" "LRollover$Kind;") ∈ lw_tbl := lw_at lw_m5 119 rfl
theorem q1157 : (Jvm.Cond.laysStatic "Rollover$Kind" "ADD_ON" "LRollover$Kind;") ∈ lw_tbl := lw_at lw_m5 128 rfl
theorem q2112 : (Jvm.Cond.castable "Rollover$Kind" "java/lang/Object") ∈ lw_tbl := lw_at lw_m9 123 rfl
theorem q1312 : (Jvm.Cond.sameMethod "[B" "java/lang/Object" "clone" "()Ljava/lang/Object;") ∈ lw_all := lw_g (lw_at lw_m6 43 rfl) rfl
set_option maxRecDepth 100000
theorem q1315 : (Jvm.Cond.selects "[B" ({ cls := "[B", name := "clone", desc := "()Ljava/lang/Object;" } : Jvm.MethodName) ({ cls := "java/lang/Object", name := "clone", desc := "()Ljava/lang/Object;" } : Jvm.MethodName)) ∈ lw_all := lw_g (lw_at lw_m6 46 rfl) rfl
theorem q1316 : (Jvm.Cond.castable "[B" "java/lang/Cloneable") ∈ lw_tbl := lw_at lw_m6 47 rfl
theorem q2130 : (Jvm.Cond.castable "[B" "java/lang/Object") ∈ lw_tbl := lw_at lw_m9 141 rfl
theorem q2128 : (Jvm.Cond.castable "[I" "java/lang/Object") ∈ lw_tbl := lw_at lw_m9 139 rfl
set_option maxRecDepth 100000
theorem q2125 : (Jvm.Cond.sameMethod "[Ljava/lang/Object;" "java/lang/Object" "getClass" "()Ljava/lang/Class;") ∈ lw_all := lw_g (lw_at lw_m9 136 rfl) rfl
set_option maxRecDepth 100000
theorem q2126 : (Jvm.Cond.selects "[Ljava/lang/Object;" ({ cls := "java/lang/Object", name := "getClass", desc := "()Ljava/lang/Class;" } : Jvm.MethodName) ({ cls := "java/lang/Object", name := "getClass", desc := "()Ljava/lang/Class;" } : Jvm.MethodName)) ∈ lw_all := lw_g (lw_at lw_m9 137 rfl) rfl
theorem q2129 : (Jvm.Cond.castable "[Ljava/lang/Object;" "java/lang/Object") ∈ lw_tbl := lw_at lw_m9 140 rfl
theorem q2131 : (Jvm.Cond.castable "[[I" "java/lang/Object") ∈ lw_tbl := lw_at lw_m9 142 rfl
set_option maxRecDepth 100000
theorem q77 : (Jvm.Cond.initialized "java/lang/Integer$IntegerCache") ∈ lw_all := lw_g (lw_at lw_m1 8 rfl) rfl
set_option maxRecDepth 100000
theorem q176 : (Jvm.Cond.laysStatic "java/lang/Integer$IntegerCache" "high" "I") ∈ lw_tbl := lw_at lw_m1 107 rfl
theorem q178 : (Jvm.Cond.laysStatic "java/lang/Integer$IntegerCache" "cache" "[Ljava/lang/Integer;") ∈ lw_tbl := lw_at lw_m1 109 rfl
theorem q81 : (Jvm.Cond.initialized "java/lang/System") ∈ lw_all := lw_g (lw_at lw_m1 12 rfl) rfl
set_option maxRecDepth 100000
theorem q269 : (Jvm.Cond.static ({ cls := "java/lang/System", name := "arraycopy", desc := "(Ljava/lang/Object;ILjava/lang/Object;II)V" } : Jvm.MethodName)) ∈ lw_all := lw_g (lw_at lw_m1 200 rfl) rfl
theorem q270 : (Jvm.Cond.native ({ cls := "java/lang/System", name := "arraycopy", desc := "(Ljava/lang/Object;ILjava/lang/Object;II)V" } : Jvm.MethodName)) ∈ lw_all := lw_g (lw_at lw_m1 201 rfl) rfl
theorem q1874 : (Jvm.Cond.interfaceMethod "java/util/Collection" "java/util/Collection" "toArray" "()[Ljava/lang/Object;") ∈ lw_tbl := lw_at lw_m8 125 rfl
set_option maxRecDepth 100000
theorem q1875 : (Jvm.Cond.declares ({ cls := "java/util/Collection", name := "toArray", desc := "()[Ljava/lang/Object;" } : Jvm.MethodName)) ∈ lw_tbl := lw_at lw_m8 126 rfl
theorem q1721 : (Jvm.Cond.interfaceMethod "java/util/Iterator" "java/util/Iterator" "hasNext" "()Z") ∈ lw_tbl := lw_at lw_m7 212 rfl
set_option maxRecDepth 100000
theorem q1722 : (Jvm.Cond.declares ({ cls := "java/util/Iterator", name := "hasNext", desc := "()Z" } : Jvm.MethodName)) ∈ lw_tbl := lw_at lw_m7 213 rfl
theorem q1731 : (Jvm.Cond.interfaceMethod "java/util/Iterator" "java/util/Iterator" "next" "()Ljava/lang/Object;") ∈ lw_tbl := lw_at lw_m7 222 rfl
theorem q1732 : (Jvm.Cond.declares ({ cls := "java/util/Iterator", name := "next", desc := "()Ljava/lang/Object;" } : Jvm.MethodName)) ∈ lw_tbl := lw_at lw_m7 223 rfl
theorem q194 : (Jvm.Cond.interfaceMethod "java/util/List" "java/util/List" "add" "(Ljava/lang/Object;)Z") ∈ lw_tbl := lw_at lw_m1 125 rfl
set_option maxRecDepth 100000
theorem q195 : (Jvm.Cond.declares ({ cls := "java/util/List", name := "add", desc := "(Ljava/lang/Object;)Z" } : Jvm.MethodName)) ∈ lw_tbl := lw_at lw_m1 126 rfl
theorem q322 : (Jvm.Cond.interfaceMethod "java/util/List" "java/util/List" "size" "()I") ∈ lw_tbl := lw_at lw_m2 13 rfl
theorem q323 : (Jvm.Cond.declares ({ cls := "java/util/List", name := "size", desc := "()I" } : Jvm.MethodName)) ∈ lw_tbl := lw_at lw_m2 14 rfl
theorem q421 : (Jvm.Cond.interfaceMethod "java/util/List" "java/util/List" "get" "(I)Ljava/lang/Object;") ∈ lw_tbl := lw_at lw_m2 112 rfl
theorem q422 : (Jvm.Cond.declares ({ cls := "java/util/List", name := "get", desc := "(I)Ljava/lang/Object;" } : Jvm.MethodName)) ∈ lw_tbl := lw_at lw_m2 113 rfl
theorem q1520 : (Jvm.Cond.interfaceMethod "java/util/List" "java/util/List" "remove" "(I)Ljava/lang/Object;") ∈ lw_tbl := lw_at lw_m7 11 rfl
theorem q1521 : (Jvm.Cond.declares ({ cls := "java/util/List", name := "remove", desc := "(I)Ljava/lang/Object;" } : Jvm.MethodName)) ∈ lw_tbl := lw_at lw_m7 12 rfl
theorem q167 : (Jvm.Cond.arrayClass Jvm.ClassFile.FieldType.int) ∈ lw_all := lw_g (lw_at lw_m1 98 rfl) rfl
set_option maxRecDepth 100000
theorem q263 : (Jvm.Cond.arrayOver (Jvm.ClassFile.FieldType.object "java/lang/Object")) ∈ lw_tbl := lw_at lw_m1 194 rfl
theorem q948 : (Jvm.Cond.arrayClass Jvm.ClassFile.FieldType.byte) ∈ lw_all := lw_g (lw_at lw_m4 159 rfl) rfl
theorem q1883 : (Jvm.Cond.arrayOver (Jvm.ClassFile.FieldType.array Jvm.ClassFile.FieldType.int)) ∈ lw_tbl := lw_at lw_m8 134 rfl

/-! Rollover$Since -/
set_option maxRecDepth 100000
def RX2 : String := "Rollover$Since"
def TX2 : u_T := fun k => match k with
  | 0 => ("Rollover$Since", "days", "Ljava/util/List;", true)
  | _ => ("Rollover$Since", "values", "Ljava/util/List;", true)
def tyX2 : Nat → FieldType := fun k => match k with
  | 0 => .object "java/util/List"
  | _ => .object "java/util/List"
abbrev wsX20 : List Cond := u_ws RX2 TX2 2
theorem nmX2 : ∀ a, a < 2 → ∀ b, b < 2 → a ≠ b → (TX2 a).2.1 ≠ (TX2 b).2.1 := by decide +kernel
theorem tyX2_ok : ∀ k, k < 2 → parseFieldDescriptor (TX2 k).2.2.1 = some (tyX2 k) := by decide +kernel
abbrev cX2_init : ByteArray := prog_10_method_1_code
def yX2_init : MethodName := ⟨RX2, "<init>", "()V"⟩
def dkwX2_init_1 : List UInt8 := [181, 0, 18, 177]
abbrev dktX2_init_1 : List UInt8 := dkwX2_init_1 ++ []
def dkwX2_init_0 : List UInt8 := [42, 183, 0, 3, 42, 187, 0, 9, 89, 183, 0, 11, 181, 0, 12, 42, 187, 0, 9, 89, 183, 0, 11]
abbrev dktX2_init_0 : List UInt8 := dkwX2_init_0 ++ dktX2_init_1
theorem dksX2_init_0 : cX2_init.data.toList.drop 0 = dktX2_init_0 := by decide +kernel
theorem dksX2_init_1 : cX2_init.data.toList.drop 23 = dktX2_init_1 := dk_seg dksX2_init_0 23 rfl rfl
theorem dX2_init_0 : decode cX2_init 0 = .ok (.aload_n 0, 1) := dk_42 (dk_at dksX2_init_0 0 rfl rfl)
theorem dX2_init_1 : decode cX2_init 1 = .ok (.invokespecial 3, 3) := dk_183 0 3 (dk_at dksX2_init_0 1 rfl rfl)
theorem dX2_init_4 : decode cX2_init 4 = .ok (.aload_n 0, 1) := dk_42 (dk_at dksX2_init_0 4 rfl rfl)
theorem dX2_init_5 : decode cX2_init 5 = .ok (.new 9, 3) := dk_187 0 9 (dk_at dksX2_init_0 5 rfl rfl)
theorem dX2_init_8 : decode cX2_init 8 = .ok (.dup, 1) := dk_89 (dk_at dksX2_init_0 8 rfl rfl)
theorem dX2_init_9 : decode cX2_init 9 = .ok (.invokespecial 11, 3) := dk_183 0 11 (dk_at dksX2_init_0 9 rfl rfl)
theorem dX2_init_12 : decode cX2_init 12 = .ok (.putfield 12, 3) := dk_181 0 12 (dk_at dksX2_init_0 12 rfl rfl)
theorem dX2_init_15 : decode cX2_init 15 = .ok (.aload_n 0, 1) := dk_42 (dk_at dksX2_init_0 15 rfl rfl)
theorem dX2_init_16 : decode cX2_init 16 = .ok (.new 9, 3) := dk_187 0 9 (dk_at dksX2_init_0 16 rfl rfl)
theorem dX2_init_19 : decode cX2_init 19 = .ok (.dup, 1) := dk_89 (dk_at dksX2_init_0 19 rfl rfl)
theorem dX2_init_20 : decode cX2_init 20 = .ok (.invokespecial 11, 3) := dk_183 0 11 (dk_at dksX2_init_0 20 rfl rfl)
theorem dX2_init_23 : decode cX2_init 23 = .ok (.putfield 18, 3) := dk_181 0 18 (dk_at dksX2_init_1 0 rfl rfl)
theorem dX2_init_26 : decode cX2_init 26 = .ok (.return_, 1) := dk_177 (dk_at dksX2_init_1 3 rfl rfl)
abbrev cX2_add : ByteArray := prog_10_method_2_code
def yX2_add : MethodName := ⟨RX2, "add", "(II)V"⟩
def dkwX2_add_1 : List UInt8 := [185, 0, 27, 2, 0, 87, 177]
abbrev dktX2_add_1 : List UInt8 := dkwX2_add_1 ++ []
def dkwX2_add_0 : List UInt8 := [42, 180, 0, 12, 27, 184, 0, 21, 185, 0, 27, 2, 0, 87, 42, 180, 0, 18, 28, 184, 0, 21]
abbrev dktX2_add_0 : List UInt8 := dkwX2_add_0 ++ dktX2_add_1
theorem dksX2_add_0 : cX2_add.data.toList.drop 0 = dktX2_add_0 := by decide +kernel
theorem dksX2_add_1 : cX2_add.data.toList.drop 22 = dktX2_add_1 := dk_seg dksX2_add_0 22 rfl rfl
theorem dX2_add_0 : decode cX2_add 0 = .ok (.aload_n 0, 1) := dk_42 (dk_at dksX2_add_0 0 rfl rfl)
theorem dX2_add_1 : decode cX2_add 1 = .ok (.getfield 12, 3) := dk_180 0 12 (dk_at dksX2_add_0 1 rfl rfl)
theorem dX2_add_4 : decode cX2_add 4 = .ok (.iload_n 1, 1) := dk_27 (dk_at dksX2_add_0 4 rfl rfl)
theorem dX2_add_5 : decode cX2_add 5 = .ok (.invokestatic 21, 3) := dk_184 0 21 (dk_at dksX2_add_0 5 rfl rfl)
theorem dX2_add_8 : decode cX2_add 8 = .ok (.invokeinterface 27 2, 5) := by decide +kernel
theorem dX2_add_13 : decode cX2_add 13 = .ok (.pop, 1) := dk_87 (dk_at dksX2_add_0 13 rfl rfl)
theorem dX2_add_14 : decode cX2_add 14 = .ok (.aload_n 0, 1) := dk_42 (dk_at dksX2_add_0 14 rfl rfl)
theorem dX2_add_15 : decode cX2_add 15 = .ok (.getfield 18, 3) := dk_180 0 18 (dk_at dksX2_add_0 15 rfl rfl)
theorem dX2_add_18 : decode cX2_add 18 = .ok (.iload_n 2, 1) := dk_28 (dk_at dksX2_add_0 18 rfl rfl)
theorem dX2_add_19 : decode cX2_add 19 = .ok (.invokestatic 21, 3) := dk_184 0 21 (dk_at dksX2_add_0 19 rfl rfl)
theorem dX2_add_22 : decode cX2_add 22 = .ok (.invokeinterface 27 2, 5) := by decide +kernel
theorem dX2_add_27 : decode cX2_add 27 = .ok (.pop, 1) := dk_87 (dk_at dksX2_add_1 5 rfl rfl)
theorem dX2_add_28 : decode cX2_add 28 = .ok (.return_, 1) := dk_177 (dk_at dksX2_add_1 6 rfl rfl)
abbrev cX2_on : ByteArray := prog_10_method_3_code
def yX2_on : MethodName := ⟨RX2, "on", "(I)I"⟩
def dkwX2_on_2 : List UInt8 := [185, 0, 37, 2, 0, 192, 0, 22, 182, 0, 41, 167, 0, 4, 28, 61, 132, 3, 1, 167, 255, 199, 28, 172]
abbrev dktX2_on_2 : List UInt8 := dkwX2_on_2 ++ []
def dkwX2_on_1 : List UInt8 := [185, 0, 37, 2, 0, 192, 0, 22, 182, 0, 41, 27, 163, 0, 22, 42, 180, 0, 18, 29]
abbrev dktX2_on_1 : List UInt8 := dkwX2_on_1 ++ dktX2_on_2
def dkwX2_on_0 : List UInt8 := [2, 61, 3, 62, 29, 42, 180, 0, 12, 185, 0, 33, 1, 0, 162, 0, 50, 42, 180, 0, 12, 29]
abbrev dktX2_on_0 : List UInt8 := dkwX2_on_0 ++ dktX2_on_1
theorem dksX2_on_0 : cX2_on.data.toList.drop 0 = dktX2_on_0 := by decide +kernel
theorem dksX2_on_1 : cX2_on.data.toList.drop 22 = dktX2_on_1 := dk_seg dksX2_on_0 22 rfl rfl
theorem dksX2_on_2 : cX2_on.data.toList.drop 42 = dktX2_on_2 := dk_seg dksX2_on_1 20 rfl rfl
theorem dX2_on_0 : decode cX2_on 0 = .ok (.iconst (-1), 1) := dk_2 (dk_at dksX2_on_0 0 rfl rfl)
theorem dX2_on_1 : decode cX2_on 1 = .ok (.istore_n 2, 1) := dk_61 (dk_at dksX2_on_0 1 rfl rfl)
theorem dX2_on_2 : decode cX2_on 2 = .ok (.iconst 0, 1) := dk_3 (dk_at dksX2_on_0 2 rfl rfl)
theorem dX2_on_3 : decode cX2_on 3 = .ok (.istore_n 3, 1) := dk_62 (dk_at dksX2_on_0 3 rfl rfl)
theorem dX2_on_4 : decode cX2_on 4 = .ok (.iload_n 3, 1) := dk_29 (dk_at dksX2_on_0 4 rfl rfl)
theorem dX2_on_5 : decode cX2_on 5 = .ok (.aload_n 0, 1) := dk_42 (dk_at dksX2_on_0 5 rfl rfl)
theorem dX2_on_6 : decode cX2_on 6 = .ok (.getfield 12, 3) := dk_180 0 12 (dk_at dksX2_on_0 6 rfl rfl)
theorem dX2_on_9 : decode cX2_on 9 = .ok (.invokeinterface 33 1, 5) := by decide +kernel
theorem dX2_on_14 : decode cX2_on 14 = .ok (.if_icmp .ge 50, 3) := dk_162 0 50 (dk_at dksX2_on_0 14 rfl rfl)
theorem dX2_on_17 : decode cX2_on 17 = .ok (.aload_n 0, 1) := dk_42 (dk_at dksX2_on_0 17 rfl rfl)
theorem dX2_on_18 : decode cX2_on 18 = .ok (.getfield 12, 3) := dk_180 0 12 (dk_at dksX2_on_0 18 rfl rfl)
theorem dX2_on_21 : decode cX2_on 21 = .ok (.iload_n 3, 1) := dk_29 (dk_at dksX2_on_0 21 rfl rfl)
theorem dX2_on_22 : decode cX2_on 22 = .ok (.invokeinterface 37 2, 5) := by decide +kernel
theorem dX2_on_27 : decode cX2_on 27 = .ok (.checkcast 22, 3) := dk_192 0 22 (dk_at dksX2_on_1 5 rfl rfl)
theorem dX2_on_30 : decode cX2_on 30 = .ok (.invokevirtual 41, 3) := dk_182 0 41 (dk_at dksX2_on_1 8 rfl rfl)
theorem dX2_on_33 : decode cX2_on 33 = .ok (.iload_n 1, 1) := dk_27 (dk_at dksX2_on_1 11 rfl rfl)
theorem dX2_on_34 : decode cX2_on 34 = .ok (.if_icmp .gt 22, 3) := dk_163 0 22 (dk_at dksX2_on_1 12 rfl rfl)
theorem dX2_on_37 : decode cX2_on 37 = .ok (.aload_n 0, 1) := dk_42 (dk_at dksX2_on_1 15 rfl rfl)
theorem dX2_on_38 : decode cX2_on 38 = .ok (.getfield 18, 3) := dk_180 0 18 (dk_at dksX2_on_1 16 rfl rfl)
theorem dX2_on_41 : decode cX2_on 41 = .ok (.iload_n 3, 1) := dk_29 (dk_at dksX2_on_1 19 rfl rfl)
theorem dX2_on_42 : decode cX2_on 42 = .ok (.invokeinterface 37 2, 5) := by decide +kernel
theorem dX2_on_47 : decode cX2_on 47 = .ok (.checkcast 22, 3) := dk_192 0 22 (dk_at dksX2_on_2 5 rfl rfl)
theorem dX2_on_50 : decode cX2_on 50 = .ok (.invokevirtual 41, 3) := dk_182 0 41 (dk_at dksX2_on_2 8 rfl rfl)
theorem dX2_on_53 : decode cX2_on 53 = .ok (.goto 4, 3) := dk_167 0 4 (dk_at dksX2_on_2 11 rfl rfl)
theorem dX2_on_56 : decode cX2_on 56 = .ok (.iload_n 2, 1) := dk_28 (dk_at dksX2_on_2 14 rfl rfl)
theorem dX2_on_57 : decode cX2_on 57 = .ok (.istore_n 2, 1) := dk_61 (dk_at dksX2_on_2 15 rfl rfl)
theorem dX2_on_58 : decode cX2_on 58 = .ok (.iinc 3 1, 3) := dk_132 3 1 (dk_at dksX2_on_2 16 rfl rfl)
theorem dX2_on_61 : decode cX2_on 61 = .ok (.goto (-57), 3) := dk_167 255 199 (dk_at dksX2_on_2 19 rfl rfl)
theorem dX2_on_64 : decode cX2_on 64 = .ok (.iload_n 2, 1) := dk_28 (dk_at dksX2_on_2 22 rfl rfl)
theorem dX2_on_65 : decode cX2_on 65 = .ok (.ireturn, 1) := dk_172 (dk_at dksX2_on_2 23 rfl rfl)
theorem q74 : (Jvm.Cond.initialized "Rollover$Since") ∈ lw_all := lw_g (lw_at lw_m1 5 rfl) rfl
theorem q153 : (Jvm.Cond.instantiable "Rollover$Since" (2 : Nat)) ∈ lw_all := lw_g (lw_at lw_m1 84 rfl) rfl
theorem q155 : (Jvm.Cond.instanceMethod ({ cls := "Rollover$Since", name := "<init>", desc := "()V" } : Jvm.MethodName)) ∈ lw_all := lw_g (lw_at lw_m1 86 rfl) rfl
theorem q156 : (Jvm.Cond.code ({ cls := "Rollover$Since", name := "<init>", desc := "()V" } : Jvm.MethodName) prog_10_method_1_code (1 : Nat) (Option.none : Option Jvm.ClassFile.FieldType)) ∈ lw_all := lw_g (lw_at lw_m1 87 rfl) rfl
theorem q157 : (Jvm.Cond.methodLink "Rollover$Since" (3 : Nat) ({ cls := "java/lang/Object", name := "<init>", desc := "()V" } : Jvm.MethodName)) ∈ lw_all := lw_g (lw_at lw_m1 88 rfl) rfl
theorem q158 : (Jvm.Cond.classLink "Rollover$Since" (9 : Nat) "java/util/ArrayList") ∈ lw_all := lw_g (lw_at lw_m1 89 rfl) rfl
theorem q159 : (Jvm.Cond.methodLink "Rollover$Since" (11 : Nat) ({ cls := "java/util/ArrayList", name := "<init>", desc := "()V" } : Jvm.MethodName)) ∈ lw_all := lw_g (lw_at lw_m1 90 rfl) rfl
theorem q160 : (Jvm.Cond.fieldLink "Rollover$Since" (12 : Nat) "Rollover$Since" "days" "Ljava/util/List;") ∈ lw_all := lw_g (lw_at lw_m1 91 rfl) rfl
theorem q161 : (Jvm.Cond.fieldLink "Rollover$Since" (18 : Nat) "Rollover$Since" "values" "Ljava/util/List;") ∈ lw_all := lw_g (lw_at lw_m1 92 rfl) rfl
theorem q162 : (Jvm.Cond.laysFinal "Rollover$Since" "Rollover$Since" "days" "Ljava/util/List;") ∈ lw_all := lw_g (lw_at lw_m1 93 rfl) rfl
theorem q163 : (Jvm.Cond.soleField "Rollover$Since" "days") ∈ lw_all := lw_g (lw_at lw_m1 94 rfl) rfl
theorem q164 : (Jvm.Cond.laysFinal "Rollover$Since" "Rollover$Since" "values" "Ljava/util/List;") ∈ lw_all := lw_g (lw_at lw_m1 95 rfl) rfl
theorem q165 : (Jvm.Cond.soleField "Rollover$Since" "values") ∈ lw_all := lw_g (lw_at lw_m1 96 rfl) rfl
theorem q166 : (Jvm.Cond.superclass "Rollover$Since" "java/lang/Object") ∈ lw_all := lw_g (lw_at lw_m1 97 rfl) rfl
theorem q169 : (Jvm.Cond.instanceMethod ({ cls := "Rollover$Since", name := "add", desc := "(II)V" } : Jvm.MethodName)) ∈ lw_all := lw_g (lw_at lw_m1 100 rfl) rfl
theorem q170 : (Jvm.Cond.selects "Rollover$Since" ({ cls := "Rollover$Since", name := "add", desc := "(II)V" } : Jvm.MethodName) ({ cls := "Rollover$Since", name := "add", desc := "(II)V" } : Jvm.MethodName)) ∈ lw_all := lw_g (lw_at lw_m1 101 rfl) rfl
theorem q171 : (Jvm.Cond.code ({ cls := "Rollover$Since", name := "add", desc := "(II)V" } : Jvm.MethodName) prog_10_method_2_code (3 : Nat) (Option.none : Option Jvm.ClassFile.FieldType)) ∈ lw_all := lw_g (lw_at lw_m1 102 rfl) rfl
theorem q172 : (Jvm.Cond.methodLink "Rollover$Since" (21 : Nat) ({ cls := "java/lang/Integer", name := "valueOf", desc := "(I)Ljava/lang/Integer;" } : Jvm.MethodName)) ∈ lw_all := lw_g (lw_at lw_m1 103 rfl) rfl
theorem q192 : (Jvm.Cond.interfaceEntry "Rollover$Since" (27 : Nat)) ∈ lw_tbl := lw_at lw_m1 123 rfl
theorem q193 : (Jvm.Cond.methodLink "Rollover$Since" (27 : Nat) ({ cls := "java/util/List", name := "add", desc := "(Ljava/lang/Object;)Z" } : Jvm.MethodName)) ∈ lw_all := lw_g (lw_at lw_m1 124 rfl) rfl
theorem q239 : (Jvm.Cond.selects "Rollover$Since" ({ cls := "java/lang/Object", name := "getClass", desc := "()Ljava/lang/Class;" } : Jvm.MethodName) ({ cls := "java/lang/Object", name := "getClass", desc := "()Ljava/lang/Class;" } : Jvm.MethodName)) ∈ lw_all := lw_g (lw_at lw_m1 170 rfl) rfl
theorem q455 : (Jvm.Cond.instanceMethod ({ cls := "Rollover$Since", name := "on", desc := "(I)I" } : Jvm.MethodName)) ∈ lw_all := lw_g (lw_at lw_m2 146 rfl) rfl
theorem q456 : (Jvm.Cond.selects "Rollover$Since" ({ cls := "Rollover$Since", name := "on", desc := "(I)I" } : Jvm.MethodName) ({ cls := "Rollover$Since", name := "on", desc := "(I)I" } : Jvm.MethodName)) ∈ lw_all := lw_g (lw_at lw_m2 147 rfl) rfl
theorem q457 : (Jvm.Cond.code ({ cls := "Rollover$Since", name := "on", desc := "(I)I" } : Jvm.MethodName) prog_10_method_3_code (4 : Nat) (Option.some Jvm.ClassFile.FieldType.int)) ∈ lw_all := lw_g (lw_at lw_m2 148 rfl) rfl
theorem q458 : (Jvm.Cond.interfaceEntry "Rollover$Since" (33 : Nat)) ∈ lw_tbl := lw_at lw_m2 149 rfl
theorem q459 : (Jvm.Cond.methodLink "Rollover$Since" (33 : Nat) ({ cls := "java/util/List", name := "size", desc := "()I" } : Jvm.MethodName)) ∈ lw_all := lw_g (lw_at lw_m2 150 rfl) rfl
theorem q460 : (Jvm.Cond.interfaceEntry "Rollover$Since" (37 : Nat)) ∈ lw_tbl := lw_at lw_m2 151 rfl
theorem q461 : (Jvm.Cond.methodLink "Rollover$Since" (37 : Nat) ({ cls := "java/util/List", name := "get", desc := "(I)Ljava/lang/Object;" } : Jvm.MethodName)) ∈ lw_all := lw_g (lw_at lw_m2 152 rfl) rfl
theorem q462 : (Jvm.Cond.classLink "Rollover$Since" (22 : Nat) "java/lang/Integer") ∈ lw_all := lw_g (lw_at lw_m2 153 rfl) rfl
theorem q463 : (Jvm.Cond.methodLink "Rollover$Since" (41 : Nat) ({ cls := "java/lang/Integer", name := "intValue", desc := "()I" } : Jvm.MethodName)) ∈ lw_all := lw_g (lw_at lw_m2 154 rfl) rfl
theorem q2098 : (Jvm.Cond.castable "Rollover$Since" "java/lang/Object") ∈ lw_tbl := lw_at lw_m9 109 rfl
theorem in_X2 : ∀ w ∈ wsX20, w ∈ lw_all := lw_in wsX20 [162, 164] (by decide +kernel) (by decide +kernel)
/-! RolloverLaw$Out -/
set_option maxRecDepth 100000
def RX4 : String := "RolloverLaw$Out"
def TX4 : u_T := fun k => match k with
  | 0 => ("RolloverLaw$Out", "n", "J", false)
  | _ => ("RolloverLaw$Out", "s", "Ljava/lang/String;", false)
def tyX4 : Nat → FieldType := fun k => match k with
  | 0 => .long
  | _ => .object "java/lang/String"
abbrev wsX40 : List Cond := u_ws RX4 TX4 2
theorem nmX4 : ∀ a, a < 2 → ∀ b, b < 2 → a ≠ b → (TX4 a).2.1 ≠ (TX4 b).2.1 := by decide +kernel
theorem tyX4_ok : ∀ k, k < 2 → parseFieldDescriptor (TX4 k).2.2.1 = some (tyX4 k) := by decide +kernel
abbrev cX4_init : ByteArray := prog_14_method_1_code
def yX4_init : MethodName := ⟨RX4, "<init>", "()V"⟩
theorem dX4_init_0 : decode cX4_init 0 = .ok (.aload_n 0, 1) := by decide +kernel
theorem dX4_init_1 : decode cX4_init 1 = .ok (.invokespecial 1, 3) := by decide +kernel
theorem dX4_init_4 : decode cX4_init 4 = .ok (.return_, 1) := by decide +kernel
theorem q83 : (Jvm.Cond.initialized "RolloverLaw$Out") ∈ lw_all := lw_g (lw_at lw_m1 14 rfl) rfl
theorem q242 : (Jvm.Cond.selects "RolloverLaw$Out" ({ cls := "java/lang/Object", name := "getClass", desc := "()Ljava/lang/Class;" } : Jvm.MethodName) ({ cls := "java/lang/Object", name := "getClass", desc := "()Ljava/lang/Class;" } : Jvm.MethodName)) ∈ lw_all := lw_g (lw_at lw_m1 173 rfl) rfl
theorem q761 : (Jvm.Cond.instantiable "RolloverLaw$Out" (2 : Nat)) ∈ lw_all := lw_g (lw_at lw_m3 212 rfl) rfl
theorem q763 : (Jvm.Cond.instanceMethod ({ cls := "RolloverLaw$Out", name := "<init>", desc := "()V" } : Jvm.MethodName)) ∈ lw_all := lw_g (lw_at lw_m3 214 rfl) rfl
theorem q764 : (Jvm.Cond.code ({ cls := "RolloverLaw$Out", name := "<init>", desc := "()V" } : Jvm.MethodName) prog_14_method_1_code (1 : Nat) (Option.none : Option Jvm.ClassFile.FieldType)) ∈ lw_all := lw_g (lw_at lw_m3 215 rfl) rfl
theorem q765 : (Jvm.Cond.methodLink "RolloverLaw$Out" (1 : Nat) ({ cls := "java/lang/Object", name := "<init>", desc := "()V" } : Jvm.MethodName)) ∈ lw_all := lw_g (lw_at lw_m3 216 rfl) rfl
theorem q768 : (Jvm.Cond.lays "RolloverLaw$Out" "RolloverLaw$Out" "n" "J") ∈ lw_all := lw_g (lw_at lw_m3 219 rfl) rfl
theorem q769 : (Jvm.Cond.soleField "RolloverLaw$Out" "n") ∈ lw_all := lw_g (lw_at lw_m3 220 rfl) rfl
theorem q770 : (Jvm.Cond.lays "RolloverLaw$Out" "RolloverLaw$Out" "s" "Ljava/lang/String;") ∈ lw_all := lw_g (lw_at lw_m3 221 rfl) rfl
theorem q771 : (Jvm.Cond.soleField "RolloverLaw$Out" "s") ∈ lw_all := lw_g (lw_at lw_m3 222 rfl) rfl
theorem q772 : (Jvm.Cond.superclass "RolloverLaw$Out" "java/lang/Object") ∈ lw_all := lw_g (lw_at lw_m3 223 rfl) rfl
theorem q2101 : (Jvm.Cond.castable "RolloverLaw$Out" "java/lang/Object") ∈ lw_tbl := lw_at lw_m9 112 rfl
theorem in_X4 : ∀ w ∈ wsX40, w ∈ lw_all := lw_in wsX40 [768, 770] (by decide +kernel) (by decide +kernel)
/-! Rollover$Plan -/
set_option maxRecDepth 100000
def RX5 : String := "Rollover$Plan"
def TX5 : u_T := fun k => match k with
  | 0 => ("Rollover$Plan", "fee", "I", true)
  | 1 => ("Rollover$Plan", "grant", "I", true)
  | 2 => ("Rollover$Plan", "price", "I", true)
  | 3 => ("Rollover$Plan", "keep", "I", false)
  | 4 => ("Rollover$Plan", "first", "I", false)
  | 5 => ("Rollover$Plan", "unit", "I", false)
  | 6 => ("Rollover$Plan", "step", "I", false)
  | 7 => ("Rollover$Plan", "later", "I", false)
  | 8 => ("Rollover$Plan", "cap", "I", false)
  | _ => ("Rollover$Plan", "isNight", "Z", false)
def tyX5 : Nat → FieldType := fun k => match k with
  | 0 => .int
  | 1 => .int
  | 2 => .int
  | 3 => .int
  | 4 => .int
  | 5 => .int
  | 6 => .int
  | 7 => .int
  | 8 => .int
  | _ => .boolean
abbrev wsX50 : List Cond := u_ws RX5 TX5 10
theorem nmX5 : ∀ a, a < 10 → ∀ b, b < 10 → a ≠ b → (TX5 a).2.1 ≠ (TX5 b).2.1 := by decide +kernel
theorem tyX5_ok : ∀ k, k < 10 → parseFieldDescriptor (TX5 k).2.2.1 = some (tyX5 k) := by decide +kernel
abbrev cX5_isFreeAt : ByteArray := prog_8_method_4_code
def yX5_isFreeAt : MethodName := ⟨RX5, "isFreeAt", "(I)Z"⟩
def dkwX5_isFreeAt_1 : List UInt8 := [167, 0, 4, 3, 172]
abbrev dktX5_isFreeAt_1 : List UInt8 := dkwX5_isFreeAt_1 ++ []
def dkwX5_isFreeAt_0 : List UInt8 := [42, 180, 0, 42, 153, 0, 21, 27, 17, 5, 40, 162, 0, 10, 27, 17, 1, 104, 162, 0, 7, 4]
abbrev dktX5_isFreeAt_0 : List UInt8 := dkwX5_isFreeAt_0 ++ dktX5_isFreeAt_1
theorem dksX5_isFreeAt_0 : cX5_isFreeAt.data.toList.drop 0 = dktX5_isFreeAt_0 := by decide +kernel
theorem dksX5_isFreeAt_1 : cX5_isFreeAt.data.toList.drop 22 = dktX5_isFreeAt_1 := dk_seg dksX5_isFreeAt_0 22 rfl rfl
theorem dX5_isFreeAt_0 : decode cX5_isFreeAt 0 = .ok (.aload_n 0, 1) := dk_42 (dk_at dksX5_isFreeAt_0 0 rfl rfl)
theorem dX5_isFreeAt_1 : decode cX5_isFreeAt 1 = .ok (.getfield 42, 3) := dk_180 0 42 (dk_at dksX5_isFreeAt_0 1 rfl rfl)
theorem dX5_isFreeAt_4 : decode cX5_isFreeAt 4 = .ok (.ifCond .eq 21, 3) := dk_153 0 21 (dk_at dksX5_isFreeAt_0 4 rfl rfl)
theorem dX5_isFreeAt_7 : decode cX5_isFreeAt 7 = .ok (.iload_n 1, 1) := dk_27 (dk_at dksX5_isFreeAt_0 7 rfl rfl)
theorem dX5_isFreeAt_8 : decode cX5_isFreeAt 8 = .ok (.sipush 1320, 3) := dk_17 5 40 (dk_at dksX5_isFreeAt_0 8 rfl rfl)
theorem dX5_isFreeAt_11 : decode cX5_isFreeAt 11 = .ok (.if_icmp .ge 10, 3) := dk_162 0 10 (dk_at dksX5_isFreeAt_0 11 rfl rfl)
theorem dX5_isFreeAt_14 : decode cX5_isFreeAt 14 = .ok (.iload_n 1, 1) := dk_27 (dk_at dksX5_isFreeAt_0 14 rfl rfl)
theorem dX5_isFreeAt_15 : decode cX5_isFreeAt 15 = .ok (.sipush 360, 3) := dk_17 1 104 (dk_at dksX5_isFreeAt_0 15 rfl rfl)
theorem dX5_isFreeAt_18 : decode cX5_isFreeAt 18 = .ok (.if_icmp .ge 7, 3) := dk_162 0 7 (dk_at dksX5_isFreeAt_0 18 rfl rfl)
theorem dX5_isFreeAt_21 : decode cX5_isFreeAt 21 = .ok (.iconst 1, 1) := dk_4 (dk_at dksX5_isFreeAt_0 21 rfl rfl)
theorem dX5_isFreeAt_22 : decode cX5_isFreeAt 22 = .ok (.goto 4, 3) := dk_167 0 4 (dk_at dksX5_isFreeAt_1 0 rfl rfl)
theorem dX5_isFreeAt_25 : decode cX5_isFreeAt 25 = .ok (.iconst 0, 1) := dk_3 (dk_at dksX5_isFreeAt_1 3 rfl rfl)
theorem dX5_isFreeAt_26 : decode cX5_isFreeAt 26 = .ok (.ireturn, 1) := dk_172 (dk_at dksX5_isFreeAt_1 4 rfl rfl)
abbrev cX5_counted : ByteArray := prog_8_method_2_code
def yX5_counted : MethodName := ⟨RX5, "counted", "(I)I"⟩
def dkwX5_counted_1 : List UInt8 := [100, 42, 180, 0, 15, 184, 0, 30, 42, 180, 0, 15, 104, 96, 172]
abbrev dktX5_counted_1 : List UInt8 := dkwX5_counted_1 ++ []
def dkwX5_counted_0 : List UInt8 := [27, 42, 180, 0, 9, 163, 0, 10, 42, 180, 0, 9, 167, 0, 26, 42, 180, 0, 9, 27, 42, 180, 0, 9]
abbrev dktX5_counted_0 : List UInt8 := dkwX5_counted_0 ++ dktX5_counted_1
theorem dksX5_counted_0 : cX5_counted.data.toList.drop 0 = dktX5_counted_0 := by decide +kernel
theorem dksX5_counted_1 : cX5_counted.data.toList.drop 24 = dktX5_counted_1 := dk_seg dksX5_counted_0 24 rfl rfl
theorem dX5_counted_0 : decode cX5_counted 0 = .ok (.iload_n 1, 1) := dk_27 (dk_at dksX5_counted_0 0 rfl rfl)
theorem dX5_counted_1 : decode cX5_counted 1 = .ok (.aload_n 0, 1) := dk_42 (dk_at dksX5_counted_0 1 rfl rfl)
theorem dX5_counted_2 : decode cX5_counted 2 = .ok (.getfield 9, 3) := dk_180 0 9 (dk_at dksX5_counted_0 2 rfl rfl)
theorem dX5_counted_5 : decode cX5_counted 5 = .ok (.if_icmp .gt 10, 3) := dk_163 0 10 (dk_at dksX5_counted_0 5 rfl rfl)
theorem dX5_counted_8 : decode cX5_counted 8 = .ok (.aload_n 0, 1) := dk_42 (dk_at dksX5_counted_0 8 rfl rfl)
theorem dX5_counted_9 : decode cX5_counted 9 = .ok (.getfield 9, 3) := dk_180 0 9 (dk_at dksX5_counted_0 9 rfl rfl)
theorem dX5_counted_12 : decode cX5_counted 12 = .ok (.goto 26, 3) := dk_167 0 26 (dk_at dksX5_counted_0 12 rfl rfl)
theorem dX5_counted_15 : decode cX5_counted 15 = .ok (.aload_n 0, 1) := dk_42 (dk_at dksX5_counted_0 15 rfl rfl)
theorem dX5_counted_16 : decode cX5_counted 16 = .ok (.getfield 9, 3) := dk_180 0 9 (dk_at dksX5_counted_0 16 rfl rfl)
theorem dX5_counted_19 : decode cX5_counted 19 = .ok (.iload_n 1, 1) := dk_27 (dk_at dksX5_counted_0 19 rfl rfl)
theorem dX5_counted_20 : decode cX5_counted 20 = .ok (.aload_n 0, 1) := dk_42 (dk_at dksX5_counted_0 20 rfl rfl)
theorem dX5_counted_21 : decode cX5_counted 21 = .ok (.getfield 9, 3) := dk_180 0 9 (dk_at dksX5_counted_0 21 rfl rfl)
theorem dX5_counted_24 : decode cX5_counted 24 = .ok (.isub, 1) := dk_100 (dk_at dksX5_counted_1 0 rfl rfl)
theorem dX5_counted_25 : decode cX5_counted 25 = .ok (.aload_n 0, 1) := dk_42 (dk_at dksX5_counted_1 1 rfl rfl)
theorem dX5_counted_26 : decode cX5_counted 26 = .ok (.getfield 15, 3) := dk_180 0 15 (dk_at dksX5_counted_1 2 rfl rfl)
theorem dX5_counted_29 : decode cX5_counted 29 = .ok (.invokestatic 30, 3) := dk_184 0 30 (dk_at dksX5_counted_1 5 rfl rfl)
theorem dX5_counted_32 : decode cX5_counted 32 = .ok (.aload_n 0, 1) := dk_42 (dk_at dksX5_counted_1 8 rfl rfl)
theorem dX5_counted_33 : decode cX5_counted 33 = .ok (.getfield 15, 3) := dk_180 0 15 (dk_at dksX5_counted_1 9 rfl rfl)
theorem dX5_counted_36 : decode cX5_counted 36 = .ok (.imul, 1) := dk_104 (dk_at dksX5_counted_1 12 rfl rfl)
theorem dX5_counted_37 : decode cX5_counted 37 = .ok (.iadd, 1) := dk_96 (dk_at dksX5_counted_1 13 rfl rfl)
theorem dX5_counted_38 : decode cX5_counted 38 = .ok (.ireturn, 1) := dk_172 (dk_at dksX5_counted_1 14 rfl rfl)
abbrev cX5_charge : ByteArray := prog_8_method_3_code
def yX5_charge : MethodName := ⟨RX5, "charge", "(II)I"⟩
def dkwX5_charge_2 : List UInt8 := [29, 21, 4, 100, 42, 180, 0, 27, 104, 96, 172]
abbrev dktX5_charge_2 : List UInt8 := dkwX5_charge_2 ++ []
def dkwX5_charge_1 : List UInt8 := [180, 0, 34, 28, 100, 42, 180, 0, 15, 184, 0, 30, 184, 0, 37, 54, 4, 21, 4, 42, 180, 0, 24, 104]
abbrev dktX5_charge_1 : List UInt8 := dkwX5_charge_1 ++ dktX5_charge_2
def dkwX5_charge_0 : List UInt8 := [27, 42, 180, 0, 15, 184, 0, 30, 62, 28, 42, 180, 0, 34, 161, 0, 7, 3, 167, 0, 20, 29, 42]
abbrev dktX5_charge_0 : List UInt8 := dkwX5_charge_0 ++ dktX5_charge_1
theorem dksX5_charge_0 : cX5_charge.data.toList.drop 0 = dktX5_charge_0 := by decide +kernel
theorem dksX5_charge_1 : cX5_charge.data.toList.drop 23 = dktX5_charge_1 := dk_seg dksX5_charge_0 23 rfl rfl
theorem dksX5_charge_2 : cX5_charge.data.toList.drop 47 = dktX5_charge_2 := dk_seg dksX5_charge_1 24 rfl rfl
theorem dX5_charge_0 : decode cX5_charge 0 = .ok (.iload_n 1, 1) := dk_27 (dk_at dksX5_charge_0 0 rfl rfl)
theorem dX5_charge_1 : decode cX5_charge 1 = .ok (.aload_n 0, 1) := dk_42 (dk_at dksX5_charge_0 1 rfl rfl)
theorem dX5_charge_2 : decode cX5_charge 2 = .ok (.getfield 15, 3) := dk_180 0 15 (dk_at dksX5_charge_0 2 rfl rfl)
theorem dX5_charge_5 : decode cX5_charge 5 = .ok (.invokestatic 30, 3) := dk_184 0 30 (dk_at dksX5_charge_0 5 rfl rfl)
theorem dX5_charge_8 : decode cX5_charge 8 = .ok (.istore_n 3, 1) := dk_62 (dk_at dksX5_charge_0 8 rfl rfl)
theorem dX5_charge_9 : decode cX5_charge 9 = .ok (.iload_n 2, 1) := dk_28 (dk_at dksX5_charge_0 9 rfl rfl)
theorem dX5_charge_10 : decode cX5_charge 10 = .ok (.aload_n 0, 1) := dk_42 (dk_at dksX5_charge_0 10 rfl rfl)
theorem dX5_charge_11 : decode cX5_charge 11 = .ok (.getfield 34, 3) := dk_180 0 34 (dk_at dksX5_charge_0 11 rfl rfl)
theorem dX5_charge_14 : decode cX5_charge 14 = .ok (.if_icmp .lt 7, 3) := dk_161 0 7 (dk_at dksX5_charge_0 14 rfl rfl)
theorem dX5_charge_17 : decode cX5_charge 17 = .ok (.iconst 0, 1) := dk_3 (dk_at dksX5_charge_0 17 rfl rfl)
theorem dX5_charge_18 : decode cX5_charge 18 = .ok (.goto 20, 3) := dk_167 0 20 (dk_at dksX5_charge_0 18 rfl rfl)
theorem dX5_charge_21 : decode cX5_charge 21 = .ok (.iload_n 3, 1) := dk_29 (dk_at dksX5_charge_0 21 rfl rfl)
theorem dX5_charge_22 : decode cX5_charge 22 = .ok (.aload_n 0, 1) := dk_42 (dk_at dksX5_charge_0 22 rfl rfl)
theorem dX5_charge_23 : decode cX5_charge 23 = .ok (.getfield 34, 3) := dk_180 0 34 (dk_at dksX5_charge_1 0 rfl rfl)
theorem dX5_charge_26 : decode cX5_charge 26 = .ok (.iload_n 2, 1) := dk_28 (dk_at dksX5_charge_1 3 rfl rfl)
theorem dX5_charge_27 : decode cX5_charge 27 = .ok (.isub, 1) := dk_100 (dk_at dksX5_charge_1 4 rfl rfl)
theorem dX5_charge_28 : decode cX5_charge 28 = .ok (.aload_n 0, 1) := dk_42 (dk_at dksX5_charge_1 5 rfl rfl)
theorem dX5_charge_29 : decode cX5_charge 29 = .ok (.getfield 15, 3) := dk_180 0 15 (dk_at dksX5_charge_1 6 rfl rfl)
theorem dX5_charge_32 : decode cX5_charge 32 = .ok (.invokestatic 30, 3) := dk_184 0 30 (dk_at dksX5_charge_1 9 rfl rfl)
theorem dX5_charge_35 : decode cX5_charge 35 = .ok (.invokestatic 37, 3) := dk_184 0 37 (dk_at dksX5_charge_1 12 rfl rfl)
theorem dX5_charge_38 : decode cX5_charge 38 = .ok (.istore 4, 2) := dk_54 4 (dk_at dksX5_charge_1 15 rfl rfl)
theorem dX5_charge_40 : decode cX5_charge 40 = .ok (.iload 4, 2) := dk_21 4 (dk_at dksX5_charge_1 17 rfl rfl)
theorem dX5_charge_42 : decode cX5_charge 42 = .ok (.aload_n 0, 1) := dk_42 (dk_at dksX5_charge_1 19 rfl rfl)
theorem dX5_charge_43 : decode cX5_charge 43 = .ok (.getfield 24, 3) := dk_180 0 24 (dk_at dksX5_charge_1 20 rfl rfl)
theorem dX5_charge_46 : decode cX5_charge 46 = .ok (.imul, 1) := dk_104 (dk_at dksX5_charge_1 23 rfl rfl)
theorem dX5_charge_47 : decode cX5_charge 47 = .ok (.iload_n 3, 1) := dk_29 (dk_at dksX5_charge_2 0 rfl rfl)
theorem dX5_charge_48 : decode cX5_charge 48 = .ok (.iload 4, 2) := dk_21 4 (dk_at dksX5_charge_2 1 rfl rfl)
theorem dX5_charge_50 : decode cX5_charge 50 = .ok (.isub, 1) := dk_100 (dk_at dksX5_charge_2 3 rfl rfl)
theorem dX5_charge_51 : decode cX5_charge 51 = .ok (.aload_n 0, 1) := dk_42 (dk_at dksX5_charge_2 4 rfl rfl)
theorem dX5_charge_52 : decode cX5_charge 52 = .ok (.getfield 27, 3) := dk_180 0 27 (dk_at dksX5_charge_2 5 rfl rfl)
theorem dX5_charge_55 : decode cX5_charge 55 = .ok (.imul, 1) := dk_104 (dk_at dksX5_charge_2 8 rfl rfl)
theorem dX5_charge_56 : decode cX5_charge 56 = .ok (.iadd, 1) := dk_96 (dk_at dksX5_charge_2 9 rfl rfl)
theorem dX5_charge_57 : decode cX5_charge 57 = .ok (.ireturn, 1) := dk_172 (dk_at dksX5_charge_2 10 rfl rfl)
abbrev cX5_init : ByteArray := prog_8_method_1_code
def yX5_init : MethodName := ⟨RX5, "<init>", "(III)V"⟩
def dkwX5_init_1 : List UInt8 := [181, 0, 21, 42, 29, 181, 0, 24, 42, 29, 181, 0, 27, 177]
abbrev dktX5_init_1 : List UInt8 := dkwX5_init_1 ++ []
def dkwX5_init_0 : List UInt8 := [42, 183, 0, 3, 42, 16, 60, 181, 0, 9, 42, 16, 60, 181, 0, 15, 42, 27, 181, 0, 18, 42, 28]
abbrev dktX5_init_0 : List UInt8 := dkwX5_init_0 ++ dktX5_init_1
theorem dksX5_init_0 : cX5_init.data.toList.drop 0 = dktX5_init_0 := by decide +kernel
theorem dksX5_init_1 : cX5_init.data.toList.drop 23 = dktX5_init_1 := dk_seg dksX5_init_0 23 rfl rfl
theorem dX5_init_0 : decode cX5_init 0 = .ok (.aload_n 0, 1) := dk_42 (dk_at dksX5_init_0 0 rfl rfl)
theorem dX5_init_1 : decode cX5_init 1 = .ok (.invokespecial 3, 3) := dk_183 0 3 (dk_at dksX5_init_0 1 rfl rfl)
theorem dX5_init_4 : decode cX5_init 4 = .ok (.aload_n 0, 1) := dk_42 (dk_at dksX5_init_0 4 rfl rfl)
theorem dX5_init_5 : decode cX5_init 5 = .ok (.bipush 60, 2) := dk_16 60 (dk_at dksX5_init_0 5 rfl rfl)
theorem dX5_init_7 : decode cX5_init 7 = .ok (.putfield 9, 3) := dk_181 0 9 (dk_at dksX5_init_0 7 rfl rfl)
theorem dX5_init_10 : decode cX5_init 10 = .ok (.aload_n 0, 1) := dk_42 (dk_at dksX5_init_0 10 rfl rfl)
theorem dX5_init_11 : decode cX5_init 11 = .ok (.bipush 60, 2) := dk_16 60 (dk_at dksX5_init_0 11 rfl rfl)
theorem dX5_init_13 : decode cX5_init 13 = .ok (.putfield 15, 3) := dk_181 0 15 (dk_at dksX5_init_0 13 rfl rfl)
theorem dX5_init_16 : decode cX5_init 16 = .ok (.aload_n 0, 1) := dk_42 (dk_at dksX5_init_0 16 rfl rfl)
theorem dX5_init_17 : decode cX5_init 17 = .ok (.iload_n 1, 1) := dk_27 (dk_at dksX5_init_0 17 rfl rfl)
theorem dX5_init_18 : decode cX5_init 18 = .ok (.putfield 18, 3) := dk_181 0 18 (dk_at dksX5_init_0 18 rfl rfl)
theorem dX5_init_21 : decode cX5_init 21 = .ok (.aload_n 0, 1) := dk_42 (dk_at dksX5_init_0 21 rfl rfl)
theorem dX5_init_22 : decode cX5_init 22 = .ok (.iload_n 2, 1) := dk_28 (dk_at dksX5_init_0 22 rfl rfl)
theorem dX5_init_23 : decode cX5_init 23 = .ok (.putfield 21, 3) := dk_181 0 21 (dk_at dksX5_init_1 0 rfl rfl)
theorem dX5_init_26 : decode cX5_init 26 = .ok (.aload_n 0, 1) := dk_42 (dk_at dksX5_init_1 3 rfl rfl)
theorem dX5_init_27 : decode cX5_init 27 = .ok (.iload_n 3, 1) := dk_29 (dk_at dksX5_init_1 4 rfl rfl)
theorem dX5_init_28 : decode cX5_init 28 = .ok (.putfield 24, 3) := dk_181 0 24 (dk_at dksX5_init_1 5 rfl rfl)
theorem dX5_init_31 : decode cX5_init 31 = .ok (.aload_n 0, 1) := dk_42 (dk_at dksX5_init_1 8 rfl rfl)
theorem dX5_init_32 : decode cX5_init 32 = .ok (.iload_n 3, 1) := dk_29 (dk_at dksX5_init_1 9 rfl rfl)
theorem dX5_init_33 : decode cX5_init 33 = .ok (.putfield 27, 3) := dk_181 0 27 (dk_at dksX5_init_1 10 rfl rfl)
theorem dX5_init_36 : decode cX5_init 36 = .ok (.return_, 1) := dk_177 (dk_at dksX5_init_1 13 rfl rfl)
theorem q89 : (Jvm.Cond.initialized "Rollover$Plan") ∈ lw_all := lw_g (lw_at lw_m1 20 rfl) rfl
theorem q237 : (Jvm.Cond.selects "Rollover$Plan" ({ cls := "java/lang/Object", name := "getClass", desc := "()Ljava/lang/Class;" } : Jvm.MethodName) ({ cls := "java/lang/Object", name := "getClass", desc := "()Ljava/lang/Class;" } : Jvm.MethodName)) ∈ lw_all := lw_g (lw_at lw_m1 168 rfl) rfl
theorem q512 : (Jvm.Cond.instanceMethod ({ cls := "Rollover$Plan", name := "isFreeAt", desc := "(I)Z" } : Jvm.MethodName)) ∈ lw_all := lw_g (lw_at lw_m2 203 rfl) rfl
theorem q513 : (Jvm.Cond.selects "Rollover$Plan" ({ cls := "Rollover$Plan", name := "isFreeAt", desc := "(I)Z" } : Jvm.MethodName) ({ cls := "Rollover$Plan", name := "isFreeAt", desc := "(I)Z" } : Jvm.MethodName)) ∈ lw_all := lw_g (lw_at lw_m2 204 rfl) rfl
theorem q514 : (Jvm.Cond.code ({ cls := "Rollover$Plan", name := "isFreeAt", desc := "(I)Z" } : Jvm.MethodName) prog_8_method_4_code (2 : Nat) (Option.some Jvm.ClassFile.FieldType.boolean)) ∈ lw_all := lw_g (lw_at lw_m2 205 rfl) rfl
theorem q516 : (Jvm.Cond.instanceMethod ({ cls := "Rollover$Plan", name := "counted", desc := "(I)I" } : Jvm.MethodName)) ∈ lw_all := lw_g (lw_at lw_m2 207 rfl) rfl
theorem q517 : (Jvm.Cond.selects "Rollover$Plan" ({ cls := "Rollover$Plan", name := "counted", desc := "(I)I" } : Jvm.MethodName) ({ cls := "Rollover$Plan", name := "counted", desc := "(I)I" } : Jvm.MethodName)) ∈ lw_all := lw_g (lw_at lw_m2 208 rfl) rfl
theorem q518 : (Jvm.Cond.code ({ cls := "Rollover$Plan", name := "counted", desc := "(I)I" } : Jvm.MethodName) prog_8_method_2_code (2 : Nat) (Option.some Jvm.ClassFile.FieldType.int)) ∈ lw_all := lw_g (lw_at lw_m2 209 rfl) rfl
theorem q519 : (Jvm.Cond.methodLinkNest "Rollover$Plan" (30 : Nat) ({ cls := "Rollover", name := "up", desc := "(II)I" } : Jvm.MethodName) "Rollover") ∈ lw_tbl := lw_at lw_m2 210 rfl
theorem q570 : (Jvm.Cond.instanceMethod ({ cls := "Rollover$Plan", name := "charge", desc := "(II)I" } : Jvm.MethodName)) ∈ lw_all := lw_g (lw_at lw_m3 21 rfl) rfl
theorem q571 : (Jvm.Cond.selects "Rollover$Plan" ({ cls := "Rollover$Plan", name := "charge", desc := "(II)I" } : Jvm.MethodName) ({ cls := "Rollover$Plan", name := "charge", desc := "(II)I" } : Jvm.MethodName)) ∈ lw_all := lw_g (lw_at lw_m3 22 rfl) rfl
theorem q572 : (Jvm.Cond.code ({ cls := "Rollover$Plan", name := "charge", desc := "(II)I" } : Jvm.MethodName) prog_8_method_3_code (5 : Nat) (Option.some Jvm.ClassFile.FieldType.int)) ∈ lw_all := lw_g (lw_at lw_m3 23 rfl) rfl
theorem q573 : (Jvm.Cond.methodLink "Rollover$Plan" (37 : Nat) ({ cls := "java/lang/Math", name := "min", desc := "(II)I" } : Jvm.MethodName)) ∈ lw_all := lw_g (lw_at lw_m3 24 rfl) rfl
theorem q872 : (Jvm.Cond.instantiable "Rollover$Plan" (10 : Nat)) ∈ lw_all := lw_g (lw_at lw_m4 83 rfl) rfl
theorem q874 : (Jvm.Cond.instanceMethod ({ cls := "Rollover$Plan", name := "<init>", desc := "(III)V" } : Jvm.MethodName)) ∈ lw_all := lw_g (lw_at lw_m4 85 rfl) rfl
theorem q875 : (Jvm.Cond.code ({ cls := "Rollover$Plan", name := "<init>", desc := "(III)V" } : Jvm.MethodName) prog_8_method_1_code (4 : Nat) (Option.none : Option Jvm.ClassFile.FieldType)) ∈ lw_all := lw_g (lw_at lw_m4 86 rfl) rfl
theorem q876 : (Jvm.Cond.methodLink "Rollover$Plan" (3 : Nat) ({ cls := "java/lang/Object", name := "<init>", desc := "()V" } : Jvm.MethodName)) ∈ lw_all := lw_g (lw_at lw_m4 87 rfl) rfl
theorem q877 : (Jvm.Cond.fieldLink "Rollover$Plan" (18 : Nat) "Rollover$Plan" "fee" "I") ∈ lw_all := lw_g (lw_at lw_m4 88 rfl) rfl
theorem q879 : (Jvm.Cond.fieldLink "Rollover$Plan" (21 : Nat) "Rollover$Plan" "grant" "I") ∈ lw_all := lw_g (lw_at lw_m4 90 rfl) rfl
theorem q881 : (Jvm.Cond.fieldLink "Rollover$Plan" (24 : Nat) "Rollover$Plan" "price" "I") ∈ lw_all := lw_g (lw_at lw_m4 92 rfl) rfl
theorem q884 : (Jvm.Cond.fieldLink "Rollover$Plan" (9 : Nat) "Rollover$Plan" "first" "I") ∈ lw_all := lw_g (lw_at lw_m4 95 rfl) rfl
theorem q886 : (Jvm.Cond.fieldLink "Rollover$Plan" (15 : Nat) "Rollover$Plan" "unit" "I") ∈ lw_all := lw_g (lw_at lw_m4 97 rfl) rfl
theorem q888 : (Jvm.Cond.fieldLink "Rollover$Plan" (34 : Nat) "Rollover$Plan" "step" "I") ∈ lw_all := lw_g (lw_at lw_m4 99 rfl) rfl
theorem q890 : (Jvm.Cond.fieldLink "Rollover$Plan" (27 : Nat) "Rollover$Plan" "later" "I") ∈ lw_all := lw_g (lw_at lw_m4 101 rfl) rfl
theorem q894 : (Jvm.Cond.fieldLink "Rollover$Plan" (42 : Nat) "Rollover$Plan" "isNight" "Z") ∈ lw_all := lw_g (lw_at lw_m4 105 rfl) rfl
theorem q896 : (Jvm.Cond.laysFinal "Rollover$Plan" "Rollover$Plan" "fee" "I") ∈ lw_all := lw_g (lw_at lw_m4 107 rfl) rfl
theorem q897 : (Jvm.Cond.soleField "Rollover$Plan" "fee") ∈ lw_all := lw_g (lw_at lw_m4 108 rfl) rfl
theorem q898 : (Jvm.Cond.laysFinal "Rollover$Plan" "Rollover$Plan" "grant" "I") ∈ lw_all := lw_g (lw_at lw_m4 109 rfl) rfl
theorem q899 : (Jvm.Cond.soleField "Rollover$Plan" "grant") ∈ lw_all := lw_g (lw_at lw_m4 110 rfl) rfl
theorem q900 : (Jvm.Cond.laysFinal "Rollover$Plan" "Rollover$Plan" "price" "I") ∈ lw_all := lw_g (lw_at lw_m4 111 rfl) rfl
theorem q901 : (Jvm.Cond.soleField "Rollover$Plan" "price") ∈ lw_all := lw_g (lw_at lw_m4 112 rfl) rfl
theorem q902 : (Jvm.Cond.lays "Rollover$Plan" "Rollover$Plan" "keep" "I") ∈ lw_all := lw_g (lw_at lw_m4 113 rfl) rfl
theorem q903 : (Jvm.Cond.soleField "Rollover$Plan" "keep") ∈ lw_all := lw_g (lw_at lw_m4 114 rfl) rfl
theorem q904 : (Jvm.Cond.lays "Rollover$Plan" "Rollover$Plan" "first" "I") ∈ lw_all := lw_g (lw_at lw_m4 115 rfl) rfl
theorem q905 : (Jvm.Cond.soleField "Rollover$Plan" "first") ∈ lw_all := lw_g (lw_at lw_m4 116 rfl) rfl
theorem q906 : (Jvm.Cond.lays "Rollover$Plan" "Rollover$Plan" "unit" "I") ∈ lw_all := lw_g (lw_at lw_m4 117 rfl) rfl
theorem q907 : (Jvm.Cond.soleField "Rollover$Plan" "unit") ∈ lw_all := lw_g (lw_at lw_m4 118 rfl) rfl
theorem q908 : (Jvm.Cond.lays "Rollover$Plan" "Rollover$Plan" "step" "I") ∈ lw_all := lw_g (lw_at lw_m4 119 rfl) rfl
theorem q909 : (Jvm.Cond.soleField "Rollover$Plan" "step") ∈ lw_all := lw_g (lw_at lw_m4 120 rfl) rfl
theorem q910 : (Jvm.Cond.lays "Rollover$Plan" "Rollover$Plan" "later" "I") ∈ lw_all := lw_g (lw_at lw_m4 121 rfl) rfl
theorem q911 : (Jvm.Cond.soleField "Rollover$Plan" "later") ∈ lw_all := lw_g (lw_at lw_m4 122 rfl) rfl
theorem q912 : (Jvm.Cond.lays "Rollover$Plan" "Rollover$Plan" "cap" "I") ∈ lw_all := lw_g (lw_at lw_m4 123 rfl) rfl
theorem q913 : (Jvm.Cond.soleField "Rollover$Plan" "cap") ∈ lw_all := lw_g (lw_at lw_m4 124 rfl) rfl
theorem q914 : (Jvm.Cond.lays "Rollover$Plan" "Rollover$Plan" "isNight" "Z") ∈ lw_all := lw_g (lw_at lw_m4 125 rfl) rfl
theorem q915 : (Jvm.Cond.soleField "Rollover$Plan" "isNight") ∈ lw_all := lw_g (lw_at lw_m4 126 rfl) rfl
theorem q916 : (Jvm.Cond.superclass "Rollover$Plan" "java/lang/Object") ∈ lw_all := lw_g (lw_at lw_m4 127 rfl) rfl
theorem q2104 : (Jvm.Cond.castable "Rollover$Plan" "java/lang/Object") ∈ lw_tbl := lw_at lw_m9 115 rfl
theorem in_X5 : ∀ w ∈ wsX50, w ∈ lw_all := lw_in wsX50 [896, 898, 900, 902, 904, 906, 908, 910, 912, 914] (by decide +kernel) (by decide +kernel)
/-! RolloverModel$Plan -/
set_option maxRecDepth 100000
def RX6 : String := "RolloverModel$Plan"
def TX6 : u_T := fun k => match k with
  | 0 => ("RolloverModel$Plan", "fee", "I", false)
  | 1 => ("RolloverModel$Plan", "grant", "I", false)
  | 2 => ("RolloverModel$Plan", "price", "I", false)
  | 3 => ("RolloverModel$Plan", "keep", "I", false)
  | 4 => ("RolloverModel$Plan", "first", "I", false)
  | 5 => ("RolloverModel$Plan", "unit", "I", false)
  | 6 => ("RolloverModel$Plan", "isNight", "Z", false)
  | 7 => ("RolloverModel$Plan", "step", "I", false)
  | 8 => ("RolloverModel$Plan", "later", "I", false)
  | _ => ("RolloverModel$Plan", "cap", "I", false)
def tyX6 : Nat → FieldType := fun k => match k with
  | 0 => .int
  | 1 => .int
  | 2 => .int
  | 3 => .int
  | 4 => .int
  | 5 => .int
  | 6 => .boolean
  | 7 => .int
  | 8 => .int
  | _ => .int
abbrev wsX60 : List Cond := u_ws RX6 TX6 10
theorem nmX6 : ∀ a, a < 10 → ∀ b, b < 10 → a ≠ b → (TX6 a).2.1 ≠ (TX6 b).2.1 := by decide +kernel
theorem tyX6_ok : ∀ k, k < 10 → parseFieldDescriptor (TX6 k).2.2.1 = some (tyX6 k) := by decide +kernel
abbrev cX6_init : ByteArray := prog_18_method_1_code
def yX6_init : MethodName := ⟨RX6, "<init>", "()V"⟩
def dkwX6_init_0 : List UInt8 := [42, 183, 0, 1, 42, 16, 60, 181, 0, 7, 42, 16, 60, 181, 0, 13, 177]
abbrev dktX6_init_0 : List UInt8 := dkwX6_init_0 ++ []
theorem dksX6_init_0 : cX6_init.data.toList.drop 0 = dktX6_init_0 := by decide +kernel
theorem dX6_init_0 : decode cX6_init 0 = .ok (.aload_n 0, 1) := dk_42 (dk_at dksX6_init_0 0 rfl rfl)
theorem dX6_init_1 : decode cX6_init 1 = .ok (.invokespecial 1, 3) := dk_183 0 1 (dk_at dksX6_init_0 1 rfl rfl)
theorem dX6_init_4 : decode cX6_init 4 = .ok (.aload_n 0, 1) := dk_42 (dk_at dksX6_init_0 4 rfl rfl)
theorem dX6_init_5 : decode cX6_init 5 = .ok (.bipush 60, 2) := dk_16 60 (dk_at dksX6_init_0 5 rfl rfl)
theorem dX6_init_7 : decode cX6_init 7 = .ok (.putfield 7, 3) := dk_181 0 7 (dk_at dksX6_init_0 7 rfl rfl)
theorem dX6_init_10 : decode cX6_init 10 = .ok (.aload_n 0, 1) := dk_42 (dk_at dksX6_init_0 10 rfl rfl)
theorem dX6_init_11 : decode cX6_init 11 = .ok (.bipush 60, 2) := dk_16 60 (dk_at dksX6_init_0 11 rfl rfl)
theorem dX6_init_13 : decode cX6_init 13 = .ok (.putfield 13, 3) := dk_181 0 13 (dk_at dksX6_init_0 13 rfl rfl)
theorem dX6_init_16 : decode cX6_init 16 = .ok (.return_, 1) := dk_177 (dk_at dksX6_init_0 16 rfl rfl)
abbrev cX6_counted : ByteArray := prog_18_method_2_code
def yX6_counted : MethodName := ⟨RX6, "counted", "(I)I"⟩
def dkwX6_counted_1 : List UInt8 := [100, 42, 180, 0, 13, 96, 4, 100, 42, 180, 0, 13, 108, 42, 180, 0, 13, 104, 96, 172]
abbrev dktX6_counted_1 : List UInt8 := dkwX6_counted_1 ++ []
def dkwX6_counted_0 : List UInt8 := [27, 42, 180, 0, 7, 163, 0, 10, 42, 180, 0, 7, 167, 0, 31, 42, 180, 0, 7, 27, 42, 180, 0, 7]
abbrev dktX6_counted_0 : List UInt8 := dkwX6_counted_0 ++ dktX6_counted_1
theorem dksX6_counted_0 : cX6_counted.data.toList.drop 0 = dktX6_counted_0 := by decide +kernel
theorem dksX6_counted_1 : cX6_counted.data.toList.drop 24 = dktX6_counted_1 := dk_seg dksX6_counted_0 24 rfl rfl
theorem dX6_counted_0 : decode cX6_counted 0 = .ok (.iload_n 1, 1) := dk_27 (dk_at dksX6_counted_0 0 rfl rfl)
theorem dX6_counted_1 : decode cX6_counted 1 = .ok (.aload_n 0, 1) := dk_42 (dk_at dksX6_counted_0 1 rfl rfl)
theorem dX6_counted_2 : decode cX6_counted 2 = .ok (.getfield 7, 3) := dk_180 0 7 (dk_at dksX6_counted_0 2 rfl rfl)
theorem dX6_counted_5 : decode cX6_counted 5 = .ok (.if_icmp .gt 10, 3) := dk_163 0 10 (dk_at dksX6_counted_0 5 rfl rfl)
theorem dX6_counted_8 : decode cX6_counted 8 = .ok (.aload_n 0, 1) := dk_42 (dk_at dksX6_counted_0 8 rfl rfl)
theorem dX6_counted_9 : decode cX6_counted 9 = .ok (.getfield 7, 3) := dk_180 0 7 (dk_at dksX6_counted_0 9 rfl rfl)
theorem dX6_counted_12 : decode cX6_counted 12 = .ok (.goto 31, 3) := dk_167 0 31 (dk_at dksX6_counted_0 12 rfl rfl)
theorem dX6_counted_15 : decode cX6_counted 15 = .ok (.aload_n 0, 1) := dk_42 (dk_at dksX6_counted_0 15 rfl rfl)
theorem dX6_counted_16 : decode cX6_counted 16 = .ok (.getfield 7, 3) := dk_180 0 7 (dk_at dksX6_counted_0 16 rfl rfl)
theorem dX6_counted_19 : decode cX6_counted 19 = .ok (.iload_n 1, 1) := dk_27 (dk_at dksX6_counted_0 19 rfl rfl)
theorem dX6_counted_20 : decode cX6_counted 20 = .ok (.aload_n 0, 1) := dk_42 (dk_at dksX6_counted_0 20 rfl rfl)
theorem dX6_counted_21 : decode cX6_counted 21 = .ok (.getfield 7, 3) := dk_180 0 7 (dk_at dksX6_counted_0 21 rfl rfl)
theorem dX6_counted_24 : decode cX6_counted 24 = .ok (.isub, 1) := dk_100 (dk_at dksX6_counted_1 0 rfl rfl)
theorem dX6_counted_25 : decode cX6_counted 25 = .ok (.aload_n 0, 1) := dk_42 (dk_at dksX6_counted_1 1 rfl rfl)
theorem dX6_counted_26 : decode cX6_counted 26 = .ok (.getfield 13, 3) := dk_180 0 13 (dk_at dksX6_counted_1 2 rfl rfl)
theorem dX6_counted_29 : decode cX6_counted 29 = .ok (.iadd, 1) := dk_96 (dk_at dksX6_counted_1 5 rfl rfl)
theorem dX6_counted_30 : decode cX6_counted 30 = .ok (.iconst 1, 1) := dk_4 (dk_at dksX6_counted_1 6 rfl rfl)
theorem dX6_counted_31 : decode cX6_counted 31 = .ok (.isub, 1) := dk_100 (dk_at dksX6_counted_1 7 rfl rfl)
theorem dX6_counted_32 : decode cX6_counted 32 = .ok (.aload_n 0, 1) := dk_42 (dk_at dksX6_counted_1 8 rfl rfl)
theorem dX6_counted_33 : decode cX6_counted 33 = .ok (.getfield 13, 3) := dk_180 0 13 (dk_at dksX6_counted_1 9 rfl rfl)
theorem dX6_counted_36 : decode cX6_counted 36 = .ok (.idiv, 1) := dk_108 (dk_at dksX6_counted_1 12 rfl rfl)
theorem dX6_counted_37 : decode cX6_counted 37 = .ok (.aload_n 0, 1) := dk_42 (dk_at dksX6_counted_1 13 rfl rfl)
theorem dX6_counted_38 : decode cX6_counted 38 = .ok (.getfield 13, 3) := dk_180 0 13 (dk_at dksX6_counted_1 14 rfl rfl)
theorem dX6_counted_41 : decode cX6_counted 41 = .ok (.imul, 1) := dk_104 (dk_at dksX6_counted_1 17 rfl rfl)
theorem dX6_counted_42 : decode cX6_counted 42 = .ok (.iadd, 1) := dk_96 (dk_at dksX6_counted_1 18 rfl rfl)
theorem dX6_counted_43 : decode cX6_counted 43 = .ok (.ireturn, 1) := dk_172 (dk_at dksX6_counted_1 19 rfl rfl)
abbrev cX6_priced : ByteArray := prog_18_method_3_code
def yX6_priced : MethodName := ⟨RX6, "priced", "(II)I"⟩
def dkwX6_priced_2 : List UInt8 := [184, 0, 19, 54, 4, 21, 4, 42, 180, 0, 25, 104, 29, 21, 4, 100, 42, 180, 0, 28, 104, 96, 172]
abbrev dktX6_priced_2 : List UInt8 := dkwX6_priced_2 ++ []
def dkwX6_priced_1 : List UInt8 := [167, 0, 25, 29, 42, 180, 0, 16, 27, 100, 42, 180, 0, 13, 96, 4, 100, 42, 180, 0, 13, 108]
abbrev dktX6_priced_1 : List UInt8 := dkwX6_priced_1 ++ dktX6_priced_2
def dkwX6_priced_0 : List UInt8 := [28, 42, 180, 0, 13, 96, 4, 100, 42, 180, 0, 13, 108, 62, 27, 42, 180, 0, 16, 161, 0, 7, 3]
abbrev dktX6_priced_0 : List UInt8 := dkwX6_priced_0 ++ dktX6_priced_1
theorem dksX6_priced_0 : cX6_priced.data.toList.drop 0 = dktX6_priced_0 := by decide +kernel
theorem dksX6_priced_1 : cX6_priced.data.toList.drop 23 = dktX6_priced_1 := dk_seg dksX6_priced_0 23 rfl rfl
theorem dksX6_priced_2 : cX6_priced.data.toList.drop 45 = dktX6_priced_2 := dk_seg dksX6_priced_1 22 rfl rfl
theorem dX6_priced_0 : decode cX6_priced 0 = .ok (.iload_n 2, 1) := dk_28 (dk_at dksX6_priced_0 0 rfl rfl)
theorem dX6_priced_1 : decode cX6_priced 1 = .ok (.aload_n 0, 1) := dk_42 (dk_at dksX6_priced_0 1 rfl rfl)
theorem dX6_priced_2 : decode cX6_priced 2 = .ok (.getfield 13, 3) := dk_180 0 13 (dk_at dksX6_priced_0 2 rfl rfl)
theorem dX6_priced_5 : decode cX6_priced 5 = .ok (.iadd, 1) := dk_96 (dk_at dksX6_priced_0 5 rfl rfl)
theorem dX6_priced_6 : decode cX6_priced 6 = .ok (.iconst 1, 1) := dk_4 (dk_at dksX6_priced_0 6 rfl rfl)
theorem dX6_priced_7 : decode cX6_priced 7 = .ok (.isub, 1) := dk_100 (dk_at dksX6_priced_0 7 rfl rfl)
theorem dX6_priced_8 : decode cX6_priced 8 = .ok (.aload_n 0, 1) := dk_42 (dk_at dksX6_priced_0 8 rfl rfl)
theorem dX6_priced_9 : decode cX6_priced 9 = .ok (.getfield 13, 3) := dk_180 0 13 (dk_at dksX6_priced_0 9 rfl rfl)
theorem dX6_priced_12 : decode cX6_priced 12 = .ok (.idiv, 1) := dk_108 (dk_at dksX6_priced_0 12 rfl rfl)
theorem dX6_priced_13 : decode cX6_priced 13 = .ok (.istore_n 3, 1) := dk_62 (dk_at dksX6_priced_0 13 rfl rfl)
theorem dX6_priced_14 : decode cX6_priced 14 = .ok (.iload_n 1, 1) := dk_27 (dk_at dksX6_priced_0 14 rfl rfl)
theorem dX6_priced_15 : decode cX6_priced 15 = .ok (.aload_n 0, 1) := dk_42 (dk_at dksX6_priced_0 15 rfl rfl)
theorem dX6_priced_16 : decode cX6_priced 16 = .ok (.getfield 16, 3) := dk_180 0 16 (dk_at dksX6_priced_0 16 rfl rfl)
theorem dX6_priced_19 : decode cX6_priced 19 = .ok (.if_icmp .lt 7, 3) := dk_161 0 7 (dk_at dksX6_priced_0 19 rfl rfl)
theorem dX6_priced_22 : decode cX6_priced 22 = .ok (.iconst 0, 1) := dk_3 (dk_at dksX6_priced_0 22 rfl rfl)
theorem dX6_priced_23 : decode cX6_priced 23 = .ok (.goto 25, 3) := dk_167 0 25 (dk_at dksX6_priced_1 0 rfl rfl)
theorem dX6_priced_26 : decode cX6_priced 26 = .ok (.iload_n 3, 1) := dk_29 (dk_at dksX6_priced_1 3 rfl rfl)
theorem dX6_priced_27 : decode cX6_priced 27 = .ok (.aload_n 0, 1) := dk_42 (dk_at dksX6_priced_1 4 rfl rfl)
theorem dX6_priced_28 : decode cX6_priced 28 = .ok (.getfield 16, 3) := dk_180 0 16 (dk_at dksX6_priced_1 5 rfl rfl)
theorem dX6_priced_31 : decode cX6_priced 31 = .ok (.iload_n 1, 1) := dk_27 (dk_at dksX6_priced_1 8 rfl rfl)
theorem dX6_priced_32 : decode cX6_priced 32 = .ok (.isub, 1) := dk_100 (dk_at dksX6_priced_1 9 rfl rfl)
theorem dX6_priced_33 : decode cX6_priced 33 = .ok (.aload_n 0, 1) := dk_42 (dk_at dksX6_priced_1 10 rfl rfl)
theorem dX6_priced_34 : decode cX6_priced 34 = .ok (.getfield 13, 3) := dk_180 0 13 (dk_at dksX6_priced_1 11 rfl rfl)
theorem dX6_priced_37 : decode cX6_priced 37 = .ok (.iadd, 1) := dk_96 (dk_at dksX6_priced_1 14 rfl rfl)
theorem dX6_priced_38 : decode cX6_priced 38 = .ok (.iconst 1, 1) := dk_4 (dk_at dksX6_priced_1 15 rfl rfl)
theorem dX6_priced_39 : decode cX6_priced 39 = .ok (.isub, 1) := dk_100 (dk_at dksX6_priced_1 16 rfl rfl)
theorem dX6_priced_40 : decode cX6_priced 40 = .ok (.aload_n 0, 1) := dk_42 (dk_at dksX6_priced_1 17 rfl rfl)
theorem dX6_priced_41 : decode cX6_priced 41 = .ok (.getfield 13, 3) := dk_180 0 13 (dk_at dksX6_priced_1 18 rfl rfl)
theorem dX6_priced_44 : decode cX6_priced 44 = .ok (.idiv, 1) := dk_108 (dk_at dksX6_priced_1 21 rfl rfl)
theorem dX6_priced_45 : decode cX6_priced 45 = .ok (.invokestatic 19, 3) := dk_184 0 19 (dk_at dksX6_priced_2 0 rfl rfl)
theorem dX6_priced_48 : decode cX6_priced 48 = .ok (.istore 4, 2) := dk_54 4 (dk_at dksX6_priced_2 3 rfl rfl)
theorem dX6_priced_50 : decode cX6_priced 50 = .ok (.iload 4, 2) := dk_21 4 (dk_at dksX6_priced_2 5 rfl rfl)
theorem dX6_priced_52 : decode cX6_priced 52 = .ok (.aload_n 0, 1) := dk_42 (dk_at dksX6_priced_2 7 rfl rfl)
theorem dX6_priced_53 : decode cX6_priced 53 = .ok (.getfield 25, 3) := dk_180 0 25 (dk_at dksX6_priced_2 8 rfl rfl)
theorem dX6_priced_56 : decode cX6_priced 56 = .ok (.imul, 1) := dk_104 (dk_at dksX6_priced_2 11 rfl rfl)
theorem dX6_priced_57 : decode cX6_priced 57 = .ok (.iload_n 3, 1) := dk_29 (dk_at dksX6_priced_2 12 rfl rfl)
theorem dX6_priced_58 : decode cX6_priced 58 = .ok (.iload 4, 2) := dk_21 4 (dk_at dksX6_priced_2 13 rfl rfl)
theorem dX6_priced_60 : decode cX6_priced 60 = .ok (.isub, 1) := dk_100 (dk_at dksX6_priced_2 15 rfl rfl)
theorem dX6_priced_61 : decode cX6_priced 61 = .ok (.aload_n 0, 1) := dk_42 (dk_at dksX6_priced_2 16 rfl rfl)
theorem dX6_priced_62 : decode cX6_priced 62 = .ok (.getfield 28, 3) := dk_180 0 28 (dk_at dksX6_priced_2 17 rfl rfl)
theorem dX6_priced_65 : decode cX6_priced 65 = .ok (.imul, 1) := dk_104 (dk_at dksX6_priced_2 20 rfl rfl)
theorem dX6_priced_66 : decode cX6_priced 66 = .ok (.iadd, 1) := dk_96 (dk_at dksX6_priced_2 21 rfl rfl)
theorem dX6_priced_67 : decode cX6_priced 67 = .ok (.ireturn, 1) := dk_172 (dk_at dksX6_priced_2 22 rfl rfl)
theorem q90 : (Jvm.Cond.initialized "RolloverModel$Plan") ∈ lw_all := lw_g (lw_at lw_m1 21 rfl) rfl
theorem q246 : (Jvm.Cond.selects "RolloverModel$Plan" ({ cls := "java/lang/Object", name := "getClass", desc := "()Ljava/lang/Class;" } : Jvm.MethodName) ({ cls := "java/lang/Object", name := "getClass", desc := "()Ljava/lang/Class;" } : Jvm.MethodName)) ∈ lw_all := lw_g (lw_at lw_m1 177 rfl) rfl
theorem q1589 : (Jvm.Cond.instantiable "RolloverModel$Plan" (10 : Nat)) ∈ lw_all := lw_g (lw_at lw_m7 80 rfl) rfl
theorem q1591 : (Jvm.Cond.instanceMethod ({ cls := "RolloverModel$Plan", name := "<init>", desc := "()V" } : Jvm.MethodName)) ∈ lw_all := lw_g (lw_at lw_m7 82 rfl) rfl
theorem q1592 : (Jvm.Cond.code ({ cls := "RolloverModel$Plan", name := "<init>", desc := "()V" } : Jvm.MethodName) prog_18_method_1_code (1 : Nat) (Option.none : Option Jvm.ClassFile.FieldType)) ∈ lw_all := lw_g (lw_at lw_m7 83 rfl) rfl
theorem q1593 : (Jvm.Cond.methodLink "RolloverModel$Plan" (1 : Nat) ({ cls := "java/lang/Object", name := "<init>", desc := "()V" } : Jvm.MethodName)) ∈ lw_all := lw_g (lw_at lw_m7 84 rfl) rfl
theorem q1596 : (Jvm.Cond.fieldLink "RolloverModel$Plan" (25 : Nat) "RolloverModel$Plan" "price" "I") ∈ lw_all := lw_g (lw_at lw_m7 87 rfl) rfl
theorem q1599 : (Jvm.Cond.fieldLink "RolloverModel$Plan" (7 : Nat) "RolloverModel$Plan" "first" "I") ∈ lw_all := lw_g (lw_at lw_m7 90 rfl) rfl
theorem q1601 : (Jvm.Cond.fieldLink "RolloverModel$Plan" (13 : Nat) "RolloverModel$Plan" "unit" "I") ∈ lw_all := lw_g (lw_at lw_m7 92 rfl) rfl
theorem q1604 : (Jvm.Cond.fieldLink "RolloverModel$Plan" (16 : Nat) "RolloverModel$Plan" "step" "I") ∈ lw_all := lw_g (lw_at lw_m7 95 rfl) rfl
theorem q1606 : (Jvm.Cond.fieldLink "RolloverModel$Plan" (28 : Nat) "RolloverModel$Plan" "later" "I") ∈ lw_all := lw_g (lw_at lw_m7 97 rfl) rfl
theorem q1609 : (Jvm.Cond.lays "RolloverModel$Plan" "RolloverModel$Plan" "fee" "I") ∈ lw_all := lw_g (lw_at lw_m7 100 rfl) rfl
theorem q1610 : (Jvm.Cond.soleField "RolloverModel$Plan" "fee") ∈ lw_all := lw_g (lw_at lw_m7 101 rfl) rfl
theorem q1611 : (Jvm.Cond.lays "RolloverModel$Plan" "RolloverModel$Plan" "grant" "I") ∈ lw_all := lw_g (lw_at lw_m7 102 rfl) rfl
theorem q1612 : (Jvm.Cond.soleField "RolloverModel$Plan" "grant") ∈ lw_all := lw_g (lw_at lw_m7 103 rfl) rfl
theorem q1613 : (Jvm.Cond.lays "RolloverModel$Plan" "RolloverModel$Plan" "price" "I") ∈ lw_all := lw_g (lw_at lw_m7 104 rfl) rfl
theorem q1614 : (Jvm.Cond.soleField "RolloverModel$Plan" "price") ∈ lw_all := lw_g (lw_at lw_m7 105 rfl) rfl
theorem q1615 : (Jvm.Cond.lays "RolloverModel$Plan" "RolloverModel$Plan" "keep" "I") ∈ lw_all := lw_g (lw_at lw_m7 106 rfl) rfl
theorem q1616 : (Jvm.Cond.soleField "RolloverModel$Plan" "keep") ∈ lw_all := lw_g (lw_at lw_m7 107 rfl) rfl
theorem q1617 : (Jvm.Cond.lays "RolloverModel$Plan" "RolloverModel$Plan" "first" "I") ∈ lw_all := lw_g (lw_at lw_m7 108 rfl) rfl
theorem q1618 : (Jvm.Cond.soleField "RolloverModel$Plan" "first") ∈ lw_all := lw_g (lw_at lw_m7 109 rfl) rfl
theorem q1619 : (Jvm.Cond.lays "RolloverModel$Plan" "RolloverModel$Plan" "unit" "I") ∈ lw_all := lw_g (lw_at lw_m7 110 rfl) rfl
theorem q1620 : (Jvm.Cond.soleField "RolloverModel$Plan" "unit") ∈ lw_all := lw_g (lw_at lw_m7 111 rfl) rfl
theorem q1621 : (Jvm.Cond.lays "RolloverModel$Plan" "RolloverModel$Plan" "isNight" "Z") ∈ lw_all := lw_g (lw_at lw_m7 112 rfl) rfl
theorem q1622 : (Jvm.Cond.soleField "RolloverModel$Plan" "isNight") ∈ lw_all := lw_g (lw_at lw_m7 113 rfl) rfl
theorem q1623 : (Jvm.Cond.lays "RolloverModel$Plan" "RolloverModel$Plan" "step" "I") ∈ lw_all := lw_g (lw_at lw_m7 114 rfl) rfl
theorem q1624 : (Jvm.Cond.soleField "RolloverModel$Plan" "step") ∈ lw_all := lw_g (lw_at lw_m7 115 rfl) rfl
theorem q1625 : (Jvm.Cond.lays "RolloverModel$Plan" "RolloverModel$Plan" "later" "I") ∈ lw_all := lw_g (lw_at lw_m7 116 rfl) rfl
theorem q1626 : (Jvm.Cond.soleField "RolloverModel$Plan" "later") ∈ lw_all := lw_g (lw_at lw_m7 117 rfl) rfl
theorem q1627 : (Jvm.Cond.lays "RolloverModel$Plan" "RolloverModel$Plan" "cap" "I") ∈ lw_all := lw_g (lw_at lw_m7 118 rfl) rfl
theorem q1628 : (Jvm.Cond.soleField "RolloverModel$Plan" "cap") ∈ lw_all := lw_g (lw_at lw_m7 119 rfl) rfl
theorem q1629 : (Jvm.Cond.superclass "RolloverModel$Plan" "java/lang/Object") ∈ lw_all := lw_g (lw_at lw_m7 120 rfl) rfl
theorem q1918 : (Jvm.Cond.instanceMethod ({ cls := "RolloverModel$Plan", name := "counted", desc := "(I)I" } : Jvm.MethodName)) ∈ lw_all := lw_g (lw_at lw_m8 169 rfl) rfl
theorem q1919 : (Jvm.Cond.selects "RolloverModel$Plan" ({ cls := "RolloverModel$Plan", name := "counted", desc := "(I)I" } : Jvm.MethodName) ({ cls := "RolloverModel$Plan", name := "counted", desc := "(I)I" } : Jvm.MethodName)) ∈ lw_all := lw_g (lw_at lw_m8 170 rfl) rfl
theorem q1920 : (Jvm.Cond.code ({ cls := "RolloverModel$Plan", name := "counted", desc := "(I)I" } : Jvm.MethodName) prog_18_method_2_code (2 : Nat) (Option.some Jvm.ClassFile.FieldType.int)) ∈ lw_all := lw_g (lw_at lw_m8 171 rfl) rfl
theorem q1934 : (Jvm.Cond.instanceMethod ({ cls := "RolloverModel$Plan", name := "priced", desc := "(II)I" } : Jvm.MethodName)) ∈ lw_all := lw_g (lw_at lw_m8 185 rfl) rfl
theorem q1935 : (Jvm.Cond.selects "RolloverModel$Plan" ({ cls := "RolloverModel$Plan", name := "priced", desc := "(II)I" } : Jvm.MethodName) ({ cls := "RolloverModel$Plan", name := "priced", desc := "(II)I" } : Jvm.MethodName)) ∈ lw_all := lw_g (lw_at lw_m8 186 rfl) rfl
theorem q1936 : (Jvm.Cond.code ({ cls := "RolloverModel$Plan", name := "priced", desc := "(II)I" } : Jvm.MethodName) prog_18_method_3_code (5 : Nat) (Option.some Jvm.ClassFile.FieldType.int)) ∈ lw_all := lw_g (lw_at lw_m8 187 rfl) rfl
theorem q1937 : (Jvm.Cond.methodLink "RolloverModel$Plan" (19 : Nat) ({ cls := "java/lang/Math", name := "min", desc := "(II)I" } : Jvm.MethodName)) ∈ lw_all := lw_g (lw_at lw_m8 188 rfl) rfl
theorem q2105 : (Jvm.Cond.castable "RolloverModel$Plan" "java/lang/Object") ∈ lw_tbl := lw_at lw_m9 116 rfl
theorem in_X6 : ∀ w ∈ wsX60, w ∈ lw_all := lw_in wsX60 [1609, 1611, 1613, 1615, 1617, 1619, 1621, 1623, 1625, 1627] (by decide +kernel) (by decide +kernel)
/-! Rollover$Customer -/
set_option maxRecDepth 100000
def RX7 : String := "Rollover$Customer"
def TX7 : u_T := fun k => match k with
  | 0 => ("Rollover$Customer", "joined", "I", true)
  | 1 => ("Rollover$Customer", "plans", "LRollover$Since;", true)
  | 2 => ("Rollover$Customer", "circle", "I", false)
  | 3 => ("Rollover$Customer", "parent", "I", false)
  | _ => ("Rollover$Customer", "limit", "I", false)
def tyX7 : Nat → FieldType := fun k => match k with
  | 0 => .int
  | 1 => .object "Rollover$Since"
  | 2 => .int
  | 3 => .int
  | _ => .int
abbrev wsX70 : List Cond := u_ws RX7 TX7 5
theorem nmX7 : ∀ a, a < 5 → ∀ b, b < 5 → a ≠ b → (TX7 a).2.1 ≠ (TX7 b).2.1 := by decide +kernel
theorem tyX7_ok : ∀ k, k < 5 → parseFieldDescriptor (TX7 k).2.2.1 = some (tyX7 k) := by decide +kernel
abbrev cX7_isIn : ByteArray := prog_5_method_2_code
def yX7_isIn : MethodName := ⟨RX7, "isIn", "(I)Z"⟩
def dkwX7_isIn_0 : List UInt8 := [42, 180, 0, 22, 16, 30, 108, 27, 163, 0, 7, 4, 167, 0, 4, 3, 172]
abbrev dktX7_isIn_0 : List UInt8 := dkwX7_isIn_0 ++ []
theorem dksX7_isIn_0 : cX7_isIn.data.toList.drop 0 = dktX7_isIn_0 := by decide +kernel
theorem dX7_isIn_0 : decode cX7_isIn 0 = .ok (.aload_n 0, 1) := dk_42 (dk_at dksX7_isIn_0 0 rfl rfl)
theorem dX7_isIn_1 : decode cX7_isIn 1 = .ok (.getfield 22, 3) := dk_180 0 22 (dk_at dksX7_isIn_0 1 rfl rfl)
theorem dX7_isIn_4 : decode cX7_isIn 4 = .ok (.bipush 30, 2) := dk_16 30 (dk_at dksX7_isIn_0 4 rfl rfl)
theorem dX7_isIn_6 : decode cX7_isIn 6 = .ok (.idiv, 1) := dk_108 (dk_at dksX7_isIn_0 6 rfl rfl)
theorem dX7_isIn_7 : decode cX7_isIn 7 = .ok (.iload_n 1, 1) := dk_27 (dk_at dksX7_isIn_0 7 rfl rfl)
theorem dX7_isIn_8 : decode cX7_isIn 8 = .ok (.if_icmp .gt 7, 3) := dk_163 0 7 (dk_at dksX7_isIn_0 8 rfl rfl)
theorem dX7_isIn_11 : decode cX7_isIn 11 = .ok (.iconst 1, 1) := dk_4 (dk_at dksX7_isIn_0 11 rfl rfl)
theorem dX7_isIn_12 : decode cX7_isIn 12 = .ok (.goto 4, 3) := dk_167 0 4 (dk_at dksX7_isIn_0 12 rfl rfl)
theorem dX7_isIn_15 : decode cX7_isIn 15 = .ok (.iconst 0, 1) := dk_3 (dk_at dksX7_isIn_0 15 rfl rfl)
theorem dX7_isIn_16 : decode cX7_isIn 16 = .ok (.ireturn, 1) := dk_172 (dk_at dksX7_isIn_0 16 rfl rfl)
abbrev cX7_init : ByteArray := prog_5_method_1_code
def yX7_init : MethodName := ⟨RX7, "<init>", "(II)V"⟩
def dkwX7_init_1 : List UInt8 := [181, 0, 22, 42, 180, 0, 12, 27, 28, 182, 0, 25, 177]
abbrev dktX7_init_1 : List UInt8 := dkwX7_init_1 ++ []
def dkwX7_init_0 : List UInt8 := [42, 183, 0, 3, 42, 187, 0, 9, 89, 183, 0, 11, 181, 0, 12, 42, 2, 181, 0, 18, 42, 27]
abbrev dktX7_init_0 : List UInt8 := dkwX7_init_0 ++ dktX7_init_1
theorem dksX7_init_0 : cX7_init.data.toList.drop 0 = dktX7_init_0 := by decide +kernel
theorem dksX7_init_1 : cX7_init.data.toList.drop 22 = dktX7_init_1 := dk_seg dksX7_init_0 22 rfl rfl
theorem dX7_init_0 : decode cX7_init 0 = .ok (.aload_n 0, 1) := dk_42 (dk_at dksX7_init_0 0 rfl rfl)
theorem dX7_init_1 : decode cX7_init 1 = .ok (.invokespecial 3, 3) := dk_183 0 3 (dk_at dksX7_init_0 1 rfl rfl)
theorem dX7_init_4 : decode cX7_init 4 = .ok (.aload_n 0, 1) := dk_42 (dk_at dksX7_init_0 4 rfl rfl)
theorem dX7_init_5 : decode cX7_init 5 = .ok (.new 9, 3) := dk_187 0 9 (dk_at dksX7_init_0 5 rfl rfl)
theorem dX7_init_8 : decode cX7_init 8 = .ok (.dup, 1) := dk_89 (dk_at dksX7_init_0 8 rfl rfl)
theorem dX7_init_9 : decode cX7_init 9 = .ok (.invokespecial 11, 3) := dk_183 0 11 (dk_at dksX7_init_0 9 rfl rfl)
theorem dX7_init_12 : decode cX7_init 12 = .ok (.putfield 12, 3) := dk_181 0 12 (dk_at dksX7_init_0 12 rfl rfl)
theorem dX7_init_15 : decode cX7_init 15 = .ok (.aload_n 0, 1) := dk_42 (dk_at dksX7_init_0 15 rfl rfl)
theorem dX7_init_16 : decode cX7_init 16 = .ok (.iconst (-1), 1) := dk_2 (dk_at dksX7_init_0 16 rfl rfl)
theorem dX7_init_17 : decode cX7_init 17 = .ok (.putfield 18, 3) := dk_181 0 18 (dk_at dksX7_init_0 17 rfl rfl)
theorem dX7_init_20 : decode cX7_init 20 = .ok (.aload_n 0, 1) := dk_42 (dk_at dksX7_init_0 20 rfl rfl)
theorem dX7_init_21 : decode cX7_init 21 = .ok (.iload_n 1, 1) := dk_27 (dk_at dksX7_init_0 21 rfl rfl)
theorem dX7_init_22 : decode cX7_init 22 = .ok (.putfield 22, 3) := dk_181 0 22 (dk_at dksX7_init_1 0 rfl rfl)
theorem dX7_init_25 : decode cX7_init 25 = .ok (.aload_n 0, 1) := dk_42 (dk_at dksX7_init_1 3 rfl rfl)
theorem dX7_init_26 : decode cX7_init 26 = .ok (.getfield 12, 3) := dk_180 0 12 (dk_at dksX7_init_1 4 rfl rfl)
theorem dX7_init_29 : decode cX7_init 29 = .ok (.iload_n 1, 1) := dk_27 (dk_at dksX7_init_1 7 rfl rfl)
theorem dX7_init_30 : decode cX7_init 30 = .ok (.iload_n 2, 1) := dk_28 (dk_at dksX7_init_1 8 rfl rfl)
theorem dX7_init_31 : decode cX7_init 31 = .ok (.invokevirtual 25, 3) := dk_182 0 25 (dk_at dksX7_init_1 9 rfl rfl)
theorem dX7_init_34 : decode cX7_init 34 = .ok (.return_, 1) := dk_177 (dk_at dksX7_init_1 12 rfl rfl)
theorem q96 : (Jvm.Cond.initialized "Rollover$Customer") ∈ lw_all := lw_g (lw_at lw_m1 27 rfl) rfl
theorem q234 : (Jvm.Cond.selects "Rollover$Customer" ({ cls := "java/lang/Object", name := "getClass", desc := "()Ljava/lang/Class;" } : Jvm.MethodName) ({ cls := "java/lang/Object", name := "getClass", desc := "()Ljava/lang/Class;" } : Jvm.MethodName)) ∈ lw_all := lw_g (lw_at lw_m1 165 rfl) rfl
theorem q644 : (Jvm.Cond.instanceMethod ({ cls := "Rollover$Customer", name := "isIn", desc := "(I)Z" } : Jvm.MethodName)) ∈ lw_all := lw_g (lw_at lw_m3 95 rfl) rfl
theorem q645 : (Jvm.Cond.selects "Rollover$Customer" ({ cls := "Rollover$Customer", name := "isIn", desc := "(I)Z" } : Jvm.MethodName) ({ cls := "Rollover$Customer", name := "isIn", desc := "(I)Z" } : Jvm.MethodName)) ∈ lw_all := lw_g (lw_at lw_m3 96 rfl) rfl
theorem q646 : (Jvm.Cond.code ({ cls := "Rollover$Customer", name := "isIn", desc := "(I)Z" } : Jvm.MethodName) prog_5_method_2_code (2 : Nat) (Option.some Jvm.ClassFile.FieldType.boolean)) ∈ lw_all := lw_g (lw_at lw_m3 97 rfl) rfl
theorem q993 : (Jvm.Cond.instantiable "Rollover$Customer" (5 : Nat)) ∈ lw_all := lw_g (lw_at lw_m4 204 rfl) rfl
theorem q995 : (Jvm.Cond.instanceMethod ({ cls := "Rollover$Customer", name := "<init>", desc := "(II)V" } : Jvm.MethodName)) ∈ lw_all := lw_g (lw_at lw_m4 206 rfl) rfl
theorem q996 : (Jvm.Cond.code ({ cls := "Rollover$Customer", name := "<init>", desc := "(II)V" } : Jvm.MethodName) prog_5_method_1_code (3 : Nat) (Option.none : Option Jvm.ClassFile.FieldType)) ∈ lw_all := lw_g (lw_at lw_m4 207 rfl) rfl
theorem q997 : (Jvm.Cond.methodLink "Rollover$Customer" (3 : Nat) ({ cls := "java/lang/Object", name := "<init>", desc := "()V" } : Jvm.MethodName)) ∈ lw_all := lw_g (lw_at lw_m4 208 rfl) rfl
theorem q998 : (Jvm.Cond.classLink "Rollover$Customer" (9 : Nat) "Rollover$Since") ∈ lw_all := lw_g (lw_at lw_m4 209 rfl) rfl
theorem q999 : (Jvm.Cond.methodLinkNest "Rollover$Customer" (11 : Nat) ({ cls := "Rollover$Since", name := "<init>", desc := "()V" } : Jvm.MethodName) "Rollover") ∈ lw_tbl := lw_at lw_m4 210 rfl
theorem q1000 : (Jvm.Cond.methodLink "Rollover$Customer" (25 : Nat) ({ cls := "Rollover$Since", name := "add", desc := "(II)V" } : Jvm.MethodName)) ∈ lw_all := lw_g (lw_at lw_m4 211 rfl) rfl
theorem q1001 : (Jvm.Cond.fieldLink "Rollover$Customer" (22 : Nat) "Rollover$Customer" "joined" "I") ∈ lw_all := lw_g (lw_at lw_m4 212 rfl) rfl
theorem q1004 : (Jvm.Cond.fieldLink "Rollover$Customer" (12 : Nat) "Rollover$Customer" "plans" "LRollover$Since;") ∈ lw_all := lw_g (lw_at lw_m4 215 rfl) rfl
theorem q1009 : (Jvm.Cond.fieldLink "Rollover$Customer" (18 : Nat) "Rollover$Customer" "parent" "I") ∈ lw_all := lw_g (lw_at lw_m4 220 rfl) rfl
theorem q1014 : (Jvm.Cond.laysFinal "Rollover$Customer" "Rollover$Customer" "joined" "I") ∈ lw_all := lw_g (lw_at lw_m4 225 rfl) rfl
theorem q1015 : (Jvm.Cond.soleField "Rollover$Customer" "joined") ∈ lw_all := lw_g (lw_at lw_m4 226 rfl) rfl
theorem q1016 : (Jvm.Cond.laysFinal "Rollover$Customer" "Rollover$Customer" "plans" "LRollover$Since;") ∈ lw_all := lw_g (lw_at lw_m4 227 rfl) rfl
theorem q1017 : (Jvm.Cond.soleField "Rollover$Customer" "plans") ∈ lw_all := lw_g (lw_at lw_m4 228 rfl) rfl
theorem q1018 : (Jvm.Cond.lays "Rollover$Customer" "Rollover$Customer" "circle" "I") ∈ lw_all := lw_g (lw_at lw_m4 229 rfl) rfl
theorem q1019 : (Jvm.Cond.soleField "Rollover$Customer" "circle") ∈ lw_all := lw_g (lw_at lw_m4 230 rfl) rfl
theorem q1020 : (Jvm.Cond.lays "Rollover$Customer" "Rollover$Customer" "parent" "I") ∈ lw_all := lw_g (lw_at lw_m4 231 rfl) rfl
theorem q1021 : (Jvm.Cond.soleField "Rollover$Customer" "parent") ∈ lw_all := lw_g (lw_at lw_m4 232 rfl) rfl
theorem q1022 : (Jvm.Cond.lays "Rollover$Customer" "Rollover$Customer" "limit" "I") ∈ lw_all := lw_g (lw_at lw_m4 233 rfl) rfl
theorem q1023 : (Jvm.Cond.soleField "Rollover$Customer" "limit") ∈ lw_all := lw_g (lw_at lw_m4 234 rfl) rfl
theorem q1024 : (Jvm.Cond.superclass "Rollover$Customer" "java/lang/Object") ∈ lw_all := lw_g (lw_at lw_m4 235 rfl) rfl
theorem q2108 : (Jvm.Cond.castable "Rollover$Customer" "java/lang/Object") ∈ lw_tbl := lw_at lw_m9 119 rfl
theorem in_X7 : ∀ w ∈ wsX70, w ∈ lw_all := lw_in wsX70 [1014, 1016, 1018, 1020, 1022] (by decide +kernel) (by decide +kernel)
/-! RolloverModel$Customer -/
set_option maxRecDepth 100000
def RX8 : String := "RolloverModel$Customer"
def TX8 : u_T := fun k => match k with
  | 0 => ("RolloverModel$Customer", "joined", "I", false)
  | 1 => ("RolloverModel$Customer", "circle", "I", false)
  | 2 => ("RolloverModel$Customer", "parent", "I", false)
  | _ => ("RolloverModel$Customer", "limit", "I", false)
def tyX8 : Nat → FieldType := fun k => match k with
  | 0 => .int
  | 1 => .int
  | 2 => .int
  | _ => .int
abbrev wsX80 : List Cond := u_ws RX8 TX8 4
theorem nmX8 : ∀ a, a < 4 → ∀ b, b < 4 → a ≠ b → (TX8 a).2.1 ≠ (TX8 b).2.1 := by decide +kernel
theorem tyX8_ok : ∀ k, k < 4 → parseFieldDescriptor (TX8 k).2.2.1 = some (tyX8 k) := by decide +kernel
abbrev cX8_init : ByteArray := prog_17_method_1_code
def yX8_init : MethodName := ⟨RX8, "<init>", "()V"⟩
def dkwX8_init_0 : List UInt8 := [42, 183, 0, 3, 42, 2, 181, 0, 9, 177]
abbrev dktX8_init_0 : List UInt8 := dkwX8_init_0 ++ []
theorem dksX8_init_0 : cX8_init.data.toList.drop 0 = dktX8_init_0 := by decide +kernel
theorem dX8_init_0 : decode cX8_init 0 = .ok (.aload_n 0, 1) := dk_42 (dk_at dksX8_init_0 0 rfl rfl)
theorem dX8_init_1 : decode cX8_init 1 = .ok (.invokespecial 3, 3) := dk_183 0 3 (dk_at dksX8_init_0 1 rfl rfl)
theorem dX8_init_4 : decode cX8_init 4 = .ok (.aload_n 0, 1) := dk_42 (dk_at dksX8_init_0 4 rfl rfl)
theorem dX8_init_5 : decode cX8_init 5 = .ok (.iconst (-1), 1) := dk_2 (dk_at dksX8_init_0 5 rfl rfl)
theorem dX8_init_6 : decode cX8_init 6 = .ok (.putfield 9, 3) := dk_181 0 9 (dk_at dksX8_init_0 6 rfl rfl)
theorem dX8_init_9 : decode cX8_init 9 = .ok (.return_, 1) := dk_177 (dk_at dksX8_init_0 9 rfl rfl)
theorem q97 : (Jvm.Cond.initialized "RolloverModel$Customer") ∈ lw_all := lw_g (lw_at lw_m1 28 rfl) rfl
theorem q245 : (Jvm.Cond.selects "RolloverModel$Customer" ({ cls := "java/lang/Object", name := "getClass", desc := "()Ljava/lang/Class;" } : Jvm.MethodName) ({ cls := "java/lang/Object", name := "getClass", desc := "()Ljava/lang/Class;" } : Jvm.MethodName)) ∈ lw_all := lw_g (lw_at lw_m1 176 rfl) rfl
theorem q1649 : (Jvm.Cond.instantiable "RolloverModel$Customer" (4 : Nat)) ∈ lw_all := lw_g (lw_at lw_m7 140 rfl) rfl
theorem q1651 : (Jvm.Cond.instanceMethod ({ cls := "RolloverModel$Customer", name := "<init>", desc := "()V" } : Jvm.MethodName)) ∈ lw_all := lw_g (lw_at lw_m7 142 rfl) rfl
theorem q1652 : (Jvm.Cond.code ({ cls := "RolloverModel$Customer", name := "<init>", desc := "()V" } : Jvm.MethodName) prog_17_method_1_code (1 : Nat) (Option.none : Option Jvm.ClassFile.FieldType)) ∈ lw_all := lw_g (lw_at lw_m7 143 rfl) rfl
theorem q1653 : (Jvm.Cond.methodLink "RolloverModel$Customer" (3 : Nat) ({ cls := "java/lang/Object", name := "<init>", desc := "()V" } : Jvm.MethodName)) ∈ lw_all := lw_g (lw_at lw_m7 144 rfl) rfl
theorem q1656 : (Jvm.Cond.fieldLink "RolloverModel$Customer" (9 : Nat) "RolloverModel$Customer" "parent" "I") ∈ lw_all := lw_g (lw_at lw_m7 147 rfl) rfl
theorem q1659 : (Jvm.Cond.lays "RolloverModel$Customer" "RolloverModel$Customer" "joined" "I") ∈ lw_all := lw_g (lw_at lw_m7 150 rfl) rfl
theorem q1660 : (Jvm.Cond.soleField "RolloverModel$Customer" "joined") ∈ lw_all := lw_g (lw_at lw_m7 151 rfl) rfl
theorem q1661 : (Jvm.Cond.lays "RolloverModel$Customer" "RolloverModel$Customer" "circle" "I") ∈ lw_all := lw_g (lw_at lw_m7 152 rfl) rfl
theorem q1662 : (Jvm.Cond.soleField "RolloverModel$Customer" "circle") ∈ lw_all := lw_g (lw_at lw_m7 153 rfl) rfl
theorem q1663 : (Jvm.Cond.lays "RolloverModel$Customer" "RolloverModel$Customer" "parent" "I") ∈ lw_all := lw_g (lw_at lw_m7 154 rfl) rfl
theorem q1664 : (Jvm.Cond.soleField "RolloverModel$Customer" "parent") ∈ lw_all := lw_g (lw_at lw_m7 155 rfl) rfl
theorem q1665 : (Jvm.Cond.lays "RolloverModel$Customer" "RolloverModel$Customer" "limit" "I") ∈ lw_all := lw_g (lw_at lw_m7 156 rfl) rfl
theorem q1666 : (Jvm.Cond.soleField "RolloverModel$Customer" "limit") ∈ lw_all := lw_g (lw_at lw_m7 157 rfl) rfl
theorem q1667 : (Jvm.Cond.superclass "RolloverModel$Customer" "java/lang/Object") ∈ lw_all := lw_g (lw_at lw_m7 158 rfl) rfl
theorem q2109 : (Jvm.Cond.castable "RolloverModel$Customer" "java/lang/Object") ∈ lw_tbl := lw_at lw_m9 120 rfl
theorem in_X8 : ∀ w ∈ wsX80, w ∈ lw_all := lw_in wsX80 [1659, 1661, 1663, 1665] (by decide +kernel) (by decide +kernel)
/-! Rollover$Ticket -/
set_option maxRecDepth 100000
def RX9 : String := "Rollover$Ticket"
def TX9 : u_T := fun k => match k with
  | 0 => ("Rollover$Ticket", "kind", "LRollover$Kind;", true)
  | 1 => ("Rollover$Ticket", "customer", "I", true)
  | 2 => ("Rollover$Ticket", "day", "I", true)
  | 3 => ("Rollover$Ticket", "minute", "I", true)
  | 4 => ("Rollover$Ticket", "number", "I", true)
  | 5 => ("Rollover$Ticket", "zone", "I", true)
  | 6 => ("Rollover$Ticket", "seconds", "I", false)
  | _ => ("Rollover$Ticket", "isVoid", "Z", false)
def tyX9 : Nat → FieldType := fun k => match k with
  | 0 => .object "Rollover$Kind"
  | 1 => .int
  | 2 => .int
  | 3 => .int
  | 4 => .int
  | 5 => .int
  | 6 => .int
  | _ => .boolean
abbrev wsX90 : List Cond := u_ws RX9 TX9 8
theorem nmX9 : ∀ a, a < 8 → ∀ b, b < 8 → a ≠ b → (TX9 a).2.1 ≠ (TX9 b).2.1 := by decide +kernel
theorem tyX9_ok : ∀ k, k < 8 → parseFieldDescriptor (TX9 k).2.2.1 = some (tyX9 k) := by decide +kernel
abbrev cX9_time : ByteArray := prog_12_method_4_code
def yX9_time : MethodName := ⟨RX9, "time", "()I"⟩
def dkwX9_time_0 : List UInt8 := [42, 180, 0, 19, 17, 5, 160, 104, 42, 180, 0, 22, 96, 172]
abbrev dktX9_time_0 : List UInt8 := dkwX9_time_0 ++ []
theorem dksX9_time_0 : cX9_time.data.toList.drop 0 = dktX9_time_0 := by decide +kernel
theorem dX9_time_0 : decode cX9_time 0 = .ok (.aload_n 0, 1) := dk_42 (dk_at dksX9_time_0 0 rfl rfl)
theorem dX9_time_1 : decode cX9_time 1 = .ok (.getfield 19, 3) := dk_180 0 19 (dk_at dksX9_time_0 1 rfl rfl)
theorem dX9_time_4 : decode cX9_time 4 = .ok (.sipush 1440, 3) := dk_17 5 160 (dk_at dksX9_time_0 4 rfl rfl)
theorem dX9_time_7 : decode cX9_time 7 = .ok (.imul, 1) := dk_104 (dk_at dksX9_time_0 7 rfl rfl)
theorem dX9_time_8 : decode cX9_time 8 = .ok (.aload_n 0, 1) := dk_42 (dk_at dksX9_time_0 8 rfl rfl)
theorem dX9_time_9 : decode cX9_time 9 = .ok (.getfield 22, 3) := dk_180 0 22 (dk_at dksX9_time_0 9 rfl rfl)
theorem dX9_time_12 : decode cX9_time 12 = .ok (.iadd, 1) := dk_96 (dk_at dksX9_time_0 12 rfl rfl)
theorem dX9_time_13 : decode cX9_time 13 = .ok (.ireturn, 1) := dk_172 (dk_at dksX9_time_0 13 rfl rfl)
abbrev cX9_isRated : ByteArray := prog_12_method_3_code
def yX9_isRated : MethodName := ⟨RX9, "isRated", "()Z"⟩
def dkwX9_isRated_0 : List UInt8 := [42, 180, 0, 39, 154, 0, 14, 42, 182, 0, 43, 153, 0, 7, 4, 167, 0, 4, 3, 172]
abbrev dktX9_isRated_0 : List UInt8 := dkwX9_isRated_0 ++ []
theorem dksX9_isRated_0 : cX9_isRated.data.toList.drop 0 = dktX9_isRated_0 := by decide +kernel
theorem dX9_isRated_0 : decode cX9_isRated 0 = .ok (.aload_n 0, 1) := dk_42 (dk_at dksX9_isRated_0 0 rfl rfl)
theorem dX9_isRated_1 : decode cX9_isRated 1 = .ok (.getfield 39, 3) := dk_180 0 39 (dk_at dksX9_isRated_0 1 rfl rfl)
theorem dX9_isRated_4 : decode cX9_isRated 4 = .ok (.ifCond .ne 14, 3) := dk_154 0 14 (dk_at dksX9_isRated_0 4 rfl rfl)
theorem dX9_isRated_7 : decode cX9_isRated 7 = .ok (.aload_n 0, 1) := dk_42 (dk_at dksX9_isRated_0 7 rfl rfl)
theorem dX9_isRated_8 : decode cX9_isRated 8 = .ok (.invokevirtual 43, 3) := dk_182 0 43 (dk_at dksX9_isRated_0 8 rfl rfl)
theorem dX9_isRated_11 : decode cX9_isRated 11 = .ok (.ifCond .eq 7, 3) := dk_153 0 7 (dk_at dksX9_isRated_0 11 rfl rfl)
theorem dX9_isRated_14 : decode cX9_isRated 14 = .ok (.iconst 1, 1) := dk_4 (dk_at dksX9_isRated_0 14 rfl rfl)
theorem dX9_isRated_15 : decode cX9_isRated 15 = .ok (.goto 4, 3) := dk_167 0 4 (dk_at dksX9_isRated_0 15 rfl rfl)
theorem dX9_isRated_18 : decode cX9_isRated 18 = .ok (.iconst 0, 1) := dk_3 (dk_at dksX9_isRated_0 18 rfl rfl)
theorem dX9_isRated_19 : decode cX9_isRated 19 = .ok (.ireturn, 1) := dk_172 (dk_at dksX9_isRated_0 19 rfl rfl)
abbrev cX9_isCall : ByteArray := prog_12_method_2_code
def yX9_isCall : MethodName := ⟨RX9, "isCall", "()Z"⟩
def dkwX9_isCall_0 : List UInt8 := [42, 180, 0, 9, 178, 0, 34, 166, 0, 7, 4, 167, 0, 4, 3, 172]
abbrev dktX9_isCall_0 : List UInt8 := dkwX9_isCall_0 ++ []
theorem dksX9_isCall_0 : cX9_isCall.data.toList.drop 0 = dktX9_isCall_0 := by decide +kernel
theorem dX9_isCall_0 : decode cX9_isCall 0 = .ok (.aload_n 0, 1) := dk_42 (dk_at dksX9_isCall_0 0 rfl rfl)
theorem dX9_isCall_1 : decode cX9_isCall 1 = .ok (.getfield 9, 3) := dk_180 0 9 (dk_at dksX9_isCall_0 1 rfl rfl)
theorem dX9_isCall_4 : decode cX9_isCall 4 = .ok (.getstatic 34, 3) := dk_178 0 34 (dk_at dksX9_isCall_0 4 rfl rfl)
theorem dX9_isCall_7 : decode cX9_isCall 7 = .ok (.if_acmp .ne 7, 3) := dk_166 0 7 (dk_at dksX9_isCall_0 7 rfl rfl)
theorem dX9_isCall_10 : decode cX9_isCall 10 = .ok (.iconst 1, 1) := dk_4 (dk_at dksX9_isCall_0 10 rfl rfl)
theorem dX9_isCall_11 : decode cX9_isCall 11 = .ok (.goto 4, 3) := dk_167 0 4 (dk_at dksX9_isCall_0 11 rfl rfl)
theorem dX9_isCall_14 : decode cX9_isCall 14 = .ok (.iconst 0, 1) := dk_3 (dk_at dksX9_isCall_0 14 rfl rfl)
theorem dX9_isCall_15 : decode cX9_isCall 15 = .ok (.ireturn, 1) := dk_172 (dk_at dksX9_isCall_0 15 rfl rfl)
abbrev cX9_hasIn : ByteArray := prog_12_method_6_code
def yX9_hasIn : MethodName := ⟨RX9, "hasIn", "(LRollover$Ticket;)Z"⟩
def dkwX9_hasIn_1 : List UInt8 := [162, 0, 7, 4, 167, 0, 4, 3, 172]
abbrev dktX9_hasIn_1 : List UInt8 := dkwX9_hasIn_1 ++ []
def dkwX9_hasIn_0 : List UInt8 := [16, 60, 43, 182, 0, 47, 42, 182, 0, 47, 100, 104, 61, 28, 155, 0, 15, 28, 42, 180, 0, 31]
abbrev dktX9_hasIn_0 : List UInt8 := dkwX9_hasIn_0 ++ dktX9_hasIn_1
theorem dksX9_hasIn_0 : cX9_hasIn.data.toList.drop 0 = dktX9_hasIn_0 := by decide +kernel
theorem dksX9_hasIn_1 : cX9_hasIn.data.toList.drop 22 = dktX9_hasIn_1 := dk_seg dksX9_hasIn_0 22 rfl rfl
theorem dX9_hasIn_0 : decode cX9_hasIn 0 = .ok (.bipush 60, 2) := dk_16 60 (dk_at dksX9_hasIn_0 0 rfl rfl)
theorem dX9_hasIn_2 : decode cX9_hasIn 2 = .ok (.aload_n 1, 1) := dk_43 (dk_at dksX9_hasIn_0 2 rfl rfl)
theorem dX9_hasIn_3 : decode cX9_hasIn 3 = .ok (.invokevirtual 47, 3) := dk_182 0 47 (dk_at dksX9_hasIn_0 3 rfl rfl)
theorem dX9_hasIn_6 : decode cX9_hasIn 6 = .ok (.aload_n 0, 1) := dk_42 (dk_at dksX9_hasIn_0 6 rfl rfl)
theorem dX9_hasIn_7 : decode cX9_hasIn 7 = .ok (.invokevirtual 47, 3) := dk_182 0 47 (dk_at dksX9_hasIn_0 7 rfl rfl)
theorem dX9_hasIn_10 : decode cX9_hasIn 10 = .ok (.isub, 1) := dk_100 (dk_at dksX9_hasIn_0 10 rfl rfl)
theorem dX9_hasIn_11 : decode cX9_hasIn 11 = .ok (.imul, 1) := dk_104 (dk_at dksX9_hasIn_0 11 rfl rfl)
theorem dX9_hasIn_12 : decode cX9_hasIn 12 = .ok (.istore_n 2, 1) := dk_61 (dk_at dksX9_hasIn_0 12 rfl rfl)
theorem dX9_hasIn_13 : decode cX9_hasIn 13 = .ok (.iload_n 2, 1) := dk_28 (dk_at dksX9_hasIn_0 13 rfl rfl)
theorem dX9_hasIn_14 : decode cX9_hasIn 14 = .ok (.ifCond .lt 15, 3) := dk_155 0 15 (dk_at dksX9_hasIn_0 14 rfl rfl)
theorem dX9_hasIn_17 : decode cX9_hasIn 17 = .ok (.iload_n 2, 1) := dk_28 (dk_at dksX9_hasIn_0 17 rfl rfl)
theorem dX9_hasIn_18 : decode cX9_hasIn 18 = .ok (.aload_n 0, 1) := dk_42 (dk_at dksX9_hasIn_0 18 rfl rfl)
theorem dX9_hasIn_19 : decode cX9_hasIn 19 = .ok (.getfield 31, 3) := dk_180 0 31 (dk_at dksX9_hasIn_0 19 rfl rfl)
theorem dX9_hasIn_22 : decode cX9_hasIn 22 = .ok (.if_icmp .ge 7, 3) := dk_162 0 7 (dk_at dksX9_hasIn_1 0 rfl rfl)
theorem dX9_hasIn_25 : decode cX9_hasIn 25 = .ok (.iconst 1, 1) := dk_4 (dk_at dksX9_hasIn_1 3 rfl rfl)
theorem dX9_hasIn_26 : decode cX9_hasIn 26 = .ok (.goto 4, 3) := dk_167 0 4 (dk_at dksX9_hasIn_1 4 rfl rfl)
theorem dX9_hasIn_29 : decode cX9_hasIn 29 = .ok (.iconst 0, 1) := dk_3 (dk_at dksX9_hasIn_1 7 rfl rfl)
theorem dX9_hasIn_30 : decode cX9_hasIn 30 = .ok (.ireturn, 1) := dk_172 (dk_at dksX9_hasIn_1 8 rfl rfl)
abbrev cX9_init : ByteArray := prog_12_method_1_code
def yX9_init : MethodName := ⟨RX9, "<init>", "(LRollover$Kind;IIIIII)V"⟩
def dkwX9_init_1 : List UInt8 := [181, 0, 22, 42, 21, 5, 181, 0, 25, 42, 21, 6, 181, 0, 28, 42, 21, 7, 181, 0, 31, 177]
abbrev dktX9_init_1 : List UInt8 := dkwX9_init_1 ++ []
def dkwX9_init_0 : List UInt8 := [42, 183, 0, 3, 42, 43, 181, 0, 9, 42, 28, 181, 0, 15, 42, 29, 181, 0, 19, 42, 21, 4]
abbrev dktX9_init_0 : List UInt8 := dkwX9_init_0 ++ dktX9_init_1
theorem dksX9_init_0 : cX9_init.data.toList.drop 0 = dktX9_init_0 := by decide +kernel
theorem dksX9_init_1 : cX9_init.data.toList.drop 22 = dktX9_init_1 := dk_seg dksX9_init_0 22 rfl rfl
theorem dX9_init_0 : decode cX9_init 0 = .ok (.aload_n 0, 1) := dk_42 (dk_at dksX9_init_0 0 rfl rfl)
theorem dX9_init_1 : decode cX9_init 1 = .ok (.invokespecial 3, 3) := dk_183 0 3 (dk_at dksX9_init_0 1 rfl rfl)
theorem dX9_init_4 : decode cX9_init 4 = .ok (.aload_n 0, 1) := dk_42 (dk_at dksX9_init_0 4 rfl rfl)
theorem dX9_init_5 : decode cX9_init 5 = .ok (.aload_n 1, 1) := dk_43 (dk_at dksX9_init_0 5 rfl rfl)
theorem dX9_init_6 : decode cX9_init 6 = .ok (.putfield 9, 3) := dk_181 0 9 (dk_at dksX9_init_0 6 rfl rfl)
theorem dX9_init_9 : decode cX9_init 9 = .ok (.aload_n 0, 1) := dk_42 (dk_at dksX9_init_0 9 rfl rfl)
theorem dX9_init_10 : decode cX9_init 10 = .ok (.iload_n 2, 1) := dk_28 (dk_at dksX9_init_0 10 rfl rfl)
theorem dX9_init_11 : decode cX9_init 11 = .ok (.putfield 15, 3) := dk_181 0 15 (dk_at dksX9_init_0 11 rfl rfl)
theorem dX9_init_14 : decode cX9_init 14 = .ok (.aload_n 0, 1) := dk_42 (dk_at dksX9_init_0 14 rfl rfl)
theorem dX9_init_15 : decode cX9_init 15 = .ok (.iload_n 3, 1) := dk_29 (dk_at dksX9_init_0 15 rfl rfl)
theorem dX9_init_16 : decode cX9_init 16 = .ok (.putfield 19, 3) := dk_181 0 19 (dk_at dksX9_init_0 16 rfl rfl)
theorem dX9_init_19 : decode cX9_init 19 = .ok (.aload_n 0, 1) := dk_42 (dk_at dksX9_init_0 19 rfl rfl)
theorem dX9_init_20 : decode cX9_init 20 = .ok (.iload 4, 2) := dk_21 4 (dk_at dksX9_init_0 20 rfl rfl)
theorem dX9_init_22 : decode cX9_init 22 = .ok (.putfield 22, 3) := dk_181 0 22 (dk_at dksX9_init_1 0 rfl rfl)
theorem dX9_init_25 : decode cX9_init 25 = .ok (.aload_n 0, 1) := dk_42 (dk_at dksX9_init_1 3 rfl rfl)
theorem dX9_init_26 : decode cX9_init 26 = .ok (.iload 5, 2) := dk_21 5 (dk_at dksX9_init_1 4 rfl rfl)
theorem dX9_init_28 : decode cX9_init 28 = .ok (.putfield 25, 3) := dk_181 0 25 (dk_at dksX9_init_1 6 rfl rfl)
theorem dX9_init_31 : decode cX9_init 31 = .ok (.aload_n 0, 1) := dk_42 (dk_at dksX9_init_1 9 rfl rfl)
theorem dX9_init_32 : decode cX9_init 32 = .ok (.iload 6, 2) := dk_21 6 (dk_at dksX9_init_1 10 rfl rfl)
theorem dX9_init_34 : decode cX9_init 34 = .ok (.putfield 28, 3) := dk_181 0 28 (dk_at dksX9_init_1 12 rfl rfl)
theorem dX9_init_37 : decode cX9_init 37 = .ok (.aload_n 0, 1) := dk_42 (dk_at dksX9_init_1 15 rfl rfl)
theorem dX9_init_38 : decode cX9_init 38 = .ok (.iload 7, 2) := dk_21 7 (dk_at dksX9_init_1 16 rfl rfl)
theorem dX9_init_40 : decode cX9_init 40 = .ok (.putfield 31, 3) := dk_181 0 31 (dk_at dksX9_init_1 18 rfl rfl)
theorem dX9_init_43 : decode cX9_init 43 = .ok (.return_, 1) := dk_177 (dk_at dksX9_init_1 21 rfl rfl)
abbrev cX9_isTwin : ByteArray := prog_12_method_5_code
def yX9_isTwin : MethodName := ⟨RX9, "isTwin", "(LRollover$Ticket;)Z"⟩
def dkwX9_isTwin_2 : List UInt8 := [160, 0, 7, 4, 167, 0, 4, 3, 172]
abbrev dktX9_isTwin_2 : List UInt8 := dkwX9_isTwin_2 ++ []
def dkwX9_isTwin_1 : List UInt8 := [160, 0, 29, 42, 182, 0, 47, 43, 182, 0, 47, 160, 0, 18, 42, 180, 0, 25, 43, 180, 0, 25]
abbrev dktX9_isTwin_1 : List UInt8 := dkwX9_isTwin_1 ++ dktX9_isTwin_2
def dkwX9_isTwin_0 : List UInt8 := [42, 182, 0, 43, 153, 0, 47, 43, 182, 0, 43, 153, 0, 40, 42, 180, 0, 15, 43, 180, 0, 15]
abbrev dktX9_isTwin_0 : List UInt8 := dkwX9_isTwin_0 ++ dktX9_isTwin_1
theorem dksX9_isTwin_0 : cX9_isTwin.data.toList.drop 0 = dktX9_isTwin_0 := by decide +kernel
theorem dksX9_isTwin_1 : cX9_isTwin.data.toList.drop 22 = dktX9_isTwin_1 := dk_seg dksX9_isTwin_0 22 rfl rfl
theorem dksX9_isTwin_2 : cX9_isTwin.data.toList.drop 44 = dktX9_isTwin_2 := dk_seg dksX9_isTwin_1 22 rfl rfl
theorem dX9_isTwin_0 : decode cX9_isTwin 0 = .ok (.aload_n 0, 1) := dk_42 (dk_at dksX9_isTwin_0 0 rfl rfl)
theorem dX9_isTwin_1 : decode cX9_isTwin 1 = .ok (.invokevirtual 43, 3) := dk_182 0 43 (dk_at dksX9_isTwin_0 1 rfl rfl)
theorem dX9_isTwin_4 : decode cX9_isTwin 4 = .ok (.ifCond .eq 47, 3) := dk_153 0 47 (dk_at dksX9_isTwin_0 4 rfl rfl)
theorem dX9_isTwin_7 : decode cX9_isTwin 7 = .ok (.aload_n 1, 1) := dk_43 (dk_at dksX9_isTwin_0 7 rfl rfl)
theorem dX9_isTwin_8 : decode cX9_isTwin 8 = .ok (.invokevirtual 43, 3) := dk_182 0 43 (dk_at dksX9_isTwin_0 8 rfl rfl)
theorem dX9_isTwin_11 : decode cX9_isTwin 11 = .ok (.ifCond .eq 40, 3) := dk_153 0 40 (dk_at dksX9_isTwin_0 11 rfl rfl)
theorem dX9_isTwin_14 : decode cX9_isTwin 14 = .ok (.aload_n 0, 1) := dk_42 (dk_at dksX9_isTwin_0 14 rfl rfl)
theorem dX9_isTwin_15 : decode cX9_isTwin 15 = .ok (.getfield 15, 3) := dk_180 0 15 (dk_at dksX9_isTwin_0 15 rfl rfl)
theorem dX9_isTwin_18 : decode cX9_isTwin 18 = .ok (.aload_n 1, 1) := dk_43 (dk_at dksX9_isTwin_0 18 rfl rfl)
theorem dX9_isTwin_19 : decode cX9_isTwin 19 = .ok (.getfield 15, 3) := dk_180 0 15 (dk_at dksX9_isTwin_0 19 rfl rfl)
theorem dX9_isTwin_22 : decode cX9_isTwin 22 = .ok (.if_icmp .ne 29, 3) := dk_160 0 29 (dk_at dksX9_isTwin_1 0 rfl rfl)
theorem dX9_isTwin_25 : decode cX9_isTwin 25 = .ok (.aload_n 0, 1) := dk_42 (dk_at dksX9_isTwin_1 3 rfl rfl)
theorem dX9_isTwin_26 : decode cX9_isTwin 26 = .ok (.invokevirtual 47, 3) := dk_182 0 47 (dk_at dksX9_isTwin_1 4 rfl rfl)
theorem dX9_isTwin_29 : decode cX9_isTwin 29 = .ok (.aload_n 1, 1) := dk_43 (dk_at dksX9_isTwin_1 7 rfl rfl)
theorem dX9_isTwin_30 : decode cX9_isTwin 30 = .ok (.invokevirtual 47, 3) := dk_182 0 47 (dk_at dksX9_isTwin_1 8 rfl rfl)
theorem dX9_isTwin_33 : decode cX9_isTwin 33 = .ok (.if_icmp .ne 18, 3) := dk_160 0 18 (dk_at dksX9_isTwin_1 11 rfl rfl)
theorem dX9_isTwin_36 : decode cX9_isTwin 36 = .ok (.aload_n 0, 1) := dk_42 (dk_at dksX9_isTwin_1 14 rfl rfl)
theorem dX9_isTwin_37 : decode cX9_isTwin 37 = .ok (.getfield 25, 3) := dk_180 0 25 (dk_at dksX9_isTwin_1 15 rfl rfl)
theorem dX9_isTwin_40 : decode cX9_isTwin 40 = .ok (.aload_n 1, 1) := dk_43 (dk_at dksX9_isTwin_1 18 rfl rfl)
theorem dX9_isTwin_41 : decode cX9_isTwin 41 = .ok (.getfield 25, 3) := dk_180 0 25 (dk_at dksX9_isTwin_1 19 rfl rfl)
theorem dX9_isTwin_44 : decode cX9_isTwin 44 = .ok (.if_icmp .ne 7, 3) := dk_160 0 7 (dk_at dksX9_isTwin_2 0 rfl rfl)
theorem dX9_isTwin_47 : decode cX9_isTwin 47 = .ok (.iconst 1, 1) := dk_4 (dk_at dksX9_isTwin_2 3 rfl rfl)
theorem dX9_isTwin_48 : decode cX9_isTwin 48 = .ok (.goto 4, 3) := dk_167 0 4 (dk_at dksX9_isTwin_2 4 rfl rfl)
theorem dX9_isTwin_51 : decode cX9_isTwin 51 = .ok (.iconst 0, 1) := dk_3 (dk_at dksX9_isTwin_2 7 rfl rfl)
theorem dX9_isTwin_52 : decode cX9_isTwin 52 = .ok (.ireturn, 1) := dk_172 (dk_at dksX9_isTwin_2 8 rfl rfl)
theorem q99 : (Jvm.Cond.initialized "Rollover$Ticket") ∈ lw_all := lw_g (lw_at lw_m1 30 rfl) rfl
theorem q241 : (Jvm.Cond.selects "Rollover$Ticket" ({ cls := "java/lang/Object", name := "getClass", desc := "()Ljava/lang/Class;" } : Jvm.MethodName) ({ cls := "java/lang/Object", name := "getClass", desc := "()Ljava/lang/Class;" } : Jvm.MethodName)) ∈ lw_all := lw_g (lw_at lw_m1 172 rfl) rfl
theorem q440 : (Jvm.Cond.instanceMethod ({ cls := "Rollover$Ticket", name := "time", desc := "()I" } : Jvm.MethodName)) ∈ lw_all := lw_g (lw_at lw_m2 131 rfl) rfl
theorem q441 : (Jvm.Cond.selects "Rollover$Ticket" ({ cls := "Rollover$Ticket", name := "time", desc := "()I" } : Jvm.MethodName) ({ cls := "Rollover$Ticket", name := "time", desc := "()I" } : Jvm.MethodName)) ∈ lw_all := lw_g (lw_at lw_m2 132 rfl) rfl
theorem q442 : (Jvm.Cond.code ({ cls := "Rollover$Ticket", name := "time", desc := "()I" } : Jvm.MethodName) prog_12_method_4_code (1 : Nat) (Option.some Jvm.ClassFile.FieldType.int)) ∈ lw_all := lw_g (lw_at lw_m2 133 rfl) rfl
theorem q665 : (Jvm.Cond.instanceMethod ({ cls := "Rollover$Ticket", name := "isRated", desc := "()Z" } : Jvm.MethodName)) ∈ lw_all := lw_g (lw_at lw_m3 116 rfl) rfl
theorem q666 : (Jvm.Cond.selects "Rollover$Ticket" ({ cls := "Rollover$Ticket", name := "isRated", desc := "()Z" } : Jvm.MethodName) ({ cls := "Rollover$Ticket", name := "isRated", desc := "()Z" } : Jvm.MethodName)) ∈ lw_all := lw_g (lw_at lw_m3 117 rfl) rfl
theorem q667 : (Jvm.Cond.code ({ cls := "Rollover$Ticket", name := "isRated", desc := "()Z" } : Jvm.MethodName) prog_12_method_3_code (1 : Nat) (Option.some Jvm.ClassFile.FieldType.boolean)) ∈ lw_all := lw_g (lw_at lw_m3 118 rfl) rfl
theorem q668 : (Jvm.Cond.methodLink "Rollover$Ticket" (43 : Nat) ({ cls := "Rollover$Ticket", name := "isCall", desc := "()Z" } : Jvm.MethodName)) ∈ lw_all := lw_g (lw_at lw_m3 119 rfl) rfl
theorem q669 : (Jvm.Cond.instanceMethod ({ cls := "Rollover$Ticket", name := "isCall", desc := "()Z" } : Jvm.MethodName)) ∈ lw_all := lw_g (lw_at lw_m3 120 rfl) rfl
theorem q670 : (Jvm.Cond.selects "Rollover$Ticket" ({ cls := "Rollover$Ticket", name := "isCall", desc := "()Z" } : Jvm.MethodName) ({ cls := "Rollover$Ticket", name := "isCall", desc := "()Z" } : Jvm.MethodName)) ∈ lw_all := lw_g (lw_at lw_m3 121 rfl) rfl
theorem q671 : (Jvm.Cond.code ({ cls := "Rollover$Ticket", name := "isCall", desc := "()Z" } : Jvm.MethodName) prog_12_method_2_code (1 : Nat) (Option.some Jvm.ClassFile.FieldType.boolean)) ∈ lw_all := lw_g (lw_at lw_m3 122 rfl) rfl
theorem q672 : (Jvm.Cond.fieldLink "Rollover$Ticket" (34 : Nat) "Rollover$Kind" "CALL" "LRollover$Kind;") ∈ lw_all := lw_g (lw_at lw_m3 123 rfl) rfl
theorem q689 : (Jvm.Cond.instanceMethod ({ cls := "Rollover$Ticket", name := "hasIn", desc := "(LRollover$Ticket;)Z" } : Jvm.MethodName)) ∈ lw_all := lw_g (lw_at lw_m3 140 rfl) rfl
theorem q690 : (Jvm.Cond.selects "Rollover$Ticket" ({ cls := "Rollover$Ticket", name := "hasIn", desc := "(LRollover$Ticket;)Z" } : Jvm.MethodName) ({ cls := "Rollover$Ticket", name := "hasIn", desc := "(LRollover$Ticket;)Z" } : Jvm.MethodName)) ∈ lw_all := lw_g (lw_at lw_m3 141 rfl) rfl
theorem q691 : (Jvm.Cond.code ({ cls := "Rollover$Ticket", name := "hasIn", desc := "(LRollover$Ticket;)Z" } : Jvm.MethodName) prog_12_method_6_code (3 : Nat) (Option.some Jvm.ClassFile.FieldType.boolean)) ∈ lw_all := lw_g (lw_at lw_m3 142 rfl) rfl
theorem q692 : (Jvm.Cond.methodLink "Rollover$Ticket" (47 : Nat) ({ cls := "Rollover$Ticket", name := "time", desc := "()I" } : Jvm.MethodName)) ∈ lw_all := lw_g (lw_at lw_m3 143 rfl) rfl
theorem q1082 : (Jvm.Cond.instantiable "Rollover$Ticket" (8 : Nat)) ∈ lw_all := lw_g (lw_at lw_m5 53 rfl) rfl
theorem q1085 : (Jvm.Cond.instanceMethod ({ cls := "Rollover$Ticket", name := "<init>", desc := "(LRollover$Kind;IIIIII)V" } : Jvm.MethodName)) ∈ lw_all := lw_g (lw_at lw_m5 56 rfl) rfl
theorem q1086 : (Jvm.Cond.code ({ cls := "Rollover$Ticket", name := "<init>", desc := "(LRollover$Kind;IIIIII)V" } : Jvm.MethodName) prog_12_method_1_code (8 : Nat) (Option.none : Option Jvm.ClassFile.FieldType)) ∈ lw_all := lw_g (lw_at lw_m5 57 rfl) rfl
theorem q1087 : (Jvm.Cond.methodLink "Rollover$Ticket" (3 : Nat) ({ cls := "java/lang/Object", name := "<init>", desc := "()V" } : Jvm.MethodName)) ∈ lw_all := lw_g (lw_at lw_m5 58 rfl) rfl
theorem q1088 : (Jvm.Cond.fieldLink "Rollover$Ticket" (9 : Nat) "Rollover$Ticket" "kind" "LRollover$Kind;") ∈ lw_all := lw_g (lw_at lw_m5 59 rfl) rfl
theorem q1091 : (Jvm.Cond.fieldLink "Rollover$Ticket" (15 : Nat) "Rollover$Ticket" "customer" "I") ∈ lw_all := lw_g (lw_at lw_m5 62 rfl) rfl
theorem q1094 : (Jvm.Cond.fieldLink "Rollover$Ticket" (19 : Nat) "Rollover$Ticket" "day" "I") ∈ lw_all := lw_g (lw_at lw_m5 65 rfl) rfl
theorem q1097 : (Jvm.Cond.fieldLink "Rollover$Ticket" (22 : Nat) "Rollover$Ticket" "minute" "I") ∈ lw_all := lw_g (lw_at lw_m5 68 rfl) rfl
theorem q1100 : (Jvm.Cond.fieldLink "Rollover$Ticket" (25 : Nat) "Rollover$Ticket" "number" "I") ∈ lw_all := lw_g (lw_at lw_m5 71 rfl) rfl
theorem q1103 : (Jvm.Cond.fieldLink "Rollover$Ticket" (28 : Nat) "Rollover$Ticket" "zone" "I") ∈ lw_all := lw_g (lw_at lw_m5 74 rfl) rfl
theorem q1105 : (Jvm.Cond.fieldLink "Rollover$Ticket" (31 : Nat) "Rollover$Ticket" "seconds" "I") ∈ lw_all := lw_g (lw_at lw_m5 76 rfl) rfl
theorem q1108 : (Jvm.Cond.fieldLink "Rollover$Ticket" (39 : Nat) "Rollover$Ticket" "isVoid" "Z") ∈ lw_all := lw_g (lw_at lw_m5 79 rfl) rfl
theorem q1111 : (Jvm.Cond.laysFinal "Rollover$Ticket" "Rollover$Ticket" "kind" "LRollover$Kind;") ∈ lw_all := lw_g (lw_at lw_m5 82 rfl) rfl
theorem q1112 : (Jvm.Cond.soleField "Rollover$Ticket" "kind") ∈ lw_all := lw_g (lw_at lw_m5 83 rfl) rfl
theorem q1113 : (Jvm.Cond.laysFinal "Rollover$Ticket" "Rollover$Ticket" "customer" "I") ∈ lw_all := lw_g (lw_at lw_m5 84 rfl) rfl
theorem q1114 : (Jvm.Cond.soleField "Rollover$Ticket" "customer") ∈ lw_all := lw_g (lw_at lw_m5 85 rfl) rfl
theorem q1115 : (Jvm.Cond.laysFinal "Rollover$Ticket" "Rollover$Ticket" "day" "I") ∈ lw_all := lw_g (lw_at lw_m5 86 rfl) rfl
theorem q1116 : (Jvm.Cond.soleField "Rollover$Ticket" "day") ∈ lw_all := lw_g (lw_at lw_m5 87 rfl) rfl
theorem q1117 : (Jvm.Cond.laysFinal "Rollover$Ticket" "Rollover$Ticket" "minute" "I") ∈ lw_all := lw_g (lw_at lw_m5 88 rfl) rfl
theorem q1118 : (Jvm.Cond.soleField "Rollover$Ticket" "minute") ∈ lw_all := lw_g (lw_at lw_m5 89 rfl) rfl
theorem q1119 : (Jvm.Cond.laysFinal "Rollover$Ticket" "Rollover$Ticket" "number" "I") ∈ lw_all := lw_g (lw_at lw_m5 90 rfl) rfl
theorem q1120 : (Jvm.Cond.soleField "Rollover$Ticket" "number") ∈ lw_all := lw_g (lw_at lw_m5 91 rfl) rfl
theorem q1121 : (Jvm.Cond.laysFinal "Rollover$Ticket" "Rollover$Ticket" "zone" "I") ∈ lw_all := lw_g (lw_at lw_m5 92 rfl) rfl
theorem q1122 : (Jvm.Cond.soleField "Rollover$Ticket" "zone") ∈ lw_all := lw_g (lw_at lw_m5 93 rfl) rfl
theorem q1123 : (Jvm.Cond.lays "Rollover$Ticket" "Rollover$Ticket" "seconds" "I") ∈ lw_all := lw_g (lw_at lw_m5 94 rfl) rfl
theorem q1124 : (Jvm.Cond.soleField "Rollover$Ticket" "seconds") ∈ lw_all := lw_g (lw_at lw_m5 95 rfl) rfl
theorem q1125 : (Jvm.Cond.lays "Rollover$Ticket" "Rollover$Ticket" "isVoid" "Z") ∈ lw_all := lw_g (lw_at lw_m5 96 rfl) rfl
theorem q1126 : (Jvm.Cond.soleField "Rollover$Ticket" "isVoid") ∈ lw_all := lw_g (lw_at lw_m5 97 rfl) rfl
theorem q1127 : (Jvm.Cond.superclass "Rollover$Ticket" "java/lang/Object") ∈ lw_all := lw_g (lw_at lw_m5 98 rfl) rfl
theorem q1133 : (Jvm.Cond.instanceMethod ({ cls := "Rollover$Ticket", name := "isTwin", desc := "(LRollover$Ticket;)Z" } : Jvm.MethodName)) ∈ lw_all := lw_g (lw_at lw_m5 104 rfl) rfl
theorem q1134 : (Jvm.Cond.selects "Rollover$Ticket" ({ cls := "Rollover$Ticket", name := "isTwin", desc := "(LRollover$Ticket;)Z" } : Jvm.MethodName) ({ cls := "Rollover$Ticket", name := "isTwin", desc := "(LRollover$Ticket;)Z" } : Jvm.MethodName)) ∈ lw_all := lw_g (lw_at lw_m5 105 rfl) rfl
theorem q1135 : (Jvm.Cond.code ({ cls := "Rollover$Ticket", name := "isTwin", desc := "(LRollover$Ticket;)Z" } : Jvm.MethodName) prog_12_method_5_code (2 : Nat) (Option.some Jvm.ClassFile.FieldType.boolean)) ∈ lw_all := lw_g (lw_at lw_m5 106 rfl) rfl
theorem q2111 : (Jvm.Cond.castable "Rollover$Ticket" "java/lang/Object") ∈ lw_tbl := lw_at lw_m9 122 rfl
theorem in_X9 : ∀ w ∈ wsX90, w ∈ lw_all := lw_in wsX90 [1111, 1113, 1115, 1117, 1119, 1121, 1123, 1125] (by decide +kernel) (by decide +kernel)
/-! RolloverModel$Ticket -/
set_option maxRecDepth 100000
def RX10 : String := "RolloverModel$Ticket"
def TX10 : u_T := fun k => match k with
  | 0 => ("RolloverModel$Ticket", "kind", "I", false)
  | 1 => ("RolloverModel$Ticket", "customer", "I", false)
  | 2 => ("RolloverModel$Ticket", "day", "I", false)
  | 3 => ("RolloverModel$Ticket", "minute", "I", false)
  | 4 => ("RolloverModel$Ticket", "seconds", "I", false)
  | 5 => ("RolloverModel$Ticket", "which", "I", false)
  | 6 => ("RolloverModel$Ticket", "more", "I", false)
  | _ => ("RolloverModel$Ticket", "isVoid", "Z", false)
def tyX10 : Nat → FieldType := fun k => match k with
  | 0 => .int
  | 1 => .int
  | 2 => .int
  | 3 => .int
  | 4 => .int
  | 5 => .int
  | 6 => .int
  | _ => .boolean
abbrev wsX100 : List Cond := u_ws RX10 TX10 8
theorem nmX10 : ∀ a, a < 8 → ∀ b, b < 8 → a ≠ b → (TX10 a).2.1 ≠ (TX10 b).2.1 := by decide +kernel
theorem tyX10_ok : ∀ k, k < 8 → parseFieldDescriptor (TX10 k).2.2.1 = some (tyX10 k) := by decide +kernel
abbrev cX10_init : ByteArray := prog_19_method_1_code
def yX10_init : MethodName := ⟨RX10, "<init>", "()V"⟩
theorem dX10_init_0 : decode cX10_init 0 = .ok (.aload_n 0, 1) := by decide +kernel
theorem dX10_init_1 : decode cX10_init 1 = .ok (.invokespecial 3, 3) := by decide +kernel
theorem dX10_init_4 : decode cX10_init 4 = .ok (.return_, 1) := by decide +kernel
abbrev cX10_begin : ByteArray := prog_19_method_3_code
def yX10_begin : MethodName := ⟨RX10, "begin", "()I"⟩
def dkwX10_begin_0 : List UInt8 := [42, 180, 0, 22, 17, 5, 160, 104, 42, 180, 0, 25, 96, 16, 60, 104, 172]
abbrev dktX10_begin_0 : List UInt8 := dkwX10_begin_0 ++ []
theorem dksX10_begin_0 : cX10_begin.data.toList.drop 0 = dktX10_begin_0 := by decide +kernel
theorem dX10_begin_0 : decode cX10_begin 0 = .ok (.aload_n 0, 1) := dk_42 (dk_at dksX10_begin_0 0 rfl rfl)
theorem dX10_begin_1 : decode cX10_begin 1 = .ok (.getfield 22, 3) := dk_180 0 22 (dk_at dksX10_begin_0 1 rfl rfl)
theorem dX10_begin_4 : decode cX10_begin 4 = .ok (.sipush 1440, 3) := dk_17 5 160 (dk_at dksX10_begin_0 4 rfl rfl)
theorem dX10_begin_7 : decode cX10_begin 7 = .ok (.imul, 1) := dk_104 (dk_at dksX10_begin_0 7 rfl rfl)
theorem dX10_begin_8 : decode cX10_begin 8 = .ok (.aload_n 0, 1) := dk_42 (dk_at dksX10_begin_0 8 rfl rfl)
theorem dX10_begin_9 : decode cX10_begin 9 = .ok (.getfield 25, 3) := dk_180 0 25 (dk_at dksX10_begin_0 9 rfl rfl)
theorem dX10_begin_12 : decode cX10_begin 12 = .ok (.iadd, 1) := dk_96 (dk_at dksX10_begin_0 12 rfl rfl)
theorem dX10_begin_13 : decode cX10_begin 13 = .ok (.bipush 60, 2) := dk_16 60 (dk_at dksX10_begin_0 13 rfl rfl)
theorem dX10_begin_15 : decode cX10_begin 15 = .ok (.imul, 1) := dk_104 (dk_at dksX10_begin_0 15 rfl rfl)
theorem dX10_begin_16 : decode cX10_begin 16 = .ok (.ireturn, 1) := dk_172 (dk_at dksX10_begin_0 16 rfl rfl)
abbrev cX10_isCallOf : ByteArray := prog_19_method_2_code
def yX10_isCallOf : MethodName := ⟨RX10, "isCallOf", "(I)Z"⟩
def dkwX10_isCallOf_1 : List UInt8 := [167, 0, 4, 3, 172]
abbrev dktX10_isCallOf_1 : List UInt8 := dkwX10_isCallOf_1 ++ []
def dkwX10_isCallOf_0 : List UInt8 := [42, 180, 0, 9, 154, 0, 22, 42, 180, 0, 15, 27, 160, 0, 14, 42, 180, 0, 18, 154, 0, 7, 4]
abbrev dktX10_isCallOf_0 : List UInt8 := dkwX10_isCallOf_0 ++ dktX10_isCallOf_1
theorem dksX10_isCallOf_0 : cX10_isCallOf.data.toList.drop 0 = dktX10_isCallOf_0 := by decide +kernel
theorem dksX10_isCallOf_1 : cX10_isCallOf.data.toList.drop 23 = dktX10_isCallOf_1 := dk_seg dksX10_isCallOf_0 23 rfl rfl
theorem dX10_isCallOf_0 : decode cX10_isCallOf 0 = .ok (.aload_n 0, 1) := dk_42 (dk_at dksX10_isCallOf_0 0 rfl rfl)
theorem dX10_isCallOf_1 : decode cX10_isCallOf 1 = .ok (.getfield 9, 3) := dk_180 0 9 (dk_at dksX10_isCallOf_0 1 rfl rfl)
theorem dX10_isCallOf_4 : decode cX10_isCallOf 4 = .ok (.ifCond .ne 22, 3) := dk_154 0 22 (dk_at dksX10_isCallOf_0 4 rfl rfl)
theorem dX10_isCallOf_7 : decode cX10_isCallOf 7 = .ok (.aload_n 0, 1) := dk_42 (dk_at dksX10_isCallOf_0 7 rfl rfl)
theorem dX10_isCallOf_8 : decode cX10_isCallOf 8 = .ok (.getfield 15, 3) := dk_180 0 15 (dk_at dksX10_isCallOf_0 8 rfl rfl)
theorem dX10_isCallOf_11 : decode cX10_isCallOf 11 = .ok (.iload_n 1, 1) := dk_27 (dk_at dksX10_isCallOf_0 11 rfl rfl)
theorem dX10_isCallOf_12 : decode cX10_isCallOf 12 = .ok (.if_icmp .ne 14, 3) := dk_160 0 14 (dk_at dksX10_isCallOf_0 12 rfl rfl)
theorem dX10_isCallOf_15 : decode cX10_isCallOf 15 = .ok (.aload_n 0, 1) := dk_42 (dk_at dksX10_isCallOf_0 15 rfl rfl)
theorem dX10_isCallOf_16 : decode cX10_isCallOf 16 = .ok (.getfield 18, 3) := dk_180 0 18 (dk_at dksX10_isCallOf_0 16 rfl rfl)
theorem dX10_isCallOf_19 : decode cX10_isCallOf 19 = .ok (.ifCond .ne 7, 3) := dk_154 0 7 (dk_at dksX10_isCallOf_0 19 rfl rfl)
theorem dX10_isCallOf_22 : decode cX10_isCallOf 22 = .ok (.iconst 1, 1) := dk_4 (dk_at dksX10_isCallOf_0 22 rfl rfl)
theorem dX10_isCallOf_23 : decode cX10_isCallOf 23 = .ok (.goto 4, 3) := dk_167 0 4 (dk_at dksX10_isCallOf_1 0 rfl rfl)
theorem dX10_isCallOf_26 : decode cX10_isCallOf 26 = .ok (.iconst 0, 1) := dk_3 (dk_at dksX10_isCallOf_1 3 rfl rfl)
theorem dX10_isCallOf_27 : decode cX10_isCallOf 27 = .ok (.ireturn, 1) := dk_172 (dk_at dksX10_isCallOf_1 4 rfl rfl)
theorem q102 : (Jvm.Cond.initialized "RolloverModel$Ticket") ∈ lw_all := lw_g (lw_at lw_m1 33 rfl) rfl
theorem q247 : (Jvm.Cond.selects "RolloverModel$Ticket" ({ cls := "java/lang/Object", name := "getClass", desc := "()Ljava/lang/Class;" } : Jvm.MethodName) ({ cls := "java/lang/Object", name := "getClass", desc := "()Ljava/lang/Class;" } : Jvm.MethodName)) ∈ lw_all := lw_g (lw_at lw_m1 178 rfl) rfl
theorem q1772 : (Jvm.Cond.instantiable "RolloverModel$Ticket" (8 : Nat)) ∈ lw_all := lw_g (lw_at lw_m8 23 rfl) rfl
theorem q1774 : (Jvm.Cond.instanceMethod ({ cls := "RolloverModel$Ticket", name := "<init>", desc := "()V" } : Jvm.MethodName)) ∈ lw_all := lw_g (lw_at lw_m8 25 rfl) rfl
theorem q1775 : (Jvm.Cond.code ({ cls := "RolloverModel$Ticket", name := "<init>", desc := "()V" } : Jvm.MethodName) prog_19_method_1_code (1 : Nat) (Option.none : Option Jvm.ClassFile.FieldType)) ∈ lw_all := lw_g (lw_at lw_m8 26 rfl) rfl
theorem q1776 : (Jvm.Cond.methodLink "RolloverModel$Ticket" (3 : Nat) ({ cls := "java/lang/Object", name := "<init>", desc := "()V" } : Jvm.MethodName)) ∈ lw_all := lw_g (lw_at lw_m8 27 rfl) rfl
theorem q1777 : (Jvm.Cond.fieldLink "RolloverModel$Ticket" (9 : Nat) "RolloverModel$Ticket" "kind" "I") ∈ lw_all := lw_g (lw_at lw_m8 28 rfl) rfl
theorem q1779 : (Jvm.Cond.fieldLink "RolloverModel$Ticket" (15 : Nat) "RolloverModel$Ticket" "customer" "I") ∈ lw_all := lw_g (lw_at lw_m8 30 rfl) rfl
theorem q1782 : (Jvm.Cond.fieldLink "RolloverModel$Ticket" (22 : Nat) "RolloverModel$Ticket" "day" "I") ∈ lw_all := lw_g (lw_at lw_m8 33 rfl) rfl
theorem q1784 : (Jvm.Cond.fieldLink "RolloverModel$Ticket" (25 : Nat) "RolloverModel$Ticket" "minute" "I") ∈ lw_all := lw_g (lw_at lw_m8 35 rfl) rfl
theorem q1789 : (Jvm.Cond.fieldLink "RolloverModel$Ticket" (18 : Nat) "RolloverModel$Ticket" "isVoid" "Z") ∈ lw_all := lw_g (lw_at lw_m8 40 rfl) rfl
theorem q1791 : (Jvm.Cond.lays "RolloverModel$Ticket" "RolloverModel$Ticket" "kind" "I") ∈ lw_all := lw_g (lw_at lw_m8 42 rfl) rfl
theorem q1792 : (Jvm.Cond.soleField "RolloverModel$Ticket" "kind") ∈ lw_all := lw_g (lw_at lw_m8 43 rfl) rfl
theorem q1793 : (Jvm.Cond.lays "RolloverModel$Ticket" "RolloverModel$Ticket" "customer" "I") ∈ lw_all := lw_g (lw_at lw_m8 44 rfl) rfl
theorem q1794 : (Jvm.Cond.soleField "RolloverModel$Ticket" "customer") ∈ lw_all := lw_g (lw_at lw_m8 45 rfl) rfl
theorem q1795 : (Jvm.Cond.lays "RolloverModel$Ticket" "RolloverModel$Ticket" "day" "I") ∈ lw_all := lw_g (lw_at lw_m8 46 rfl) rfl
theorem q1796 : (Jvm.Cond.soleField "RolloverModel$Ticket" "day") ∈ lw_all := lw_g (lw_at lw_m8 47 rfl) rfl
theorem q1797 : (Jvm.Cond.lays "RolloverModel$Ticket" "RolloverModel$Ticket" "minute" "I") ∈ lw_all := lw_g (lw_at lw_m8 48 rfl) rfl
theorem q1798 : (Jvm.Cond.soleField "RolloverModel$Ticket" "minute") ∈ lw_all := lw_g (lw_at lw_m8 49 rfl) rfl
theorem q1799 : (Jvm.Cond.lays "RolloverModel$Ticket" "RolloverModel$Ticket" "seconds" "I") ∈ lw_all := lw_g (lw_at lw_m8 50 rfl) rfl
theorem q1800 : (Jvm.Cond.soleField "RolloverModel$Ticket" "seconds") ∈ lw_all := lw_g (lw_at lw_m8 51 rfl) rfl
theorem q1801 : (Jvm.Cond.lays "RolloverModel$Ticket" "RolloverModel$Ticket" "which" "I") ∈ lw_all := lw_g (lw_at lw_m8 52 rfl) rfl
theorem q1802 : (Jvm.Cond.soleField "RolloverModel$Ticket" "which") ∈ lw_all := lw_g (lw_at lw_m8 53 rfl) rfl
theorem q1803 : (Jvm.Cond.lays "RolloverModel$Ticket" "RolloverModel$Ticket" "more" "I") ∈ lw_all := lw_g (lw_at lw_m8 54 rfl) rfl
theorem q1804 : (Jvm.Cond.soleField "RolloverModel$Ticket" "more") ∈ lw_all := lw_g (lw_at lw_m8 55 rfl) rfl
theorem q1805 : (Jvm.Cond.lays "RolloverModel$Ticket" "RolloverModel$Ticket" "isVoid" "Z") ∈ lw_all := lw_g (lw_at lw_m8 56 rfl) rfl
theorem q1806 : (Jvm.Cond.soleField "RolloverModel$Ticket" "isVoid") ∈ lw_all := lw_g (lw_at lw_m8 57 rfl) rfl
theorem q1807 : (Jvm.Cond.superclass "RolloverModel$Ticket" "java/lang/Object") ∈ lw_all := lw_g (lw_at lw_m8 58 rfl) rfl
theorem q1809 : (Jvm.Cond.instanceMethod ({ cls := "RolloverModel$Ticket", name := "begin", desc := "()I" } : Jvm.MethodName)) ∈ lw_all := lw_g (lw_at lw_m8 60 rfl) rfl
theorem q1810 : (Jvm.Cond.selects "RolloverModel$Ticket" ({ cls := "RolloverModel$Ticket", name := "begin", desc := "()I" } : Jvm.MethodName) ({ cls := "RolloverModel$Ticket", name := "begin", desc := "()I" } : Jvm.MethodName)) ∈ lw_all := lw_g (lw_at lw_m8 61 rfl) rfl
theorem q1811 : (Jvm.Cond.code ({ cls := "RolloverModel$Ticket", name := "begin", desc := "()I" } : Jvm.MethodName) prog_19_method_3_code (1 : Nat) (Option.some Jvm.ClassFile.FieldType.int)) ∈ lw_all := lw_g (lw_at lw_m8 62 rfl) rfl
theorem q1913 : (Jvm.Cond.instanceMethod ({ cls := "RolloverModel$Ticket", name := "isCallOf", desc := "(I)Z" } : Jvm.MethodName)) ∈ lw_all := lw_g (lw_at lw_m8 164 rfl) rfl
theorem q1914 : (Jvm.Cond.selects "RolloverModel$Ticket" ({ cls := "RolloverModel$Ticket", name := "isCallOf", desc := "(I)Z" } : Jvm.MethodName) ({ cls := "RolloverModel$Ticket", name := "isCallOf", desc := "(I)Z" } : Jvm.MethodName)) ∈ lw_all := lw_g (lw_at lw_m8 165 rfl) rfl
theorem q1915 : (Jvm.Cond.code ({ cls := "RolloverModel$Ticket", name := "isCallOf", desc := "(I)Z" } : Jvm.MethodName) prog_19_method_2_code (2 : Nat) (Option.some Jvm.ClassFile.FieldType.boolean)) ∈ lw_all := lw_g (lw_at lw_m8 166 rfl) rfl
theorem q2113 : (Jvm.Cond.castable "RolloverModel$Ticket" "java/lang/Object") ∈ lw_tbl := lw_at lw_m9 124 rfl
theorem in_X10 : ∀ w ∈ wsX100, w ∈ lw_all := lw_in wsX100 [1791, 1793, 1795, 1797, 1799, 1801, 1803, 1805] (by decide +kernel) (by decide +kernel)
/-! Rollover$Rating -/
set_option maxRecDepth 100000
def RX11 : String := "Rollover$Rating"
def TX11 : u_T := fun k => match k with
  | 0 => ("Rollover$Rating", "until", "I", true)
  | 1 => ("Rollover$Rating", "who", "I", true)
  | 2 => ("Rollover$Rating", "plan", "I", true)
  | 3 => ("Rollover$Rating", "buckets", "Ljava/util/List;", true)
  | 4 => ("Rollover$Rating", "lines", "Ljava/util/List;", true)
  | 5 => ("Rollover$Rating", "accounts", "Ljava/util/List;", true)
  | 6 => ("Rollover$Rating", "ofDay", "[I", true)
  | 7 => ("Rollover$Rating", "isSound", "Z", false)
  | _ => ("Rollover$Rating", "this$0", "LRollover;", true)
def tyX11 : Nat → FieldType := fun k => match k with
  | 0 => .int
  | 1 => .int
  | 2 => .int
  | 3 => .object "java/util/List"
  | 4 => .object "java/util/List"
  | 5 => .object "java/util/List"
  | 6 => .array .int
  | 7 => .boolean
  | _ => .object "Rollover"
abbrev wsX110 : List Cond := u_ws RX11 TX11 9
theorem nmX11 : ∀ a, a < 9 → ∀ b, b < 9 → a ≠ b → (TX11 a).2.1 ≠ (TX11 b).2.1 := by decide +kernel
theorem tyX11_ok : ∀ k, k < 9 → parseFieldDescriptor (TX11 k).2.2.1 = some (tyX11 k) := by decide +kernel
abbrev cX11_init : ByteArray := prog_9_method_1_code
def yX11_init : MethodName := ⟨RX11, "<init>", "(LRollover;III)V"⟩
def dkwX11_init_8 : List UInt8 := [87, 132, 5, 1, 167, 255, 222, 42, 182, 0, 71, 177]
abbrev dktX11_init_8 : List UInt8 := dkwX11_init_8 ++ []
def dkwX11_init_7 : List UInt8 := [185, 0, 31, 1, 0, 162, 0, 26, 42, 180, 0, 22, 187, 0, 68, 89, 183, 0, 70, 185, 0, 58, 2, 0]
abbrev dktX11_init_7 : List UInt8 := dkwX11_init_7 ++ dktX11_init_8
def dkwX11_init_6 : List UInt8 := [132, 6, 1, 167, 255, 229, 132, 5, 1, 167, 255, 189, 3, 54, 5, 21, 5, 43, 180, 0, 65]
abbrev dktX11_init_6 : List UInt8 := dkwX11_init_6 ++ dktX11_init_7
def dkwX11_init_5 : List UInt8 := [21, 6, 16, 12, 162, 0, 26, 42, 180, 0, 25, 187, 0, 62, 89, 183, 0, 64, 185, 0, 58, 2, 0, 87]
abbrev dktX11_init_5 : List UInt8 := dkwX11_init_5 ++ dktX11_init_6
def dkwX11_init_4 : List UInt8 := [162, 0, 59, 42, 180, 0, 18, 187, 0, 55, 89, 183, 0, 57, 185, 0, 58, 2, 0, 87, 3, 54, 6]
abbrev dktX11_init_4 : List UInt8 := dkwX11_init_4 ++ dktX11_init_5
def dkwX11_init_3 : List UInt8 := [29, 181, 0, 49, 42, 21, 4, 181, 0, 52, 3, 54, 5, 21, 5, 43, 180, 0, 28, 185, 0, 31, 1, 0]
abbrev dktX11_init_3 : List UInt8 := dkwX11_init_3 ++ dktX11_init_4
def dkwX11_init_2 : List UInt8 := [180, 0, 28, 185, 0, 31, 1, 0, 188, 10, 181, 0, 37, 42, 4, 181, 0, 41, 42, 28, 181, 0, 45, 42]
abbrev dktX11_init_2 : List UInt8 := dkwX11_init_2 ++ dktX11_init_3
def dkwX11_init_1 : List UInt8 := [89, 183, 0, 17, 181, 0, 22, 42, 187, 0, 15, 89, 183, 0, 17, 181, 0, 25, 42, 42, 180, 0, 3]
abbrev dktX11_init_1 : List UInt8 := dkwX11_init_1 ++ dktX11_init_2
def dkwX11_init_0 : List UInt8 := [42, 43, 181, 0, 3, 42, 183, 0, 9, 42, 187, 0, 15, 89, 183, 0, 17, 181, 0, 18, 42, 187, 0, 15]
abbrev dktX11_init_0 : List UInt8 := dkwX11_init_0 ++ dktX11_init_1
theorem dksX11_init_0 : cX11_init.data.toList.drop 0 = dktX11_init_0 := by decide +kernel
theorem dksX11_init_1 : cX11_init.data.toList.drop 24 = dktX11_init_1 := dk_seg dksX11_init_0 24 rfl rfl
theorem dksX11_init_2 : cX11_init.data.toList.drop 47 = dktX11_init_2 := dk_seg dksX11_init_1 23 rfl rfl
theorem dksX11_init_3 : cX11_init.data.toList.drop 71 = dktX11_init_3 := dk_seg dksX11_init_2 24 rfl rfl
theorem dksX11_init_4 : cX11_init.data.toList.drop 95 = dktX11_init_4 := dk_seg dksX11_init_3 24 rfl rfl
theorem dksX11_init_5 : cX11_init.data.toList.drop 118 = dktX11_init_5 := dk_seg dksX11_init_4 23 rfl rfl
theorem dksX11_init_6 : cX11_init.data.toList.drop 142 = dktX11_init_6 := dk_seg dksX11_init_5 24 rfl rfl
theorem dksX11_init_7 : cX11_init.data.toList.drop 163 = dktX11_init_7 := dk_seg dksX11_init_6 21 rfl rfl
theorem dksX11_init_8 : cX11_init.data.toList.drop 187 = dktX11_init_8 := dk_seg dksX11_init_7 24 rfl rfl
theorem dX11_init_0 : decode cX11_init 0 = .ok (.aload_n 0, 1) := dk_42 (dk_at dksX11_init_0 0 rfl rfl)
theorem dX11_init_1 : decode cX11_init 1 = .ok (.aload_n 1, 1) := dk_43 (dk_at dksX11_init_0 1 rfl rfl)
theorem dX11_init_2 : decode cX11_init 2 = .ok (.putfield 3, 3) := dk_181 0 3 (dk_at dksX11_init_0 2 rfl rfl)
theorem dX11_init_5 : decode cX11_init 5 = .ok (.aload_n 0, 1) := dk_42 (dk_at dksX11_init_0 5 rfl rfl)
theorem dX11_init_6 : decode cX11_init 6 = .ok (.invokespecial 9, 3) := dk_183 0 9 (dk_at dksX11_init_0 6 rfl rfl)
theorem dX11_init_9 : decode cX11_init 9 = .ok (.aload_n 0, 1) := dk_42 (dk_at dksX11_init_0 9 rfl rfl)
theorem dX11_init_10 : decode cX11_init 10 = .ok (.new 15, 3) := dk_187 0 15 (dk_at dksX11_init_0 10 rfl rfl)
theorem dX11_init_13 : decode cX11_init 13 = .ok (.dup, 1) := dk_89 (dk_at dksX11_init_0 13 rfl rfl)
theorem dX11_init_14 : decode cX11_init 14 = .ok (.invokespecial 17, 3) := dk_183 0 17 (dk_at dksX11_init_0 14 rfl rfl)
theorem dX11_init_17 : decode cX11_init 17 = .ok (.putfield 18, 3) := dk_181 0 18 (dk_at dksX11_init_0 17 rfl rfl)
theorem dX11_init_20 : decode cX11_init 20 = .ok (.aload_n 0, 1) := dk_42 (dk_at dksX11_init_0 20 rfl rfl)
theorem dX11_init_21 : decode cX11_init 21 = .ok (.new 15, 3) := dk_187 0 15 (dk_at dksX11_init_0 21 rfl rfl)
theorem dX11_init_24 : decode cX11_init 24 = .ok (.dup, 1) := dk_89 (dk_at dksX11_init_1 0 rfl rfl)
theorem dX11_init_25 : decode cX11_init 25 = .ok (.invokespecial 17, 3) := dk_183 0 17 (dk_at dksX11_init_1 1 rfl rfl)
theorem dX11_init_28 : decode cX11_init 28 = .ok (.putfield 22, 3) := dk_181 0 22 (dk_at dksX11_init_1 4 rfl rfl)
theorem dX11_init_31 : decode cX11_init 31 = .ok (.aload_n 0, 1) := dk_42 (dk_at dksX11_init_1 7 rfl rfl)
theorem dX11_init_32 : decode cX11_init 32 = .ok (.new 15, 3) := dk_187 0 15 (dk_at dksX11_init_1 8 rfl rfl)
theorem dX11_init_35 : decode cX11_init 35 = .ok (.dup, 1) := dk_89 (dk_at dksX11_init_1 11 rfl rfl)
theorem dX11_init_36 : decode cX11_init 36 = .ok (.invokespecial 17, 3) := dk_183 0 17 (dk_at dksX11_init_1 12 rfl rfl)
theorem dX11_init_39 : decode cX11_init 39 = .ok (.putfield 25, 3) := dk_181 0 25 (dk_at dksX11_init_1 15 rfl rfl)
theorem dX11_init_42 : decode cX11_init 42 = .ok (.aload_n 0, 1) := dk_42 (dk_at dksX11_init_1 18 rfl rfl)
theorem dX11_init_43 : decode cX11_init 43 = .ok (.aload_n 0, 1) := dk_42 (dk_at dksX11_init_1 19 rfl rfl)
theorem dX11_init_44 : decode cX11_init 44 = .ok (.getfield 3, 3) := dk_180 0 3 (dk_at dksX11_init_1 20 rfl rfl)
theorem dX11_init_47 : decode cX11_init 47 = .ok (.getfield 28, 3) := dk_180 0 28 (dk_at dksX11_init_2 0 rfl rfl)
theorem dX11_init_50 : decode cX11_init 50 = .ok (.invokeinterface 31 1, 5) := by decide +kernel
theorem dX11_init_55 : decode cX11_init 55 = .ok (.newarray .int, 2) := dk_188_10 (dk_at dksX11_init_2 8 rfl rfl)
theorem dX11_init_57 : decode cX11_init 57 = .ok (.putfield 37, 3) := dk_181 0 37 (dk_at dksX11_init_2 10 rfl rfl)
theorem dX11_init_60 : decode cX11_init 60 = .ok (.aload_n 0, 1) := dk_42 (dk_at dksX11_init_2 13 rfl rfl)
theorem dX11_init_61 : decode cX11_init 61 = .ok (.iconst 1, 1) := dk_4 (dk_at dksX11_init_2 14 rfl rfl)
theorem dX11_init_62 : decode cX11_init 62 = .ok (.putfield 41, 3) := dk_181 0 41 (dk_at dksX11_init_2 15 rfl rfl)
theorem dX11_init_65 : decode cX11_init 65 = .ok (.aload_n 0, 1) := dk_42 (dk_at dksX11_init_2 18 rfl rfl)
theorem dX11_init_66 : decode cX11_init 66 = .ok (.iload_n 2, 1) := dk_28 (dk_at dksX11_init_2 19 rfl rfl)
theorem dX11_init_67 : decode cX11_init 67 = .ok (.putfield 45, 3) := dk_181 0 45 (dk_at dksX11_init_2 20 rfl rfl)
theorem dX11_init_70 : decode cX11_init 70 = .ok (.aload_n 0, 1) := dk_42 (dk_at dksX11_init_2 23 rfl rfl)
theorem dX11_init_71 : decode cX11_init 71 = .ok (.iload_n 3, 1) := dk_29 (dk_at dksX11_init_3 0 rfl rfl)
theorem dX11_init_72 : decode cX11_init 72 = .ok (.putfield 49, 3) := dk_181 0 49 (dk_at dksX11_init_3 1 rfl rfl)
theorem dX11_init_75 : decode cX11_init 75 = .ok (.aload_n 0, 1) := dk_42 (dk_at dksX11_init_3 4 rfl rfl)
theorem dX11_init_76 : decode cX11_init 76 = .ok (.iload 4, 2) := dk_21 4 (dk_at dksX11_init_3 5 rfl rfl)
theorem dX11_init_78 : decode cX11_init 78 = .ok (.putfield 52, 3) := dk_181 0 52 (dk_at dksX11_init_3 7 rfl rfl)
theorem dX11_init_81 : decode cX11_init 81 = .ok (.iconst 0, 1) := dk_3 (dk_at dksX11_init_3 10 rfl rfl)
theorem dX11_init_82 : decode cX11_init 82 = .ok (.istore 5, 2) := dk_54 5 (dk_at dksX11_init_3 11 rfl rfl)
theorem dX11_init_84 : decode cX11_init 84 = .ok (.iload 5, 2) := dk_21 5 (dk_at dksX11_init_3 13 rfl rfl)
theorem dX11_init_86 : decode cX11_init 86 = .ok (.aload_n 1, 1) := dk_43 (dk_at dksX11_init_3 15 rfl rfl)
theorem dX11_init_87 : decode cX11_init 87 = .ok (.getfield 28, 3) := dk_180 0 28 (dk_at dksX11_init_3 16 rfl rfl)
theorem dX11_init_90 : decode cX11_init 90 = .ok (.invokeinterface 31 1, 5) := by decide +kernel
theorem dX11_init_95 : decode cX11_init 95 = .ok (.if_icmp .ge 59, 3) := dk_162 0 59 (dk_at dksX11_init_4 0 rfl rfl)
theorem dX11_init_98 : decode cX11_init 98 = .ok (.aload_n 0, 1) := dk_42 (dk_at dksX11_init_4 3 rfl rfl)
theorem dX11_init_99 : decode cX11_init 99 = .ok (.getfield 18, 3) := dk_180 0 18 (dk_at dksX11_init_4 4 rfl rfl)
theorem dX11_init_102 : decode cX11_init 102 = .ok (.new 55, 3) := dk_187 0 55 (dk_at dksX11_init_4 7 rfl rfl)
theorem dX11_init_105 : decode cX11_init 105 = .ok (.dup, 1) := dk_89 (dk_at dksX11_init_4 10 rfl rfl)
theorem dX11_init_106 : decode cX11_init 106 = .ok (.invokespecial 57, 3) := dk_183 0 57 (dk_at dksX11_init_4 11 rfl rfl)
theorem dX11_init_109 : decode cX11_init 109 = .ok (.invokeinterface 58 2, 5) := by decide +kernel
theorem dX11_init_114 : decode cX11_init 114 = .ok (.pop, 1) := dk_87 (dk_at dksX11_init_4 19 rfl rfl)
theorem dX11_init_115 : decode cX11_init 115 = .ok (.iconst 0, 1) := dk_3 (dk_at dksX11_init_4 20 rfl rfl)
theorem dX11_init_116 : decode cX11_init 116 = .ok (.istore 6, 2) := dk_54 6 (dk_at dksX11_init_4 21 rfl rfl)
theorem dX11_init_118 : decode cX11_init 118 = .ok (.iload 6, 2) := dk_21 6 (dk_at dksX11_init_5 0 rfl rfl)
theorem dX11_init_120 : decode cX11_init 120 = .ok (.bipush 12, 2) := dk_16 12 (dk_at dksX11_init_5 2 rfl rfl)
theorem dX11_init_122 : decode cX11_init 122 = .ok (.if_icmp .ge 26, 3) := dk_162 0 26 (dk_at dksX11_init_5 4 rfl rfl)
theorem dX11_init_125 : decode cX11_init 125 = .ok (.aload_n 0, 1) := dk_42 (dk_at dksX11_init_5 7 rfl rfl)
theorem dX11_init_126 : decode cX11_init 126 = .ok (.getfield 25, 3) := dk_180 0 25 (dk_at dksX11_init_5 8 rfl rfl)
theorem dX11_init_129 : decode cX11_init 129 = .ok (.new 62, 3) := dk_187 0 62 (dk_at dksX11_init_5 11 rfl rfl)
theorem dX11_init_132 : decode cX11_init 132 = .ok (.dup, 1) := dk_89 (dk_at dksX11_init_5 14 rfl rfl)
theorem dX11_init_133 : decode cX11_init 133 = .ok (.invokespecial 64, 3) := dk_183 0 64 (dk_at dksX11_init_5 15 rfl rfl)
theorem dX11_init_136 : decode cX11_init 136 = .ok (.invokeinterface 58 2, 5) := by decide +kernel
theorem dX11_init_141 : decode cX11_init 141 = .ok (.pop, 1) := dk_87 (dk_at dksX11_init_5 23 rfl rfl)
theorem dX11_init_142 : decode cX11_init 142 = .ok (.iinc 6 1, 3) := dk_132 6 1 (dk_at dksX11_init_6 0 rfl rfl)
theorem dX11_init_145 : decode cX11_init 145 = .ok (.goto (-27), 3) := dk_167 255 229 (dk_at dksX11_init_6 3 rfl rfl)
theorem dX11_init_148 : decode cX11_init 148 = .ok (.iinc 5 1, 3) := dk_132 5 1 (dk_at dksX11_init_6 6 rfl rfl)
theorem dX11_init_151 : decode cX11_init 151 = .ok (.goto (-67), 3) := dk_167 255 189 (dk_at dksX11_init_6 9 rfl rfl)
theorem dX11_init_154 : decode cX11_init 154 = .ok (.iconst 0, 1) := dk_3 (dk_at dksX11_init_6 12 rfl rfl)
theorem dX11_init_155 : decode cX11_init 155 = .ok (.istore 5, 2) := dk_54 5 (dk_at dksX11_init_6 13 rfl rfl)
theorem dX11_init_157 : decode cX11_init 157 = .ok (.iload 5, 2) := dk_21 5 (dk_at dksX11_init_6 15 rfl rfl)
theorem dX11_init_159 : decode cX11_init 159 = .ok (.aload_n 1, 1) := dk_43 (dk_at dksX11_init_6 17 rfl rfl)
theorem dX11_init_160 : decode cX11_init 160 = .ok (.getfield 65, 3) := dk_180 0 65 (dk_at dksX11_init_6 18 rfl rfl)
theorem dX11_init_163 : decode cX11_init 163 = .ok (.invokeinterface 31 1, 5) := by decide +kernel
theorem dX11_init_168 : decode cX11_init 168 = .ok (.if_icmp .ge 26, 3) := dk_162 0 26 (dk_at dksX11_init_7 5 rfl rfl)
theorem dX11_init_171 : decode cX11_init 171 = .ok (.aload_n 0, 1) := dk_42 (dk_at dksX11_init_7 8 rfl rfl)
theorem dX11_init_172 : decode cX11_init 172 = .ok (.getfield 22, 3) := dk_180 0 22 (dk_at dksX11_init_7 9 rfl rfl)
theorem dX11_init_175 : decode cX11_init 175 = .ok (.new 68, 3) := dk_187 0 68 (dk_at dksX11_init_7 12 rfl rfl)
theorem dX11_init_178 : decode cX11_init 178 = .ok (.dup, 1) := dk_89 (dk_at dksX11_init_7 15 rfl rfl)
theorem dX11_init_179 : decode cX11_init 179 = .ok (.invokespecial 70, 3) := dk_183 0 70 (dk_at dksX11_init_7 16 rfl rfl)
theorem dX11_init_182 : decode cX11_init 182 = .ok (.invokeinterface 58 2, 5) := by decide +kernel
theorem dX11_init_187 : decode cX11_init 187 = .ok (.pop, 1) := dk_87 (dk_at dksX11_init_8 0 rfl rfl)
theorem dX11_init_188 : decode cX11_init 188 = .ok (.iinc 5 1, 3) := dk_132 5 1 (dk_at dksX11_init_8 1 rfl rfl)
theorem dX11_init_191 : decode cX11_init 191 = .ok (.goto (-34), 3) := dk_167 255 222 (dk_at dksX11_init_8 4 rfl rfl)
theorem dX11_init_194 : decode cX11_init 194 = .ok (.aload_n 0, 1) := dk_42 (dk_at dksX11_init_8 7 rfl rfl)
theorem dX11_init_195 : decode cX11_init 195 = .ok (.invokevirtual 71, 3) := dk_182 0 71 (dk_at dksX11_init_8 8 rfl rfl)
theorem dX11_init_198 : decode cX11_init 198 = .ok (.return_, 1) := dk_177 (dk_at dksX11_init_8 11 rfl rfl)
abbrev cX11_run : ByteArray := prog_9_method_2_code
def yX11_run : MethodName := ⟨RX11, "run", "()V"⟩
def dkwX11_run_5 : List UInt8 := [192, 0, 68, 182, 0, 91, 132, 2, 1, 167, 255, 185, 132, 3, 1, 167, 255, 139, 177]
abbrev dktX11_run_5 : List UInt8 := dkwX11_run_5 ++ []
def dkwX11_run_4 : List UInt8 := [28, 46, 185, 0, 82, 2, 0, 192, 0, 86, 42, 180, 0, 22, 43, 28, 46, 185, 0, 82, 2, 0]
abbrev dktX11_run_4 : List UInt8 := dkwX11_run_4 ++ dktX11_run_5
def dkwX11_run_3 : List UInt8 := [185, 0, 82, 2, 0, 192, 0, 86, 180, 0, 88, 29, 160, 0, 46, 42, 42, 180, 0, 3, 180, 0, 65, 43]
abbrev dktX11_run_3 : List UInt8 := dkwX11_run_3 ++ dktX11_run_4
def dkwX11_run_2 : List UInt8 := [132, 4, 1, 167, 255, 235, 28, 43, 190, 162, 0, 71, 42, 180, 0, 3, 180, 0, 65, 43, 28, 46]
abbrev dktX11_run_2 : List UInt8 := dkwX11_run_2 ++ dktX11_run_3
def dkwX11_run_1 : List UInt8 := [182, 0, 78, 3, 54, 4, 21, 4, 42, 180, 0, 37, 190, 162, 0, 17, 42, 180, 0, 37, 21, 4, 3, 79]
abbrev dktX11_run_1 : List UInt8 := dkwX11_run_1 ++ dktX11_run_2
def dkwX11_run_0 : List UInt8 := [42, 180, 0, 3, 182, 0, 74, 76, 3, 61, 3, 62, 29, 42, 180, 0, 45, 163, 0, 115, 42, 29]
abbrev dktX11_run_0 : List UInt8 := dkwX11_run_0 ++ dktX11_run_1
theorem dksX11_run_0 : cX11_run.data.toList.drop 0 = dktX11_run_0 := by decide +kernel
theorem dksX11_run_1 : cX11_run.data.toList.drop 22 = dktX11_run_1 := dk_seg dksX11_run_0 22 rfl rfl
theorem dksX11_run_2 : cX11_run.data.toList.drop 46 = dktX11_run_2 := dk_seg dksX11_run_1 24 rfl rfl
theorem dksX11_run_3 : cX11_run.data.toList.drop 68 = dktX11_run_3 := dk_seg dksX11_run_2 22 rfl rfl
theorem dksX11_run_4 : cX11_run.data.toList.drop 92 = dktX11_run_4 := dk_seg dksX11_run_3 24 rfl rfl
theorem dksX11_run_5 : cX11_run.data.toList.drop 114 = dktX11_run_5 := dk_seg dksX11_run_4 22 rfl rfl
theorem dX11_run_0 : decode cX11_run 0 = .ok (.aload_n 0, 1) := dk_42 (dk_at dksX11_run_0 0 rfl rfl)
theorem dX11_run_1 : decode cX11_run 1 = .ok (.getfield 3, 3) := dk_180 0 3 (dk_at dksX11_run_0 1 rfl rfl)
theorem dX11_run_4 : decode cX11_run 4 = .ok (.invokevirtual 74, 3) := dk_182 0 74 (dk_at dksX11_run_0 4 rfl rfl)
theorem dX11_run_7 : decode cX11_run 7 = .ok (.astore_n 1, 1) := dk_76 (dk_at dksX11_run_0 7 rfl rfl)
theorem dX11_run_8 : decode cX11_run 8 = .ok (.iconst 0, 1) := dk_3 (dk_at dksX11_run_0 8 rfl rfl)
theorem dX11_run_9 : decode cX11_run 9 = .ok (.istore_n 2, 1) := dk_61 (dk_at dksX11_run_0 9 rfl rfl)
theorem dX11_run_10 : decode cX11_run 10 = .ok (.iconst 0, 1) := dk_3 (dk_at dksX11_run_0 10 rfl rfl)
theorem dX11_run_11 : decode cX11_run 11 = .ok (.istore_n 3, 1) := dk_62 (dk_at dksX11_run_0 11 rfl rfl)
theorem dX11_run_12 : decode cX11_run 12 = .ok (.iload_n 3, 1) := dk_29 (dk_at dksX11_run_0 12 rfl rfl)
theorem dX11_run_13 : decode cX11_run 13 = .ok (.aload_n 0, 1) := dk_42 (dk_at dksX11_run_0 13 rfl rfl)
theorem dX11_run_14 : decode cX11_run 14 = .ok (.getfield 45, 3) := dk_180 0 45 (dk_at dksX11_run_0 14 rfl rfl)
theorem dX11_run_17 : decode cX11_run 17 = .ok (.if_icmp .gt 115, 3) := dk_163 0 115 (dk_at dksX11_run_0 17 rfl rfl)
theorem dX11_run_20 : decode cX11_run 20 = .ok (.aload_n 0, 1) := dk_42 (dk_at dksX11_run_0 20 rfl rfl)
theorem dX11_run_21 : decode cX11_run 21 = .ok (.iload_n 3, 1) := dk_29 (dk_at dksX11_run_0 21 rfl rfl)
theorem dX11_run_22 : decode cX11_run 22 = .ok (.invokevirtual 78, 3) := dk_182 0 78 (dk_at dksX11_run_1 0 rfl rfl)
theorem dX11_run_25 : decode cX11_run 25 = .ok (.iconst 0, 1) := dk_3 (dk_at dksX11_run_1 3 rfl rfl)
theorem dX11_run_26 : decode cX11_run 26 = .ok (.istore 4, 2) := dk_54 4 (dk_at dksX11_run_1 4 rfl rfl)
theorem dX11_run_28 : decode cX11_run 28 = .ok (.iload 4, 2) := dk_21 4 (dk_at dksX11_run_1 6 rfl rfl)
theorem dX11_run_30 : decode cX11_run 30 = .ok (.aload_n 0, 1) := dk_42 (dk_at dksX11_run_1 8 rfl rfl)
theorem dX11_run_31 : decode cX11_run 31 = .ok (.getfield 37, 3) := dk_180 0 37 (dk_at dksX11_run_1 9 rfl rfl)
theorem dX11_run_34 : decode cX11_run 34 = .ok (.arraylength, 1) := dk_190 (dk_at dksX11_run_1 12 rfl rfl)
theorem dX11_run_35 : decode cX11_run 35 = .ok (.if_icmp .ge 17, 3) := dk_162 0 17 (dk_at dksX11_run_1 13 rfl rfl)
theorem dX11_run_38 : decode cX11_run 38 = .ok (.aload_n 0, 1) := dk_42 (dk_at dksX11_run_1 16 rfl rfl)
theorem dX11_run_39 : decode cX11_run 39 = .ok (.getfield 37, 3) := dk_180 0 37 (dk_at dksX11_run_1 17 rfl rfl)
theorem dX11_run_42 : decode cX11_run 42 = .ok (.iload 4, 2) := dk_21 4 (dk_at dksX11_run_1 20 rfl rfl)
theorem dX11_run_44 : decode cX11_run 44 = .ok (.iconst 0, 1) := dk_3 (dk_at dksX11_run_1 22 rfl rfl)
theorem dX11_run_45 : decode cX11_run 45 = .ok (.iastore, 1) := dk_79 (dk_at dksX11_run_1 23 rfl rfl)
theorem dX11_run_46 : decode cX11_run 46 = .ok (.iinc 4 1, 3) := dk_132 4 1 (dk_at dksX11_run_2 0 rfl rfl)
theorem dX11_run_49 : decode cX11_run 49 = .ok (.goto (-21), 3) := dk_167 255 235 (dk_at dksX11_run_2 3 rfl rfl)
theorem dX11_run_52 : decode cX11_run 52 = .ok (.iload_n 2, 1) := dk_28 (dk_at dksX11_run_2 6 rfl rfl)
theorem dX11_run_53 : decode cX11_run 53 = .ok (.aload_n 1, 1) := dk_43 (dk_at dksX11_run_2 7 rfl rfl)
theorem dX11_run_54 : decode cX11_run 54 = .ok (.arraylength, 1) := dk_190 (dk_at dksX11_run_2 8 rfl rfl)
theorem dX11_run_55 : decode cX11_run 55 = .ok (.if_icmp .ge 71, 3) := dk_162 0 71 (dk_at dksX11_run_2 9 rfl rfl)
theorem dX11_run_58 : decode cX11_run 58 = .ok (.aload_n 0, 1) := dk_42 (dk_at dksX11_run_2 12 rfl rfl)
theorem dX11_run_59 : decode cX11_run 59 = .ok (.getfield 3, 3) := dk_180 0 3 (dk_at dksX11_run_2 13 rfl rfl)
theorem dX11_run_62 : decode cX11_run 62 = .ok (.getfield 65, 3) := dk_180 0 65 (dk_at dksX11_run_2 16 rfl rfl)
theorem dX11_run_65 : decode cX11_run 65 = .ok (.aload_n 1, 1) := dk_43 (dk_at dksX11_run_2 19 rfl rfl)
theorem dX11_run_66 : decode cX11_run 66 = .ok (.iload_n 2, 1) := dk_28 (dk_at dksX11_run_2 20 rfl rfl)
theorem dX11_run_67 : decode cX11_run 67 = .ok (.iaload, 1) := dk_46 (dk_at dksX11_run_2 21 rfl rfl)
theorem dX11_run_68 : decode cX11_run 68 = .ok (.invokeinterface 82 2, 5) := by decide +kernel
theorem dX11_run_73 : decode cX11_run 73 = .ok (.checkcast 86, 3) := dk_192 0 86 (dk_at dksX11_run_3 5 rfl rfl)
theorem dX11_run_76 : decode cX11_run 76 = .ok (.getfield 88, 3) := dk_180 0 88 (dk_at dksX11_run_3 8 rfl rfl)
theorem dX11_run_79 : decode cX11_run 79 = .ok (.iload_n 3, 1) := dk_29 (dk_at dksX11_run_3 11 rfl rfl)
theorem dX11_run_80 : decode cX11_run 80 = .ok (.if_icmp .ne 46, 3) := dk_160 0 46 (dk_at dksX11_run_3 12 rfl rfl)
theorem dX11_run_83 : decode cX11_run 83 = .ok (.aload_n 0, 1) := dk_42 (dk_at dksX11_run_3 15 rfl rfl)
theorem dX11_run_84 : decode cX11_run 84 = .ok (.aload_n 0, 1) := dk_42 (dk_at dksX11_run_3 16 rfl rfl)
theorem dX11_run_85 : decode cX11_run 85 = .ok (.getfield 3, 3) := dk_180 0 3 (dk_at dksX11_run_3 17 rfl rfl)
theorem dX11_run_88 : decode cX11_run 88 = .ok (.getfield 65, 3) := dk_180 0 65 (dk_at dksX11_run_3 20 rfl rfl)
theorem dX11_run_91 : decode cX11_run 91 = .ok (.aload_n 1, 1) := dk_43 (dk_at dksX11_run_3 23 rfl rfl)
theorem dX11_run_92 : decode cX11_run 92 = .ok (.iload_n 2, 1) := dk_28 (dk_at dksX11_run_4 0 rfl rfl)
theorem dX11_run_93 : decode cX11_run 93 = .ok (.iaload, 1) := dk_46 (dk_at dksX11_run_4 1 rfl rfl)
theorem dX11_run_94 : decode cX11_run 94 = .ok (.invokeinterface 82 2, 5) := by decide +kernel
theorem dX11_run_99 : decode cX11_run 99 = .ok (.checkcast 86, 3) := dk_192 0 86 (dk_at dksX11_run_4 7 rfl rfl)
theorem dX11_run_102 : decode cX11_run 102 = .ok (.aload_n 0, 1) := dk_42 (dk_at dksX11_run_4 10 rfl rfl)
theorem dX11_run_103 : decode cX11_run 103 = .ok (.getfield 22, 3) := dk_180 0 22 (dk_at dksX11_run_4 11 rfl rfl)
theorem dX11_run_106 : decode cX11_run 106 = .ok (.aload_n 1, 1) := dk_43 (dk_at dksX11_run_4 14 rfl rfl)
theorem dX11_run_107 : decode cX11_run 107 = .ok (.iload_n 2, 1) := dk_28 (dk_at dksX11_run_4 15 rfl rfl)
theorem dX11_run_108 : decode cX11_run 108 = .ok (.iaload, 1) := dk_46 (dk_at dksX11_run_4 16 rfl rfl)
theorem dX11_run_109 : decode cX11_run 109 = .ok (.invokeinterface 82 2, 5) := by decide +kernel
theorem dX11_run_114 : decode cX11_run 114 = .ok (.checkcast 68, 3) := dk_192 0 68 (dk_at dksX11_run_5 0 rfl rfl)
theorem dX11_run_117 : decode cX11_run 117 = .ok (.invokevirtual 91, 3) := dk_182 0 91 (dk_at dksX11_run_5 3 rfl rfl)
theorem dX11_run_120 : decode cX11_run 120 = .ok (.iinc 2 1, 3) := dk_132 2 1 (dk_at dksX11_run_5 6 rfl rfl)
theorem dX11_run_123 : decode cX11_run 123 = .ok (.goto (-71), 3) := dk_167 255 185 (dk_at dksX11_run_5 9 rfl rfl)
theorem dX11_run_126 : decode cX11_run 126 = .ok (.iinc 3 1, 3) := dk_132 3 1 (dk_at dksX11_run_5 12 rfl rfl)
theorem dX11_run_129 : decode cX11_run 129 = .ok (.goto (-117), 3) := dk_167 255 139 (dk_at dksX11_run_5 15 rfl rfl)
theorem dX11_run_132 : decode cX11_run 132 = .ok (.return_, 1) := dk_177 (dk_at dksX11_run_5 18 rfl rfl)
abbrev cX11_grant : ByteArray := prog_9_method_5_code
def yX11_grant : MethodName := ⟨RX11, "grant", "(I)V"⟩
def dkwX11_grant_5 : List UInt8 := [108, 25, 4, 180, 0, 120, 96, 4, 96, 104, 4, 100, 182, 0, 123, 132, 2, 1, 167, 255, 124, 177]
abbrev dktX11_grant_5 : List UInt8 := dkwX11_grant_5 ++ []
def dkwX11_grant_4 : List UInt8 := [185, 0, 82, 2, 0, 192, 0, 55, 25, 4, 180, 0, 118, 21, 5, 104, 16, 30, 108, 16, 30, 27, 16, 30]
abbrev dktX11_grant_4 : List UInt8 := dkwX11_grant_4 ++ dktX11_grant_5
def dkwX11_grant_3 : List UInt8 := [185, 0, 82, 2, 0, 192, 0, 116, 58, 4, 16, 30, 27, 16, 30, 112, 100, 54, 5, 42, 180, 0, 18, 28]
abbrev dktX11_grant_3 : List UInt8 := dkwX11_grant_3 ++ dktX11_grant_4
def dkwX11_grant_2 : List UInt8 := [164, 0, 86, 27, 16, 30, 112, 154, 0, 79, 42, 180, 0, 3, 180, 0, 110, 42, 28, 27, 182, 0, 112]
abbrev dktX11_grant_2 : List UInt8 := dkwX11_grant_2 ++ dktX11_grant_3
def dkwX11_grant_1 : List UInt8 := [180, 0, 28, 28, 185, 0, 82, 2, 0, 192, 0, 95, 180, 0, 107, 62, 27, 29, 159, 0, 15, 27, 29]
abbrev dktX11_grant_1 : List UInt8 := dkwX11_grant_1 ++ dktX11_grant_2
def dkwX11_grant_0 : List UInt8 := [3, 61, 28, 42, 180, 0, 3, 180, 0, 28, 185, 0, 31, 1, 0, 162, 0, 122, 42, 180, 0, 3]
abbrev dktX11_grant_0 : List UInt8 := dkwX11_grant_0 ++ dktX11_grant_1
theorem dksX11_grant_0 : cX11_grant.data.toList.drop 0 = dktX11_grant_0 := by decide +kernel
theorem dksX11_grant_1 : cX11_grant.data.toList.drop 22 = dktX11_grant_1 := dk_seg dksX11_grant_0 22 rfl rfl
theorem dksX11_grant_2 : cX11_grant.data.toList.drop 45 = dktX11_grant_2 := dk_seg dksX11_grant_1 23 rfl rfl
theorem dksX11_grant_3 : cX11_grant.data.toList.drop 68 = dktX11_grant_3 := dk_seg dksX11_grant_2 23 rfl rfl
theorem dksX11_grant_4 : cX11_grant.data.toList.drop 92 = dktX11_grant_4 := dk_seg dksX11_grant_3 24 rfl rfl
theorem dksX11_grant_5 : cX11_grant.data.toList.drop 116 = dktX11_grant_5 := dk_seg dksX11_grant_4 24 rfl rfl
theorem dX11_grant_0 : decode cX11_grant 0 = .ok (.iconst 0, 1) := dk_3 (dk_at dksX11_grant_0 0 rfl rfl)
theorem dX11_grant_1 : decode cX11_grant 1 = .ok (.istore_n 2, 1) := dk_61 (dk_at dksX11_grant_0 1 rfl rfl)
theorem dX11_grant_2 : decode cX11_grant 2 = .ok (.iload_n 2, 1) := dk_28 (dk_at dksX11_grant_0 2 rfl rfl)
theorem dX11_grant_3 : decode cX11_grant 3 = .ok (.aload_n 0, 1) := dk_42 (dk_at dksX11_grant_0 3 rfl rfl)
theorem dX11_grant_4 : decode cX11_grant 4 = .ok (.getfield 3, 3) := dk_180 0 3 (dk_at dksX11_grant_0 4 rfl rfl)
theorem dX11_grant_7 : decode cX11_grant 7 = .ok (.getfield 28, 3) := dk_180 0 28 (dk_at dksX11_grant_0 7 rfl rfl)
theorem dX11_grant_10 : decode cX11_grant 10 = .ok (.invokeinterface 31 1, 5) := by decide +kernel
theorem dX11_grant_15 : decode cX11_grant 15 = .ok (.if_icmp .ge 122, 3) := dk_162 0 122 (dk_at dksX11_grant_0 15 rfl rfl)
theorem dX11_grant_18 : decode cX11_grant 18 = .ok (.aload_n 0, 1) := dk_42 (dk_at dksX11_grant_0 18 rfl rfl)
theorem dX11_grant_19 : decode cX11_grant 19 = .ok (.getfield 3, 3) := dk_180 0 3 (dk_at dksX11_grant_0 19 rfl rfl)
theorem dX11_grant_22 : decode cX11_grant 22 = .ok (.getfield 28, 3) := dk_180 0 28 (dk_at dksX11_grant_1 0 rfl rfl)
theorem dX11_grant_25 : decode cX11_grant 25 = .ok (.iload_n 2, 1) := dk_28 (dk_at dksX11_grant_1 3 rfl rfl)
theorem dX11_grant_26 : decode cX11_grant 26 = .ok (.invokeinterface 82 2, 5) := by decide +kernel
theorem dX11_grant_31 : decode cX11_grant 31 = .ok (.checkcast 95, 3) := dk_192 0 95 (dk_at dksX11_grant_1 9 rfl rfl)
theorem dX11_grant_34 : decode cX11_grant 34 = .ok (.getfield 107, 3) := dk_180 0 107 (dk_at dksX11_grant_1 12 rfl rfl)
theorem dX11_grant_37 : decode cX11_grant 37 = .ok (.istore_n 3, 1) := dk_62 (dk_at dksX11_grant_1 15 rfl rfl)
theorem dX11_grant_38 : decode cX11_grant 38 = .ok (.iload_n 1, 1) := dk_27 (dk_at dksX11_grant_1 16 rfl rfl)
theorem dX11_grant_39 : decode cX11_grant 39 = .ok (.iload_n 3, 1) := dk_29 (dk_at dksX11_grant_1 17 rfl rfl)
theorem dX11_grant_40 : decode cX11_grant 40 = .ok (.if_icmp .eq 15, 3) := dk_159 0 15 (dk_at dksX11_grant_1 18 rfl rfl)
theorem dX11_grant_43 : decode cX11_grant 43 = .ok (.iload_n 1, 1) := dk_27 (dk_at dksX11_grant_1 21 rfl rfl)
theorem dX11_grant_44 : decode cX11_grant 44 = .ok (.iload_n 3, 1) := dk_29 (dk_at dksX11_grant_1 22 rfl rfl)
theorem dX11_grant_45 : decode cX11_grant 45 = .ok (.if_icmp .le 86, 3) := dk_164 0 86 (dk_at dksX11_grant_2 0 rfl rfl)
theorem dX11_grant_48 : decode cX11_grant 48 = .ok (.iload_n 1, 1) := dk_27 (dk_at dksX11_grant_2 3 rfl rfl)
theorem dX11_grant_49 : decode cX11_grant 49 = .ok (.bipush 30, 2) := dk_16 30 (dk_at dksX11_grant_2 4 rfl rfl)
theorem dX11_grant_51 : decode cX11_grant 51 = .ok (.irem, 1) := dk_112 (dk_at dksX11_grant_2 6 rfl rfl)
theorem dX11_grant_52 : decode cX11_grant 52 = .ok (.ifCond .ne 79, 3) := dk_154 0 79 (dk_at dksX11_grant_2 7 rfl rfl)
theorem dX11_grant_55 : decode cX11_grant 55 = .ok (.aload_n 0, 1) := dk_42 (dk_at dksX11_grant_2 10 rfl rfl)
theorem dX11_grant_56 : decode cX11_grant 56 = .ok (.getfield 3, 3) := dk_180 0 3 (dk_at dksX11_grant_2 11 rfl rfl)
theorem dX11_grant_59 : decode cX11_grant 59 = .ok (.getfield 110, 3) := dk_180 0 110 (dk_at dksX11_grant_2 14 rfl rfl)
theorem dX11_grant_62 : decode cX11_grant 62 = .ok (.aload_n 0, 1) := dk_42 (dk_at dksX11_grant_2 17 rfl rfl)
theorem dX11_grant_63 : decode cX11_grant 63 = .ok (.iload_n 2, 1) := dk_28 (dk_at dksX11_grant_2 18 rfl rfl)
theorem dX11_grant_64 : decode cX11_grant 64 = .ok (.iload_n 1, 1) := dk_27 (dk_at dksX11_grant_2 19 rfl rfl)
theorem dX11_grant_65 : decode cX11_grant 65 = .ok (.invokevirtual 112, 3) := dk_182 0 112 (dk_at dksX11_grant_2 20 rfl rfl)
theorem dX11_grant_68 : decode cX11_grant 68 = .ok (.invokeinterface 82 2, 5) := by decide +kernel
theorem dX11_grant_73 : decode cX11_grant 73 = .ok (.checkcast 116, 3) := dk_192 0 116 (dk_at dksX11_grant_3 5 rfl rfl)
theorem dX11_grant_76 : decode cX11_grant 76 = .ok (.astore 4, 2) := dk_58 4 (dk_at dksX11_grant_3 8 rfl rfl)
theorem dX11_grant_78 : decode cX11_grant 78 = .ok (.bipush 30, 2) := dk_16 30 (dk_at dksX11_grant_3 10 rfl rfl)
theorem dX11_grant_80 : decode cX11_grant 80 = .ok (.iload_n 1, 1) := dk_27 (dk_at dksX11_grant_3 12 rfl rfl)
theorem dX11_grant_81 : decode cX11_grant 81 = .ok (.bipush 30, 2) := dk_16 30 (dk_at dksX11_grant_3 13 rfl rfl)
theorem dX11_grant_83 : decode cX11_grant 83 = .ok (.irem, 1) := dk_112 (dk_at dksX11_grant_3 15 rfl rfl)
theorem dX11_grant_84 : decode cX11_grant 84 = .ok (.isub, 1) := dk_100 (dk_at dksX11_grant_3 16 rfl rfl)
theorem dX11_grant_85 : decode cX11_grant 85 = .ok (.istore 5, 2) := dk_54 5 (dk_at dksX11_grant_3 17 rfl rfl)
theorem dX11_grant_87 : decode cX11_grant 87 = .ok (.aload_n 0, 1) := dk_42 (dk_at dksX11_grant_3 19 rfl rfl)
theorem dX11_grant_88 : decode cX11_grant 88 = .ok (.getfield 18, 3) := dk_180 0 18 (dk_at dksX11_grant_3 20 rfl rfl)
theorem dX11_grant_91 : decode cX11_grant 91 = .ok (.iload_n 2, 1) := dk_28 (dk_at dksX11_grant_3 23 rfl rfl)
theorem dX11_grant_92 : decode cX11_grant 92 = .ok (.invokeinterface 82 2, 5) := by decide +kernel
theorem dX11_grant_97 : decode cX11_grant 97 = .ok (.checkcast 55, 3) := dk_192 0 55 (dk_at dksX11_grant_4 5 rfl rfl)
theorem dX11_grant_100 : decode cX11_grant 100 = .ok (.aload 4, 2) := dk_25 4 (dk_at dksX11_grant_4 8 rfl rfl)
theorem dX11_grant_102 : decode cX11_grant 102 = .ok (.getfield 118, 3) := dk_180 0 118 (dk_at dksX11_grant_4 10 rfl rfl)
theorem dX11_grant_105 : decode cX11_grant 105 = .ok (.iload 5, 2) := dk_21 5 (dk_at dksX11_grant_4 13 rfl rfl)
theorem dX11_grant_107 : decode cX11_grant 107 = .ok (.imul, 1) := dk_104 (dk_at dksX11_grant_4 15 rfl rfl)
theorem dX11_grant_108 : decode cX11_grant 108 = .ok (.bipush 30, 2) := dk_16 30 (dk_at dksX11_grant_4 16 rfl rfl)
theorem dX11_grant_110 : decode cX11_grant 110 = .ok (.idiv, 1) := dk_108 (dk_at dksX11_grant_4 18 rfl rfl)
theorem dX11_grant_111 : decode cX11_grant 111 = .ok (.bipush 30, 2) := dk_16 30 (dk_at dksX11_grant_4 19 rfl rfl)
theorem dX11_grant_113 : decode cX11_grant 113 = .ok (.iload_n 1, 1) := dk_27 (dk_at dksX11_grant_4 21 rfl rfl)
theorem dX11_grant_114 : decode cX11_grant 114 = .ok (.bipush 30, 2) := dk_16 30 (dk_at dksX11_grant_4 22 rfl rfl)
theorem dX11_grant_116 : decode cX11_grant 116 = .ok (.idiv, 1) := dk_108 (dk_at dksX11_grant_5 0 rfl rfl)
theorem dX11_grant_117 : decode cX11_grant 117 = .ok (.aload 4, 2) := dk_25 4 (dk_at dksX11_grant_5 1 rfl rfl)
theorem dX11_grant_119 : decode cX11_grant 119 = .ok (.getfield 120, 3) := dk_180 0 120 (dk_at dksX11_grant_5 3 rfl rfl)
theorem dX11_grant_122 : decode cX11_grant 122 = .ok (.iadd, 1) := dk_96 (dk_at dksX11_grant_5 6 rfl rfl)
theorem dX11_grant_123 : decode cX11_grant 123 = .ok (.iconst 1, 1) := dk_4 (dk_at dksX11_grant_5 7 rfl rfl)
theorem dX11_grant_124 : decode cX11_grant 124 = .ok (.iadd, 1) := dk_96 (dk_at dksX11_grant_5 8 rfl rfl)
theorem dX11_grant_125 : decode cX11_grant 125 = .ok (.imul, 1) := dk_104 (dk_at dksX11_grant_5 9 rfl rfl)
theorem dX11_grant_126 : decode cX11_grant 126 = .ok (.iconst 1, 1) := dk_4 (dk_at dksX11_grant_5 10 rfl rfl)
theorem dX11_grant_127 : decode cX11_grant 127 = .ok (.isub, 1) := dk_100 (dk_at dksX11_grant_5 11 rfl rfl)
theorem dX11_grant_128 : decode cX11_grant 128 = .ok (.invokevirtual 123, 3) := dk_182 0 123 (dk_at dksX11_grant_5 12 rfl rfl)
theorem dX11_grant_131 : decode cX11_grant 131 = .ok (.iinc 2 1, 3) := dk_132 2 1 (dk_at dksX11_grant_5 15 rfl rfl)
theorem dX11_grant_134 : decode cX11_grant 134 = .ok (.goto (-132), 3) := dk_167 255 124 (dk_at dksX11_grant_5 18 rfl rfl)
theorem dX11_grant_137 : decode cX11_grant 137 = .ok (.return_, 1) := dk_177 (dk_at dksX11_grant_5 21 rfl rfl)
abbrev cX11_planOn : ByteArray := prog_9_method_3_code
def yX11_planOn : MethodName := ⟨RX11, "planOn", "(II)I"⟩
def dkwX11_planOn_1 : List UInt8 := [185, 0, 82, 2, 0, 192, 0, 95, 180, 0, 97, 28, 182, 0, 101, 172]
abbrev dktX11_planOn_1 : List UInt8 := dkwX11_planOn_1 ++ []
def dkwX11_planOn_0 : List UInt8 := [27, 42, 180, 0, 49, 160, 0, 10, 42, 180, 0, 52, 167, 0, 26, 42, 180, 0, 3, 180, 0, 28, 27]
abbrev dktX11_planOn_0 : List UInt8 := dkwX11_planOn_0 ++ dktX11_planOn_1
theorem dksX11_planOn_0 : cX11_planOn.data.toList.drop 0 = dktX11_planOn_0 := by decide +kernel
theorem dksX11_planOn_1 : cX11_planOn.data.toList.drop 23 = dktX11_planOn_1 := dk_seg dksX11_planOn_0 23 rfl rfl
theorem dX11_planOn_0 : decode cX11_planOn 0 = .ok (.iload_n 1, 1) := dk_27 (dk_at dksX11_planOn_0 0 rfl rfl)
theorem dX11_planOn_1 : decode cX11_planOn 1 = .ok (.aload_n 0, 1) := dk_42 (dk_at dksX11_planOn_0 1 rfl rfl)
theorem dX11_planOn_2 : decode cX11_planOn 2 = .ok (.getfield 49, 3) := dk_180 0 49 (dk_at dksX11_planOn_0 2 rfl rfl)
theorem dX11_planOn_5 : decode cX11_planOn 5 = .ok (.if_icmp .ne 10, 3) := dk_160 0 10 (dk_at dksX11_planOn_0 5 rfl rfl)
theorem dX11_planOn_8 : decode cX11_planOn 8 = .ok (.aload_n 0, 1) := dk_42 (dk_at dksX11_planOn_0 8 rfl rfl)
theorem dX11_planOn_9 : decode cX11_planOn 9 = .ok (.getfield 52, 3) := dk_180 0 52 (dk_at dksX11_planOn_0 9 rfl rfl)
theorem dX11_planOn_12 : decode cX11_planOn 12 = .ok (.goto 26, 3) := dk_167 0 26 (dk_at dksX11_planOn_0 12 rfl rfl)
theorem dX11_planOn_15 : decode cX11_planOn 15 = .ok (.aload_n 0, 1) := dk_42 (dk_at dksX11_planOn_0 15 rfl rfl)
theorem dX11_planOn_16 : decode cX11_planOn 16 = .ok (.getfield 3, 3) := dk_180 0 3 (dk_at dksX11_planOn_0 16 rfl rfl)
theorem dX11_planOn_19 : decode cX11_planOn 19 = .ok (.getfield 28, 3) := dk_180 0 28 (dk_at dksX11_planOn_0 19 rfl rfl)
theorem dX11_planOn_22 : decode cX11_planOn 22 = .ok (.iload_n 1, 1) := dk_27 (dk_at dksX11_planOn_0 22 rfl rfl)
theorem dX11_planOn_23 : decode cX11_planOn 23 = .ok (.invokeinterface 82 2, 5) := by decide +kernel
theorem dX11_planOn_28 : decode cX11_planOn 28 = .ok (.checkcast 95, 3) := dk_192 0 95 (dk_at dksX11_planOn_1 5 rfl rfl)
theorem dX11_planOn_31 : decode cX11_planOn 31 = .ok (.getfield 97, 3) := dk_180 0 97 (dk_at dksX11_planOn_1 8 rfl rfl)
theorem dX11_planOn_34 : decode cX11_planOn 34 = .ok (.iload_n 2, 1) := dk_28 (dk_at dksX11_planOn_1 11 rfl rfl)
theorem dX11_planOn_35 : decode cX11_planOn 35 = .ok (.invokevirtual 101, 3) := dk_182 0 101 (dk_at dksX11_planOn_1 12 rfl rfl)
theorem dX11_planOn_38 : decode cX11_planOn 38 = .ok (.ireturn, 1) := dk_172 (dk_at dksX11_planOn_1 15 rfl rfl)
abbrev cX11_rate : ByteArray := prog_9_method_6_code
def yX11_rate : MethodName := ⟨RX11, "rate", "(LRollover$Ticket;LRollover$Line;)V"⟩
def dkwX11_rate_8 : List UInt8 := [43, 180, 0, 163, 96, 181, 0, 160, 177]
abbrev dktX11_rate_8 : List UInt8 := dkwX11_rate_8 ++ []
def dkwX11_rate_7 : List UInt8 := [4, 100, 182, 0, 123, 42, 43, 180, 0, 141, 43, 180, 0, 88, 16, 30, 108, 182, 0, 156, 89, 180, 0, 160]
abbrev dktX11_rate_7 : List UInt8 := dkwX11_rate_7 ++ dktX11_rate_8
def dkwX11_rate_6 : List UInt8 := [180, 0, 141, 185, 0, 82, 2, 0, 192, 0, 55, 43, 180, 0, 144, 43, 180, 0, 88, 43, 180, 0, 153, 96]
abbrev dktX11_rate_6 : List UInt8 := dkwX11_rate_6 ++ dktX11_rate_7
def dkwX11_rate_5 : List UInt8 := [180, 0, 88, 16, 30, 108, 4, 96, 104, 4, 100, 182, 0, 123, 167, 0, 64, 42, 180, 0, 18, 43]
abbrev dktX11_rate_5 : List UInt8 := dkwX11_rate_5 ++ dktX11_rate_6
def dkwX11_rate_4 : List UInt8 := [42, 180, 0, 18, 43, 180, 0, 153, 185, 0, 82, 2, 0, 192, 0, 55, 44, 180, 0, 150, 16, 30, 43]
abbrev dktX11_rate_4 : List UInt8 := dkwX11_rate_4 ++ dktX11_rate_5
def dkwX11_rate_3 : List UInt8 := [192, 0, 55, 43, 180, 0, 144, 43, 180, 0, 88, 182, 0, 147, 181, 0, 150, 44, 180, 0, 150, 158, 0, 104]
abbrev dktX11_rate_3 : List UInt8 := dkwX11_rate_3 ++ dktX11_rate_4
def dkwX11_rate_2 : List UInt8 := [42, 43, 44, 182, 0, 138, 167, 0, 142, 44, 42, 180, 0, 18, 43, 180, 0, 141, 185, 0, 82, 2, 0]
abbrev dktX11_rate_2 : List UInt8 := dkwX11_rate_2 ++ dktX11_rate_3
def dkwX11_rate_1 : List UInt8 := [171, 0, 0, 0, 112, 0, 0, 0, 2, 0, 0, 0, 0, 0, 0, 0, 25, 0, 0, 0, 1, 0, 0, 0, 34]
abbrev dktX11_rate_1 : List UInt8 := dkwX11_rate_1 ++ dktX11_rate_2
def dkwX11_rate_0 : List UInt8 := [43, 180, 0, 126, 153, 0, 4, 177, 43, 180, 0, 129, 182, 0, 133]
abbrev dktX11_rate_0 : List UInt8 := dkwX11_rate_0 ++ dktX11_rate_1
theorem dksX11_rate_0 : cX11_rate.data.toList.drop 0 = dktX11_rate_0 := by decide +kernel
theorem dksX11_rate_1 : cX11_rate.data.toList.drop 15 = dktX11_rate_1 := dk_seg dksX11_rate_0 15 rfl rfl
theorem dksX11_rate_2 : cX11_rate.data.toList.drop 40 = dktX11_rate_2 := dk_seg dksX11_rate_1 25 rfl rfl
theorem dksX11_rate_3 : cX11_rate.data.toList.drop 63 = dktX11_rate_3 := dk_seg dksX11_rate_2 23 rfl rfl
theorem dksX11_rate_4 : cX11_rate.data.toList.drop 87 = dktX11_rate_4 := dk_seg dksX11_rate_3 24 rfl rfl
theorem dksX11_rate_5 : cX11_rate.data.toList.drop 110 = dktX11_rate_5 := dk_seg dksX11_rate_4 23 rfl rfl
theorem dksX11_rate_6 : cX11_rate.data.toList.drop 132 = dktX11_rate_6 := dk_seg dksX11_rate_5 22 rfl rfl
theorem dksX11_rate_7 : cX11_rate.data.toList.drop 156 = dktX11_rate_7 := dk_seg dksX11_rate_6 24 rfl rfl
theorem dksX11_rate_8 : cX11_rate.data.toList.drop 180 = dktX11_rate_8 := dk_seg dksX11_rate_7 24 rfl rfl
theorem dX11_rate_0 : decode cX11_rate 0 = .ok (.aload_n 1, 1) := dk_43 (dk_at dksX11_rate_0 0 rfl rfl)
theorem dX11_rate_1 : decode cX11_rate 1 = .ok (.getfield 126, 3) := dk_180 0 126 (dk_at dksX11_rate_0 1 rfl rfl)
theorem dX11_rate_4 : decode cX11_rate 4 = .ok (.ifCond .eq 4, 3) := dk_153 0 4 (dk_at dksX11_rate_0 4 rfl rfl)
theorem dX11_rate_7 : decode cX11_rate 7 = .ok (.return_, 1) := dk_177 (dk_at dksX11_rate_0 7 rfl rfl)
theorem dX11_rate_8 : decode cX11_rate 8 = .ok (.aload_n 1, 1) := dk_43 (dk_at dksX11_rate_0 8 rfl rfl)
theorem dX11_rate_9 : decode cX11_rate 9 = .ok (.getfield 129, 3) := dk_180 0 129 (dk_at dksX11_rate_0 9 rfl rfl)
theorem dX11_rate_12 : decode cX11_rate 12 = .ok (.invokevirtual 133, 3) := dk_182 0 133 (dk_at dksX11_rate_0 12 rfl rfl)
theorem dX11_rate_15 : decode cX11_rate 15 = .ok (.lookupswitch 112 #[(0, 25), (1, 34)], 25) := by decide +kernel
theorem dX11_rate_40 : decode cX11_rate 40 = .ok (.aload_n 0, 1) := dk_42 (dk_at dksX11_rate_2 0 rfl rfl)
theorem dX11_rate_41 : decode cX11_rate 41 = .ok (.aload_n 1, 1) := dk_43 (dk_at dksX11_rate_2 1 rfl rfl)
theorem dX11_rate_42 : decode cX11_rate 42 = .ok (.aload_n 2, 1) := dk_44 (dk_at dksX11_rate_2 2 rfl rfl)
theorem dX11_rate_43 : decode cX11_rate 43 = .ok (.invokevirtual 138, 3) := dk_182 0 138 (dk_at dksX11_rate_2 3 rfl rfl)
theorem dX11_rate_46 : decode cX11_rate 46 = .ok (.goto 142, 3) := dk_167 0 142 (dk_at dksX11_rate_2 6 rfl rfl)
theorem dX11_rate_49 : decode cX11_rate 49 = .ok (.aload_n 2, 1) := dk_44 (dk_at dksX11_rate_2 9 rfl rfl)
theorem dX11_rate_50 : decode cX11_rate 50 = .ok (.aload_n 0, 1) := dk_42 (dk_at dksX11_rate_2 10 rfl rfl)
theorem dX11_rate_51 : decode cX11_rate 51 = .ok (.getfield 18, 3) := dk_180 0 18 (dk_at dksX11_rate_2 11 rfl rfl)
theorem dX11_rate_54 : decode cX11_rate 54 = .ok (.aload_n 1, 1) := dk_43 (dk_at dksX11_rate_2 14 rfl rfl)
theorem dX11_rate_55 : decode cX11_rate 55 = .ok (.getfield 141, 3) := dk_180 0 141 (dk_at dksX11_rate_2 15 rfl rfl)
theorem dX11_rate_58 : decode cX11_rate 58 = .ok (.invokeinterface 82 2, 5) := by decide +kernel
theorem dX11_rate_63 : decode cX11_rate 63 = .ok (.checkcast 55, 3) := dk_192 0 55 (dk_at dksX11_rate_3 0 rfl rfl)
theorem dX11_rate_66 : decode cX11_rate 66 = .ok (.aload_n 1, 1) := dk_43 (dk_at dksX11_rate_3 3 rfl rfl)
theorem dX11_rate_67 : decode cX11_rate 67 = .ok (.getfield 144, 3) := dk_180 0 144 (dk_at dksX11_rate_3 4 rfl rfl)
theorem dX11_rate_70 : decode cX11_rate 70 = .ok (.aload_n 1, 1) := dk_43 (dk_at dksX11_rate_3 7 rfl rfl)
theorem dX11_rate_71 : decode cX11_rate 71 = .ok (.getfield 88, 3) := dk_180 0 88 (dk_at dksX11_rate_3 8 rfl rfl)
theorem dX11_rate_74 : decode cX11_rate 74 = .ok (.invokevirtual 147, 3) := dk_182 0 147 (dk_at dksX11_rate_3 11 rfl rfl)
theorem dX11_rate_77 : decode cX11_rate 77 = .ok (.putfield 150, 3) := dk_181 0 150 (dk_at dksX11_rate_3 14 rfl rfl)
theorem dX11_rate_80 : decode cX11_rate 80 = .ok (.aload_n 2, 1) := dk_44 (dk_at dksX11_rate_3 17 rfl rfl)
theorem dX11_rate_81 : decode cX11_rate 81 = .ok (.getfield 150, 3) := dk_180 0 150 (dk_at dksX11_rate_3 18 rfl rfl)
theorem dX11_rate_84 : decode cX11_rate 84 = .ok (.ifCond .le 104, 3) := dk_158 0 104 (dk_at dksX11_rate_3 21 rfl rfl)
theorem dX11_rate_87 : decode cX11_rate 87 = .ok (.aload_n 0, 1) := dk_42 (dk_at dksX11_rate_4 0 rfl rfl)
theorem dX11_rate_88 : decode cX11_rate 88 = .ok (.getfield 18, 3) := dk_180 0 18 (dk_at dksX11_rate_4 1 rfl rfl)
theorem dX11_rate_91 : decode cX11_rate 91 = .ok (.aload_n 1, 1) := dk_43 (dk_at dksX11_rate_4 4 rfl rfl)
theorem dX11_rate_92 : decode cX11_rate 92 = .ok (.getfield 153, 3) := dk_180 0 153 (dk_at dksX11_rate_4 5 rfl rfl)
theorem dX11_rate_95 : decode cX11_rate 95 = .ok (.invokeinterface 82 2, 5) := by decide +kernel
theorem dX11_rate_100 : decode cX11_rate 100 = .ok (.checkcast 55, 3) := dk_192 0 55 (dk_at dksX11_rate_4 13 rfl rfl)
theorem dX11_rate_103 : decode cX11_rate 103 = .ok (.aload_n 2, 1) := dk_44 (dk_at dksX11_rate_4 16 rfl rfl)
theorem dX11_rate_104 : decode cX11_rate 104 = .ok (.getfield 150, 3) := dk_180 0 150 (dk_at dksX11_rate_4 17 rfl rfl)
theorem dX11_rate_107 : decode cX11_rate 107 = .ok (.bipush 30, 2) := dk_16 30 (dk_at dksX11_rate_4 20 rfl rfl)
theorem dX11_rate_109 : decode cX11_rate 109 = .ok (.aload_n 1, 1) := dk_43 (dk_at dksX11_rate_4 22 rfl rfl)
theorem dX11_rate_110 : decode cX11_rate 110 = .ok (.getfield 88, 3) := dk_180 0 88 (dk_at dksX11_rate_5 0 rfl rfl)
theorem dX11_rate_113 : decode cX11_rate 113 = .ok (.bipush 30, 2) := dk_16 30 (dk_at dksX11_rate_5 3 rfl rfl)
theorem dX11_rate_115 : decode cX11_rate 115 = .ok (.idiv, 1) := dk_108 (dk_at dksX11_rate_5 5 rfl rfl)
theorem dX11_rate_116 : decode cX11_rate 116 = .ok (.iconst 1, 1) := dk_4 (dk_at dksX11_rate_5 6 rfl rfl)
theorem dX11_rate_117 : decode cX11_rate 117 = .ok (.iadd, 1) := dk_96 (dk_at dksX11_rate_5 7 rfl rfl)
theorem dX11_rate_118 : decode cX11_rate 118 = .ok (.imul, 1) := dk_104 (dk_at dksX11_rate_5 8 rfl rfl)
theorem dX11_rate_119 : decode cX11_rate 119 = .ok (.iconst 1, 1) := dk_4 (dk_at dksX11_rate_5 9 rfl rfl)
theorem dX11_rate_120 : decode cX11_rate 120 = .ok (.isub, 1) := dk_100 (dk_at dksX11_rate_5 10 rfl rfl)
theorem dX11_rate_121 : decode cX11_rate 121 = .ok (.invokevirtual 123, 3) := dk_182 0 123 (dk_at dksX11_rate_5 11 rfl rfl)
theorem dX11_rate_124 : decode cX11_rate 124 = .ok (.goto 64, 3) := dk_167 0 64 (dk_at dksX11_rate_5 14 rfl rfl)
theorem dX11_rate_127 : decode cX11_rate 127 = .ok (.aload_n 0, 1) := dk_42 (dk_at dksX11_rate_5 17 rfl rfl)
theorem dX11_rate_128 : decode cX11_rate 128 = .ok (.getfield 18, 3) := dk_180 0 18 (dk_at dksX11_rate_5 18 rfl rfl)
theorem dX11_rate_131 : decode cX11_rate 131 = .ok (.aload_n 1, 1) := dk_43 (dk_at dksX11_rate_5 21 rfl rfl)
theorem dX11_rate_132 : decode cX11_rate 132 = .ok (.getfield 141, 3) := dk_180 0 141 (dk_at dksX11_rate_6 0 rfl rfl)
theorem dX11_rate_135 : decode cX11_rate 135 = .ok (.invokeinterface 82 2, 5) := by decide +kernel
theorem dX11_rate_140 : decode cX11_rate 140 = .ok (.checkcast 55, 3) := dk_192 0 55 (dk_at dksX11_rate_6 8 rfl rfl)
theorem dX11_rate_143 : decode cX11_rate 143 = .ok (.aload_n 1, 1) := dk_43 (dk_at dksX11_rate_6 11 rfl rfl)
theorem dX11_rate_144 : decode cX11_rate 144 = .ok (.getfield 144, 3) := dk_180 0 144 (dk_at dksX11_rate_6 12 rfl rfl)
theorem dX11_rate_147 : decode cX11_rate 147 = .ok (.aload_n 1, 1) := dk_43 (dk_at dksX11_rate_6 15 rfl rfl)
theorem dX11_rate_148 : decode cX11_rate 148 = .ok (.getfield 88, 3) := dk_180 0 88 (dk_at dksX11_rate_6 16 rfl rfl)
theorem dX11_rate_151 : decode cX11_rate 151 = .ok (.aload_n 1, 1) := dk_43 (dk_at dksX11_rate_6 19 rfl rfl)
theorem dX11_rate_152 : decode cX11_rate 152 = .ok (.getfield 153, 3) := dk_180 0 153 (dk_at dksX11_rate_6 20 rfl rfl)
theorem dX11_rate_155 : decode cX11_rate 155 = .ok (.iadd, 1) := dk_96 (dk_at dksX11_rate_6 23 rfl rfl)
theorem dX11_rate_156 : decode cX11_rate 156 = .ok (.iconst 1, 1) := dk_4 (dk_at dksX11_rate_7 0 rfl rfl)
theorem dX11_rate_157 : decode cX11_rate 157 = .ok (.isub, 1) := dk_100 (dk_at dksX11_rate_7 1 rfl rfl)
theorem dX11_rate_158 : decode cX11_rate 158 = .ok (.invokevirtual 123, 3) := dk_182 0 123 (dk_at dksX11_rate_7 2 rfl rfl)
theorem dX11_rate_161 : decode cX11_rate 161 = .ok (.aload_n 0, 1) := dk_42 (dk_at dksX11_rate_7 5 rfl rfl)
theorem dX11_rate_162 : decode cX11_rate 162 = .ok (.aload_n 1, 1) := dk_43 (dk_at dksX11_rate_7 6 rfl rfl)
theorem dX11_rate_163 : decode cX11_rate 163 = .ok (.getfield 141, 3) := dk_180 0 141 (dk_at dksX11_rate_7 7 rfl rfl)
theorem dX11_rate_166 : decode cX11_rate 166 = .ok (.aload_n 1, 1) := dk_43 (dk_at dksX11_rate_7 10 rfl rfl)
theorem dX11_rate_167 : decode cX11_rate 167 = .ok (.getfield 88, 3) := dk_180 0 88 (dk_at dksX11_rate_7 11 rfl rfl)
theorem dX11_rate_170 : decode cX11_rate 170 = .ok (.bipush 30, 2) := dk_16 30 (dk_at dksX11_rate_7 14 rfl rfl)
theorem dX11_rate_172 : decode cX11_rate 172 = .ok (.idiv, 1) := dk_108 (dk_at dksX11_rate_7 16 rfl rfl)
theorem dX11_rate_173 : decode cX11_rate 173 = .ok (.invokevirtual 156, 3) := dk_182 0 156 (dk_at dksX11_rate_7 17 rfl rfl)
theorem dX11_rate_176 : decode cX11_rate 176 = .ok (.dup, 1) := dk_89 (dk_at dksX11_rate_7 20 rfl rfl)
theorem dX11_rate_177 : decode cX11_rate 177 = .ok (.getfield 160, 3) := dk_180 0 160 (dk_at dksX11_rate_7 21 rfl rfl)
theorem dX11_rate_180 : decode cX11_rate 180 = .ok (.aload_n 1, 1) := dk_43 (dk_at dksX11_rate_8 0 rfl rfl)
theorem dX11_rate_181 : decode cX11_rate 181 = .ok (.getfield 163, 3) := dk_180 0 163 (dk_at dksX11_rate_8 1 rfl rfl)
theorem dX11_rate_184 : decode cX11_rate 184 = .ok (.iadd, 1) := dk_96 (dk_at dksX11_rate_8 4 rfl rfl)
theorem dX11_rate_185 : decode cX11_rate 185 = .ok (.putfield 160, 3) := dk_181 0 160 (dk_at dksX11_rate_8 5 rfl rfl)
theorem dX11_rate_188 : decode cX11_rate 188 = .ok (.return_, 1) := dk_177 (dk_at dksX11_rate_8 8 rfl rfl)
abbrev cX11_call : ByteArray := prog_9_method_7_code
def yX11_call : MethodName := ⟨RX11, "call", "(LRollover$Ticket;LRollover$Line;)V"⟩
def dkwX11_call_11 : List UInt8 := [25, 5, 21, 6, 182, 0, 209, 177]
abbrev dktX11_call_11 : List UInt8 := dkwX11_call_11 ++ []
def dkwX11_call_10 : List UInt8 := [180, 0, 88, 182, 0, 147, 181, 0, 208, 21, 6, 44, 180, 0, 208, 100, 54, 6, 42, 43, 44, 25, 4]
abbrev dktX11_call_10 : List UInt8 := dkwX11_call_10 ++ dktX11_call_11
def dkwX11_call_9 : List UInt8 := [54, 7, 44, 42, 180, 0, 18, 45, 180, 0, 194, 185, 0, 82, 2, 0, 192, 0, 55, 21, 7, 43]
abbrev dktX11_call_9 : List UInt8 := dkwX11_call_9 ++ dktX11_call_10
def dkwX11_call_8 : List UInt8 := [45, 180, 0, 194, 2, 159, 0, 58, 21, 6, 45, 180, 0, 197, 25, 5, 180, 0, 200, 100, 184, 0, 203]
abbrev dktX11_call_8 : List UInt8 := dkwX11_call_8 ++ dktX11_call_9
def dkwX11_call_7 : List UInt8 := [180, 0, 192, 43, 180, 0, 88, 182, 0, 147, 181, 0, 150, 44, 180, 0, 192, 44, 180, 0, 150, 100, 54, 6]
abbrev dktX11_call_7 : List UInt8 := dkwX11_call_7 ++ dktX11_call_8
def dkwX11_call_6 : List UInt8 := [182, 0, 189, 181, 0, 192, 44, 42, 180, 0, 18, 43, 180, 0, 141, 185, 0, 82, 2, 0, 192, 0, 55, 44]
abbrev dktX11_call_6 : List UInt8 := dkwX11_call_6 ++ dktX11_call_7
def dkwX11_call_5 : List UInt8 := [153, 0, 15, 25, 5, 89, 180, 0, 186, 4, 96, 181, 0, 186, 177, 44, 25, 4, 43, 180, 0, 144]
abbrev dktX11_call_5 : List UInt8 := dkwX11_call_5 ++ dktX11_call_6
def dkwX11_call_4 : List UInt8 := [25, 4, 43, 180, 0, 176, 182, 0, 179, 153, 0, 7, 4, 167, 0, 4, 3, 181, 0, 183, 44, 180, 0, 183]
abbrev dktX11_call_4 : List UInt8 := dkwX11_call_4 ++ dktX11_call_5
def dkwX11_call_3 : List UInt8 := [180, 0, 166, 4, 96, 181, 0, 166, 44, 45, 180, 0, 169, 43, 180, 0, 153, 184, 0, 172, 154, 0, 15]
abbrev dktX11_call_3 : List UInt8 := dkwX11_call_3 ++ dktX11_call_4
def dkwX11_call_2 : List UInt8 := [58, 4, 42, 43, 180, 0, 141, 43, 180, 0, 88, 16, 30, 108, 182, 0, 156, 58, 5, 25, 5, 89]
abbrev dktX11_call_2 : List UInt8 := dkwX11_call_2 ++ dktX11_call_3
def dkwX11_call_1 : List UInt8 := [180, 0, 110, 42, 43, 180, 0, 141, 43, 180, 0, 88, 182, 0, 112, 185, 0, 82, 2, 0, 192, 0, 116]
abbrev dktX11_call_1 : List UInt8 := dkwX11_call_1 ++ dktX11_call_2
def dkwX11_call_0 : List UInt8 := [42, 180, 0, 3, 180, 0, 28, 43, 180, 0, 141, 185, 0, 82, 2, 0, 192, 0, 95, 78, 42, 180, 0, 3]
abbrev dktX11_call_0 : List UInt8 := dkwX11_call_0 ++ dktX11_call_1
theorem dksX11_call_0 : cX11_call.data.toList.drop 0 = dktX11_call_0 := by decide +kernel
theorem dksX11_call_1 : cX11_call.data.toList.drop 24 = dktX11_call_1 := dk_seg dksX11_call_0 24 rfl rfl
theorem dksX11_call_2 : cX11_call.data.toList.drop 47 = dktX11_call_2 := dk_seg dksX11_call_1 23 rfl rfl
theorem dksX11_call_3 : cX11_call.data.toList.drop 69 = dktX11_call_3 := dk_seg dksX11_call_2 22 rfl rfl
theorem dksX11_call_4 : cX11_call.data.toList.drop 92 = dktX11_call_4 := dk_seg dksX11_call_3 23 rfl rfl
theorem dksX11_call_5 : cX11_call.data.toList.drop 116 = dktX11_call_5 := dk_seg dksX11_call_4 24 rfl rfl
theorem dksX11_call_6 : cX11_call.data.toList.drop 138 = dktX11_call_6 := dk_seg dksX11_call_5 22 rfl rfl
theorem dksX11_call_7 : cX11_call.data.toList.drop 162 = dktX11_call_7 := dk_seg dksX11_call_6 24 rfl rfl
theorem dksX11_call_8 : cX11_call.data.toList.drop 186 = dktX11_call_8 := dk_seg dksX11_call_7 24 rfl rfl
theorem dksX11_call_9 : cX11_call.data.toList.drop 209 = dktX11_call_9 := dk_seg dksX11_call_8 23 rfl rfl
theorem dksX11_call_10 : cX11_call.data.toList.drop 231 = dktX11_call_10 := dk_seg dksX11_call_9 22 rfl rfl
theorem dksX11_call_11 : cX11_call.data.toList.drop 254 = dktX11_call_11 := dk_seg dksX11_call_10 23 rfl rfl
theorem dX11_call_0 : decode cX11_call 0 = .ok (.aload_n 0, 1) := dk_42 (dk_at dksX11_call_0 0 rfl rfl)
theorem dX11_call_1 : decode cX11_call 1 = .ok (.getfield 3, 3) := dk_180 0 3 (dk_at dksX11_call_0 1 rfl rfl)
theorem dX11_call_4 : decode cX11_call 4 = .ok (.getfield 28, 3) := dk_180 0 28 (dk_at dksX11_call_0 4 rfl rfl)
theorem dX11_call_7 : decode cX11_call 7 = .ok (.aload_n 1, 1) := dk_43 (dk_at dksX11_call_0 7 rfl rfl)
theorem dX11_call_8 : decode cX11_call 8 = .ok (.getfield 141, 3) := dk_180 0 141 (dk_at dksX11_call_0 8 rfl rfl)
theorem dX11_call_11 : decode cX11_call 11 = .ok (.invokeinterface 82 2, 5) := by decide +kernel
theorem dX11_call_16 : decode cX11_call 16 = .ok (.checkcast 95, 3) := dk_192 0 95 (dk_at dksX11_call_0 16 rfl rfl)
theorem dX11_call_19 : decode cX11_call 19 = .ok (.astore_n 3, 1) := dk_78 (dk_at dksX11_call_0 19 rfl rfl)
theorem dX11_call_20 : decode cX11_call 20 = .ok (.aload_n 0, 1) := dk_42 (dk_at dksX11_call_0 20 rfl rfl)
theorem dX11_call_21 : decode cX11_call 21 = .ok (.getfield 3, 3) := dk_180 0 3 (dk_at dksX11_call_0 21 rfl rfl)
theorem dX11_call_24 : decode cX11_call 24 = .ok (.getfield 110, 3) := dk_180 0 110 (dk_at dksX11_call_1 0 rfl rfl)
theorem dX11_call_27 : decode cX11_call 27 = .ok (.aload_n 0, 1) := dk_42 (dk_at dksX11_call_1 3 rfl rfl)
theorem dX11_call_28 : decode cX11_call 28 = .ok (.aload_n 1, 1) := dk_43 (dk_at dksX11_call_1 4 rfl rfl)
theorem dX11_call_29 : decode cX11_call 29 = .ok (.getfield 141, 3) := dk_180 0 141 (dk_at dksX11_call_1 5 rfl rfl)
theorem dX11_call_32 : decode cX11_call 32 = .ok (.aload_n 1, 1) := dk_43 (dk_at dksX11_call_1 8 rfl rfl)
theorem dX11_call_33 : decode cX11_call 33 = .ok (.getfield 88, 3) := dk_180 0 88 (dk_at dksX11_call_1 9 rfl rfl)
theorem dX11_call_36 : decode cX11_call 36 = .ok (.invokevirtual 112, 3) := dk_182 0 112 (dk_at dksX11_call_1 12 rfl rfl)
theorem dX11_call_39 : decode cX11_call 39 = .ok (.invokeinterface 82 2, 5) := by decide +kernel
theorem dX11_call_44 : decode cX11_call 44 = .ok (.checkcast 116, 3) := dk_192 0 116 (dk_at dksX11_call_1 20 rfl rfl)
theorem dX11_call_47 : decode cX11_call 47 = .ok (.astore 4, 2) := dk_58 4 (dk_at dksX11_call_2 0 rfl rfl)
theorem dX11_call_49 : decode cX11_call 49 = .ok (.aload_n 0, 1) := dk_42 (dk_at dksX11_call_2 2 rfl rfl)
theorem dX11_call_50 : decode cX11_call 50 = .ok (.aload_n 1, 1) := dk_43 (dk_at dksX11_call_2 3 rfl rfl)
theorem dX11_call_51 : decode cX11_call 51 = .ok (.getfield 141, 3) := dk_180 0 141 (dk_at dksX11_call_2 4 rfl rfl)
theorem dX11_call_54 : decode cX11_call 54 = .ok (.aload_n 1, 1) := dk_43 (dk_at dksX11_call_2 7 rfl rfl)
theorem dX11_call_55 : decode cX11_call 55 = .ok (.getfield 88, 3) := dk_180 0 88 (dk_at dksX11_call_2 8 rfl rfl)
theorem dX11_call_58 : decode cX11_call 58 = .ok (.bipush 30, 2) := dk_16 30 (dk_at dksX11_call_2 11 rfl rfl)
theorem dX11_call_60 : decode cX11_call 60 = .ok (.idiv, 1) := dk_108 (dk_at dksX11_call_2 13 rfl rfl)
theorem dX11_call_61 : decode cX11_call 61 = .ok (.invokevirtual 156, 3) := dk_182 0 156 (dk_at dksX11_call_2 14 rfl rfl)
theorem dX11_call_64 : decode cX11_call 64 = .ok (.astore 5, 2) := dk_58 5 (dk_at dksX11_call_2 17 rfl rfl)
theorem dX11_call_66 : decode cX11_call 66 = .ok (.aload 5, 2) := dk_25 5 (dk_at dksX11_call_2 19 rfl rfl)
theorem dX11_call_68 : decode cX11_call 68 = .ok (.dup, 1) := dk_89 (dk_at dksX11_call_2 21 rfl rfl)
theorem dX11_call_69 : decode cX11_call 69 = .ok (.getfield 166, 3) := dk_180 0 166 (dk_at dksX11_call_3 0 rfl rfl)
theorem dX11_call_72 : decode cX11_call 72 = .ok (.iconst 1, 1) := dk_4 (dk_at dksX11_call_3 3 rfl rfl)
theorem dX11_call_73 : decode cX11_call 73 = .ok (.iadd, 1) := dk_96 (dk_at dksX11_call_3 4 rfl rfl)
theorem dX11_call_74 : decode cX11_call 74 = .ok (.putfield 166, 3) := dk_181 0 166 (dk_at dksX11_call_3 5 rfl rfl)
theorem dX11_call_77 : decode cX11_call 77 = .ok (.aload_n 2, 1) := dk_44 (dk_at dksX11_call_3 8 rfl rfl)
theorem dX11_call_78 : decode cX11_call 78 = .ok (.aload_n 3, 1) := dk_45 (dk_at dksX11_call_3 9 rfl rfl)
theorem dX11_call_79 : decode cX11_call 79 = .ok (.getfield 169, 3) := dk_180 0 169 (dk_at dksX11_call_3 10 rfl rfl)
theorem dX11_call_82 : decode cX11_call 82 = .ok (.aload_n 1, 1) := dk_43 (dk_at dksX11_call_3 13 rfl rfl)
theorem dX11_call_83 : decode cX11_call 83 = .ok (.getfield 153, 3) := dk_180 0 153 (dk_at dksX11_call_3 14 rfl rfl)
theorem dX11_call_86 : decode cX11_call 86 = .ok (.invokestatic 172, 3) := dk_184 0 172 (dk_at dksX11_call_3 17 rfl rfl)
theorem dX11_call_89 : decode cX11_call 89 = .ok (.ifCond .ne 15, 3) := dk_154 0 15 (dk_at dksX11_call_3 20 rfl rfl)
theorem dX11_call_92 : decode cX11_call 92 = .ok (.aload 4, 2) := dk_25 4 (dk_at dksX11_call_4 0 rfl rfl)
theorem dX11_call_94 : decode cX11_call 94 = .ok (.aload_n 1, 1) := dk_43 (dk_at dksX11_call_4 2 rfl rfl)
theorem dX11_call_95 : decode cX11_call 95 = .ok (.getfield 176, 3) := dk_180 0 176 (dk_at dksX11_call_4 3 rfl rfl)
theorem dX11_call_98 : decode cX11_call 98 = .ok (.invokevirtual 179, 3) := dk_182 0 179 (dk_at dksX11_call_4 6 rfl rfl)
theorem dX11_call_101 : decode cX11_call 101 = .ok (.ifCond .eq 7, 3) := dk_153 0 7 (dk_at dksX11_call_4 9 rfl rfl)
theorem dX11_call_104 : decode cX11_call 104 = .ok (.iconst 1, 1) := dk_4 (dk_at dksX11_call_4 12 rfl rfl)
theorem dX11_call_105 : decode cX11_call 105 = .ok (.goto 4, 3) := dk_167 0 4 (dk_at dksX11_call_4 13 rfl rfl)
theorem dX11_call_108 : decode cX11_call 108 = .ok (.iconst 0, 1) := dk_3 (dk_at dksX11_call_4 16 rfl rfl)
theorem dX11_call_109 : decode cX11_call 109 = .ok (.putfield 183, 3) := dk_181 0 183 (dk_at dksX11_call_4 17 rfl rfl)
theorem dX11_call_112 : decode cX11_call 112 = .ok (.aload_n 2, 1) := dk_44 (dk_at dksX11_call_4 20 rfl rfl)
theorem dX11_call_113 : decode cX11_call 113 = .ok (.getfield 183, 3) := dk_180 0 183 (dk_at dksX11_call_4 21 rfl rfl)
theorem dX11_call_116 : decode cX11_call 116 = .ok (.ifCond .eq 15, 3) := dk_153 0 15 (dk_at dksX11_call_5 0 rfl rfl)
theorem dX11_call_119 : decode cX11_call 119 = .ok (.aload 5, 2) := dk_25 5 (dk_at dksX11_call_5 3 rfl rfl)
theorem dX11_call_121 : decode cX11_call 121 = .ok (.dup, 1) := dk_89 (dk_at dksX11_call_5 5 rfl rfl)
theorem dX11_call_122 : decode cX11_call 122 = .ok (.getfield 186, 3) := dk_180 0 186 (dk_at dksX11_call_5 6 rfl rfl)
theorem dX11_call_125 : decode cX11_call 125 = .ok (.iconst 1, 1) := dk_4 (dk_at dksX11_call_5 9 rfl rfl)
theorem dX11_call_126 : decode cX11_call 126 = .ok (.iadd, 1) := dk_96 (dk_at dksX11_call_5 10 rfl rfl)
theorem dX11_call_127 : decode cX11_call 127 = .ok (.putfield 186, 3) := dk_181 0 186 (dk_at dksX11_call_5 11 rfl rfl)
theorem dX11_call_130 : decode cX11_call 130 = .ok (.return_, 1) := dk_177 (dk_at dksX11_call_5 14 rfl rfl)
theorem dX11_call_131 : decode cX11_call 131 = .ok (.aload_n 2, 1) := dk_44 (dk_at dksX11_call_5 15 rfl rfl)
theorem dX11_call_132 : decode cX11_call 132 = .ok (.aload 4, 2) := dk_25 4 (dk_at dksX11_call_5 16 rfl rfl)
theorem dX11_call_134 : decode cX11_call 134 = .ok (.aload_n 1, 1) := dk_43 (dk_at dksX11_call_5 18 rfl rfl)
theorem dX11_call_135 : decode cX11_call 135 = .ok (.getfield 144, 3) := dk_180 0 144 (dk_at dksX11_call_5 19 rfl rfl)
theorem dX11_call_138 : decode cX11_call 138 = .ok (.invokevirtual 189, 3) := dk_182 0 189 (dk_at dksX11_call_6 0 rfl rfl)
theorem dX11_call_141 : decode cX11_call 141 = .ok (.putfield 192, 3) := dk_181 0 192 (dk_at dksX11_call_6 3 rfl rfl)
theorem dX11_call_144 : decode cX11_call 144 = .ok (.aload_n 2, 1) := dk_44 (dk_at dksX11_call_6 6 rfl rfl)
theorem dX11_call_145 : decode cX11_call 145 = .ok (.aload_n 0, 1) := dk_42 (dk_at dksX11_call_6 7 rfl rfl)
theorem dX11_call_146 : decode cX11_call 146 = .ok (.getfield 18, 3) := dk_180 0 18 (dk_at dksX11_call_6 8 rfl rfl)
theorem dX11_call_149 : decode cX11_call 149 = .ok (.aload_n 1, 1) := dk_43 (dk_at dksX11_call_6 11 rfl rfl)
theorem dX11_call_150 : decode cX11_call 150 = .ok (.getfield 141, 3) := dk_180 0 141 (dk_at dksX11_call_6 12 rfl rfl)
theorem dX11_call_153 : decode cX11_call 153 = .ok (.invokeinterface 82 2, 5) := by decide +kernel
theorem dX11_call_158 : decode cX11_call 158 = .ok (.checkcast 55, 3) := dk_192 0 55 (dk_at dksX11_call_6 20 rfl rfl)
theorem dX11_call_161 : decode cX11_call 161 = .ok (.aload_n 2, 1) := dk_44 (dk_at dksX11_call_6 23 rfl rfl)
theorem dX11_call_162 : decode cX11_call 162 = .ok (.getfield 192, 3) := dk_180 0 192 (dk_at dksX11_call_7 0 rfl rfl)
theorem dX11_call_165 : decode cX11_call 165 = .ok (.aload_n 1, 1) := dk_43 (dk_at dksX11_call_7 3 rfl rfl)
theorem dX11_call_166 : decode cX11_call 166 = .ok (.getfield 88, 3) := dk_180 0 88 (dk_at dksX11_call_7 4 rfl rfl)
theorem dX11_call_169 : decode cX11_call 169 = .ok (.invokevirtual 147, 3) := dk_182 0 147 (dk_at dksX11_call_7 7 rfl rfl)
theorem dX11_call_172 : decode cX11_call 172 = .ok (.putfield 150, 3) := dk_181 0 150 (dk_at dksX11_call_7 10 rfl rfl)
theorem dX11_call_175 : decode cX11_call 175 = .ok (.aload_n 2, 1) := dk_44 (dk_at dksX11_call_7 13 rfl rfl)
theorem dX11_call_176 : decode cX11_call 176 = .ok (.getfield 192, 3) := dk_180 0 192 (dk_at dksX11_call_7 14 rfl rfl)
theorem dX11_call_179 : decode cX11_call 179 = .ok (.aload_n 2, 1) := dk_44 (dk_at dksX11_call_7 17 rfl rfl)
theorem dX11_call_180 : decode cX11_call 180 = .ok (.getfield 150, 3) := dk_180 0 150 (dk_at dksX11_call_7 18 rfl rfl)
theorem dX11_call_183 : decode cX11_call 183 = .ok (.isub, 1) := dk_100 (dk_at dksX11_call_7 21 rfl rfl)
theorem dX11_call_184 : decode cX11_call 184 = .ok (.istore 6, 2) := dk_54 6 (dk_at dksX11_call_7 22 rfl rfl)
theorem dX11_call_186 : decode cX11_call 186 = .ok (.aload_n 3, 1) := dk_45 (dk_at dksX11_call_8 0 rfl rfl)
theorem dX11_call_187 : decode cX11_call 187 = .ok (.getfield 194, 3) := dk_180 0 194 (dk_at dksX11_call_8 1 rfl rfl)
theorem dX11_call_190 : decode cX11_call 190 = .ok (.iconst (-1), 1) := dk_2 (dk_at dksX11_call_8 4 rfl rfl)
theorem dX11_call_191 : decode cX11_call 191 = .ok (.if_icmp .eq 58, 3) := dk_159 0 58 (dk_at dksX11_call_8 5 rfl rfl)
theorem dX11_call_194 : decode cX11_call 194 = .ok (.iload 6, 2) := dk_21 6 (dk_at dksX11_call_8 8 rfl rfl)
theorem dX11_call_196 : decode cX11_call 196 = .ok (.aload_n 3, 1) := dk_45 (dk_at dksX11_call_8 10 rfl rfl)
theorem dX11_call_197 : decode cX11_call 197 = .ok (.getfield 197, 3) := dk_180 0 197 (dk_at dksX11_call_8 11 rfl rfl)
theorem dX11_call_200 : decode cX11_call 200 = .ok (.aload 5, 2) := dk_25 5 (dk_at dksX11_call_8 14 rfl rfl)
theorem dX11_call_202 : decode cX11_call 202 = .ok (.getfield 200, 3) := dk_180 0 200 (dk_at dksX11_call_8 16 rfl rfl)
theorem dX11_call_205 : decode cX11_call 205 = .ok (.isub, 1) := dk_100 (dk_at dksX11_call_8 19 rfl rfl)
theorem dX11_call_206 : decode cX11_call 206 = .ok (.invokestatic 203, 3) := dk_184 0 203 (dk_at dksX11_call_8 20 rfl rfl)
theorem dX11_call_209 : decode cX11_call 209 = .ok (.istore 7, 2) := dk_54 7 (dk_at dksX11_call_9 0 rfl rfl)
theorem dX11_call_211 : decode cX11_call 211 = .ok (.aload_n 2, 1) := dk_44 (dk_at dksX11_call_9 2 rfl rfl)
theorem dX11_call_212 : decode cX11_call 212 = .ok (.aload_n 0, 1) := dk_42 (dk_at dksX11_call_9 3 rfl rfl)
theorem dX11_call_213 : decode cX11_call 213 = .ok (.getfield 18, 3) := dk_180 0 18 (dk_at dksX11_call_9 4 rfl rfl)
theorem dX11_call_216 : decode cX11_call 216 = .ok (.aload_n 3, 1) := dk_45 (dk_at dksX11_call_9 7 rfl rfl)
theorem dX11_call_217 : decode cX11_call 217 = .ok (.getfield 194, 3) := dk_180 0 194 (dk_at dksX11_call_9 8 rfl rfl)
theorem dX11_call_220 : decode cX11_call 220 = .ok (.invokeinterface 82 2, 5) := by decide +kernel
theorem dX11_call_225 : decode cX11_call 225 = .ok (.checkcast 55, 3) := dk_192 0 55 (dk_at dksX11_call_9 16 rfl rfl)
theorem dX11_call_228 : decode cX11_call 228 = .ok (.iload 7, 2) := dk_21 7 (dk_at dksX11_call_9 19 rfl rfl)
theorem dX11_call_230 : decode cX11_call 230 = .ok (.aload_n 1, 1) := dk_43 (dk_at dksX11_call_9 21 rfl rfl)
theorem dX11_call_231 : decode cX11_call 231 = .ok (.getfield 88, 3) := dk_180 0 88 (dk_at dksX11_call_10 0 rfl rfl)
theorem dX11_call_234 : decode cX11_call 234 = .ok (.invokevirtual 147, 3) := dk_182 0 147 (dk_at dksX11_call_10 3 rfl rfl)
theorem dX11_call_237 : decode cX11_call 237 = .ok (.putfield 208, 3) := dk_181 0 208 (dk_at dksX11_call_10 6 rfl rfl)
theorem dX11_call_240 : decode cX11_call 240 = .ok (.iload 6, 2) := dk_21 6 (dk_at dksX11_call_10 9 rfl rfl)
theorem dX11_call_242 : decode cX11_call 242 = .ok (.aload_n 2, 1) := dk_44 (dk_at dksX11_call_10 11 rfl rfl)
theorem dX11_call_243 : decode cX11_call 243 = .ok (.getfield 208, 3) := dk_180 0 208 (dk_at dksX11_call_10 12 rfl rfl)
theorem dX11_call_246 : decode cX11_call 246 = .ok (.isub, 1) := dk_100 (dk_at dksX11_call_10 15 rfl rfl)
theorem dX11_call_247 : decode cX11_call 247 = .ok (.istore 6, 2) := dk_54 6 (dk_at dksX11_call_10 16 rfl rfl)
theorem dX11_call_249 : decode cX11_call 249 = .ok (.aload_n 0, 1) := dk_42 (dk_at dksX11_call_10 18 rfl rfl)
theorem dX11_call_250 : decode cX11_call 250 = .ok (.aload_n 1, 1) := dk_43 (dk_at dksX11_call_10 19 rfl rfl)
theorem dX11_call_251 : decode cX11_call 251 = .ok (.aload_n 2, 1) := dk_44 (dk_at dksX11_call_10 20 rfl rfl)
theorem dX11_call_252 : decode cX11_call 252 = .ok (.aload 4, 2) := dk_25 4 (dk_at dksX11_call_10 21 rfl rfl)
theorem dX11_call_254 : decode cX11_call 254 = .ok (.aload 5, 2) := dk_25 5 (dk_at dksX11_call_11 0 rfl rfl)
theorem dX11_call_256 : decode cX11_call 256 = .ok (.iload 6, 2) := dk_21 6 (dk_at dksX11_call_11 2 rfl rfl)
theorem dX11_call_258 : decode cX11_call 258 = .ok (.invokevirtual 209, 3) := dk_182 0 209 (dk_at dksX11_call_11 4 rfl rfl)
theorem dX11_call_261 : decode cX11_call 261 = .ok (.return_, 1) := dk_177 (dk_at dksX11_call_11 7 rfl rfl)
abbrev cX11_account : ByteArray := prog_9_method_4_code
def yX11_account : MethodName := ⟨RX11, "account", "(II)LRollover$Account;"⟩
def dkwX11_account_0 : List UInt8 := [42, 180, 0, 25, 27, 16, 12, 104, 28, 96, 185, 0, 82, 2, 0, 192, 0, 62, 176]
abbrev dktX11_account_0 : List UInt8 := dkwX11_account_0 ++ []
theorem dksX11_account_0 : cX11_account.data.toList.drop 0 = dktX11_account_0 := by decide +kernel
theorem dX11_account_0 : decode cX11_account 0 = .ok (.aload_n 0, 1) := dk_42 (dk_at dksX11_account_0 0 rfl rfl)
theorem dX11_account_1 : decode cX11_account 1 = .ok (.getfield 25, 3) := dk_180 0 25 (dk_at dksX11_account_0 1 rfl rfl)
theorem dX11_account_4 : decode cX11_account 4 = .ok (.iload_n 1, 1) := dk_27 (dk_at dksX11_account_0 4 rfl rfl)
theorem dX11_account_5 : decode cX11_account 5 = .ok (.bipush 12, 2) := dk_16 12 (dk_at dksX11_account_0 5 rfl rfl)
theorem dX11_account_7 : decode cX11_account 7 = .ok (.imul, 1) := dk_104 (dk_at dksX11_account_0 7 rfl rfl)
theorem dX11_account_8 : decode cX11_account 8 = .ok (.iload_n 2, 1) := dk_28 (dk_at dksX11_account_0 8 rfl rfl)
theorem dX11_account_9 : decode cX11_account 9 = .ok (.iadd, 1) := dk_96 (dk_at dksX11_account_0 9 rfl rfl)
theorem dX11_account_10 : decode cX11_account 10 = .ok (.invokeinterface 82 2, 5) := by decide +kernel
theorem dX11_account_15 : decode cX11_account 15 = .ok (.checkcast 62, 3) := dk_192 0 62 (dk_at dksX11_account_0 15 rfl rfl)
theorem dX11_account_18 : decode cX11_account 18 = .ok (.areturn, 1) := dk_176 (dk_at dksX11_account_0 18 rfl rfl)
abbrev cX11_charge : ByteArray := prog_9_method_8_code
def yX11_charge : MethodName := ⟨RX11, "charge", "(LRollover$Ticket;LRollover$Line;LRollover$Plan;LRollover$Account;I)V"⟩
def dkwX11_charge_11 : List UInt8 := [44, 180, 0, 208, 154, 0, 7, 4, 167, 0, 4, 3, 126, 181, 0, 41, 177]
abbrev dktX11_charge_11 : List UInt8 := dkwX11_charge_11 ++ []
def dkwX11_charge_10 : List UInt8 := [180, 0, 3, 180, 0, 28, 43, 180, 0, 141, 185, 0, 82, 2, 0, 192, 0, 95, 180, 0, 197, 164, 0, 10]
abbrev dktX11_charge_10 : List UInt8 := dkwX11_charge_10 ++ dktX11_charge_11
def dkwX11_charge_9 : List UInt8 := [163, 0, 7, 4, 167, 0, 4, 3, 126, 181, 0, 41, 42, 89, 180, 0, 41, 25, 4, 180, 0, 200, 42]
abbrev dktX11_charge_9 : List UInt8 := dkwX11_charge_9 ++ dktX11_charge_10
def dkwX11_charge_8 : List UInt8 := [180, 0, 218, 153, 0, 22, 42, 180, 0, 37, 43, 180, 0, 141, 46, 16, 100, 45, 180, 0, 218, 104]
abbrev dktX11_charge_8 : List UInt8 := dkwX11_charge_8 ++ dktX11_charge_9
def dkwX11_charge_7 : List UInt8 := [44, 180, 0, 192, 160, 0, 7, 4, 167, 0, 4, 3, 126, 181, 0, 41, 42, 89, 180, 0, 41, 45]
abbrev dktX11_charge_7 : List UInt8 := dkwX11_charge_7 ++ dktX11_charge_8
def dkwX11_charge_6 : List UInt8 := [180, 0, 225, 96, 181, 0, 228, 42, 89, 180, 0, 41, 44, 180, 0, 150, 44, 180, 0, 208, 96, 21, 5, 96]
abbrev dktX11_charge_6 : List UInt8 := dkwX11_charge_6 ++ dktX11_charge_7
def dkwX11_charge_5 : List UInt8 := [96, 181, 0, 200, 25, 4, 89, 180, 0, 213, 21, 5, 96, 181, 0, 213, 25, 4, 89, 180, 0, 228, 44]
abbrev dktX11_charge_5 : List UInt8 := dkwX11_charge_5 ++ dktX11_charge_6
def dkwX11_charge_4 : List UInt8 := [25, 4, 89, 180, 0, 227, 44, 180, 0, 150, 96, 181, 0, 227, 25, 4, 89, 180, 0, 200, 44, 180, 0, 208]
abbrev dktX11_charge_4 : List UInt8 := dkwX11_charge_4 ++ dktX11_charge_5
def dkwX11_charge_3 : List UInt8 := [167, 0, 5, 21, 6, 181, 0, 225, 42, 180, 0, 37, 43, 180, 0, 141, 92, 46, 44, 180, 0, 225, 96, 79]
abbrev dktX11_charge_3 : List UInt8 := dkwX11_charge_3 ++ dktX11_charge_4
def dkwX11_charge_2 : List UInt8 := [181, 0, 221, 44, 45, 180, 0, 218, 158, 0, 17, 21, 6, 3, 21, 7, 184, 0, 222, 184, 0, 203]
abbrev dktX11_charge_2 : List UInt8 := dkwX11_charge_2 ++ dktX11_charge_3
def dkwX11_charge_1 : List UInt8 := [16, 100, 45, 180, 0, 218, 104, 42, 180, 0, 37, 43, 180, 0, 141, 46, 100, 54, 7, 44, 21, 5]
abbrev dktX11_charge_1 : List UInt8 := dkwX11_charge_1 ++ dktX11_charge_2
def dkwX11_charge_0 : List UInt8 := [45, 21, 5, 25, 4, 180, 0, 213, 182, 0, 216, 16, 100, 16, 25, 43, 180, 0, 163, 104, 96, 104, 54, 6]
abbrev dktX11_charge_0 : List UInt8 := dkwX11_charge_0 ++ dktX11_charge_1
theorem dksX11_charge_0 : cX11_charge.data.toList.drop 0 = dktX11_charge_0 := by decide +kernel
theorem dksX11_charge_1 : cX11_charge.data.toList.drop 24 = dktX11_charge_1 := dk_seg dksX11_charge_0 24 rfl rfl
theorem dksX11_charge_2 : cX11_charge.data.toList.drop 46 = dktX11_charge_2 := dk_seg dksX11_charge_1 22 rfl rfl
theorem dksX11_charge_3 : cX11_charge.data.toList.drop 68 = dktX11_charge_3 := dk_seg dksX11_charge_2 22 rfl rfl
theorem dksX11_charge_4 : cX11_charge.data.toList.drop 92 = dktX11_charge_4 := dk_seg dksX11_charge_3 24 rfl rfl
theorem dksX11_charge_5 : cX11_charge.data.toList.drop 116 = dktX11_charge_5 := dk_seg dksX11_charge_4 24 rfl rfl
theorem dksX11_charge_6 : cX11_charge.data.toList.drop 139 = dktX11_charge_6 := dk_seg dksX11_charge_5 23 rfl rfl
theorem dksX11_charge_7 : cX11_charge.data.toList.drop 163 = dktX11_charge_7 := dk_seg dksX11_charge_6 24 rfl rfl
theorem dksX11_charge_8 : cX11_charge.data.toList.drop 185 = dktX11_charge_8 := dk_seg dksX11_charge_7 22 rfl rfl
theorem dksX11_charge_9 : cX11_charge.data.toList.drop 207 = dktX11_charge_9 := dk_seg dksX11_charge_8 22 rfl rfl
theorem dksX11_charge_10 : cX11_charge.data.toList.drop 230 = dktX11_charge_10 := dk_seg dksX11_charge_9 23 rfl rfl
theorem dksX11_charge_11 : cX11_charge.data.toList.drop 254 = dktX11_charge_11 := dk_seg dksX11_charge_10 24 rfl rfl
theorem dX11_charge_0 : decode cX11_charge 0 = .ok (.aload_n 3, 1) := dk_45 (dk_at dksX11_charge_0 0 rfl rfl)
theorem dX11_charge_1 : decode cX11_charge 1 = .ok (.iload 5, 2) := dk_21 5 (dk_at dksX11_charge_0 1 rfl rfl)
theorem dX11_charge_3 : decode cX11_charge 3 = .ok (.aload 4, 2) := dk_25 4 (dk_at dksX11_charge_0 3 rfl rfl)
theorem dX11_charge_5 : decode cX11_charge 5 = .ok (.getfield 213, 3) := dk_180 0 213 (dk_at dksX11_charge_0 5 rfl rfl)
theorem dX11_charge_8 : decode cX11_charge 8 = .ok (.invokevirtual 216, 3) := dk_182 0 216 (dk_at dksX11_charge_0 8 rfl rfl)
theorem dX11_charge_11 : decode cX11_charge 11 = .ok (.bipush 100, 2) := dk_16 100 (dk_at dksX11_charge_0 11 rfl rfl)
theorem dX11_charge_13 : decode cX11_charge 13 = .ok (.bipush 25, 2) := dk_16 25 (dk_at dksX11_charge_0 13 rfl rfl)
theorem dX11_charge_15 : decode cX11_charge 15 = .ok (.aload_n 1, 1) := dk_43 (dk_at dksX11_charge_0 15 rfl rfl)
theorem dX11_charge_16 : decode cX11_charge 16 = .ok (.getfield 163, 3) := dk_180 0 163 (dk_at dksX11_charge_0 16 rfl rfl)
theorem dX11_charge_19 : decode cX11_charge 19 = .ok (.imul, 1) := dk_104 (dk_at dksX11_charge_0 19 rfl rfl)
theorem dX11_charge_20 : decode cX11_charge 20 = .ok (.iadd, 1) := dk_96 (dk_at dksX11_charge_0 20 rfl rfl)
theorem dX11_charge_21 : decode cX11_charge 21 = .ok (.imul, 1) := dk_104 (dk_at dksX11_charge_0 21 rfl rfl)
theorem dX11_charge_22 : decode cX11_charge 22 = .ok (.istore 6, 2) := dk_54 6 (dk_at dksX11_charge_0 22 rfl rfl)
theorem dX11_charge_24 : decode cX11_charge 24 = .ok (.bipush 100, 2) := dk_16 100 (dk_at dksX11_charge_1 0 rfl rfl)
theorem dX11_charge_26 : decode cX11_charge 26 = .ok (.aload_n 3, 1) := dk_45 (dk_at dksX11_charge_1 2 rfl rfl)
theorem dX11_charge_27 : decode cX11_charge 27 = .ok (.getfield 218, 3) := dk_180 0 218 (dk_at dksX11_charge_1 3 rfl rfl)
theorem dX11_charge_30 : decode cX11_charge 30 = .ok (.imul, 1) := dk_104 (dk_at dksX11_charge_1 6 rfl rfl)
theorem dX11_charge_31 : decode cX11_charge 31 = .ok (.aload_n 0, 1) := dk_42 (dk_at dksX11_charge_1 7 rfl rfl)
theorem dX11_charge_32 : decode cX11_charge 32 = .ok (.getfield 37, 3) := dk_180 0 37 (dk_at dksX11_charge_1 8 rfl rfl)
theorem dX11_charge_35 : decode cX11_charge 35 = .ok (.aload_n 1, 1) := dk_43 (dk_at dksX11_charge_1 11 rfl rfl)
theorem dX11_charge_36 : decode cX11_charge 36 = .ok (.getfield 141, 3) := dk_180 0 141 (dk_at dksX11_charge_1 12 rfl rfl)
theorem dX11_charge_39 : decode cX11_charge 39 = .ok (.iaload, 1) := dk_46 (dk_at dksX11_charge_1 15 rfl rfl)
theorem dX11_charge_40 : decode cX11_charge 40 = .ok (.isub, 1) := dk_100 (dk_at dksX11_charge_1 16 rfl rfl)
theorem dX11_charge_41 : decode cX11_charge 41 = .ok (.istore 7, 2) := dk_54 7 (dk_at dksX11_charge_1 17 rfl rfl)
theorem dX11_charge_43 : decode cX11_charge 43 = .ok (.aload_n 2, 1) := dk_44 (dk_at dksX11_charge_1 19 rfl rfl)
theorem dX11_charge_44 : decode cX11_charge 44 = .ok (.iload 5, 2) := dk_21 5 (dk_at dksX11_charge_1 20 rfl rfl)
theorem dX11_charge_46 : decode cX11_charge 46 = .ok (.putfield 221, 3) := dk_181 0 221 (dk_at dksX11_charge_2 0 rfl rfl)
theorem dX11_charge_49 : decode cX11_charge 49 = .ok (.aload_n 2, 1) := dk_44 (dk_at dksX11_charge_2 3 rfl rfl)
theorem dX11_charge_50 : decode cX11_charge 50 = .ok (.aload_n 3, 1) := dk_45 (dk_at dksX11_charge_2 4 rfl rfl)
theorem dX11_charge_51 : decode cX11_charge 51 = .ok (.getfield 218, 3) := dk_180 0 218 (dk_at dksX11_charge_2 5 rfl rfl)
theorem dX11_charge_54 : decode cX11_charge 54 = .ok (.ifCond .le 17, 3) := dk_158 0 17 (dk_at dksX11_charge_2 8 rfl rfl)
theorem dX11_charge_57 : decode cX11_charge 57 = .ok (.iload 6, 2) := dk_21 6 (dk_at dksX11_charge_2 11 rfl rfl)
theorem dX11_charge_59 : decode cX11_charge 59 = .ok (.iconst 0, 1) := dk_3 (dk_at dksX11_charge_2 13 rfl rfl)
theorem dX11_charge_60 : decode cX11_charge 60 = .ok (.iload 7, 2) := dk_21 7 (dk_at dksX11_charge_2 14 rfl rfl)
theorem dX11_charge_62 : decode cX11_charge 62 = .ok (.invokestatic 222, 3) := dk_184 0 222 (dk_at dksX11_charge_2 16 rfl rfl)
theorem dX11_charge_65 : decode cX11_charge 65 = .ok (.invokestatic 203, 3) := dk_184 0 203 (dk_at dksX11_charge_2 19 rfl rfl)
theorem dX11_charge_68 : decode cX11_charge 68 = .ok (.goto 5, 3) := dk_167 0 5 (dk_at dksX11_charge_3 0 rfl rfl)
theorem dX11_charge_71 : decode cX11_charge 71 = .ok (.iload 6, 2) := dk_21 6 (dk_at dksX11_charge_3 3 rfl rfl)
theorem dX11_charge_73 : decode cX11_charge 73 = .ok (.putfield 225, 3) := dk_181 0 225 (dk_at dksX11_charge_3 5 rfl rfl)
theorem dX11_charge_76 : decode cX11_charge 76 = .ok (.aload_n 0, 1) := dk_42 (dk_at dksX11_charge_3 8 rfl rfl)
theorem dX11_charge_77 : decode cX11_charge 77 = .ok (.getfield 37, 3) := dk_180 0 37 (dk_at dksX11_charge_3 9 rfl rfl)
theorem dX11_charge_80 : decode cX11_charge 80 = .ok (.aload_n 1, 1) := dk_43 (dk_at dksX11_charge_3 12 rfl rfl)
theorem dX11_charge_81 : decode cX11_charge 81 = .ok (.getfield 141, 3) := dk_180 0 141 (dk_at dksX11_charge_3 13 rfl rfl)
theorem dX11_charge_84 : decode cX11_charge 84 = .ok (.dup2, 1) := dk_92 (dk_at dksX11_charge_3 16 rfl rfl)
theorem dX11_charge_85 : decode cX11_charge 85 = .ok (.iaload, 1) := dk_46 (dk_at dksX11_charge_3 17 rfl rfl)
theorem dX11_charge_86 : decode cX11_charge 86 = .ok (.aload_n 2, 1) := dk_44 (dk_at dksX11_charge_3 18 rfl rfl)
theorem dX11_charge_87 : decode cX11_charge 87 = .ok (.getfield 225, 3) := dk_180 0 225 (dk_at dksX11_charge_3 19 rfl rfl)
theorem dX11_charge_90 : decode cX11_charge 90 = .ok (.iadd, 1) := dk_96 (dk_at dksX11_charge_3 22 rfl rfl)
theorem dX11_charge_91 : decode cX11_charge 91 = .ok (.iastore, 1) := dk_79 (dk_at dksX11_charge_3 23 rfl rfl)
theorem dX11_charge_92 : decode cX11_charge 92 = .ok (.aload 4, 2) := dk_25 4 (dk_at dksX11_charge_4 0 rfl rfl)
theorem dX11_charge_94 : decode cX11_charge 94 = .ok (.dup, 1) := dk_89 (dk_at dksX11_charge_4 2 rfl rfl)
theorem dX11_charge_95 : decode cX11_charge 95 = .ok (.getfield 227, 3) := dk_180 0 227 (dk_at dksX11_charge_4 3 rfl rfl)
theorem dX11_charge_98 : decode cX11_charge 98 = .ok (.aload_n 2, 1) := dk_44 (dk_at dksX11_charge_4 6 rfl rfl)
theorem dX11_charge_99 : decode cX11_charge 99 = .ok (.getfield 150, 3) := dk_180 0 150 (dk_at dksX11_charge_4 7 rfl rfl)
theorem dX11_charge_102 : decode cX11_charge 102 = .ok (.iadd, 1) := dk_96 (dk_at dksX11_charge_4 10 rfl rfl)
theorem dX11_charge_103 : decode cX11_charge 103 = .ok (.putfield 227, 3) := dk_181 0 227 (dk_at dksX11_charge_4 11 rfl rfl)
theorem dX11_charge_106 : decode cX11_charge 106 = .ok (.aload 4, 2) := dk_25 4 (dk_at dksX11_charge_4 14 rfl rfl)
theorem dX11_charge_108 : decode cX11_charge 108 = .ok (.dup, 1) := dk_89 (dk_at dksX11_charge_4 16 rfl rfl)
theorem dX11_charge_109 : decode cX11_charge 109 = .ok (.getfield 200, 3) := dk_180 0 200 (dk_at dksX11_charge_4 17 rfl rfl)
theorem dX11_charge_112 : decode cX11_charge 112 = .ok (.aload_n 2, 1) := dk_44 (dk_at dksX11_charge_4 20 rfl rfl)
theorem dX11_charge_113 : decode cX11_charge 113 = .ok (.getfield 208, 3) := dk_180 0 208 (dk_at dksX11_charge_4 21 rfl rfl)
theorem dX11_charge_116 : decode cX11_charge 116 = .ok (.iadd, 1) := dk_96 (dk_at dksX11_charge_5 0 rfl rfl)
theorem dX11_charge_117 : decode cX11_charge 117 = .ok (.putfield 200, 3) := dk_181 0 200 (dk_at dksX11_charge_5 1 rfl rfl)
theorem dX11_charge_120 : decode cX11_charge 120 = .ok (.aload 4, 2) := dk_25 4 (dk_at dksX11_charge_5 4 rfl rfl)
theorem dX11_charge_122 : decode cX11_charge 122 = .ok (.dup, 1) := dk_89 (dk_at dksX11_charge_5 6 rfl rfl)
theorem dX11_charge_123 : decode cX11_charge 123 = .ok (.getfield 213, 3) := dk_180 0 213 (dk_at dksX11_charge_5 7 rfl rfl)
theorem dX11_charge_126 : decode cX11_charge 126 = .ok (.iload 5, 2) := dk_21 5 (dk_at dksX11_charge_5 10 rfl rfl)
theorem dX11_charge_128 : decode cX11_charge 128 = .ok (.iadd, 1) := dk_96 (dk_at dksX11_charge_5 12 rfl rfl)
theorem dX11_charge_129 : decode cX11_charge 129 = .ok (.putfield 213, 3) := dk_181 0 213 (dk_at dksX11_charge_5 13 rfl rfl)
theorem dX11_charge_132 : decode cX11_charge 132 = .ok (.aload 4, 2) := dk_25 4 (dk_at dksX11_charge_5 16 rfl rfl)
theorem dX11_charge_134 : decode cX11_charge 134 = .ok (.dup, 1) := dk_89 (dk_at dksX11_charge_5 18 rfl rfl)
theorem dX11_charge_135 : decode cX11_charge 135 = .ok (.getfield 228, 3) := dk_180 0 228 (dk_at dksX11_charge_5 19 rfl rfl)
theorem dX11_charge_138 : decode cX11_charge 138 = .ok (.aload_n 2, 1) := dk_44 (dk_at dksX11_charge_5 22 rfl rfl)
theorem dX11_charge_139 : decode cX11_charge 139 = .ok (.getfield 225, 3) := dk_180 0 225 (dk_at dksX11_charge_6 0 rfl rfl)
theorem dX11_charge_142 : decode cX11_charge 142 = .ok (.iadd, 1) := dk_96 (dk_at dksX11_charge_6 3 rfl rfl)
theorem dX11_charge_143 : decode cX11_charge 143 = .ok (.putfield 228, 3) := dk_181 0 228 (dk_at dksX11_charge_6 4 rfl rfl)
theorem dX11_charge_146 : decode cX11_charge 146 = .ok (.aload_n 0, 1) := dk_42 (dk_at dksX11_charge_6 7 rfl rfl)
theorem dX11_charge_147 : decode cX11_charge 147 = .ok (.dup, 1) := dk_89 (dk_at dksX11_charge_6 8 rfl rfl)
theorem dX11_charge_148 : decode cX11_charge 148 = .ok (.getfield 41, 3) := dk_180 0 41 (dk_at dksX11_charge_6 9 rfl rfl)
theorem dX11_charge_151 : decode cX11_charge 151 = .ok (.aload_n 2, 1) := dk_44 (dk_at dksX11_charge_6 12 rfl rfl)
theorem dX11_charge_152 : decode cX11_charge 152 = .ok (.getfield 150, 3) := dk_180 0 150 (dk_at dksX11_charge_6 13 rfl rfl)
theorem dX11_charge_155 : decode cX11_charge 155 = .ok (.aload_n 2, 1) := dk_44 (dk_at dksX11_charge_6 16 rfl rfl)
theorem dX11_charge_156 : decode cX11_charge 156 = .ok (.getfield 208, 3) := dk_180 0 208 (dk_at dksX11_charge_6 17 rfl rfl)
theorem dX11_charge_159 : decode cX11_charge 159 = .ok (.iadd, 1) := dk_96 (dk_at dksX11_charge_6 20 rfl rfl)
theorem dX11_charge_160 : decode cX11_charge 160 = .ok (.iload 5, 2) := dk_21 5 (dk_at dksX11_charge_6 21 rfl rfl)
theorem dX11_charge_162 : decode cX11_charge 162 = .ok (.iadd, 1) := dk_96 (dk_at dksX11_charge_6 23 rfl rfl)
theorem dX11_charge_163 : decode cX11_charge 163 = .ok (.aload_n 2, 1) := dk_44 (dk_at dksX11_charge_7 0 rfl rfl)
theorem dX11_charge_164 : decode cX11_charge 164 = .ok (.getfield 192, 3) := dk_180 0 192 (dk_at dksX11_charge_7 1 rfl rfl)
theorem dX11_charge_167 : decode cX11_charge 167 = .ok (.if_icmp .ne 7, 3) := dk_160 0 7 (dk_at dksX11_charge_7 4 rfl rfl)
theorem dX11_charge_170 : decode cX11_charge 170 = .ok (.iconst 1, 1) := dk_4 (dk_at dksX11_charge_7 7 rfl rfl)
theorem dX11_charge_171 : decode cX11_charge 171 = .ok (.goto 4, 3) := dk_167 0 4 (dk_at dksX11_charge_7 8 rfl rfl)
theorem dX11_charge_174 : decode cX11_charge 174 = .ok (.iconst 0, 1) := dk_3 (dk_at dksX11_charge_7 11 rfl rfl)
theorem dX11_charge_175 : decode cX11_charge 175 = .ok (.iand, 1) := dk_126 (dk_at dksX11_charge_7 12 rfl rfl)
theorem dX11_charge_176 : decode cX11_charge 176 = .ok (.putfield 41, 3) := dk_181 0 41 (dk_at dksX11_charge_7 13 rfl rfl)
theorem dX11_charge_179 : decode cX11_charge 179 = .ok (.aload_n 0, 1) := dk_42 (dk_at dksX11_charge_7 16 rfl rfl)
theorem dX11_charge_180 : decode cX11_charge 180 = .ok (.dup, 1) := dk_89 (dk_at dksX11_charge_7 17 rfl rfl)
theorem dX11_charge_181 : decode cX11_charge 181 = .ok (.getfield 41, 3) := dk_180 0 41 (dk_at dksX11_charge_7 18 rfl rfl)
theorem dX11_charge_184 : decode cX11_charge 184 = .ok (.aload_n 3, 1) := dk_45 (dk_at dksX11_charge_7 21 rfl rfl)
theorem dX11_charge_185 : decode cX11_charge 185 = .ok (.getfield 218, 3) := dk_180 0 218 (dk_at dksX11_charge_8 0 rfl rfl)
theorem dX11_charge_188 : decode cX11_charge 188 = .ok (.ifCond .eq 22, 3) := dk_153 0 22 (dk_at dksX11_charge_8 3 rfl rfl)
theorem dX11_charge_191 : decode cX11_charge 191 = .ok (.aload_n 0, 1) := dk_42 (dk_at dksX11_charge_8 6 rfl rfl)
theorem dX11_charge_192 : decode cX11_charge 192 = .ok (.getfield 37, 3) := dk_180 0 37 (dk_at dksX11_charge_8 7 rfl rfl)
theorem dX11_charge_195 : decode cX11_charge 195 = .ok (.aload_n 1, 1) := dk_43 (dk_at dksX11_charge_8 10 rfl rfl)
theorem dX11_charge_196 : decode cX11_charge 196 = .ok (.getfield 141, 3) := dk_180 0 141 (dk_at dksX11_charge_8 11 rfl rfl)
theorem dX11_charge_199 : decode cX11_charge 199 = .ok (.iaload, 1) := dk_46 (dk_at dksX11_charge_8 14 rfl rfl)
theorem dX11_charge_200 : decode cX11_charge 200 = .ok (.bipush 100, 2) := dk_16 100 (dk_at dksX11_charge_8 15 rfl rfl)
theorem dX11_charge_202 : decode cX11_charge 202 = .ok (.aload_n 3, 1) := dk_45 (dk_at dksX11_charge_8 17 rfl rfl)
theorem dX11_charge_203 : decode cX11_charge 203 = .ok (.getfield 218, 3) := dk_180 0 218 (dk_at dksX11_charge_8 18 rfl rfl)
theorem dX11_charge_206 : decode cX11_charge 206 = .ok (.imul, 1) := dk_104 (dk_at dksX11_charge_8 21 rfl rfl)
theorem dX11_charge_207 : decode cX11_charge 207 = .ok (.if_icmp .gt 7, 3) := dk_163 0 7 (dk_at dksX11_charge_9 0 rfl rfl)
theorem dX11_charge_210 : decode cX11_charge 210 = .ok (.iconst 1, 1) := dk_4 (dk_at dksX11_charge_9 3 rfl rfl)
theorem dX11_charge_211 : decode cX11_charge 211 = .ok (.goto 4, 3) := dk_167 0 4 (dk_at dksX11_charge_9 4 rfl rfl)
theorem dX11_charge_214 : decode cX11_charge 214 = .ok (.iconst 0, 1) := dk_3 (dk_at dksX11_charge_9 7 rfl rfl)
theorem dX11_charge_215 : decode cX11_charge 215 = .ok (.iand, 1) := dk_126 (dk_at dksX11_charge_9 8 rfl rfl)
theorem dX11_charge_216 : decode cX11_charge 216 = .ok (.putfield 41, 3) := dk_181 0 41 (dk_at dksX11_charge_9 9 rfl rfl)
theorem dX11_charge_219 : decode cX11_charge 219 = .ok (.aload_n 0, 1) := dk_42 (dk_at dksX11_charge_9 12 rfl rfl)
theorem dX11_charge_220 : decode cX11_charge 220 = .ok (.dup, 1) := dk_89 (dk_at dksX11_charge_9 13 rfl rfl)
theorem dX11_charge_221 : decode cX11_charge 221 = .ok (.getfield 41, 3) := dk_180 0 41 (dk_at dksX11_charge_9 14 rfl rfl)
theorem dX11_charge_224 : decode cX11_charge 224 = .ok (.aload 4, 2) := dk_25 4 (dk_at dksX11_charge_9 17 rfl rfl)
theorem dX11_charge_226 : decode cX11_charge 226 = .ok (.getfield 200, 3) := dk_180 0 200 (dk_at dksX11_charge_9 19 rfl rfl)
theorem dX11_charge_229 : decode cX11_charge 229 = .ok (.aload_n 0, 1) := dk_42 (dk_at dksX11_charge_9 22 rfl rfl)
theorem dX11_charge_230 : decode cX11_charge 230 = .ok (.getfield 3, 3) := dk_180 0 3 (dk_at dksX11_charge_10 0 rfl rfl)
theorem dX11_charge_233 : decode cX11_charge 233 = .ok (.getfield 28, 3) := dk_180 0 28 (dk_at dksX11_charge_10 3 rfl rfl)
theorem dX11_charge_236 : decode cX11_charge 236 = .ok (.aload_n 1, 1) := dk_43 (dk_at dksX11_charge_10 6 rfl rfl)
theorem dX11_charge_237 : decode cX11_charge 237 = .ok (.getfield 141, 3) := dk_180 0 141 (dk_at dksX11_charge_10 7 rfl rfl)
theorem dX11_charge_240 : decode cX11_charge 240 = .ok (.invokeinterface 82 2, 5) := by decide +kernel
theorem dX11_charge_245 : decode cX11_charge 245 = .ok (.checkcast 95, 3) := dk_192 0 95 (dk_at dksX11_charge_10 15 rfl rfl)
theorem dX11_charge_248 : decode cX11_charge 248 = .ok (.getfield 197, 3) := dk_180 0 197 (dk_at dksX11_charge_10 18 rfl rfl)
theorem dX11_charge_251 : decode cX11_charge 251 = .ok (.if_icmp .le 10, 3) := dk_164 0 10 (dk_at dksX11_charge_10 21 rfl rfl)
theorem dX11_charge_254 : decode cX11_charge 254 = .ok (.aload_n 2, 1) := dk_44 (dk_at dksX11_charge_11 0 rfl rfl)
theorem dX11_charge_255 : decode cX11_charge 255 = .ok (.getfield 208, 3) := dk_180 0 208 (dk_at dksX11_charge_11 1 rfl rfl)
theorem dX11_charge_258 : decode cX11_charge 258 = .ok (.ifCond .ne 7, 3) := dk_154 0 7 (dk_at dksX11_charge_11 4 rfl rfl)
theorem dX11_charge_261 : decode cX11_charge 261 = .ok (.iconst 1, 1) := dk_4 (dk_at dksX11_charge_11 7 rfl rfl)
theorem dX11_charge_262 : decode cX11_charge 262 = .ok (.goto 4, 3) := dk_167 0 4 (dk_at dksX11_charge_11 8 rfl rfl)
theorem dX11_charge_265 : decode cX11_charge 265 = .ok (.iconst 0, 1) := dk_3 (dk_at dksX11_charge_11 11 rfl rfl)
theorem dX11_charge_266 : decode cX11_charge 266 = .ok (.iand, 1) := dk_126 (dk_at dksX11_charge_11 12 rfl rfl)
theorem dX11_charge_267 : decode cX11_charge 267 = .ok (.putfield 41, 3) := dk_181 0 41 (dk_at dksX11_charge_11 13 rfl rfl)
theorem dX11_charge_270 : decode cX11_charge 270 = .ok (.return_, 1) := dk_177 (dk_at dksX11_charge_11 16 rfl rfl)
abbrev cX11_areBucketsSound : ByteArray := prog_9_method_11_code
def yX11_areBucketsSound : MethodName := ⟨RX11, "areBucketsSound", "()Z"⟩
def dkwX11_areBucketsSound_1 : List UInt8 := [185, 0, 82, 2, 0, 192, 0, 55, 182, 0, 246, 154, 0, 5, 3, 172, 132, 1, 1, 167, 255, 219, 4, 172]
abbrev dktX11_areBucketsSound_1 : List UInt8 := dkwX11_areBucketsSound_1 ++ []
def dkwX11_areBucketsSound_0 : List UInt8 := [3, 60, 27, 42, 180, 0, 18, 185, 0, 31, 1, 0, 162, 0, 30, 42, 180, 0, 18, 27]
abbrev dktX11_areBucketsSound_0 : List UInt8 := dkwX11_areBucketsSound_0 ++ dktX11_areBucketsSound_1
theorem dksX11_areBucketsSound_0 : cX11_areBucketsSound.data.toList.drop 0 = dktX11_areBucketsSound_0 := by decide +kernel
theorem dksX11_areBucketsSound_1 : cX11_areBucketsSound.data.toList.drop 20 = dktX11_areBucketsSound_1 := dk_seg dksX11_areBucketsSound_0 20 rfl rfl
theorem dX11_areBucketsSound_0 : decode cX11_areBucketsSound 0 = .ok (.iconst 0, 1) := dk_3 (dk_at dksX11_areBucketsSound_0 0 rfl rfl)
theorem dX11_areBucketsSound_1 : decode cX11_areBucketsSound 1 = .ok (.istore_n 1, 1) := dk_60 (dk_at dksX11_areBucketsSound_0 1 rfl rfl)
theorem dX11_areBucketsSound_2 : decode cX11_areBucketsSound 2 = .ok (.iload_n 1, 1) := dk_27 (dk_at dksX11_areBucketsSound_0 2 rfl rfl)
theorem dX11_areBucketsSound_3 : decode cX11_areBucketsSound 3 = .ok (.aload_n 0, 1) := dk_42 (dk_at dksX11_areBucketsSound_0 3 rfl rfl)
theorem dX11_areBucketsSound_4 : decode cX11_areBucketsSound 4 = .ok (.getfield 18, 3) := dk_180 0 18 (dk_at dksX11_areBucketsSound_0 4 rfl rfl)
theorem dX11_areBucketsSound_7 : decode cX11_areBucketsSound 7 = .ok (.invokeinterface 31 1, 5) := by decide +kernel
theorem dX11_areBucketsSound_12 : decode cX11_areBucketsSound 12 = .ok (.if_icmp .ge 30, 3) := dk_162 0 30 (dk_at dksX11_areBucketsSound_0 12 rfl rfl)
theorem dX11_areBucketsSound_15 : decode cX11_areBucketsSound 15 = .ok (.aload_n 0, 1) := dk_42 (dk_at dksX11_areBucketsSound_0 15 rfl rfl)
theorem dX11_areBucketsSound_16 : decode cX11_areBucketsSound 16 = .ok (.getfield 18, 3) := dk_180 0 18 (dk_at dksX11_areBucketsSound_0 16 rfl rfl)
theorem dX11_areBucketsSound_19 : decode cX11_areBucketsSound 19 = .ok (.iload_n 1, 1) := dk_27 (dk_at dksX11_areBucketsSound_0 19 rfl rfl)
theorem dX11_areBucketsSound_20 : decode cX11_areBucketsSound 20 = .ok (.invokeinterface 82 2, 5) := by decide +kernel
theorem dX11_areBucketsSound_25 : decode cX11_areBucketsSound 25 = .ok (.checkcast 55, 3) := dk_192 0 55 (dk_at dksX11_areBucketsSound_1 5 rfl rfl)
theorem dX11_areBucketsSound_28 : decode cX11_areBucketsSound 28 = .ok (.invokevirtual 246, 3) := dk_182 0 246 (dk_at dksX11_areBucketsSound_1 8 rfl rfl)
theorem dX11_areBucketsSound_31 : decode cX11_areBucketsSound 31 = .ok (.ifCond .ne 5, 3) := dk_154 0 5 (dk_at dksX11_areBucketsSound_1 11 rfl rfl)
theorem dX11_areBucketsSound_34 : decode cX11_areBucketsSound 34 = .ok (.iconst 0, 1) := dk_3 (dk_at dksX11_areBucketsSound_1 14 rfl rfl)
theorem dX11_areBucketsSound_35 : decode cX11_areBucketsSound 35 = .ok (.ireturn, 1) := dk_172 (dk_at dksX11_areBucketsSound_1 15 rfl rfl)
theorem dX11_areBucketsSound_36 : decode cX11_areBucketsSound 36 = .ok (.iinc 1 1, 3) := dk_132 1 1 (dk_at dksX11_areBucketsSound_1 16 rfl rfl)
theorem dX11_areBucketsSound_39 : decode cX11_areBucketsSound 39 = .ok (.goto (-37), 3) := dk_167 255 219 (dk_at dksX11_areBucketsSound_1 19 rfl rfl)
theorem dX11_areBucketsSound_42 : decode cX11_areBucketsSound 42 = .ok (.iconst 1, 1) := dk_4 (dk_at dksX11_areBucketsSound_1 22 rfl rfl)
theorem dX11_areBucketsSound_43 : decode cX11_areBucketsSound 43 = .ok (.ireturn, 1) := dk_172 (dk_at dksX11_areBucketsSound_1 23 rfl rfl)
abbrev cX11_bills : ByteArray := prog_9_method_10_code
def yX11_bills : MethodName := ⟨RX11, "bills", "()I"⟩
def dkwX11_bills_2 : List UInt8 := [60, 132, 3, 1, 167, 255, 226, 132, 2, 1, 167, 255, 202, 27, 172]
abbrev dktX11_bills_2 : List UInt8 := dkwX11_bills_2 ++ []
def dkwX11_bills_1 : List UInt8 := [180, 0, 3, 180, 0, 240, 16, 30, 108, 163, 0, 22, 27, 3, 42, 28, 29, 182, 0, 243, 184, 0, 222, 96]
abbrev dktX11_bills_1 : List UInt8 := dkwX11_bills_1 ++ dktX11_bills_2
def dkwX11_bills_0 : List UInt8 := [3, 60, 3, 61, 28, 42, 180, 0, 3, 180, 0, 28, 185, 0, 31, 1, 0, 162, 0, 44, 3, 62, 29, 42]
abbrev dktX11_bills_0 : List UInt8 := dkwX11_bills_0 ++ dktX11_bills_1
theorem dksX11_bills_0 : cX11_bills.data.toList.drop 0 = dktX11_bills_0 := by decide +kernel
theorem dksX11_bills_1 : cX11_bills.data.toList.drop 24 = dktX11_bills_1 := dk_seg dksX11_bills_0 24 rfl rfl
theorem dksX11_bills_2 : cX11_bills.data.toList.drop 48 = dktX11_bills_2 := dk_seg dksX11_bills_1 24 rfl rfl
theorem dX11_bills_0 : decode cX11_bills 0 = .ok (.iconst 0, 1) := dk_3 (dk_at dksX11_bills_0 0 rfl rfl)
theorem dX11_bills_1 : decode cX11_bills 1 = .ok (.istore_n 1, 1) := dk_60 (dk_at dksX11_bills_0 1 rfl rfl)
theorem dX11_bills_2 : decode cX11_bills 2 = .ok (.iconst 0, 1) := dk_3 (dk_at dksX11_bills_0 2 rfl rfl)
theorem dX11_bills_3 : decode cX11_bills 3 = .ok (.istore_n 2, 1) := dk_61 (dk_at dksX11_bills_0 3 rfl rfl)
theorem dX11_bills_4 : decode cX11_bills 4 = .ok (.iload_n 2, 1) := dk_28 (dk_at dksX11_bills_0 4 rfl rfl)
theorem dX11_bills_5 : decode cX11_bills 5 = .ok (.aload_n 0, 1) := dk_42 (dk_at dksX11_bills_0 5 rfl rfl)
theorem dX11_bills_6 : decode cX11_bills 6 = .ok (.getfield 3, 3) := dk_180 0 3 (dk_at dksX11_bills_0 6 rfl rfl)
theorem dX11_bills_9 : decode cX11_bills 9 = .ok (.getfield 28, 3) := dk_180 0 28 (dk_at dksX11_bills_0 9 rfl rfl)
theorem dX11_bills_12 : decode cX11_bills 12 = .ok (.invokeinterface 31 1, 5) := by decide +kernel
theorem dX11_bills_17 : decode cX11_bills 17 = .ok (.if_icmp .ge 44, 3) := dk_162 0 44 (dk_at dksX11_bills_0 17 rfl rfl)
theorem dX11_bills_20 : decode cX11_bills 20 = .ok (.iconst 0, 1) := dk_3 (dk_at dksX11_bills_0 20 rfl rfl)
theorem dX11_bills_21 : decode cX11_bills 21 = .ok (.istore_n 3, 1) := dk_62 (dk_at dksX11_bills_0 21 rfl rfl)
theorem dX11_bills_22 : decode cX11_bills 22 = .ok (.iload_n 3, 1) := dk_29 (dk_at dksX11_bills_0 22 rfl rfl)
theorem dX11_bills_23 : decode cX11_bills 23 = .ok (.aload_n 0, 1) := dk_42 (dk_at dksX11_bills_0 23 rfl rfl)
theorem dX11_bills_24 : decode cX11_bills 24 = .ok (.getfield 3, 3) := dk_180 0 3 (dk_at dksX11_bills_1 0 rfl rfl)
theorem dX11_bills_27 : decode cX11_bills 27 = .ok (.getfield 240, 3) := dk_180 0 240 (dk_at dksX11_bills_1 3 rfl rfl)
theorem dX11_bills_30 : decode cX11_bills 30 = .ok (.bipush 30, 2) := dk_16 30 (dk_at dksX11_bills_1 6 rfl rfl)
theorem dX11_bills_32 : decode cX11_bills 32 = .ok (.idiv, 1) := dk_108 (dk_at dksX11_bills_1 8 rfl rfl)
theorem dX11_bills_33 : decode cX11_bills 33 = .ok (.if_icmp .gt 22, 3) := dk_163 0 22 (dk_at dksX11_bills_1 9 rfl rfl)
theorem dX11_bills_36 : decode cX11_bills 36 = .ok (.iload_n 1, 1) := dk_27 (dk_at dksX11_bills_1 12 rfl rfl)
theorem dX11_bills_37 : decode cX11_bills 37 = .ok (.iconst 0, 1) := dk_3 (dk_at dksX11_bills_1 13 rfl rfl)
theorem dX11_bills_38 : decode cX11_bills 38 = .ok (.aload_n 0, 1) := dk_42 (dk_at dksX11_bills_1 14 rfl rfl)
theorem dX11_bills_39 : decode cX11_bills 39 = .ok (.iload_n 2, 1) := dk_28 (dk_at dksX11_bills_1 15 rfl rfl)
theorem dX11_bills_40 : decode cX11_bills 40 = .ok (.iload_n 3, 1) := dk_29 (dk_at dksX11_bills_1 16 rfl rfl)
theorem dX11_bills_41 : decode cX11_bills 41 = .ok (.invokevirtual 243, 3) := dk_182 0 243 (dk_at dksX11_bills_1 17 rfl rfl)
theorem dX11_bills_44 : decode cX11_bills 44 = .ok (.invokestatic 222, 3) := dk_184 0 222 (dk_at dksX11_bills_1 20 rfl rfl)
theorem dX11_bills_47 : decode cX11_bills 47 = .ok (.iadd, 1) := dk_96 (dk_at dksX11_bills_1 23 rfl rfl)
theorem dX11_bills_48 : decode cX11_bills 48 = .ok (.istore_n 1, 1) := dk_60 (dk_at dksX11_bills_2 0 rfl rfl)
theorem dX11_bills_49 : decode cX11_bills 49 = .ok (.iinc 3 1, 3) := dk_132 3 1 (dk_at dksX11_bills_2 1 rfl rfl)
theorem dX11_bills_52 : decode cX11_bills 52 = .ok (.goto (-30), 3) := dk_167 255 226 (dk_at dksX11_bills_2 4 rfl rfl)
theorem dX11_bills_55 : decode cX11_bills 55 = .ok (.iinc 2 1, 3) := dk_132 2 1 (dk_at dksX11_bills_2 7 rfl rfl)
theorem dX11_bills_58 : decode cX11_bills 58 = .ok (.goto (-54), 3) := dk_167 255 202 (dk_at dksX11_bills_2 10 rfl rfl)
theorem dX11_bills_61 : decode cX11_bills 61 = .ok (.iload_n 1, 1) := dk_27 (dk_at dksX11_bills_2 13 rfl rfl)
theorem dX11_bills_62 : decode cX11_bills 62 = .ok (.ireturn, 1) := dk_172 (dk_at dksX11_bills_2 14 rfl rfl)
abbrev cX11_bill : ByteArray := prog_9_method_9_code
def yX11_bill : MethodName := ⟨RX11, "bill", "(II)I"⟩
def dkwX11_bill_3 : List UInt8 := [54, 5, 21, 5, 25, 4, 180, 0, 160, 96, 25, 4, 180, 0, 228, 16, 100, 184, 0, 237, 96, 172]
abbrev dktX11_bill_3 : List UInt8 := dkwX11_bill_3 ++ []
def dkwX11_bill_2 : List UInt8 := [180, 0, 107, 16, 30, 28, 104, 184, 0, 222, 182, 0, 112, 185, 0, 82, 2, 0, 192, 0, 116, 180, 0, 234]
abbrev dktX11_bill_2 : List UInt8 := dkwX11_bill_2 ++ dktX11_bill_3
def dkwX11_bill_1 : List UInt8 := [154, 0, 5, 2, 172, 42, 27, 28, 182, 0, 156, 58, 4, 42, 180, 0, 3, 180, 0, 110, 42, 27, 45]
abbrev dktX11_bill_1 : List UInt8 := dkwX11_bill_1 ++ dktX11_bill_2
def dkwX11_bill_0 : List UInt8 := [42, 180, 0, 3, 180, 0, 28, 27, 185, 0, 82, 2, 0, 192, 0, 95, 78, 45, 28, 182, 0, 231]
abbrev dktX11_bill_0 : List UInt8 := dkwX11_bill_0 ++ dktX11_bill_1
theorem dksX11_bill_0 : cX11_bill.data.toList.drop 0 = dktX11_bill_0 := by decide +kernel
theorem dksX11_bill_1 : cX11_bill.data.toList.drop 22 = dktX11_bill_1 := dk_seg dksX11_bill_0 22 rfl rfl
theorem dksX11_bill_2 : cX11_bill.data.toList.drop 45 = dktX11_bill_2 := dk_seg dksX11_bill_1 23 rfl rfl
theorem dksX11_bill_3 : cX11_bill.data.toList.drop 69 = dktX11_bill_3 := dk_seg dksX11_bill_2 24 rfl rfl
theorem dX11_bill_0 : decode cX11_bill 0 = .ok (.aload_n 0, 1) := dk_42 (dk_at dksX11_bill_0 0 rfl rfl)
theorem dX11_bill_1 : decode cX11_bill 1 = .ok (.getfield 3, 3) := dk_180 0 3 (dk_at dksX11_bill_0 1 rfl rfl)
theorem dX11_bill_4 : decode cX11_bill 4 = .ok (.getfield 28, 3) := dk_180 0 28 (dk_at dksX11_bill_0 4 rfl rfl)
theorem dX11_bill_7 : decode cX11_bill 7 = .ok (.iload_n 1, 1) := dk_27 (dk_at dksX11_bill_0 7 rfl rfl)
theorem dX11_bill_8 : decode cX11_bill 8 = .ok (.invokeinterface 82 2, 5) := by decide +kernel
theorem dX11_bill_13 : decode cX11_bill 13 = .ok (.checkcast 95, 3) := dk_192 0 95 (dk_at dksX11_bill_0 13 rfl rfl)
theorem dX11_bill_16 : decode cX11_bill 16 = .ok (.astore_n 3, 1) := dk_78 (dk_at dksX11_bill_0 16 rfl rfl)
theorem dX11_bill_17 : decode cX11_bill 17 = .ok (.aload_n 3, 1) := dk_45 (dk_at dksX11_bill_0 17 rfl rfl)
theorem dX11_bill_18 : decode cX11_bill 18 = .ok (.iload_n 2, 1) := dk_28 (dk_at dksX11_bill_0 18 rfl rfl)
theorem dX11_bill_19 : decode cX11_bill 19 = .ok (.invokevirtual 231, 3) := dk_182 0 231 (dk_at dksX11_bill_0 19 rfl rfl)
theorem dX11_bill_22 : decode cX11_bill 22 = .ok (.ifCond .ne 5, 3) := dk_154 0 5 (dk_at dksX11_bill_1 0 rfl rfl)
theorem dX11_bill_25 : decode cX11_bill 25 = .ok (.iconst (-1), 1) := dk_2 (dk_at dksX11_bill_1 3 rfl rfl)
theorem dX11_bill_26 : decode cX11_bill 26 = .ok (.ireturn, 1) := dk_172 (dk_at dksX11_bill_1 4 rfl rfl)
theorem dX11_bill_27 : decode cX11_bill 27 = .ok (.aload_n 0, 1) := dk_42 (dk_at dksX11_bill_1 5 rfl rfl)
theorem dX11_bill_28 : decode cX11_bill 28 = .ok (.iload_n 1, 1) := dk_27 (dk_at dksX11_bill_1 6 rfl rfl)
theorem dX11_bill_29 : decode cX11_bill 29 = .ok (.iload_n 2, 1) := dk_28 (dk_at dksX11_bill_1 7 rfl rfl)
theorem dX11_bill_30 : decode cX11_bill 30 = .ok (.invokevirtual 156, 3) := dk_182 0 156 (dk_at dksX11_bill_1 8 rfl rfl)
theorem dX11_bill_33 : decode cX11_bill 33 = .ok (.astore 4, 2) := dk_58 4 (dk_at dksX11_bill_1 11 rfl rfl)
theorem dX11_bill_35 : decode cX11_bill 35 = .ok (.aload_n 0, 1) := dk_42 (dk_at dksX11_bill_1 13 rfl rfl)
theorem dX11_bill_36 : decode cX11_bill 36 = .ok (.getfield 3, 3) := dk_180 0 3 (dk_at dksX11_bill_1 14 rfl rfl)
theorem dX11_bill_39 : decode cX11_bill 39 = .ok (.getfield 110, 3) := dk_180 0 110 (dk_at dksX11_bill_1 17 rfl rfl)
theorem dX11_bill_42 : decode cX11_bill 42 = .ok (.aload_n 0, 1) := dk_42 (dk_at dksX11_bill_1 20 rfl rfl)
theorem dX11_bill_43 : decode cX11_bill 43 = .ok (.iload_n 1, 1) := dk_27 (dk_at dksX11_bill_1 21 rfl rfl)
theorem dX11_bill_44 : decode cX11_bill 44 = .ok (.aload_n 3, 1) := dk_45 (dk_at dksX11_bill_1 22 rfl rfl)
theorem dX11_bill_45 : decode cX11_bill 45 = .ok (.getfield 107, 3) := dk_180 0 107 (dk_at dksX11_bill_2 0 rfl rfl)
theorem dX11_bill_48 : decode cX11_bill 48 = .ok (.bipush 30, 2) := dk_16 30 (dk_at dksX11_bill_2 3 rfl rfl)
theorem dX11_bill_50 : decode cX11_bill 50 = .ok (.iload_n 2, 1) := dk_28 (dk_at dksX11_bill_2 5 rfl rfl)
theorem dX11_bill_51 : decode cX11_bill 51 = .ok (.imul, 1) := dk_104 (dk_at dksX11_bill_2 6 rfl rfl)
theorem dX11_bill_52 : decode cX11_bill 52 = .ok (.invokestatic 222, 3) := dk_184 0 222 (dk_at dksX11_bill_2 7 rfl rfl)
theorem dX11_bill_55 : decode cX11_bill 55 = .ok (.invokevirtual 112, 3) := dk_182 0 112 (dk_at dksX11_bill_2 10 rfl rfl)
theorem dX11_bill_58 : decode cX11_bill 58 = .ok (.invokeinterface 82 2, 5) := by decide +kernel
theorem dX11_bill_63 : decode cX11_bill 63 = .ok (.checkcast 116, 3) := dk_192 0 116 (dk_at dksX11_bill_2 18 rfl rfl)
theorem dX11_bill_66 : decode cX11_bill 66 = .ok (.getfield 234, 3) := dk_180 0 234 (dk_at dksX11_bill_2 21 rfl rfl)
theorem dX11_bill_69 : decode cX11_bill 69 = .ok (.istore 5, 2) := dk_54 5 (dk_at dksX11_bill_3 0 rfl rfl)
theorem dX11_bill_71 : decode cX11_bill 71 = .ok (.iload 5, 2) := dk_21 5 (dk_at dksX11_bill_3 2 rfl rfl)
theorem dX11_bill_73 : decode cX11_bill 73 = .ok (.aload 4, 2) := dk_25 4 (dk_at dksX11_bill_3 4 rfl rfl)
theorem dX11_bill_75 : decode cX11_bill 75 = .ok (.getfield 160, 3) := dk_180 0 160 (dk_at dksX11_bill_3 6 rfl rfl)
theorem dX11_bill_78 : decode cX11_bill 78 = .ok (.iadd, 1) := dk_96 (dk_at dksX11_bill_3 9 rfl rfl)
theorem dX11_bill_79 : decode cX11_bill 79 = .ok (.aload 4, 2) := dk_25 4 (dk_at dksX11_bill_3 10 rfl rfl)
theorem dX11_bill_81 : decode cX11_bill 81 = .ok (.getfield 228, 3) := dk_180 0 228 (dk_at dksX11_bill_3 12 rfl rfl)
theorem dX11_bill_84 : decode cX11_bill 84 = .ok (.bipush 100, 2) := dk_16 100 (dk_at dksX11_bill_3 15 rfl rfl)
theorem dX11_bill_86 : decode cX11_bill 86 = .ok (.invokestatic 237, 3) := dk_184 0 237 (dk_at dksX11_bill_3 17 rfl rfl)
theorem dX11_bill_89 : decode cX11_bill 89 = .ok (.iadd, 1) := dk_96 (dk_at dksX11_bill_3 20 rfl rfl)
theorem dX11_bill_90 : decode cX11_bill 90 = .ok (.ireturn, 1) := dk_172 (dk_at dksX11_bill_3 21 rfl rfl)
theorem q103 : (Jvm.Cond.initialized "Rollover$Rating") ∈ lw_all := lw_g (lw_at lw_m1 34 rfl) rfl
theorem q238 : (Jvm.Cond.selects "Rollover$Rating" ({ cls := "java/lang/Object", name := "getClass", desc := "()Ljava/lang/Class;" } : Jvm.MethodName) ({ cls := "java/lang/Object", name := "getClass", desc := "()Ljava/lang/Class;" } : Jvm.MethodName)) ∈ lw_all := lw_g (lw_at lw_m1 169 rfl) rfl
theorem q276 : (Jvm.Cond.fieldLinkNest "Rollover$Rating" (110 : Nat) "Rollover" "plans" "Ljava/util/List;" "Rollover") ∈ lw_tbl := lw_at lw_m1 207 rfl
theorem q277 : (Jvm.Cond.fieldLinkNest "Rollover$Rating" (28 : Nat) "Rollover" "customers" "Ljava/util/List;" "Rollover") ∈ lw_tbl := lw_at lw_m1 208 rfl
theorem q279 : (Jvm.Cond.fieldLinkNest "Rollover$Rating" (65 : Nat) "Rollover" "tickets" "Ljava/util/List;" "Rollover") ∈ lw_tbl := lw_at lw_m1 210 rfl
theorem q285 : (Jvm.Cond.fieldLinkNest "Rollover$Rating" (240 : Nat) "Rollover" "today" "I" "Rollover") ∈ lw_tbl := lw_at lw_m1 216 rfl
theorem q313 : (Jvm.Cond.instantiable "Rollover$Rating" (9 : Nat)) ∈ lw_all := lw_g (lw_at lw_m2 4 rfl) rfl
theorem q315 : (Jvm.Cond.instanceMethod ({ cls := "Rollover$Rating", name := "<init>", desc := "(LRollover;III)V" } : Jvm.MethodName)) ∈ lw_all := lw_g (lw_at lw_m2 6 rfl) rfl
theorem q316 : (Jvm.Cond.code ({ cls := "Rollover$Rating", name := "<init>", desc := "(LRollover;III)V" } : Jvm.MethodName) prog_9_method_1_code (7 : Nat) (Option.none : Option Jvm.ClassFile.FieldType)) ∈ lw_all := lw_g (lw_at lw_m2 7 rfl) rfl
theorem q317 : (Jvm.Cond.methodLink "Rollover$Rating" (9 : Nat) ({ cls := "java/lang/Object", name := "<init>", desc := "()V" } : Jvm.MethodName)) ∈ lw_all := lw_g (lw_at lw_m2 8 rfl) rfl
theorem q318 : (Jvm.Cond.classLink "Rollover$Rating" (15 : Nat) "java/util/ArrayList") ∈ lw_all := lw_g (lw_at lw_m2 9 rfl) rfl
theorem q319 : (Jvm.Cond.methodLink "Rollover$Rating" (17 : Nat) ({ cls := "java/util/ArrayList", name := "<init>", desc := "()V" } : Jvm.MethodName)) ∈ lw_all := lw_g (lw_at lw_m2 10 rfl) rfl
theorem q320 : (Jvm.Cond.interfaceEntry "Rollover$Rating" (31 : Nat)) ∈ lw_tbl := lw_at lw_m2 11 rfl
theorem q321 : (Jvm.Cond.methodLink "Rollover$Rating" (31 : Nat) ({ cls := "java/util/List", name := "size", desc := "()I" } : Jvm.MethodName)) ∈ lw_all := lw_g (lw_at lw_m2 12 rfl) rfl
theorem q329 : (Jvm.Cond.classLink "Rollover$Rating" (55 : Nat) "Rollover$Buckets") ∈ lw_all := lw_g (lw_at lw_m2 20 rfl) rfl
theorem q331 : (Jvm.Cond.methodLinkNest "Rollover$Rating" (57 : Nat) ({ cls := "Rollover$Buckets", name := "<init>", desc := "()V" } : Jvm.MethodName) "Rollover") ∈ lw_tbl := lw_at lw_m2 22 rfl
theorem q341 : (Jvm.Cond.interfaceEntry "Rollover$Rating" (58 : Nat)) ∈ lw_tbl := lw_at lw_m2 32 rfl
theorem q342 : (Jvm.Cond.methodLink "Rollover$Rating" (58 : Nat) ({ cls := "java/util/List", name := "add", desc := "(Ljava/lang/Object;)Z" } : Jvm.MethodName)) ∈ lw_all := lw_g (lw_at lw_m2 33 rfl) rfl
theorem q343 : (Jvm.Cond.classLink "Rollover$Rating" (62 : Nat) "Rollover$Account") ∈ lw_all := lw_g (lw_at lw_m2 34 rfl) rfl
theorem q345 : (Jvm.Cond.methodLinkNest "Rollover$Rating" (64 : Nat) ({ cls := "Rollover$Account", name := "<init>", desc := "()V" } : Jvm.MethodName) "Rollover") ∈ lw_tbl := lw_at lw_m2 36 rfl
theorem q349 : (Jvm.Cond.fieldLinkNest "Rollover$Rating" (228 : Nat) "Rollover$Account" "charges" "I" "Rollover") ∈ lw_tbl := lw_at lw_m2 40 rfl
theorem q351 : (Jvm.Cond.fieldLinkNest "Rollover$Rating" (213 : Nat) "Rollover$Account" "charged" "I" "Rollover") ∈ lw_tbl := lw_at lw_m2 42 rfl
theorem q353 : (Jvm.Cond.fieldLinkNest "Rollover$Rating" (227 : Nat) "Rollover$Account" "own" "I" "Rollover") ∈ lw_tbl := lw_at lw_m2 44 rfl
theorem q355 : (Jvm.Cond.fieldLinkNest "Rollover$Rating" (200 : Nat) "Rollover$Account" "parents" "I" "Rollover") ∈ lw_tbl := lw_at lw_m2 46 rfl
theorem q357 : (Jvm.Cond.fieldLinkNest "Rollover$Rating" (166 : Nat) "Rollover$Account" "calls" "I" "Rollover") ∈ lw_tbl := lw_at lw_m2 48 rfl
theorem q359 : (Jvm.Cond.fieldLinkNest "Rollover$Rating" (186 : Nat) "Rollover$Account" "free" "I" "Rollover") ∈ lw_tbl := lw_at lw_m2 50 rfl
theorem q361 : (Jvm.Cond.fieldLinkNest "Rollover$Rating" (160 : Nat) "Rollover$Account" "prices" "I" "Rollover") ∈ lw_tbl := lw_at lw_m2 52 rfl
theorem q378 : (Jvm.Cond.classLink "Rollover$Rating" (68 : Nat) "Rollover$Line") ∈ lw_all := lw_g (lw_at lw_m2 69 rfl) rfl
theorem q380 : (Jvm.Cond.methodLinkNest "Rollover$Rating" (70 : Nat) ({ cls := "Rollover$Line", name := "<init>", desc := "()V" } : Jvm.MethodName) "Rollover") ∈ lw_tbl := lw_at lw_m2 71 rfl
theorem q384 : (Jvm.Cond.fieldLinkNest "Rollover$Rating" (183 : Nat) "Rollover$Line" "isFree" "Z" "Rollover") ∈ lw_tbl := lw_at lw_m2 75 rfl
theorem q386 : (Jvm.Cond.fieldLinkNest "Rollover$Rating" (192 : Nat) "Rollover$Line" "counted" "I" "Rollover") ∈ lw_tbl := lw_at lw_m2 77 rfl
theorem q388 : (Jvm.Cond.fieldLinkNest "Rollover$Rating" (150 : Nat) "Rollover$Line" "own" "I" "Rollover") ∈ lw_tbl := lw_at lw_m2 79 rfl
theorem q390 : (Jvm.Cond.fieldLinkNest "Rollover$Rating" (208 : Nat) "Rollover$Line" "parents" "I" "Rollover") ∈ lw_tbl := lw_at lw_m2 81 rfl
theorem q392 : (Jvm.Cond.fieldLinkNest "Rollover$Rating" (221 : Nat) "Rollover$Line" "charged" "I" "Rollover") ∈ lw_tbl := lw_at lw_m2 83 rfl
theorem q394 : (Jvm.Cond.fieldLinkNest "Rollover$Rating" (225 : Nat) "Rollover$Line" "charge" "I" "Rollover") ∈ lw_tbl := lw_at lw_m2 85 rfl
theorem q409 : (Jvm.Cond.methodLink "Rollover$Rating" (71 : Nat) ({ cls := "Rollover$Rating", name := "run", desc := "()V" } : Jvm.MethodName)) ∈ lw_all := lw_g (lw_at lw_m2 100 rfl) rfl
theorem q410 : (Jvm.Cond.privateMethod ({ cls := "Rollover$Rating", name := "run", desc := "()V" } : Jvm.MethodName)) ∈ lw_tbl := lw_at lw_m2 101 rfl
theorem q411 : (Jvm.Cond.instanceMethod ({ cls := "Rollover$Rating", name := "run", desc := "()V" } : Jvm.MethodName)) ∈ lw_all := lw_g (lw_at lw_m2 102 rfl) rfl
theorem q412 : (Jvm.Cond.code ({ cls := "Rollover$Rating", name := "run", desc := "()V" } : Jvm.MethodName) prog_9_method_2_code (5 : Nat) (Option.none : Option Jvm.ClassFile.FieldType)) ∈ lw_all := lw_g (lw_at lw_m2 103 rfl) rfl
theorem q413 : (Jvm.Cond.methodLinkNest "Rollover$Rating" (74 : Nat) ({ cls := "Rollover", name := "inTime", desc := "()[I" } : Jvm.MethodName) "Rollover") ∈ lw_tbl := lw_at lw_m2 104 rfl
theorem q443 : (Jvm.Cond.methodLink "Rollover$Rating" (78 : Nat) ({ cls := "Rollover$Rating", name := "grant", desc := "(I)V" } : Jvm.MethodName)) ∈ lw_all := lw_g (lw_at lw_m2 134 rfl) rfl
theorem q444 : (Jvm.Cond.privateMethod ({ cls := "Rollover$Rating", name := "grant", desc := "(I)V" } : Jvm.MethodName)) ∈ lw_tbl := lw_at lw_m2 135 rfl
theorem q445 : (Jvm.Cond.instanceMethod ({ cls := "Rollover$Rating", name := "grant", desc := "(I)V" } : Jvm.MethodName)) ∈ lw_all := lw_g (lw_at lw_m2 136 rfl) rfl
theorem q446 : (Jvm.Cond.code ({ cls := "Rollover$Rating", name := "grant", desc := "(I)V" } : Jvm.MethodName) prog_9_method_5_code (6 : Nat) (Option.none : Option Jvm.ClassFile.FieldType)) ∈ lw_all := lw_g (lw_at lw_m2 137 rfl) rfl
theorem q447 : (Jvm.Cond.interfaceEntry "Rollover$Rating" (82 : Nat)) ∈ lw_tbl := lw_at lw_m2 138 rfl
theorem q448 : (Jvm.Cond.methodLink "Rollover$Rating" (82 : Nat) ({ cls := "java/util/List", name := "get", desc := "(I)Ljava/lang/Object;" } : Jvm.MethodName)) ∈ lw_all := lw_g (lw_at lw_m2 139 rfl) rfl
theorem q449 : (Jvm.Cond.classLink "Rollover$Rating" (95 : Nat) "Rollover$Customer") ∈ lw_all := lw_g (lw_at lw_m2 140 rfl) rfl
theorem q450 : (Jvm.Cond.methodLink "Rollover$Rating" (112 : Nat) ({ cls := "Rollover$Rating", name := "planOn", desc := "(II)I" } : Jvm.MethodName)) ∈ lw_all := lw_g (lw_at lw_m2 141 rfl) rfl
theorem q451 : (Jvm.Cond.privateMethod ({ cls := "Rollover$Rating", name := "planOn", desc := "(II)I" } : Jvm.MethodName)) ∈ lw_tbl := lw_at lw_m2 142 rfl
theorem q452 : (Jvm.Cond.instanceMethod ({ cls := "Rollover$Rating", name := "planOn", desc := "(II)I" } : Jvm.MethodName)) ∈ lw_all := lw_g (lw_at lw_m2 143 rfl) rfl
theorem q453 : (Jvm.Cond.code ({ cls := "Rollover$Rating", name := "planOn", desc := "(II)I" } : Jvm.MethodName) prog_9_method_3_code (3 : Nat) (Option.some Jvm.ClassFile.FieldType.int)) ∈ lw_all := lw_g (lw_at lw_m2 144 rfl) rfl
theorem q454 : (Jvm.Cond.methodLink "Rollover$Rating" (101 : Nat) ({ cls := "Rollover$Since", name := "on", desc := "(I)I" } : Jvm.MethodName)) ∈ lw_all := lw_g (lw_at lw_m2 145 rfl) rfl
theorem q467 : (Jvm.Cond.classLink "Rollover$Rating" (116 : Nat) "Rollover$Plan") ∈ lw_all := lw_g (lw_at lw_m2 158 rfl) rfl
theorem q468 : (Jvm.Cond.methodLink "Rollover$Rating" (123 : Nat) ({ cls := "Rollover$Buckets", name := "add", desc := "(II)V" } : Jvm.MethodName)) ∈ lw_all := lw_g (lw_at lw_m2 159 rfl) rfl
theorem q489 : (Jvm.Cond.classLink "Rollover$Rating" (86 : Nat) "Rollover$Ticket") ∈ lw_all := lw_g (lw_at lw_m2 180 rfl) rfl
theorem q490 : (Jvm.Cond.methodLink "Rollover$Rating" (91 : Nat) ({ cls := "Rollover$Rating", name := "rate", desc := "(LRollover$Ticket;LRollover$Line;)V" } : Jvm.MethodName)) ∈ lw_all := lw_g (lw_at lw_m2 181 rfl) rfl
theorem q491 : (Jvm.Cond.privateMethod ({ cls := "Rollover$Rating", name := "rate", desc := "(LRollover$Ticket;LRollover$Line;)V" } : Jvm.MethodName)) ∈ lw_tbl := lw_at lw_m2 182 rfl
theorem q492 : (Jvm.Cond.instanceMethod ({ cls := "Rollover$Rating", name := "rate", desc := "(LRollover$Ticket;LRollover$Line;)V" } : Jvm.MethodName)) ∈ lw_all := lw_g (lw_at lw_m2 183 rfl) rfl
theorem q493 : (Jvm.Cond.code ({ cls := "Rollover$Rating", name := "rate", desc := "(LRollover$Ticket;LRollover$Line;)V" } : Jvm.MethodName) prog_9_method_6_code (3 : Nat) (Option.none : Option Jvm.ClassFile.FieldType)) ∈ lw_all := lw_g (lw_at lw_m2 184 rfl) rfl
theorem q494 : (Jvm.Cond.methodLink "Rollover$Rating" (133 : Nat) ({ cls := "Rollover$Kind", name := "ordinal", desc := "()I" } : Jvm.MethodName)) ∈ lw_all := lw_g (lw_at lw_m2 185 rfl) rfl
theorem q500 : (Jvm.Cond.methodLink "Rollover$Rating" (138 : Nat) ({ cls := "Rollover$Rating", name := "call", desc := "(LRollover$Ticket;LRollover$Line;)V" } : Jvm.MethodName)) ∈ lw_all := lw_g (lw_at lw_m2 191 rfl) rfl
theorem q501 : (Jvm.Cond.privateMethod ({ cls := "Rollover$Rating", name := "call", desc := "(LRollover$Ticket;LRollover$Line;)V" } : Jvm.MethodName)) ∈ lw_tbl := lw_at lw_m2 192 rfl
theorem q502 : (Jvm.Cond.instanceMethod ({ cls := "Rollover$Rating", name := "call", desc := "(LRollover$Ticket;LRollover$Line;)V" } : Jvm.MethodName)) ∈ lw_all := lw_g (lw_at lw_m2 193 rfl) rfl
theorem q503 : (Jvm.Cond.code ({ cls := "Rollover$Rating", name := "call", desc := "(LRollover$Ticket;LRollover$Line;)V" } : Jvm.MethodName) prog_9_method_7_code (8 : Nat) (Option.none : Option Jvm.ClassFile.FieldType)) ∈ lw_all := lw_g (lw_at lw_m2 194 rfl) rfl
theorem q504 : (Jvm.Cond.methodLink "Rollover$Rating" (156 : Nat) ({ cls := "Rollover$Rating", name := "account", desc := "(II)LRollover$Account;" } : Jvm.MethodName)) ∈ lw_all := lw_g (lw_at lw_m2 195 rfl) rfl
theorem q505 : (Jvm.Cond.privateMethod ({ cls := "Rollover$Rating", name := "account", desc := "(II)LRollover$Account;" } : Jvm.MethodName)) ∈ lw_tbl := lw_at lw_m2 196 rfl
theorem q506 : (Jvm.Cond.instanceMethod ({ cls := "Rollover$Rating", name := "account", desc := "(II)LRollover$Account;" } : Jvm.MethodName)) ∈ lw_all := lw_g (lw_at lw_m2 197 rfl) rfl
theorem q507 : (Jvm.Cond.code ({ cls := "Rollover$Rating", name := "account", desc := "(II)LRollover$Account;" } : Jvm.MethodName) prog_9_method_4_code (3 : Nat) (Option.some (Jvm.ClassFile.FieldType.object "Rollover$Account"))) ∈ lw_all := lw_g (lw_at lw_m2 198 rfl) rfl
theorem q508 : (Jvm.Cond.methodLinkNest "Rollover$Rating" (172 : Nat) ({ cls := "Rollover", name := "has", desc := "(II)Z" } : Jvm.MethodName) "Rollover") ∈ lw_tbl := lw_at lw_m2 199 rfl
theorem q511 : (Jvm.Cond.methodLink "Rollover$Rating" (179 : Nat) ({ cls := "Rollover$Plan", name := "isFreeAt", desc := "(I)Z" } : Jvm.MethodName)) ∈ lw_all := lw_g (lw_at lw_m2 202 rfl) rfl
theorem q515 : (Jvm.Cond.methodLink "Rollover$Rating" (189 : Nat) ({ cls := "Rollover$Plan", name := "counted", desc := "(I)I" } : Jvm.MethodName)) ∈ lw_all := lw_g (lw_at lw_m2 206 rfl) rfl
theorem q522 : (Jvm.Cond.methodLink "Rollover$Rating" (147 : Nat) ({ cls := "Rollover$Buckets", name := "take", desc := "(II)I" } : Jvm.MethodName)) ∈ lw_all := lw_g (lw_at lw_m2 213 rfl) rfl
theorem q564 : (Jvm.Cond.methodLink "Rollover$Rating" (203 : Nat) ({ cls := "java/lang/Math", name := "min", desc := "(II)I" } : Jvm.MethodName)) ∈ lw_all := lw_g (lw_at lw_m3 15 rfl) rfl
theorem q565 : (Jvm.Cond.methodLink "Rollover$Rating" (209 : Nat) ({ cls := "Rollover$Rating", name := "charge", desc := "(LRollover$Ticket;LRollover$Line;LRollover$Plan;LRollover$Account;I)V" } : Jvm.MethodName)) ∈ lw_all := lw_g (lw_at lw_m3 16 rfl) rfl
theorem q566 : (Jvm.Cond.privateMethod ({ cls := "Rollover$Rating", name := "charge", desc := "(LRollover$Ticket;LRollover$Line;LRollover$Plan;LRollover$Account;I)V" } : Jvm.MethodName)) ∈ lw_tbl := lw_at lw_m3 17 rfl
theorem q567 : (Jvm.Cond.instanceMethod ({ cls := "Rollover$Rating", name := "charge", desc := "(LRollover$Ticket;LRollover$Line;LRollover$Plan;LRollover$Account;I)V" } : Jvm.MethodName)) ∈ lw_all := lw_g (lw_at lw_m3 18 rfl) rfl
theorem q568 : (Jvm.Cond.code ({ cls := "Rollover$Rating", name := "charge", desc := "(LRollover$Ticket;LRollover$Line;LRollover$Plan;LRollover$Account;I)V" } : Jvm.MethodName) prog_9_method_8_code (8 : Nat) (Option.none : Option Jvm.ClassFile.FieldType)) ∈ lw_all := lw_g (lw_at lw_m3 19 rfl) rfl
theorem q569 : (Jvm.Cond.methodLink "Rollover$Rating" (216 : Nat) ({ cls := "Rollover$Plan", name := "charge", desc := "(II)I" } : Jvm.MethodName)) ∈ lw_all := lw_g (lw_at lw_m3 20 rfl) rfl
theorem q574 : (Jvm.Cond.methodLink "Rollover$Rating" (222 : Nat) ({ cls := "java/lang/Math", name := "max", desc := "(II)I" } : Jvm.MethodName)) ∈ lw_all := lw_g (lw_at lw_m3 25 rfl) rfl
theorem q575 : (Jvm.Cond.fieldLink "Rollover$Rating" (45 : Nat) "Rollover$Rating" "until" "I") ∈ lw_all := lw_g (lw_at lw_m3 26 rfl) rfl
theorem q576 : (Jvm.Cond.fieldLink "Rollover$Rating" (49 : Nat) "Rollover$Rating" "who" "I") ∈ lw_all := lw_g (lw_at lw_m3 27 rfl) rfl
theorem q577 : (Jvm.Cond.fieldLink "Rollover$Rating" (52 : Nat) "Rollover$Rating" "plan" "I") ∈ lw_all := lw_g (lw_at lw_m3 28 rfl) rfl
theorem q578 : (Jvm.Cond.fieldLink "Rollover$Rating" (18 : Nat) "Rollover$Rating" "buckets" "Ljava/util/List;") ∈ lw_all := lw_g (lw_at lw_m3 29 rfl) rfl
theorem q580 : (Jvm.Cond.fieldLink "Rollover$Rating" (22 : Nat) "Rollover$Rating" "lines" "Ljava/util/List;") ∈ lw_all := lw_g (lw_at lw_m3 31 rfl) rfl
theorem q582 : (Jvm.Cond.fieldLink "Rollover$Rating" (25 : Nat) "Rollover$Rating" "accounts" "Ljava/util/List;") ∈ lw_all := lw_g (lw_at lw_m3 33 rfl) rfl
theorem q583 : (Jvm.Cond.fieldLink "Rollover$Rating" (37 : Nat) "Rollover$Rating" "ofDay" "[I") ∈ lw_all := lw_g (lw_at lw_m3 34 rfl) rfl
theorem q584 : (Jvm.Cond.fieldLink "Rollover$Rating" (41 : Nat) "Rollover$Rating" "isSound" "Z") ∈ lw_all := lw_g (lw_at lw_m3 35 rfl) rfl
theorem q586 : (Jvm.Cond.fieldLink "Rollover$Rating" (3 : Nat) "Rollover$Rating" "this$0" "LRollover;") ∈ lw_all := lw_g (lw_at lw_m3 37 rfl) rfl
theorem q587 : (Jvm.Cond.laysFinal "Rollover$Rating" "Rollover$Rating" "until" "I") ∈ lw_all := lw_g (lw_at lw_m3 38 rfl) rfl
theorem q588 : (Jvm.Cond.soleField "Rollover$Rating" "until") ∈ lw_all := lw_g (lw_at lw_m3 39 rfl) rfl
theorem q589 : (Jvm.Cond.laysFinal "Rollover$Rating" "Rollover$Rating" "who" "I") ∈ lw_all := lw_g (lw_at lw_m3 40 rfl) rfl
theorem q590 : (Jvm.Cond.soleField "Rollover$Rating" "who") ∈ lw_all := lw_g (lw_at lw_m3 41 rfl) rfl
theorem q591 : (Jvm.Cond.laysFinal "Rollover$Rating" "Rollover$Rating" "plan" "I") ∈ lw_all := lw_g (lw_at lw_m3 42 rfl) rfl
theorem q592 : (Jvm.Cond.soleField "Rollover$Rating" "plan") ∈ lw_all := lw_g (lw_at lw_m3 43 rfl) rfl
theorem q593 : (Jvm.Cond.laysFinal "Rollover$Rating" "Rollover$Rating" "buckets" "Ljava/util/List;") ∈ lw_all := lw_g (lw_at lw_m3 44 rfl) rfl
theorem q594 : (Jvm.Cond.soleField "Rollover$Rating" "buckets") ∈ lw_all := lw_g (lw_at lw_m3 45 rfl) rfl
theorem q595 : (Jvm.Cond.laysFinal "Rollover$Rating" "Rollover$Rating" "lines" "Ljava/util/List;") ∈ lw_all := lw_g (lw_at lw_m3 46 rfl) rfl
theorem q596 : (Jvm.Cond.soleField "Rollover$Rating" "lines") ∈ lw_all := lw_g (lw_at lw_m3 47 rfl) rfl
theorem q597 : (Jvm.Cond.laysFinal "Rollover$Rating" "Rollover$Rating" "accounts" "Ljava/util/List;") ∈ lw_all := lw_g (lw_at lw_m3 48 rfl) rfl
theorem q598 : (Jvm.Cond.soleField "Rollover$Rating" "accounts") ∈ lw_all := lw_g (lw_at lw_m3 49 rfl) rfl
theorem q599 : (Jvm.Cond.laysFinal "Rollover$Rating" "Rollover$Rating" "ofDay" "[I") ∈ lw_all := lw_g (lw_at lw_m3 50 rfl) rfl
theorem q600 : (Jvm.Cond.soleField "Rollover$Rating" "ofDay") ∈ lw_all := lw_g (lw_at lw_m3 51 rfl) rfl
theorem q601 : (Jvm.Cond.lays "Rollover$Rating" "Rollover$Rating" "isSound" "Z") ∈ lw_all := lw_g (lw_at lw_m3 52 rfl) rfl
theorem q602 : (Jvm.Cond.soleField "Rollover$Rating" "isSound") ∈ lw_all := lw_g (lw_at lw_m3 53 rfl) rfl
theorem q603 : (Jvm.Cond.laysFinal "Rollover$Rating" "Rollover$Rating" "this$0" "LRollover;") ∈ lw_all := lw_g (lw_at lw_m3 54 rfl) rfl
theorem q604 : (Jvm.Cond.soleField "Rollover$Rating" "this$0") ∈ lw_all := lw_g (lw_at lw_m3 55 rfl) rfl
theorem q605 : (Jvm.Cond.superclass "Rollover$Rating" "java/lang/Object") ∈ lw_all := lw_g (lw_at lw_m3 56 rfl) rfl
theorem q611 : (Jvm.Cond.instanceMethod ({ cls := "Rollover$Rating", name := "areBucketsSound", desc := "()Z" } : Jvm.MethodName)) ∈ lw_all := lw_g (lw_at lw_m3 62 rfl) rfl
theorem q612 : (Jvm.Cond.selects "Rollover$Rating" ({ cls := "Rollover$Rating", name := "areBucketsSound", desc := "()Z" } : Jvm.MethodName) ({ cls := "Rollover$Rating", name := "areBucketsSound", desc := "()Z" } : Jvm.MethodName)) ∈ lw_all := lw_g (lw_at lw_m3 63 rfl) rfl
theorem q613 : (Jvm.Cond.code ({ cls := "Rollover$Rating", name := "areBucketsSound", desc := "()Z" } : Jvm.MethodName) prog_9_method_11_code (2 : Nat) (Option.some Jvm.ClassFile.FieldType.boolean)) ∈ lw_all := lw_g (lw_at lw_m3 64 rfl) rfl
theorem q614 : (Jvm.Cond.methodLink "Rollover$Rating" (246 : Nat) ({ cls := "Rollover$Buckets", name := "isSound", desc := "()Z" } : Jvm.MethodName)) ∈ lw_all := lw_g (lw_at lw_m3 65 rfl) rfl
theorem q636 : (Jvm.Cond.instanceMethod ({ cls := "Rollover$Rating", name := "bills", desc := "()I" } : Jvm.MethodName)) ∈ lw_all := lw_g (lw_at lw_m3 87 rfl) rfl
theorem q637 : (Jvm.Cond.selects "Rollover$Rating" ({ cls := "Rollover$Rating", name := "bills", desc := "()I" } : Jvm.MethodName) ({ cls := "Rollover$Rating", name := "bills", desc := "()I" } : Jvm.MethodName)) ∈ lw_all := lw_g (lw_at lw_m3 88 rfl) rfl
theorem q638 : (Jvm.Cond.code ({ cls := "Rollover$Rating", name := "bills", desc := "()I" } : Jvm.MethodName) prog_9_method_10_code (4 : Nat) (Option.some Jvm.ClassFile.FieldType.int)) ∈ lw_all := lw_g (lw_at lw_m3 89 rfl) rfl
theorem q639 : (Jvm.Cond.methodLink "Rollover$Rating" (243 : Nat) ({ cls := "Rollover$Rating", name := "bill", desc := "(II)I" } : Jvm.MethodName)) ∈ lw_all := lw_g (lw_at lw_m3 90 rfl) rfl
theorem q640 : (Jvm.Cond.instanceMethod ({ cls := "Rollover$Rating", name := "bill", desc := "(II)I" } : Jvm.MethodName)) ∈ lw_all := lw_g (lw_at lw_m3 91 rfl) rfl
theorem q641 : (Jvm.Cond.selects "Rollover$Rating" ({ cls := "Rollover$Rating", name := "bill", desc := "(II)I" } : Jvm.MethodName) ({ cls := "Rollover$Rating", name := "bill", desc := "(II)I" } : Jvm.MethodName)) ∈ lw_all := lw_g (lw_at lw_m3 92 rfl) rfl
theorem q642 : (Jvm.Cond.code ({ cls := "Rollover$Rating", name := "bill", desc := "(II)I" } : Jvm.MethodName) prog_9_method_9_code (6 : Nat) (Option.some Jvm.ClassFile.FieldType.int)) ∈ lw_all := lw_g (lw_at lw_m3 93 rfl) rfl
theorem q643 : (Jvm.Cond.methodLink "Rollover$Rating" (231 : Nat) ({ cls := "Rollover$Customer", name := "isIn", desc := "(I)Z" } : Jvm.MethodName)) ∈ lw_all := lw_g (lw_at lw_m3 94 rfl) rfl
theorem q647 : (Jvm.Cond.methodLinkNest "Rollover$Rating" (237 : Nat) ({ cls := "Rollover", name := "up", desc := "(II)I" } : Jvm.MethodName) "Rollover") ∈ lw_tbl := lw_at lw_m3 98 rfl
theorem q878 : (Jvm.Cond.fieldLinkNest "Rollover$Rating" (234 : Nat) "Rollover$Plan" "fee" "I" "Rollover") ∈ lw_tbl := lw_at lw_m4 89 rfl
theorem q880 : (Jvm.Cond.fieldLinkNest "Rollover$Rating" (118 : Nat) "Rollover$Plan" "grant" "I" "Rollover") ∈ lw_tbl := lw_at lw_m4 91 rfl
theorem q882 : (Jvm.Cond.fieldLinkNest "Rollover$Rating" (120 : Nat) "Rollover$Plan" "keep" "I" "Rollover") ∈ lw_tbl := lw_at lw_m4 93 rfl
theorem q892 : (Jvm.Cond.fieldLinkNest "Rollover$Rating" (218 : Nat) "Rollover$Plan" "cap" "I" "Rollover") ∈ lw_tbl := lw_at lw_m4 103 rfl
theorem q1002 : (Jvm.Cond.fieldLinkNest "Rollover$Rating" (107 : Nat) "Rollover$Customer" "joined" "I" "Rollover") ∈ lw_tbl := lw_at lw_m4 213 rfl
theorem q1005 : (Jvm.Cond.fieldLinkNest "Rollover$Rating" (97 : Nat) "Rollover$Customer" "plans" "LRollover$Since;" "Rollover") ∈ lw_tbl := lw_at lw_m4 216 rfl
theorem q1007 : (Jvm.Cond.fieldLinkNest "Rollover$Rating" (169 : Nat) "Rollover$Customer" "circle" "I" "Rollover") ∈ lw_tbl := lw_at lw_m4 218 rfl
theorem q1010 : (Jvm.Cond.fieldLinkNest "Rollover$Rating" (194 : Nat) "Rollover$Customer" "parent" "I" "Rollover") ∈ lw_tbl := lw_at lw_m4 221 rfl
theorem q1012 : (Jvm.Cond.fieldLinkNest "Rollover$Rating" (197 : Nat) "Rollover$Customer" "limit" "I" "Rollover") ∈ lw_tbl := lw_at lw_m4 223 rfl
theorem q1089 : (Jvm.Cond.fieldLinkNest "Rollover$Rating" (129 : Nat) "Rollover$Ticket" "kind" "LRollover$Kind;" "Rollover") ∈ lw_tbl := lw_at lw_m5 60 rfl
theorem q1092 : (Jvm.Cond.fieldLinkNest "Rollover$Rating" (141 : Nat) "Rollover$Ticket" "customer" "I" "Rollover") ∈ lw_tbl := lw_at lw_m5 63 rfl
theorem q1095 : (Jvm.Cond.fieldLinkNest "Rollover$Rating" (88 : Nat) "Rollover$Ticket" "day" "I" "Rollover") ∈ lw_tbl := lw_at lw_m5 66 rfl
theorem q1098 : (Jvm.Cond.fieldLinkNest "Rollover$Rating" (176 : Nat) "Rollover$Ticket" "minute" "I" "Rollover") ∈ lw_tbl := lw_at lw_m5 69 rfl
theorem q1101 : (Jvm.Cond.fieldLinkNest "Rollover$Rating" (153 : Nat) "Rollover$Ticket" "number" "I" "Rollover") ∈ lw_tbl := lw_at lw_m5 72 rfl
theorem q1104 : (Jvm.Cond.fieldLinkNest "Rollover$Rating" (163 : Nat) "Rollover$Ticket" "zone" "I" "Rollover") ∈ lw_tbl := lw_at lw_m5 75 rfl
theorem q1106 : (Jvm.Cond.fieldLinkNest "Rollover$Rating" (144 : Nat) "Rollover$Ticket" "seconds" "I" "Rollover") ∈ lw_tbl := lw_at lw_m5 77 rfl
theorem q1109 : (Jvm.Cond.fieldLinkNest "Rollover$Rating" (126 : Nat) "Rollover$Ticket" "isVoid" "Z" "Rollover") ∈ lw_tbl := lw_at lw_m5 80 rfl
theorem q2114 : (Jvm.Cond.castable "Rollover$Rating" "java/lang/Object") ∈ lw_tbl := lw_at lw_m9 125 rfl
theorem in_X11 : ∀ w ∈ wsX110, w ∈ lw_all := lw_in wsX110 [587, 589, 591, 593, 595, 597, 599, 601, 603] (by decide +kernel) (by decide +kernel)
/-! Rollover$Buckets -/
set_option maxRecDepth 100000
def RX12 : String := "Rollover$Buckets"
def TX12 : u_T := fun k => match k with
  | _ => ("Rollover$Buckets", "all", "Ljava/util/List;", true)
def tyX12 : Nat → FieldType := fun k => match k with
  | _ => .object "java/util/List"
abbrev wsX120 : List Cond := u_ws RX12 TX12 1
theorem nmX12 : ∀ a, a < 1 → ∀ b, b < 1 → a ≠ b → (TX12 a).2.1 ≠ (TX12 b).2.1 := by decide +kernel
theorem tyX12_ok : ∀ k, k < 1 → parseFieldDescriptor (TX12 k).2.2.1 = some (tyX12 k) := by decide +kernel
abbrev cX12_init : ByteArray := prog_4_method_1_code
def yX12_init : MethodName := ⟨RX12, "<init>", "()V"⟩
def dkwX12_init_0 : List UInt8 := [42, 183, 0, 1, 42, 187, 0, 7, 89, 183, 0, 9, 181, 0, 10, 177]
abbrev dktX12_init_0 : List UInt8 := dkwX12_init_0 ++ []
theorem dksX12_init_0 : cX12_init.data.toList.drop 0 = dktX12_init_0 := by decide +kernel
theorem dX12_init_0 : decode cX12_init 0 = .ok (.aload_n 0, 1) := dk_42 (dk_at dksX12_init_0 0 rfl rfl)
theorem dX12_init_1 : decode cX12_init 1 = .ok (.invokespecial 1, 3) := dk_183 0 1 (dk_at dksX12_init_0 1 rfl rfl)
theorem dX12_init_4 : decode cX12_init 4 = .ok (.aload_n 0, 1) := dk_42 (dk_at dksX12_init_0 4 rfl rfl)
theorem dX12_init_5 : decode cX12_init 5 = .ok (.new 7, 3) := dk_187 0 7 (dk_at dksX12_init_0 5 rfl rfl)
theorem dX12_init_8 : decode cX12_init 8 = .ok (.dup, 1) := dk_89 (dk_at dksX12_init_0 8 rfl rfl)
theorem dX12_init_9 : decode cX12_init 9 = .ok (.invokespecial 9, 3) := dk_183 0 9 (dk_at dksX12_init_0 9 rfl rfl)
theorem dX12_init_12 : decode cX12_init 12 = .ok (.putfield 10, 3) := dk_181 0 10 (dk_at dksX12_init_0 12 rfl rfl)
theorem dX12_init_15 : decode cX12_init 15 = .ok (.return_, 1) := dk_177 (dk_at dksX12_init_0 15 rfl rfl)
abbrev cX12_add : ByteArray := prog_4_method_2_code
def yX12_add : MethodName := ⟨RX12, "add", "(II)V"⟩
def dkwX12_add_0 : List UInt8 := [42, 180, 0, 10, 187, 0, 16, 89, 27, 28, 183, 0, 18, 185, 0, 21, 2, 0, 87, 177]
abbrev dktX12_add_0 : List UInt8 := dkwX12_add_0 ++ []
theorem dksX12_add_0 : cX12_add.data.toList.drop 0 = dktX12_add_0 := by decide +kernel
theorem dX12_add_0 : decode cX12_add 0 = .ok (.aload_n 0, 1) := dk_42 (dk_at dksX12_add_0 0 rfl rfl)
theorem dX12_add_1 : decode cX12_add 1 = .ok (.getfield 10, 3) := dk_180 0 10 (dk_at dksX12_add_0 1 rfl rfl)
theorem dX12_add_4 : decode cX12_add 4 = .ok (.new 16, 3) := dk_187 0 16 (dk_at dksX12_add_0 4 rfl rfl)
theorem dX12_add_7 : decode cX12_add 7 = .ok (.dup, 1) := dk_89 (dk_at dksX12_add_0 7 rfl rfl)
theorem dX12_add_8 : decode cX12_add 8 = .ok (.iload_n 1, 1) := dk_27 (dk_at dksX12_add_0 8 rfl rfl)
theorem dX12_add_9 : decode cX12_add 9 = .ok (.iload_n 2, 1) := dk_28 (dk_at dksX12_add_0 9 rfl rfl)
theorem dX12_add_10 : decode cX12_add 10 = .ok (.invokespecial 18, 3) := dk_183 0 18 (dk_at dksX12_add_0 10 rfl rfl)
theorem dX12_add_13 : decode cX12_add 13 = .ok (.invokeinterface 21 2, 5) := by decide +kernel
theorem dX12_add_18 : decode cX12_add 18 = .ok (.pop, 1) := dk_87 (dk_at dksX12_add_0 18 rfl rfl)
theorem dX12_add_19 : decode cX12_add 19 = .ok (.return_, 1) := dk_177 (dk_at dksX12_add_0 19 rfl rfl)
abbrev cX12_take : ByteArray := prog_4_method_4_code
def yX12_take : MethodName := ⟨RX12, "take", "(II)I"⟩
def dkwX12_take_3 : List UInt8 := [27, 29, 100, 172]
abbrev dktX12_take_3 : List UInt8 := dkwX12_take_3 ++ []
def dkwX12_take_2 : List UInt8 := [180, 0, 41, 21, 5, 100, 181, 0, 41, 29, 21, 5, 100, 62, 42, 28, 182, 0, 59, 58, 4, 167, 255, 197]
abbrev dktX12_take_2 : List UInt8 := dkwX12_take_2 ++ dktX12_take_3
def dkwX12_take_1 : List UInt8 := [182, 0, 52, 192, 0, 16, 180, 0, 41, 184, 0, 63, 54, 5, 25, 4, 182, 0, 52, 192, 0, 16, 89]
abbrev dktX12_take_1 : List UInt8 := dkwX12_take_1 ++ dktX12_take_2
def dkwX12_take_0 : List UInt8 := [27, 62, 42, 28, 182, 0, 59, 58, 4, 25, 4, 182, 0, 48, 153, 0, 57, 29, 158, 0, 53, 29, 25, 4]
abbrev dktX12_take_0 : List UInt8 := dkwX12_take_0 ++ dktX12_take_1
theorem dksX12_take_0 : cX12_take.data.toList.drop 0 = dktX12_take_0 := by decide +kernel
theorem dksX12_take_1 : cX12_take.data.toList.drop 24 = dktX12_take_1 := dk_seg dksX12_take_0 24 rfl rfl
theorem dksX12_take_2 : cX12_take.data.toList.drop 47 = dktX12_take_2 := dk_seg dksX12_take_1 23 rfl rfl
theorem dksX12_take_3 : cX12_take.data.toList.drop 71 = dktX12_take_3 := dk_seg dksX12_take_2 24 rfl rfl
theorem dX12_take_0 : decode cX12_take 0 = .ok (.iload_n 1, 1) := dk_27 (dk_at dksX12_take_0 0 rfl rfl)
theorem dX12_take_1 : decode cX12_take 1 = .ok (.istore_n 3, 1) := dk_62 (dk_at dksX12_take_0 1 rfl rfl)
theorem dX12_take_2 : decode cX12_take 2 = .ok (.aload_n 0, 1) := dk_42 (dk_at dksX12_take_0 2 rfl rfl)
theorem dX12_take_3 : decode cX12_take 3 = .ok (.iload_n 2, 1) := dk_28 (dk_at dksX12_take_0 3 rfl rfl)
theorem dX12_take_4 : decode cX12_take 4 = .ok (.invokevirtual 59, 3) := dk_182 0 59 (dk_at dksX12_take_0 4 rfl rfl)
theorem dX12_take_7 : decode cX12_take 7 = .ok (.astore 4, 2) := dk_58 4 (dk_at dksX12_take_0 7 rfl rfl)
theorem dX12_take_9 : decode cX12_take 9 = .ok (.aload 4, 2) := dk_25 4 (dk_at dksX12_take_0 9 rfl rfl)
theorem dX12_take_11 : decode cX12_take 11 = .ok (.invokevirtual 48, 3) := dk_182 0 48 (dk_at dksX12_take_0 11 rfl rfl)
theorem dX12_take_14 : decode cX12_take 14 = .ok (.ifCond .eq 57, 3) := dk_153 0 57 (dk_at dksX12_take_0 14 rfl rfl)
theorem dX12_take_17 : decode cX12_take 17 = .ok (.iload_n 3, 1) := dk_29 (dk_at dksX12_take_0 17 rfl rfl)
theorem dX12_take_18 : decode cX12_take 18 = .ok (.ifCond .le 53, 3) := dk_158 0 53 (dk_at dksX12_take_0 18 rfl rfl)
theorem dX12_take_21 : decode cX12_take 21 = .ok (.iload_n 3, 1) := dk_29 (dk_at dksX12_take_0 21 rfl rfl)
theorem dX12_take_22 : decode cX12_take 22 = .ok (.aload 4, 2) := dk_25 4 (dk_at dksX12_take_0 22 rfl rfl)
theorem dX12_take_24 : decode cX12_take 24 = .ok (.invokevirtual 52, 3) := dk_182 0 52 (dk_at dksX12_take_1 0 rfl rfl)
theorem dX12_take_27 : decode cX12_take 27 = .ok (.checkcast 16, 3) := dk_192 0 16 (dk_at dksX12_take_1 3 rfl rfl)
theorem dX12_take_30 : decode cX12_take 30 = .ok (.getfield 41, 3) := dk_180 0 41 (dk_at dksX12_take_1 6 rfl rfl)
theorem dX12_take_33 : decode cX12_take 33 = .ok (.invokestatic 63, 3) := dk_184 0 63 (dk_at dksX12_take_1 9 rfl rfl)
theorem dX12_take_36 : decode cX12_take 36 = .ok (.istore 5, 2) := dk_54 5 (dk_at dksX12_take_1 12 rfl rfl)
theorem dX12_take_38 : decode cX12_take 38 = .ok (.aload 4, 2) := dk_25 4 (dk_at dksX12_take_1 14 rfl rfl)
theorem dX12_take_40 : decode cX12_take 40 = .ok (.invokevirtual 52, 3) := dk_182 0 52 (dk_at dksX12_take_1 16 rfl rfl)
theorem dX12_take_43 : decode cX12_take 43 = .ok (.checkcast 16, 3) := dk_192 0 16 (dk_at dksX12_take_1 19 rfl rfl)
theorem dX12_take_46 : decode cX12_take 46 = .ok (.dup, 1) := dk_89 (dk_at dksX12_take_1 22 rfl rfl)
theorem dX12_take_47 : decode cX12_take 47 = .ok (.getfield 41, 3) := dk_180 0 41 (dk_at dksX12_take_2 0 rfl rfl)
theorem dX12_take_50 : decode cX12_take 50 = .ok (.iload 5, 2) := dk_21 5 (dk_at dksX12_take_2 3 rfl rfl)
theorem dX12_take_52 : decode cX12_take 52 = .ok (.isub, 1) := dk_100 (dk_at dksX12_take_2 5 rfl rfl)
theorem dX12_take_53 : decode cX12_take 53 = .ok (.putfield 41, 3) := dk_181 0 41 (dk_at dksX12_take_2 6 rfl rfl)
theorem dX12_take_56 : decode cX12_take 56 = .ok (.iload_n 3, 1) := dk_29 (dk_at dksX12_take_2 9 rfl rfl)
theorem dX12_take_57 : decode cX12_take 57 = .ok (.iload 5, 2) := dk_21 5 (dk_at dksX12_take_2 10 rfl rfl)
theorem dX12_take_59 : decode cX12_take 59 = .ok (.isub, 1) := dk_100 (dk_at dksX12_take_2 12 rfl rfl)
theorem dX12_take_60 : decode cX12_take 60 = .ok (.istore_n 3, 1) := dk_62 (dk_at dksX12_take_2 13 rfl rfl)
theorem dX12_take_61 : decode cX12_take 61 = .ok (.aload_n 0, 1) := dk_42 (dk_at dksX12_take_2 14 rfl rfl)
theorem dX12_take_62 : decode cX12_take 62 = .ok (.iload_n 2, 1) := dk_28 (dk_at dksX12_take_2 15 rfl rfl)
theorem dX12_take_63 : decode cX12_take 63 = .ok (.invokevirtual 59, 3) := dk_182 0 59 (dk_at dksX12_take_2 16 rfl rfl)
theorem dX12_take_66 : decode cX12_take 66 = .ok (.astore 4, 2) := dk_58 4 (dk_at dksX12_take_2 19 rfl rfl)
theorem dX12_take_68 : decode cX12_take 68 = .ok (.goto (-59), 3) := dk_167 255 197 (dk_at dksX12_take_2 21 rfl rfl)
theorem dX12_take_71 : decode cX12_take 71 = .ok (.iload_n 1, 1) := dk_27 (dk_at dksX12_take_3 0 rfl rfl)
theorem dX12_take_72 : decode cX12_take 72 = .ok (.iload_n 3, 1) := dk_29 (dk_at dksX12_take_3 1 rfl rfl)
theorem dX12_take_73 : decode cX12_take 73 = .ok (.isub, 1) := dk_100 (dk_at dksX12_take_3 2 rfl rfl)
theorem dX12_take_74 : decode cX12_take 74 = .ok (.ireturn, 1) := dk_172 (dk_at dksX12_take_3 3 rfl rfl)
abbrev cX12_next : ByteArray := prog_4_method_3_code
def yX12_next : MethodName := ⟨RX12, "next", "(I)Ljava/util/Optional;"⟩
def dkwX12_next_4 : List UInt8 := [44, 77, 132, 3, 1, 167, 255, 161, 44, 176]
abbrev dktX12_next_4 : List UInt8 := dkwX12_next_4 ++ []
def dkwX12_next_3 : List UInt8 := [180, 0, 45, 44, 182, 0, 52, 192, 0, 16, 180, 0, 45, 162, 0, 11, 25, 4, 184, 0, 55, 167, 0, 4]
abbrev dktX12_next_3 : List UInt8 := dkwX12_next_3 ++ dktX12_next_4
def dkwX12_next_2 : List UInt8 := [161, 0, 7, 4, 167, 0, 4, 3, 54, 5, 21, 5, 153, 0, 36, 44, 182, 0, 48, 153, 0, 21, 25, 4]
abbrev dktX12_next_2 : List UInt8 := dkwX12_next_2 ++ dktX12_next_3
def dkwX12_next_1 : List UInt8 := [185, 0, 37, 2, 0, 192, 0, 16, 58, 4, 25, 4, 180, 0, 41, 158, 0, 16, 25, 4, 180, 0, 45, 27]
abbrev dktX12_next_1 : List UInt8 := dkwX12_next_1 ++ dktX12_next_2
def dkwX12_next_0 : List UInt8 := [184, 0, 27, 77, 3, 62, 29, 42, 180, 0, 10, 185, 0, 33, 1, 0, 162, 0, 88, 42, 180, 0, 10, 29]
abbrev dktX12_next_0 : List UInt8 := dkwX12_next_0 ++ dktX12_next_1
theorem dksX12_next_0 : cX12_next.data.toList.drop 0 = dktX12_next_0 := by decide +kernel
theorem dksX12_next_1 : cX12_next.data.toList.drop 24 = dktX12_next_1 := dk_seg dksX12_next_0 24 rfl rfl
theorem dksX12_next_2 : cX12_next.data.toList.drop 48 = dktX12_next_2 := dk_seg dksX12_next_1 24 rfl rfl
theorem dksX12_next_3 : cX12_next.data.toList.drop 72 = dktX12_next_3 := dk_seg dksX12_next_2 24 rfl rfl
theorem dksX12_next_4 : cX12_next.data.toList.drop 96 = dktX12_next_4 := dk_seg dksX12_next_3 24 rfl rfl
theorem dX12_next_0 : decode cX12_next 0 = .ok (.invokestatic 27, 3) := dk_184 0 27 (dk_at dksX12_next_0 0 rfl rfl)
theorem dX12_next_3 : decode cX12_next 3 = .ok (.astore_n 2, 1) := dk_77 (dk_at dksX12_next_0 3 rfl rfl)
theorem dX12_next_4 : decode cX12_next 4 = .ok (.iconst 0, 1) := dk_3 (dk_at dksX12_next_0 4 rfl rfl)
theorem dX12_next_5 : decode cX12_next 5 = .ok (.istore_n 3, 1) := dk_62 (dk_at dksX12_next_0 5 rfl rfl)
theorem dX12_next_6 : decode cX12_next 6 = .ok (.iload_n 3, 1) := dk_29 (dk_at dksX12_next_0 6 rfl rfl)
theorem dX12_next_7 : decode cX12_next 7 = .ok (.aload_n 0, 1) := dk_42 (dk_at dksX12_next_0 7 rfl rfl)
theorem dX12_next_8 : decode cX12_next 8 = .ok (.getfield 10, 3) := dk_180 0 10 (dk_at dksX12_next_0 8 rfl rfl)
theorem dX12_next_11 : decode cX12_next 11 = .ok (.invokeinterface 33 1, 5) := by decide +kernel
theorem dX12_next_16 : decode cX12_next 16 = .ok (.if_icmp .ge 88, 3) := dk_162 0 88 (dk_at dksX12_next_0 16 rfl rfl)
theorem dX12_next_19 : decode cX12_next 19 = .ok (.aload_n 0, 1) := dk_42 (dk_at dksX12_next_0 19 rfl rfl)
theorem dX12_next_20 : decode cX12_next 20 = .ok (.getfield 10, 3) := dk_180 0 10 (dk_at dksX12_next_0 20 rfl rfl)
theorem dX12_next_23 : decode cX12_next 23 = .ok (.iload_n 3, 1) := dk_29 (dk_at dksX12_next_0 23 rfl rfl)
theorem dX12_next_24 : decode cX12_next 24 = .ok (.invokeinterface 37 2, 5) := by decide +kernel
theorem dX12_next_29 : decode cX12_next 29 = .ok (.checkcast 16, 3) := dk_192 0 16 (dk_at dksX12_next_1 5 rfl rfl)
theorem dX12_next_32 : decode cX12_next 32 = .ok (.astore 4, 2) := dk_58 4 (dk_at dksX12_next_1 8 rfl rfl)
theorem dX12_next_34 : decode cX12_next 34 = .ok (.aload 4, 2) := dk_25 4 (dk_at dksX12_next_1 10 rfl rfl)
theorem dX12_next_36 : decode cX12_next 36 = .ok (.getfield 41, 3) := dk_180 0 41 (dk_at dksX12_next_1 12 rfl rfl)
theorem dX12_next_39 : decode cX12_next 39 = .ok (.ifCond .le 16, 3) := dk_158 0 16 (dk_at dksX12_next_1 15 rfl rfl)
theorem dX12_next_42 : decode cX12_next 42 = .ok (.aload 4, 2) := dk_25 4 (dk_at dksX12_next_1 18 rfl rfl)
theorem dX12_next_44 : decode cX12_next 44 = .ok (.getfield 45, 3) := dk_180 0 45 (dk_at dksX12_next_1 20 rfl rfl)
theorem dX12_next_47 : decode cX12_next 47 = .ok (.iload_n 1, 1) := dk_27 (dk_at dksX12_next_1 23 rfl rfl)
theorem dX12_next_48 : decode cX12_next 48 = .ok (.if_icmp .lt 7, 3) := dk_161 0 7 (dk_at dksX12_next_2 0 rfl rfl)
theorem dX12_next_51 : decode cX12_next 51 = .ok (.iconst 1, 1) := dk_4 (dk_at dksX12_next_2 3 rfl rfl)
theorem dX12_next_52 : decode cX12_next 52 = .ok (.goto 4, 3) := dk_167 0 4 (dk_at dksX12_next_2 4 rfl rfl)
theorem dX12_next_55 : decode cX12_next 55 = .ok (.iconst 0, 1) := dk_3 (dk_at dksX12_next_2 7 rfl rfl)
theorem dX12_next_56 : decode cX12_next 56 = .ok (.istore 5, 2) := dk_54 5 (dk_at dksX12_next_2 8 rfl rfl)
theorem dX12_next_58 : decode cX12_next 58 = .ok (.iload 5, 2) := dk_21 5 (dk_at dksX12_next_2 10 rfl rfl)
theorem dX12_next_60 : decode cX12_next 60 = .ok (.ifCond .eq 36, 3) := dk_153 0 36 (dk_at dksX12_next_2 12 rfl rfl)
theorem dX12_next_63 : decode cX12_next 63 = .ok (.aload_n 2, 1) := dk_44 (dk_at dksX12_next_2 15 rfl rfl)
theorem dX12_next_64 : decode cX12_next 64 = .ok (.invokevirtual 48, 3) := dk_182 0 48 (dk_at dksX12_next_2 16 rfl rfl)
theorem dX12_next_67 : decode cX12_next 67 = .ok (.ifCond .eq 21, 3) := dk_153 0 21 (dk_at dksX12_next_2 19 rfl rfl)
theorem dX12_next_70 : decode cX12_next 70 = .ok (.aload 4, 2) := dk_25 4 (dk_at dksX12_next_2 22 rfl rfl)
theorem dX12_next_72 : decode cX12_next 72 = .ok (.getfield 45, 3) := dk_180 0 45 (dk_at dksX12_next_3 0 rfl rfl)
theorem dX12_next_75 : decode cX12_next 75 = .ok (.aload_n 2, 1) := dk_44 (dk_at dksX12_next_3 3 rfl rfl)
theorem dX12_next_76 : decode cX12_next 76 = .ok (.invokevirtual 52, 3) := dk_182 0 52 (dk_at dksX12_next_3 4 rfl rfl)
theorem dX12_next_79 : decode cX12_next 79 = .ok (.checkcast 16, 3) := dk_192 0 16 (dk_at dksX12_next_3 7 rfl rfl)
theorem dX12_next_82 : decode cX12_next 82 = .ok (.getfield 45, 3) := dk_180 0 45 (dk_at dksX12_next_3 10 rfl rfl)
theorem dX12_next_85 : decode cX12_next 85 = .ok (.if_icmp .ge 11, 3) := dk_162 0 11 (dk_at dksX12_next_3 13 rfl rfl)
theorem dX12_next_88 : decode cX12_next 88 = .ok (.aload 4, 2) := dk_25 4 (dk_at dksX12_next_3 16 rfl rfl)
theorem dX12_next_90 : decode cX12_next 90 = .ok (.invokestatic 55, 3) := dk_184 0 55 (dk_at dksX12_next_3 18 rfl rfl)
theorem dX12_next_93 : decode cX12_next 93 = .ok (.goto 4, 3) := dk_167 0 4 (dk_at dksX12_next_3 21 rfl rfl)
theorem dX12_next_96 : decode cX12_next 96 = .ok (.aload_n 2, 1) := dk_44 (dk_at dksX12_next_4 0 rfl rfl)
theorem dX12_next_97 : decode cX12_next 97 = .ok (.astore_n 2, 1) := dk_77 (dk_at dksX12_next_4 1 rfl rfl)
theorem dX12_next_98 : decode cX12_next 98 = .ok (.iinc 3 1, 3) := dk_132 3 1 (dk_at dksX12_next_4 2 rfl rfl)
theorem dX12_next_101 : decode cX12_next 101 = .ok (.goto (-95), 3) := dk_167 255 161 (dk_at dksX12_next_4 5 rfl rfl)
theorem dX12_next_104 : decode cX12_next 104 = .ok (.aload_n 2, 1) := dk_44 (dk_at dksX12_next_4 8 rfl rfl)
theorem dX12_next_105 : decode cX12_next 105 = .ok (.areturn, 1) := dk_176 (dk_at dksX12_next_4 9 rfl rfl)
abbrev cX12_isSound : ByteArray := prog_4_method_8_code
def yX12_isSound : MethodName := ⟨RX12, "isSound", "()Z"⟩
def dkwX12_isSound_1 : List UInt8 := [185, 0, 37, 2, 0, 192, 0, 16, 180, 0, 41, 156, 0, 5, 3, 172, 132, 1, 1, 167, 255, 219, 4, 172]
abbrev dktX12_isSound_1 : List UInt8 := dkwX12_isSound_1 ++ []
def dkwX12_isSound_0 : List UInt8 := [3, 60, 27, 42, 180, 0, 10, 185, 0, 33, 1, 0, 162, 0, 30, 42, 180, 0, 10, 27]
abbrev dktX12_isSound_0 : List UInt8 := dkwX12_isSound_0 ++ dktX12_isSound_1
theorem dksX12_isSound_0 : cX12_isSound.data.toList.drop 0 = dktX12_isSound_0 := by decide +kernel
theorem dksX12_isSound_1 : cX12_isSound.data.toList.drop 20 = dktX12_isSound_1 := dk_seg dksX12_isSound_0 20 rfl rfl
theorem dX12_isSound_0 : decode cX12_isSound 0 = .ok (.iconst 0, 1) := dk_3 (dk_at dksX12_isSound_0 0 rfl rfl)
theorem dX12_isSound_1 : decode cX12_isSound 1 = .ok (.istore_n 1, 1) := dk_60 (dk_at dksX12_isSound_0 1 rfl rfl)
theorem dX12_isSound_2 : decode cX12_isSound 2 = .ok (.iload_n 1, 1) := dk_27 (dk_at dksX12_isSound_0 2 rfl rfl)
theorem dX12_isSound_3 : decode cX12_isSound 3 = .ok (.aload_n 0, 1) := dk_42 (dk_at dksX12_isSound_0 3 rfl rfl)
theorem dX12_isSound_4 : decode cX12_isSound 4 = .ok (.getfield 10, 3) := dk_180 0 10 (dk_at dksX12_isSound_0 4 rfl rfl)
theorem dX12_isSound_7 : decode cX12_isSound 7 = .ok (.invokeinterface 33 1, 5) := by decide +kernel
theorem dX12_isSound_12 : decode cX12_isSound 12 = .ok (.if_icmp .ge 30, 3) := dk_162 0 30 (dk_at dksX12_isSound_0 12 rfl rfl)
theorem dX12_isSound_15 : decode cX12_isSound 15 = .ok (.aload_n 0, 1) := dk_42 (dk_at dksX12_isSound_0 15 rfl rfl)
theorem dX12_isSound_16 : decode cX12_isSound 16 = .ok (.getfield 10, 3) := dk_180 0 10 (dk_at dksX12_isSound_0 16 rfl rfl)
theorem dX12_isSound_19 : decode cX12_isSound 19 = .ok (.iload_n 1, 1) := dk_27 (dk_at dksX12_isSound_0 19 rfl rfl)
theorem dX12_isSound_20 : decode cX12_isSound 20 = .ok (.invokeinterface 37 2, 5) := by decide +kernel
theorem dX12_isSound_25 : decode cX12_isSound 25 = .ok (.checkcast 16, 3) := dk_192 0 16 (dk_at dksX12_isSound_1 5 rfl rfl)
theorem dX12_isSound_28 : decode cX12_isSound 28 = .ok (.getfield 41, 3) := dk_180 0 41 (dk_at dksX12_isSound_1 8 rfl rfl)
theorem dX12_isSound_31 : decode cX12_isSound 31 = .ok (.ifCond .ge 5, 3) := dk_156 0 5 (dk_at dksX12_isSound_1 11 rfl rfl)
theorem dX12_isSound_34 : decode cX12_isSound 34 = .ok (.iconst 0, 1) := dk_3 (dk_at dksX12_isSound_1 14 rfl rfl)
theorem dX12_isSound_35 : decode cX12_isSound 35 = .ok (.ireturn, 1) := dk_172 (dk_at dksX12_isSound_1 15 rfl rfl)
theorem dX12_isSound_36 : decode cX12_isSound 36 = .ok (.iinc 1 1, 3) := dk_132 1 1 (dk_at dksX12_isSound_1 16 rfl rfl)
theorem dX12_isSound_39 : decode cX12_isSound 39 = .ok (.goto (-37), 3) := dk_167 255 219 (dk_at dksX12_isSound_1 19 rfl rfl)
theorem dX12_isSound_42 : decode cX12_isSound 42 = .ok (.iconst 1, 1) := dk_4 (dk_at dksX12_isSound_1 22 rfl rfl)
theorem dX12_isSound_43 : decode cX12_isSound 43 = .ok (.ireturn, 1) := dk_172 (dk_at dksX12_isSound_1 23 rfl rfl)
abbrev cX12_seconds : ByteArray := prog_4_method_5_code
def yX12_seconds : MethodName := ⟨RX12, "seconds", "(I)I"⟩
def dkwX12_seconds_3 : List UInt8 := [172]
abbrev dktX12_seconds_3 : List UInt8 := dkwX12_seconds_3 ++ []
def dkwX12_seconds_2 : List UInt8 := [185, 0, 37, 2, 0, 192, 0, 16, 180, 0, 41, 167, 0, 4, 3, 96, 61, 132, 3, 1, 167, 255, 197, 28]
abbrev dktX12_seconds_2 : List UInt8 := dkwX12_seconds_2 ++ dktX12_seconds_3
def dkwX12_seconds_1 : List UInt8 := [185, 0, 37, 2, 0, 192, 0, 16, 180, 0, 45, 27, 161, 0, 22, 42, 180, 0, 10, 29]
abbrev dktX12_seconds_1 : List UInt8 := dkwX12_seconds_1 ++ dktX12_seconds_2
def dkwX12_seconds_0 : List UInt8 := [3, 61, 3, 62, 29, 42, 180, 0, 10, 185, 0, 33, 1, 0, 162, 0, 52, 28, 42, 180, 0, 10, 29]
abbrev dktX12_seconds_0 : List UInt8 := dkwX12_seconds_0 ++ dktX12_seconds_1
theorem dksX12_seconds_0 : cX12_seconds.data.toList.drop 0 = dktX12_seconds_0 := by decide +kernel
theorem dksX12_seconds_1 : cX12_seconds.data.toList.drop 23 = dktX12_seconds_1 := dk_seg dksX12_seconds_0 23 rfl rfl
theorem dksX12_seconds_2 : cX12_seconds.data.toList.drop 43 = dktX12_seconds_2 := dk_seg dksX12_seconds_1 20 rfl rfl
theorem dksX12_seconds_3 : cX12_seconds.data.toList.drop 67 = dktX12_seconds_3 := dk_seg dksX12_seconds_2 24 rfl rfl
theorem dX12_seconds_0 : decode cX12_seconds 0 = .ok (.iconst 0, 1) := dk_3 (dk_at dksX12_seconds_0 0 rfl rfl)
theorem dX12_seconds_1 : decode cX12_seconds 1 = .ok (.istore_n 2, 1) := dk_61 (dk_at dksX12_seconds_0 1 rfl rfl)
theorem dX12_seconds_2 : decode cX12_seconds 2 = .ok (.iconst 0, 1) := dk_3 (dk_at dksX12_seconds_0 2 rfl rfl)
theorem dX12_seconds_3 : decode cX12_seconds 3 = .ok (.istore_n 3, 1) := dk_62 (dk_at dksX12_seconds_0 3 rfl rfl)
theorem dX12_seconds_4 : decode cX12_seconds 4 = .ok (.iload_n 3, 1) := dk_29 (dk_at dksX12_seconds_0 4 rfl rfl)
theorem dX12_seconds_5 : decode cX12_seconds 5 = .ok (.aload_n 0, 1) := dk_42 (dk_at dksX12_seconds_0 5 rfl rfl)
theorem dX12_seconds_6 : decode cX12_seconds 6 = .ok (.getfield 10, 3) := dk_180 0 10 (dk_at dksX12_seconds_0 6 rfl rfl)
theorem dX12_seconds_9 : decode cX12_seconds 9 = .ok (.invokeinterface 33 1, 5) := by decide +kernel
theorem dX12_seconds_14 : decode cX12_seconds 14 = .ok (.if_icmp .ge 52, 3) := dk_162 0 52 (dk_at dksX12_seconds_0 14 rfl rfl)
theorem dX12_seconds_17 : decode cX12_seconds 17 = .ok (.iload_n 2, 1) := dk_28 (dk_at dksX12_seconds_0 17 rfl rfl)
theorem dX12_seconds_18 : decode cX12_seconds 18 = .ok (.aload_n 0, 1) := dk_42 (dk_at dksX12_seconds_0 18 rfl rfl)
theorem dX12_seconds_19 : decode cX12_seconds 19 = .ok (.getfield 10, 3) := dk_180 0 10 (dk_at dksX12_seconds_0 19 rfl rfl)
theorem dX12_seconds_22 : decode cX12_seconds 22 = .ok (.iload_n 3, 1) := dk_29 (dk_at dksX12_seconds_0 22 rfl rfl)
theorem dX12_seconds_23 : decode cX12_seconds 23 = .ok (.invokeinterface 37 2, 5) := by decide +kernel
theorem dX12_seconds_28 : decode cX12_seconds 28 = .ok (.checkcast 16, 3) := dk_192 0 16 (dk_at dksX12_seconds_1 5 rfl rfl)
theorem dX12_seconds_31 : decode cX12_seconds 31 = .ok (.getfield 45, 3) := dk_180 0 45 (dk_at dksX12_seconds_1 8 rfl rfl)
theorem dX12_seconds_34 : decode cX12_seconds 34 = .ok (.iload_n 1, 1) := dk_27 (dk_at dksX12_seconds_1 11 rfl rfl)
theorem dX12_seconds_35 : decode cX12_seconds 35 = .ok (.if_icmp .lt 22, 3) := dk_161 0 22 (dk_at dksX12_seconds_1 12 rfl rfl)
theorem dX12_seconds_38 : decode cX12_seconds 38 = .ok (.aload_n 0, 1) := dk_42 (dk_at dksX12_seconds_1 15 rfl rfl)
theorem dX12_seconds_39 : decode cX12_seconds 39 = .ok (.getfield 10, 3) := dk_180 0 10 (dk_at dksX12_seconds_1 16 rfl rfl)
theorem dX12_seconds_42 : decode cX12_seconds 42 = .ok (.iload_n 3, 1) := dk_29 (dk_at dksX12_seconds_1 19 rfl rfl)
theorem dX12_seconds_43 : decode cX12_seconds 43 = .ok (.invokeinterface 37 2, 5) := by decide +kernel
theorem dX12_seconds_48 : decode cX12_seconds 48 = .ok (.checkcast 16, 3) := dk_192 0 16 (dk_at dksX12_seconds_2 5 rfl rfl)
theorem dX12_seconds_51 : decode cX12_seconds 51 = .ok (.getfield 41, 3) := dk_180 0 41 (dk_at dksX12_seconds_2 8 rfl rfl)
theorem dX12_seconds_54 : decode cX12_seconds 54 = .ok (.goto 4, 3) := dk_167 0 4 (dk_at dksX12_seconds_2 11 rfl rfl)
theorem dX12_seconds_57 : decode cX12_seconds 57 = .ok (.iconst 0, 1) := dk_3 (dk_at dksX12_seconds_2 14 rfl rfl)
theorem dX12_seconds_58 : decode cX12_seconds 58 = .ok (.iadd, 1) := dk_96 (dk_at dksX12_seconds_2 15 rfl rfl)
theorem dX12_seconds_59 : decode cX12_seconds 59 = .ok (.istore_n 2, 1) := dk_61 (dk_at dksX12_seconds_2 16 rfl rfl)
theorem dX12_seconds_60 : decode cX12_seconds 60 = .ok (.iinc 3 1, 3) := dk_132 3 1 (dk_at dksX12_seconds_2 17 rfl rfl)
theorem dX12_seconds_63 : decode cX12_seconds 63 = .ok (.goto (-59), 3) := dk_167 255 197 (dk_at dksX12_seconds_2 20 rfl rfl)
theorem dX12_seconds_66 : decode cX12_seconds 66 = .ok (.iload_n 2, 1) := dk_28 (dk_at dksX12_seconds_2 23 rfl rfl)
theorem dX12_seconds_67 : decode cX12_seconds 67 = .ok (.ireturn, 1) := dk_172 (dk_at dksX12_seconds_3 0 rfl rfl)
abbrev cX12_many : ByteArray := prog_4_method_6_code
def yX12_many : MethodName := ⟨RX12, "many", "(I)I"⟩
def dkwX12_many_3 : List UInt8 := [167, 255, 193, 28, 172]
abbrev dktX12_many_3 : List UInt8 := dkwX12_many_3 ++ []
def dkwX12_many_2 : List UInt8 := [185, 0, 37, 2, 0, 192, 0, 16, 180, 0, 41, 158, 0, 7, 4, 167, 0, 4, 3, 96, 61, 132, 3, 1]
abbrev dktX12_many_2 : List UInt8 := dkwX12_many_2 ++ dktX12_many_3
def dkwX12_many_1 : List UInt8 := [185, 0, 37, 2, 0, 192, 0, 16, 180, 0, 45, 27, 161, 0, 26, 42, 180, 0, 10, 29]
abbrev dktX12_many_1 : List UInt8 := dkwX12_many_1 ++ dktX12_many_2
def dkwX12_many_0 : List UInt8 := [3, 61, 3, 62, 29, 42, 180, 0, 10, 185, 0, 33, 1, 0, 162, 0, 56, 28, 42, 180, 0, 10, 29]
abbrev dktX12_many_0 : List UInt8 := dkwX12_many_0 ++ dktX12_many_1
theorem dksX12_many_0 : cX12_many.data.toList.drop 0 = dktX12_many_0 := by decide +kernel
theorem dksX12_many_1 : cX12_many.data.toList.drop 23 = dktX12_many_1 := dk_seg dksX12_many_0 23 rfl rfl
theorem dksX12_many_2 : cX12_many.data.toList.drop 43 = dktX12_many_2 := dk_seg dksX12_many_1 20 rfl rfl
theorem dksX12_many_3 : cX12_many.data.toList.drop 67 = dktX12_many_3 := dk_seg dksX12_many_2 24 rfl rfl
theorem dX12_many_0 : decode cX12_many 0 = .ok (.iconst 0, 1) := dk_3 (dk_at dksX12_many_0 0 rfl rfl)
theorem dX12_many_1 : decode cX12_many 1 = .ok (.istore_n 2, 1) := dk_61 (dk_at dksX12_many_0 1 rfl rfl)
theorem dX12_many_2 : decode cX12_many 2 = .ok (.iconst 0, 1) := dk_3 (dk_at dksX12_many_0 2 rfl rfl)
theorem dX12_many_3 : decode cX12_many 3 = .ok (.istore_n 3, 1) := dk_62 (dk_at dksX12_many_0 3 rfl rfl)
theorem dX12_many_4 : decode cX12_many 4 = .ok (.iload_n 3, 1) := dk_29 (dk_at dksX12_many_0 4 rfl rfl)
theorem dX12_many_5 : decode cX12_many 5 = .ok (.aload_n 0, 1) := dk_42 (dk_at dksX12_many_0 5 rfl rfl)
theorem dX12_many_6 : decode cX12_many 6 = .ok (.getfield 10, 3) := dk_180 0 10 (dk_at dksX12_many_0 6 rfl rfl)
theorem dX12_many_9 : decode cX12_many 9 = .ok (.invokeinterface 33 1, 5) := by decide +kernel
theorem dX12_many_14 : decode cX12_many 14 = .ok (.if_icmp .ge 56, 3) := dk_162 0 56 (dk_at dksX12_many_0 14 rfl rfl)
theorem dX12_many_17 : decode cX12_many 17 = .ok (.iload_n 2, 1) := dk_28 (dk_at dksX12_many_0 17 rfl rfl)
theorem dX12_many_18 : decode cX12_many 18 = .ok (.aload_n 0, 1) := dk_42 (dk_at dksX12_many_0 18 rfl rfl)
theorem dX12_many_19 : decode cX12_many 19 = .ok (.getfield 10, 3) := dk_180 0 10 (dk_at dksX12_many_0 19 rfl rfl)
theorem dX12_many_22 : decode cX12_many 22 = .ok (.iload_n 3, 1) := dk_29 (dk_at dksX12_many_0 22 rfl rfl)
theorem dX12_many_23 : decode cX12_many 23 = .ok (.invokeinterface 37 2, 5) := by decide +kernel
theorem dX12_many_28 : decode cX12_many 28 = .ok (.checkcast 16, 3) := dk_192 0 16 (dk_at dksX12_many_1 5 rfl rfl)
theorem dX12_many_31 : decode cX12_many 31 = .ok (.getfield 45, 3) := dk_180 0 45 (dk_at dksX12_many_1 8 rfl rfl)
theorem dX12_many_34 : decode cX12_many 34 = .ok (.iload_n 1, 1) := dk_27 (dk_at dksX12_many_1 11 rfl rfl)
theorem dX12_many_35 : decode cX12_many 35 = .ok (.if_icmp .lt 26, 3) := dk_161 0 26 (dk_at dksX12_many_1 12 rfl rfl)
theorem dX12_many_38 : decode cX12_many 38 = .ok (.aload_n 0, 1) := dk_42 (dk_at dksX12_many_1 15 rfl rfl)
theorem dX12_many_39 : decode cX12_many 39 = .ok (.getfield 10, 3) := dk_180 0 10 (dk_at dksX12_many_1 16 rfl rfl)
theorem dX12_many_42 : decode cX12_many 42 = .ok (.iload_n 3, 1) := dk_29 (dk_at dksX12_many_1 19 rfl rfl)
theorem dX12_many_43 : decode cX12_many 43 = .ok (.invokeinterface 37 2, 5) := by decide +kernel
theorem dX12_many_48 : decode cX12_many 48 = .ok (.checkcast 16, 3) := dk_192 0 16 (dk_at dksX12_many_2 5 rfl rfl)
theorem dX12_many_51 : decode cX12_many 51 = .ok (.getfield 41, 3) := dk_180 0 41 (dk_at dksX12_many_2 8 rfl rfl)
theorem dX12_many_54 : decode cX12_many 54 = .ok (.ifCond .le 7, 3) := dk_158 0 7 (dk_at dksX12_many_2 11 rfl rfl)
theorem dX12_many_57 : decode cX12_many 57 = .ok (.iconst 1, 1) := dk_4 (dk_at dksX12_many_2 14 rfl rfl)
theorem dX12_many_58 : decode cX12_many 58 = .ok (.goto 4, 3) := dk_167 0 4 (dk_at dksX12_many_2 15 rfl rfl)
theorem dX12_many_61 : decode cX12_many 61 = .ok (.iconst 0, 1) := dk_3 (dk_at dksX12_many_2 18 rfl rfl)
theorem dX12_many_62 : decode cX12_many 62 = .ok (.iadd, 1) := dk_96 (dk_at dksX12_many_2 19 rfl rfl)
theorem dX12_many_63 : decode cX12_many 63 = .ok (.istore_n 2, 1) := dk_61 (dk_at dksX12_many_2 20 rfl rfl)
theorem dX12_many_64 : decode cX12_many 64 = .ok (.iinc 3 1, 3) := dk_132 3 1 (dk_at dksX12_many_2 21 rfl rfl)
theorem dX12_many_67 : decode cX12_many 67 = .ok (.goto (-63), 3) := dk_167 255 193 (dk_at dksX12_many_3 0 rfl rfl)
theorem dX12_many_70 : decode cX12_many 70 = .ok (.iload_n 2, 1) := dk_28 (dk_at dksX12_many_3 3 rfl rfl)
theorem dX12_many_71 : decode cX12_many 71 = .ok (.ireturn, 1) := dk_172 (dk_at dksX12_many_3 4 rfl rfl)
abbrev cX12_lapsed : ByteArray := prog_4_method_7_code
def yX12_lapsed : MethodName := ⟨RX12, "lapsed", "(I)I"⟩
def dkwX12_lapsed_3 : List UInt8 := [172]
abbrev dktX12_lapsed_3 : List UInt8 := dkwX12_lapsed_3 ++ []
def dkwX12_lapsed_2 : List UInt8 := [185, 0, 37, 2, 0, 192, 0, 16, 180, 0, 41, 167, 0, 4, 3, 96, 61, 132, 3, 1, 167, 255, 197, 28]
abbrev dktX12_lapsed_2 : List UInt8 := dkwX12_lapsed_2 ++ dktX12_lapsed_3
def dkwX12_lapsed_1 : List UInt8 := [185, 0, 37, 2, 0, 192, 0, 16, 180, 0, 45, 27, 160, 0, 22, 42, 180, 0, 10, 29]
abbrev dktX12_lapsed_1 : List UInt8 := dkwX12_lapsed_1 ++ dktX12_lapsed_2
def dkwX12_lapsed_0 : List UInt8 := [3, 61, 3, 62, 29, 42, 180, 0, 10, 185, 0, 33, 1, 0, 162, 0, 52, 28, 42, 180, 0, 10, 29]
abbrev dktX12_lapsed_0 : List UInt8 := dkwX12_lapsed_0 ++ dktX12_lapsed_1
theorem dksX12_lapsed_0 : cX12_lapsed.data.toList.drop 0 = dktX12_lapsed_0 := by decide +kernel
theorem dksX12_lapsed_1 : cX12_lapsed.data.toList.drop 23 = dktX12_lapsed_1 := dk_seg dksX12_lapsed_0 23 rfl rfl
theorem dksX12_lapsed_2 : cX12_lapsed.data.toList.drop 43 = dktX12_lapsed_2 := dk_seg dksX12_lapsed_1 20 rfl rfl
theorem dksX12_lapsed_3 : cX12_lapsed.data.toList.drop 67 = dktX12_lapsed_3 := dk_seg dksX12_lapsed_2 24 rfl rfl
theorem dX12_lapsed_0 : decode cX12_lapsed 0 = .ok (.iconst 0, 1) := dk_3 (dk_at dksX12_lapsed_0 0 rfl rfl)
theorem dX12_lapsed_1 : decode cX12_lapsed 1 = .ok (.istore_n 2, 1) := dk_61 (dk_at dksX12_lapsed_0 1 rfl rfl)
theorem dX12_lapsed_2 : decode cX12_lapsed 2 = .ok (.iconst 0, 1) := dk_3 (dk_at dksX12_lapsed_0 2 rfl rfl)
theorem dX12_lapsed_3 : decode cX12_lapsed 3 = .ok (.istore_n 3, 1) := dk_62 (dk_at dksX12_lapsed_0 3 rfl rfl)
theorem dX12_lapsed_4 : decode cX12_lapsed 4 = .ok (.iload_n 3, 1) := dk_29 (dk_at dksX12_lapsed_0 4 rfl rfl)
theorem dX12_lapsed_5 : decode cX12_lapsed 5 = .ok (.aload_n 0, 1) := dk_42 (dk_at dksX12_lapsed_0 5 rfl rfl)
theorem dX12_lapsed_6 : decode cX12_lapsed 6 = .ok (.getfield 10, 3) := dk_180 0 10 (dk_at dksX12_lapsed_0 6 rfl rfl)
theorem dX12_lapsed_9 : decode cX12_lapsed 9 = .ok (.invokeinterface 33 1, 5) := by decide +kernel
theorem dX12_lapsed_14 : decode cX12_lapsed 14 = .ok (.if_icmp .ge 52, 3) := dk_162 0 52 (dk_at dksX12_lapsed_0 14 rfl rfl)
theorem dX12_lapsed_17 : decode cX12_lapsed 17 = .ok (.iload_n 2, 1) := dk_28 (dk_at dksX12_lapsed_0 17 rfl rfl)
theorem dX12_lapsed_18 : decode cX12_lapsed 18 = .ok (.aload_n 0, 1) := dk_42 (dk_at dksX12_lapsed_0 18 rfl rfl)
theorem dX12_lapsed_19 : decode cX12_lapsed 19 = .ok (.getfield 10, 3) := dk_180 0 10 (dk_at dksX12_lapsed_0 19 rfl rfl)
theorem dX12_lapsed_22 : decode cX12_lapsed 22 = .ok (.iload_n 3, 1) := dk_29 (dk_at dksX12_lapsed_0 22 rfl rfl)
theorem dX12_lapsed_23 : decode cX12_lapsed 23 = .ok (.invokeinterface 37 2, 5) := by decide +kernel
theorem dX12_lapsed_28 : decode cX12_lapsed 28 = .ok (.checkcast 16, 3) := dk_192 0 16 (dk_at dksX12_lapsed_1 5 rfl rfl)
theorem dX12_lapsed_31 : decode cX12_lapsed 31 = .ok (.getfield 45, 3) := dk_180 0 45 (dk_at dksX12_lapsed_1 8 rfl rfl)
theorem dX12_lapsed_34 : decode cX12_lapsed 34 = .ok (.iload_n 1, 1) := dk_27 (dk_at dksX12_lapsed_1 11 rfl rfl)
theorem dX12_lapsed_35 : decode cX12_lapsed 35 = .ok (.if_icmp .ne 22, 3) := dk_160 0 22 (dk_at dksX12_lapsed_1 12 rfl rfl)
theorem dX12_lapsed_38 : decode cX12_lapsed 38 = .ok (.aload_n 0, 1) := dk_42 (dk_at dksX12_lapsed_1 15 rfl rfl)
theorem dX12_lapsed_39 : decode cX12_lapsed 39 = .ok (.getfield 10, 3) := dk_180 0 10 (dk_at dksX12_lapsed_1 16 rfl rfl)
theorem dX12_lapsed_42 : decode cX12_lapsed 42 = .ok (.iload_n 3, 1) := dk_29 (dk_at dksX12_lapsed_1 19 rfl rfl)
theorem dX12_lapsed_43 : decode cX12_lapsed 43 = .ok (.invokeinterface 37 2, 5) := by decide +kernel
theorem dX12_lapsed_48 : decode cX12_lapsed 48 = .ok (.checkcast 16, 3) := dk_192 0 16 (dk_at dksX12_lapsed_2 5 rfl rfl)
theorem dX12_lapsed_51 : decode cX12_lapsed 51 = .ok (.getfield 41, 3) := dk_180 0 41 (dk_at dksX12_lapsed_2 8 rfl rfl)
theorem dX12_lapsed_54 : decode cX12_lapsed 54 = .ok (.goto 4, 3) := dk_167 0 4 (dk_at dksX12_lapsed_2 11 rfl rfl)
theorem dX12_lapsed_57 : decode cX12_lapsed 57 = .ok (.iconst 0, 1) := dk_3 (dk_at dksX12_lapsed_2 14 rfl rfl)
theorem dX12_lapsed_58 : decode cX12_lapsed 58 = .ok (.iadd, 1) := dk_96 (dk_at dksX12_lapsed_2 15 rfl rfl)
theorem dX12_lapsed_59 : decode cX12_lapsed 59 = .ok (.istore_n 2, 1) := dk_61 (dk_at dksX12_lapsed_2 16 rfl rfl)
theorem dX12_lapsed_60 : decode cX12_lapsed 60 = .ok (.iinc 3 1, 3) := dk_132 3 1 (dk_at dksX12_lapsed_2 17 rfl rfl)
theorem dX12_lapsed_63 : decode cX12_lapsed 63 = .ok (.goto (-59), 3) := dk_167 255 197 (dk_at dksX12_lapsed_2 20 rfl rfl)
theorem dX12_lapsed_66 : decode cX12_lapsed 66 = .ok (.iload_n 2, 1) := dk_28 (dk_at dksX12_lapsed_2 23 rfl rfl)
theorem dX12_lapsed_67 : decode cX12_lapsed 67 = .ok (.ireturn, 1) := dk_172 (dk_at dksX12_lapsed_3 0 rfl rfl)
theorem q104 : (Jvm.Cond.initialized "Rollover$Buckets") ∈ lw_all := lw_g (lw_at lw_m1 35 rfl) rfl
theorem q233 : (Jvm.Cond.selects "Rollover$Buckets" ({ cls := "java/lang/Object", name := "getClass", desc := "()Ljava/lang/Class;" } : Jvm.MethodName) ({ cls := "java/lang/Object", name := "getClass", desc := "()Ljava/lang/Class;" } : Jvm.MethodName)) ∈ lw_all := lw_g (lw_at lw_m1 164 rfl) rfl
theorem q330 : (Jvm.Cond.instantiable "Rollover$Buckets" (1 : Nat)) ∈ lw_all := lw_g (lw_at lw_m2 21 rfl) rfl
theorem q332 : (Jvm.Cond.instanceMethod ({ cls := "Rollover$Buckets", name := "<init>", desc := "()V" } : Jvm.MethodName)) ∈ lw_all := lw_g (lw_at lw_m2 23 rfl) rfl
theorem q333 : (Jvm.Cond.code ({ cls := "Rollover$Buckets", name := "<init>", desc := "()V" } : Jvm.MethodName) prog_4_method_1_code (1 : Nat) (Option.none : Option Jvm.ClassFile.FieldType)) ∈ lw_all := lw_g (lw_at lw_m2 24 rfl) rfl
theorem q334 : (Jvm.Cond.methodLink "Rollover$Buckets" (1 : Nat) ({ cls := "java/lang/Object", name := "<init>", desc := "()V" } : Jvm.MethodName)) ∈ lw_all := lw_g (lw_at lw_m2 25 rfl) rfl
theorem q335 : (Jvm.Cond.classLink "Rollover$Buckets" (7 : Nat) "java/util/ArrayList") ∈ lw_all := lw_g (lw_at lw_m2 26 rfl) rfl
theorem q336 : (Jvm.Cond.methodLink "Rollover$Buckets" (9 : Nat) ({ cls := "java/util/ArrayList", name := "<init>", desc := "()V" } : Jvm.MethodName)) ∈ lw_all := lw_g (lw_at lw_m2 27 rfl) rfl
theorem q337 : (Jvm.Cond.fieldLink "Rollover$Buckets" (10 : Nat) "Rollover$Buckets" "all" "Ljava/util/List;") ∈ lw_all := lw_g (lw_at lw_m2 28 rfl) rfl
theorem q338 : (Jvm.Cond.laysFinal "Rollover$Buckets" "Rollover$Buckets" "all" "Ljava/util/List;") ∈ lw_all := lw_g (lw_at lw_m2 29 rfl) rfl
theorem q339 : (Jvm.Cond.soleField "Rollover$Buckets" "all") ∈ lw_all := lw_g (lw_at lw_m2 30 rfl) rfl
theorem q340 : (Jvm.Cond.superclass "Rollover$Buckets" "java/lang/Object") ∈ lw_all := lw_g (lw_at lw_m2 31 rfl) rfl
theorem q469 : (Jvm.Cond.instanceMethod ({ cls := "Rollover$Buckets", name := "add", desc := "(II)V" } : Jvm.MethodName)) ∈ lw_all := lw_g (lw_at lw_m2 160 rfl) rfl
theorem q470 : (Jvm.Cond.selects "Rollover$Buckets" ({ cls := "Rollover$Buckets", name := "add", desc := "(II)V" } : Jvm.MethodName) ({ cls := "Rollover$Buckets", name := "add", desc := "(II)V" } : Jvm.MethodName)) ∈ lw_all := lw_g (lw_at lw_m2 161 rfl) rfl
theorem q471 : (Jvm.Cond.code ({ cls := "Rollover$Buckets", name := "add", desc := "(II)V" } : Jvm.MethodName) prog_4_method_2_code (3 : Nat) (Option.none : Option Jvm.ClassFile.FieldType)) ∈ lw_all := lw_g (lw_at lw_m2 162 rfl) rfl
theorem q472 : (Jvm.Cond.classLink "Rollover$Buckets" (16 : Nat) "Rollover$Bucket") ∈ lw_all := lw_g (lw_at lw_m2 163 rfl) rfl
theorem q474 : (Jvm.Cond.methodLink "Rollover$Buckets" (18 : Nat) ({ cls := "Rollover$Bucket", name := "<init>", desc := "(II)V" } : Jvm.MethodName)) ∈ lw_all := lw_g (lw_at lw_m2 165 rfl) rfl
theorem q479 : (Jvm.Cond.fieldLinkNest "Rollover$Buckets" (45 : Nat) "Rollover$Bucket" "last" "I" "Rollover") ∈ lw_tbl := lw_at lw_m2 170 rfl
theorem q481 : (Jvm.Cond.fieldLinkNest "Rollover$Buckets" (41 : Nat) "Rollover$Bucket" "seconds" "I" "Rollover") ∈ lw_tbl := lw_at lw_m2 172 rfl
theorem q487 : (Jvm.Cond.interfaceEntry "Rollover$Buckets" (21 : Nat)) ∈ lw_tbl := lw_at lw_m2 178 rfl
theorem q488 : (Jvm.Cond.methodLink "Rollover$Buckets" (21 : Nat) ({ cls := "java/util/List", name := "add", desc := "(Ljava/lang/Object;)Z" } : Jvm.MethodName)) ∈ lw_all := lw_g (lw_at lw_m2 179 rfl) rfl
theorem q523 : (Jvm.Cond.instanceMethod ({ cls := "Rollover$Buckets", name := "take", desc := "(II)I" } : Jvm.MethodName)) ∈ lw_all := lw_g (lw_at lw_m2 214 rfl) rfl
theorem q524 : (Jvm.Cond.selects "Rollover$Buckets" ({ cls := "Rollover$Buckets", name := "take", desc := "(II)I" } : Jvm.MethodName) ({ cls := "Rollover$Buckets", name := "take", desc := "(II)I" } : Jvm.MethodName)) ∈ lw_all := lw_g (lw_at lw_m2 215 rfl) rfl
theorem q525 : (Jvm.Cond.code ({ cls := "Rollover$Buckets", name := "take", desc := "(II)I" } : Jvm.MethodName) prog_4_method_4_code (6 : Nat) (Option.some Jvm.ClassFile.FieldType.int)) ∈ lw_all := lw_g (lw_at lw_m2 216 rfl) rfl
theorem q526 : (Jvm.Cond.methodLink "Rollover$Buckets" (59 : Nat) ({ cls := "Rollover$Buckets", name := "next", desc := "(I)Ljava/util/Optional;" } : Jvm.MethodName)) ∈ lw_all := lw_g (lw_at lw_m2 217 rfl) rfl
theorem q527 : (Jvm.Cond.privateMethod ({ cls := "Rollover$Buckets", name := "next", desc := "(I)Ljava/util/Optional;" } : Jvm.MethodName)) ∈ lw_tbl := lw_at lw_m2 218 rfl
theorem q528 : (Jvm.Cond.instanceMethod ({ cls := "Rollover$Buckets", name := "next", desc := "(I)Ljava/util/Optional;" } : Jvm.MethodName)) ∈ lw_all := lw_g (lw_at lw_m2 219 rfl) rfl
theorem q529 : (Jvm.Cond.code ({ cls := "Rollover$Buckets", name := "next", desc := "(I)Ljava/util/Optional;" } : Jvm.MethodName) prog_4_method_3_code (6 : Nat) (Option.some (Jvm.ClassFile.FieldType.object "java/util/Optional"))) ∈ lw_all := lw_g (lw_at lw_m2 220 rfl) rfl
theorem q530 : (Jvm.Cond.methodLink "Rollover$Buckets" (27 : Nat) ({ cls := "java/util/Optional", name := "empty", desc := "()Ljava/util/Optional;" } : Jvm.MethodName)) ∈ lw_all := lw_g (lw_at lw_m2 221 rfl) rfl
theorem q535 : (Jvm.Cond.interfaceEntry "Rollover$Buckets" (33 : Nat)) ∈ lw_tbl := lw_at lw_m2 226 rfl
theorem q536 : (Jvm.Cond.methodLink "Rollover$Buckets" (33 : Nat) ({ cls := "java/util/List", name := "size", desc := "()I" } : Jvm.MethodName)) ∈ lw_all := lw_g (lw_at lw_m2 227 rfl) rfl
theorem q537 : (Jvm.Cond.interfaceEntry "Rollover$Buckets" (37 : Nat)) ∈ lw_tbl := lw_at lw_m2 228 rfl
theorem q538 : (Jvm.Cond.methodLink "Rollover$Buckets" (37 : Nat) ({ cls := "java/util/List", name := "get", desc := "(I)Ljava/lang/Object;" } : Jvm.MethodName)) ∈ lw_all := lw_g (lw_at lw_m2 229 rfl) rfl
theorem q539 : (Jvm.Cond.methodLink "Rollover$Buckets" (48 : Nat) ({ cls := "java/util/Optional", name := "isPresent", desc := "()Z" } : Jvm.MethodName)) ∈ lw_all := lw_g (lw_at lw_m2 230 rfl) rfl
theorem q543 : (Jvm.Cond.methodLink "Rollover$Buckets" (52 : Nat) ({ cls := "java/util/Optional", name := "get", desc := "()Ljava/lang/Object;" } : Jvm.MethodName)) ∈ lw_all := lw_g (lw_at lw_m2 234 rfl) rfl
theorem q547 : (Jvm.Cond.methodLink "Rollover$Buckets" (55 : Nat) ({ cls := "java/util/Optional", name := "of", desc := "(Ljava/lang/Object;)Ljava/util/Optional;" } : Jvm.MethodName)) ∈ lw_all := lw_g (lw_at lw_m2 238 rfl) rfl
theorem q563 : (Jvm.Cond.methodLink "Rollover$Buckets" (63 : Nat) ({ cls := "java/lang/Math", name := "min", desc := "(II)I" } : Jvm.MethodName)) ∈ lw_all := lw_g (lw_at lw_m3 14 rfl) rfl
theorem q615 : (Jvm.Cond.instanceMethod ({ cls := "Rollover$Buckets", name := "isSound", desc := "()Z" } : Jvm.MethodName)) ∈ lw_all := lw_g (lw_at lw_m3 66 rfl) rfl
theorem q616 : (Jvm.Cond.selects "Rollover$Buckets" ({ cls := "Rollover$Buckets", name := "isSound", desc := "()Z" } : Jvm.MethodName) ({ cls := "Rollover$Buckets", name := "isSound", desc := "()Z" } : Jvm.MethodName)) ∈ lw_all := lw_g (lw_at lw_m3 67 rfl) rfl
theorem q617 : (Jvm.Cond.code ({ cls := "Rollover$Buckets", name := "isSound", desc := "()Z" } : Jvm.MethodName) prog_4_method_8_code (2 : Nat) (Option.some Jvm.ClassFile.FieldType.boolean)) ∈ lw_all := lw_g (lw_at lw_m3 68 rfl) rfl
theorem q723 : (Jvm.Cond.instanceMethod ({ cls := "Rollover$Buckets", name := "seconds", desc := "(I)I" } : Jvm.MethodName)) ∈ lw_all := lw_g (lw_at lw_m3 174 rfl) rfl
theorem q724 : (Jvm.Cond.selects "Rollover$Buckets" ({ cls := "Rollover$Buckets", name := "seconds", desc := "(I)I" } : Jvm.MethodName) ({ cls := "Rollover$Buckets", name := "seconds", desc := "(I)I" } : Jvm.MethodName)) ∈ lw_all := lw_g (lw_at lw_m3 175 rfl) rfl
theorem q725 : (Jvm.Cond.code ({ cls := "Rollover$Buckets", name := "seconds", desc := "(I)I" } : Jvm.MethodName) prog_4_method_5_code (4 : Nat) (Option.some Jvm.ClassFile.FieldType.int)) ∈ lw_all := lw_g (lw_at lw_m3 176 rfl) rfl
theorem q727 : (Jvm.Cond.instanceMethod ({ cls := "Rollover$Buckets", name := "many", desc := "(I)I" } : Jvm.MethodName)) ∈ lw_all := lw_g (lw_at lw_m3 178 rfl) rfl
theorem q728 : (Jvm.Cond.selects "Rollover$Buckets" ({ cls := "Rollover$Buckets", name := "many", desc := "(I)I" } : Jvm.MethodName) ({ cls := "Rollover$Buckets", name := "many", desc := "(I)I" } : Jvm.MethodName)) ∈ lw_all := lw_g (lw_at lw_m3 179 rfl) rfl
theorem q729 : (Jvm.Cond.code ({ cls := "Rollover$Buckets", name := "many", desc := "(I)I" } : Jvm.MethodName) prog_4_method_6_code (4 : Nat) (Option.some Jvm.ClassFile.FieldType.int)) ∈ lw_all := lw_g (lw_at lw_m3 180 rfl) rfl
theorem q731 : (Jvm.Cond.instanceMethod ({ cls := "Rollover$Buckets", name := "lapsed", desc := "(I)I" } : Jvm.MethodName)) ∈ lw_all := lw_g (lw_at lw_m3 182 rfl) rfl
theorem q732 : (Jvm.Cond.selects "Rollover$Buckets" ({ cls := "Rollover$Buckets", name := "lapsed", desc := "(I)I" } : Jvm.MethodName) ({ cls := "Rollover$Buckets", name := "lapsed", desc := "(I)I" } : Jvm.MethodName)) ∈ lw_all := lw_g (lw_at lw_m3 183 rfl) rfl
theorem q733 : (Jvm.Cond.code ({ cls := "Rollover$Buckets", name := "lapsed", desc := "(I)I" } : Jvm.MethodName) prog_4_method_7_code (4 : Nat) (Option.some Jvm.ClassFile.FieldType.int)) ∈ lw_all := lw_g (lw_at lw_m3 184 rfl) rfl
theorem q2115 : (Jvm.Cond.castable "Rollover$Buckets" "java/lang/Object") ∈ lw_tbl := lw_at lw_m9 126 rfl
theorem in_X12 : ∀ w ∈ wsX120, w ∈ lw_all := lw_in wsX120 [338] (by decide +kernel) (by decide +kernel)
/-! Rollover$Account -/
set_option maxRecDepth 100000
def RX13 : String := "Rollover$Account"
def TX13 : u_T := fun k => match k with
  | 0 => ("Rollover$Account", "charges", "I", false)
  | 1 => ("Rollover$Account", "charged", "I", false)
  | 2 => ("Rollover$Account", "own", "I", false)
  | 3 => ("Rollover$Account", "parents", "I", false)
  | 4 => ("Rollover$Account", "calls", "I", false)
  | 5 => ("Rollover$Account", "free", "I", false)
  | _ => ("Rollover$Account", "prices", "I", false)
def tyX13 : Nat → FieldType := fun k => match k with
  | 0 => .int
  | 1 => .int
  | 2 => .int
  | 3 => .int
  | 4 => .int
  | 5 => .int
  | _ => .int
abbrev wsX130 : List Cond := u_ws RX13 TX13 7
theorem nmX13 : ∀ a, a < 7 → ∀ b, b < 7 → a ≠ b → (TX13 a).2.1 ≠ (TX13 b).2.1 := by decide +kernel
theorem tyX13_ok : ∀ k, k < 7 → parseFieldDescriptor (TX13 k).2.2.1 = some (tyX13 k) := by decide +kernel
abbrev cX13_init : ByteArray := prog_2_method_1_code
def yX13_init : MethodName := ⟨RX13, "<init>", "()V"⟩
theorem dX13_init_0 : decode cX13_init 0 = .ok (.aload_n 0, 1) := by decide +kernel
theorem dX13_init_1 : decode cX13_init 1 = .ok (.invokespecial 1, 3) := by decide +kernel
theorem dX13_init_4 : decode cX13_init 4 = .ok (.return_, 1) := by decide +kernel
theorem q105 : (Jvm.Cond.initialized "Rollover$Account") ∈ lw_all := lw_g (lw_at lw_m1 36 rfl) rfl
theorem q231 : (Jvm.Cond.selects "Rollover$Account" ({ cls := "java/lang/Object", name := "getClass", desc := "()Ljava/lang/Class;" } : Jvm.MethodName) ({ cls := "java/lang/Object", name := "getClass", desc := "()Ljava/lang/Class;" } : Jvm.MethodName)) ∈ lw_all := lw_g (lw_at lw_m1 162 rfl) rfl
theorem q344 : (Jvm.Cond.instantiable "Rollover$Account" (7 : Nat)) ∈ lw_all := lw_g (lw_at lw_m2 35 rfl) rfl
theorem q346 : (Jvm.Cond.instanceMethod ({ cls := "Rollover$Account", name := "<init>", desc := "()V" } : Jvm.MethodName)) ∈ lw_all := lw_g (lw_at lw_m2 37 rfl) rfl
theorem q347 : (Jvm.Cond.code ({ cls := "Rollover$Account", name := "<init>", desc := "()V" } : Jvm.MethodName) prog_2_method_1_code (1 : Nat) (Option.none : Option Jvm.ClassFile.FieldType)) ∈ lw_all := lw_g (lw_at lw_m2 38 rfl) rfl
theorem q348 : (Jvm.Cond.methodLink "Rollover$Account" (1 : Nat) ({ cls := "java/lang/Object", name := "<init>", desc := "()V" } : Jvm.MethodName)) ∈ lw_all := lw_g (lw_at lw_m2 39 rfl) rfl
theorem q363 : (Jvm.Cond.lays "Rollover$Account" "Rollover$Account" "charges" "I") ∈ lw_all := lw_g (lw_at lw_m2 54 rfl) rfl
theorem q364 : (Jvm.Cond.soleField "Rollover$Account" "charges") ∈ lw_all := lw_g (lw_at lw_m2 55 rfl) rfl
theorem q365 : (Jvm.Cond.lays "Rollover$Account" "Rollover$Account" "charged" "I") ∈ lw_all := lw_g (lw_at lw_m2 56 rfl) rfl
theorem q366 : (Jvm.Cond.soleField "Rollover$Account" "charged") ∈ lw_all := lw_g (lw_at lw_m2 57 rfl) rfl
theorem q367 : (Jvm.Cond.lays "Rollover$Account" "Rollover$Account" "own" "I") ∈ lw_all := lw_g (lw_at lw_m2 58 rfl) rfl
theorem q368 : (Jvm.Cond.soleField "Rollover$Account" "own") ∈ lw_all := lw_g (lw_at lw_m2 59 rfl) rfl
theorem q369 : (Jvm.Cond.lays "Rollover$Account" "Rollover$Account" "parents" "I") ∈ lw_all := lw_g (lw_at lw_m2 60 rfl) rfl
theorem q370 : (Jvm.Cond.soleField "Rollover$Account" "parents") ∈ lw_all := lw_g (lw_at lw_m2 61 rfl) rfl
theorem q371 : (Jvm.Cond.lays "Rollover$Account" "Rollover$Account" "calls" "I") ∈ lw_all := lw_g (lw_at lw_m2 62 rfl) rfl
theorem q372 : (Jvm.Cond.soleField "Rollover$Account" "calls") ∈ lw_all := lw_g (lw_at lw_m2 63 rfl) rfl
theorem q373 : (Jvm.Cond.lays "Rollover$Account" "Rollover$Account" "free" "I") ∈ lw_all := lw_g (lw_at lw_m2 64 rfl) rfl
theorem q374 : (Jvm.Cond.soleField "Rollover$Account" "free") ∈ lw_all := lw_g (lw_at lw_m2 65 rfl) rfl
theorem q375 : (Jvm.Cond.lays "Rollover$Account" "Rollover$Account" "prices" "I") ∈ lw_all := lw_g (lw_at lw_m2 66 rfl) rfl
theorem q376 : (Jvm.Cond.soleField "Rollover$Account" "prices") ∈ lw_all := lw_g (lw_at lw_m2 67 rfl) rfl
theorem q377 : (Jvm.Cond.superclass "Rollover$Account" "java/lang/Object") ∈ lw_all := lw_g (lw_at lw_m2 68 rfl) rfl
theorem q2116 : (Jvm.Cond.castable "Rollover$Account" "java/lang/Object") ∈ lw_tbl := lw_at lw_m9 127 rfl
theorem in_X13 : ∀ w ∈ wsX130, w ∈ lw_all := lw_in wsX130 [363, 365, 367, 369, 371, 373, 375] (by decide +kernel) (by decide +kernel)
/-! Rollover$Line -/
set_option maxRecDepth 100000
def RX14 : String := "Rollover$Line"
def TX14 : u_T := fun k => match k with
  | 0 => ("Rollover$Line", "isFree", "Z", false)
  | 1 => ("Rollover$Line", "counted", "I", false)
  | 2 => ("Rollover$Line", "own", "I", false)
  | 3 => ("Rollover$Line", "parents", "I", false)
  | 4 => ("Rollover$Line", "charged", "I", false)
  | _ => ("Rollover$Line", "charge", "I", false)
def tyX14 : Nat → FieldType := fun k => match k with
  | 0 => .boolean
  | 1 => .int
  | 2 => .int
  | 3 => .int
  | 4 => .int
  | _ => .int
abbrev wsX140 : List Cond := u_ws RX14 TX14 6
theorem nmX14 : ∀ a, a < 6 → ∀ b, b < 6 → a ≠ b → (TX14 a).2.1 ≠ (TX14 b).2.1 := by decide +kernel
theorem tyX14_ok : ∀ k, k < 6 → parseFieldDescriptor (TX14 k).2.2.1 = some (tyX14 k) := by decide +kernel
abbrev cX14_init : ByteArray := prog_7_method_1_code
def yX14_init : MethodName := ⟨RX14, "<init>", "()V"⟩
theorem dX14_init_0 : decode cX14_init 0 = .ok (.aload_n 0, 1) := by decide +kernel
theorem dX14_init_1 : decode cX14_init 1 = .ok (.invokespecial 1, 3) := by decide +kernel
theorem dX14_init_4 : decode cX14_init 4 = .ok (.return_, 1) := by decide +kernel
theorem q106 : (Jvm.Cond.initialized "Rollover$Line") ∈ lw_all := lw_g (lw_at lw_m1 37 rfl) rfl
theorem q236 : (Jvm.Cond.selects "Rollover$Line" ({ cls := "java/lang/Object", name := "getClass", desc := "()Ljava/lang/Class;" } : Jvm.MethodName) ({ cls := "java/lang/Object", name := "getClass", desc := "()Ljava/lang/Class;" } : Jvm.MethodName)) ∈ lw_all := lw_g (lw_at lw_m1 167 rfl) rfl
theorem q379 : (Jvm.Cond.instantiable "Rollover$Line" (6 : Nat)) ∈ lw_all := lw_g (lw_at lw_m2 70 rfl) rfl
theorem q381 : (Jvm.Cond.instanceMethod ({ cls := "Rollover$Line", name := "<init>", desc := "()V" } : Jvm.MethodName)) ∈ lw_all := lw_g (lw_at lw_m2 72 rfl) rfl
theorem q382 : (Jvm.Cond.code ({ cls := "Rollover$Line", name := "<init>", desc := "()V" } : Jvm.MethodName) prog_7_method_1_code (1 : Nat) (Option.none : Option Jvm.ClassFile.FieldType)) ∈ lw_all := lw_g (lw_at lw_m2 73 rfl) rfl
theorem q383 : (Jvm.Cond.methodLink "Rollover$Line" (1 : Nat) ({ cls := "java/lang/Object", name := "<init>", desc := "()V" } : Jvm.MethodName)) ∈ lw_all := lw_g (lw_at lw_m2 74 rfl) rfl
theorem q396 : (Jvm.Cond.lays "Rollover$Line" "Rollover$Line" "isFree" "Z") ∈ lw_all := lw_g (lw_at lw_m2 87 rfl) rfl
theorem q397 : (Jvm.Cond.soleField "Rollover$Line" "isFree") ∈ lw_all := lw_g (lw_at lw_m2 88 rfl) rfl
theorem q398 : (Jvm.Cond.lays "Rollover$Line" "Rollover$Line" "counted" "I") ∈ lw_all := lw_g (lw_at lw_m2 89 rfl) rfl
theorem q399 : (Jvm.Cond.soleField "Rollover$Line" "counted") ∈ lw_all := lw_g (lw_at lw_m2 90 rfl) rfl
theorem q400 : (Jvm.Cond.lays "Rollover$Line" "Rollover$Line" "own" "I") ∈ lw_all := lw_g (lw_at lw_m2 91 rfl) rfl
theorem q401 : (Jvm.Cond.soleField "Rollover$Line" "own") ∈ lw_all := lw_g (lw_at lw_m2 92 rfl) rfl
theorem q402 : (Jvm.Cond.lays "Rollover$Line" "Rollover$Line" "parents" "I") ∈ lw_all := lw_g (lw_at lw_m2 93 rfl) rfl
theorem q403 : (Jvm.Cond.soleField "Rollover$Line" "parents") ∈ lw_all := lw_g (lw_at lw_m2 94 rfl) rfl
theorem q404 : (Jvm.Cond.lays "Rollover$Line" "Rollover$Line" "charged" "I") ∈ lw_all := lw_g (lw_at lw_m2 95 rfl) rfl
theorem q405 : (Jvm.Cond.soleField "Rollover$Line" "charged") ∈ lw_all := lw_g (lw_at lw_m2 96 rfl) rfl
theorem q406 : (Jvm.Cond.lays "Rollover$Line" "Rollover$Line" "charge" "I") ∈ lw_all := lw_g (lw_at lw_m2 97 rfl) rfl
theorem q407 : (Jvm.Cond.soleField "Rollover$Line" "charge") ∈ lw_all := lw_g (lw_at lw_m2 98 rfl) rfl
theorem q408 : (Jvm.Cond.superclass "Rollover$Line" "java/lang/Object") ∈ lw_all := lw_g (lw_at lw_m2 99 rfl) rfl
theorem q2117 : (Jvm.Cond.castable "Rollover$Line" "java/lang/Object") ∈ lw_tbl := lw_at lw_m9 128 rfl
theorem in_X14 : ∀ w ∈ wsX140, w ∈ lw_all := lw_in wsX140 [396, 398, 400, 402, 404, 406] (by decide +kernel) (by decide +kernel)
/-! Rollover$Bucket -/
set_option maxRecDepth 100000
def RX15 : String := "Rollover$Bucket"
def TX15 : u_T := fun k => match k with
  | 0 => ("Rollover$Bucket", "last", "I", true)
  | _ => ("Rollover$Bucket", "seconds", "I", false)
def tyX15 : Nat → FieldType := fun k => match k with
  | 0 => .int
  | _ => .int
abbrev wsX150 : List Cond := u_ws RX15 TX15 2
theorem nmX15 : ∀ a, a < 2 → ∀ b, b < 2 → a ≠ b → (TX15 a).2.1 ≠ (TX15 b).2.1 := by decide +kernel
theorem tyX15_ok : ∀ k, k < 2 → parseFieldDescriptor (TX15 k).2.2.1 = some (tyX15 k) := by decide +kernel
abbrev cX15_init : ByteArray := prog_3_method_1_code
def yX15_init : MethodName := ⟨RX15, "<init>", "(II)V"⟩
def dkwX15_init_0 : List UInt8 := [42, 183, 0, 1, 42, 27, 181, 0, 7, 42, 28, 181, 0, 13, 177]
abbrev dktX15_init_0 : List UInt8 := dkwX15_init_0 ++ []
theorem dksX15_init_0 : cX15_init.data.toList.drop 0 = dktX15_init_0 := by decide +kernel
theorem dX15_init_0 : decode cX15_init 0 = .ok (.aload_n 0, 1) := dk_42 (dk_at dksX15_init_0 0 rfl rfl)
theorem dX15_init_1 : decode cX15_init 1 = .ok (.invokespecial 1, 3) := dk_183 0 1 (dk_at dksX15_init_0 1 rfl rfl)
theorem dX15_init_4 : decode cX15_init 4 = .ok (.aload_n 0, 1) := dk_42 (dk_at dksX15_init_0 4 rfl rfl)
theorem dX15_init_5 : decode cX15_init 5 = .ok (.iload_n 1, 1) := dk_27 (dk_at dksX15_init_0 5 rfl rfl)
theorem dX15_init_6 : decode cX15_init 6 = .ok (.putfield 7, 3) := dk_181 0 7 (dk_at dksX15_init_0 6 rfl rfl)
theorem dX15_init_9 : decode cX15_init 9 = .ok (.aload_n 0, 1) := dk_42 (dk_at dksX15_init_0 9 rfl rfl)
theorem dX15_init_10 : decode cX15_init 10 = .ok (.iload_n 2, 1) := dk_28 (dk_at dksX15_init_0 10 rfl rfl)
theorem dX15_init_11 : decode cX15_init 11 = .ok (.putfield 13, 3) := dk_181 0 13 (dk_at dksX15_init_0 11 rfl rfl)
theorem dX15_init_14 : decode cX15_init 14 = .ok (.return_, 1) := dk_177 (dk_at dksX15_init_0 14 rfl rfl)
theorem q107 : (Jvm.Cond.initialized "Rollover$Bucket") ∈ lw_all := lw_g (lw_at lw_m1 38 rfl) rfl
theorem q232 : (Jvm.Cond.selects "Rollover$Bucket" ({ cls := "java/lang/Object", name := "getClass", desc := "()Ljava/lang/Class;" } : Jvm.MethodName) ({ cls := "java/lang/Object", name := "getClass", desc := "()Ljava/lang/Class;" } : Jvm.MethodName)) ∈ lw_all := lw_g (lw_at lw_m1 163 rfl) rfl
theorem q473 : (Jvm.Cond.instantiable "Rollover$Bucket" (2 : Nat)) ∈ lw_all := lw_g (lw_at lw_m2 164 rfl) rfl
theorem q475 : (Jvm.Cond.instanceMethod ({ cls := "Rollover$Bucket", name := "<init>", desc := "(II)V" } : Jvm.MethodName)) ∈ lw_all := lw_g (lw_at lw_m2 166 rfl) rfl
theorem q476 : (Jvm.Cond.code ({ cls := "Rollover$Bucket", name := "<init>", desc := "(II)V" } : Jvm.MethodName) prog_3_method_1_code (3 : Nat) (Option.none : Option Jvm.ClassFile.FieldType)) ∈ lw_all := lw_g (lw_at lw_m2 167 rfl) rfl
theorem q477 : (Jvm.Cond.methodLink "Rollover$Bucket" (1 : Nat) ({ cls := "java/lang/Object", name := "<init>", desc := "()V" } : Jvm.MethodName)) ∈ lw_all := lw_g (lw_at lw_m2 168 rfl) rfl
theorem q478 : (Jvm.Cond.fieldLink "Rollover$Bucket" (13 : Nat) "Rollover$Bucket" "last" "I") ∈ lw_all := lw_g (lw_at lw_m2 169 rfl) rfl
theorem q480 : (Jvm.Cond.fieldLink "Rollover$Bucket" (7 : Nat) "Rollover$Bucket" "seconds" "I") ∈ lw_all := lw_g (lw_at lw_m2 171 rfl) rfl
theorem q482 : (Jvm.Cond.laysFinal "Rollover$Bucket" "Rollover$Bucket" "last" "I") ∈ lw_all := lw_g (lw_at lw_m2 173 rfl) rfl
theorem q483 : (Jvm.Cond.soleField "Rollover$Bucket" "last") ∈ lw_all := lw_g (lw_at lw_m2 174 rfl) rfl
theorem q484 : (Jvm.Cond.lays "Rollover$Bucket" "Rollover$Bucket" "seconds" "I") ∈ lw_all := lw_g (lw_at lw_m2 175 rfl) rfl
theorem q485 : (Jvm.Cond.soleField "Rollover$Bucket" "seconds") ∈ lw_all := lw_g (lw_at lw_m2 176 rfl) rfl
theorem q486 : (Jvm.Cond.superclass "Rollover$Bucket" "java/lang/Object") ∈ lw_all := lw_g (lw_at lw_m2 177 rfl) rfl
theorem q2118 : (Jvm.Cond.castable "Rollover$Bucket" "java/lang/Object") ∈ lw_tbl := lw_at lw_m9 129 rfl
theorem in_X15 : ∀ w ∈ wsX150, w ∈ lw_all := lw_in wsX150 [482, 484] (by decide +kernel) (by decide +kernel)
/-! RolloverModel$Book -/
set_option maxRecDepth 100000
def RX16 : String := "RolloverModel$Book"
def TX16 : u_T := fun k => match k with
  | 0 => ("RolloverModel$Book", "all", "Ljava/util/ArrayList;", true)
  | 1 => ("RolloverModel$Book", "buckets", "Ljava/util/ArrayList;", true)
  | 2 => ("RolloverModel$Book", "rows", "[[I", false)
  | 3 => ("RolloverModel$Book", "who", "I", false)
  | _ => ("RolloverModel$Book", "plan", "I", false)
def tyX16 : Nat → FieldType := fun k => match k with
  | 0 => .object "java/util/ArrayList"
  | 1 => .object "java/util/ArrayList"
  | 2 => .array (.array .int)
  | 3 => .int
  | _ => .int
abbrev wsX160 : List Cond := u_ws RX16 TX16 5
theorem nmX16 : ∀ a, a < 5 → ∀ b, b < 5 → a ≠ b → (TX16 a).2.1 ≠ (TX16 b).2.1 := by decide +kernel
theorem tyX16_ok : ∀ k, k < 5 → parseFieldDescriptor (TX16 k).2.2.1 = some (tyX16 k) := by decide +kernel
abbrev cX16_init : ByteArray := prog_16_method_1_code
def yX16_init : MethodName := ⟨RX16, "<init>", "()V"⟩
def dkwX16_init_1 : List UInt8 := [181, 0, 18, 42, 2, 181, 0, 21, 177]
abbrev dktX16_init_1 : List UInt8 := dkwX16_init_1 ++ []
def dkwX16_init_0 : List UInt8 := [42, 183, 0, 3, 42, 187, 0, 9, 89, 183, 0, 11, 181, 0, 12, 42, 187, 0, 9, 89, 183, 0, 11]
abbrev dktX16_init_0 : List UInt8 := dkwX16_init_0 ++ dktX16_init_1
theorem dksX16_init_0 : cX16_init.data.toList.drop 0 = dktX16_init_0 := by decide +kernel
theorem dksX16_init_1 : cX16_init.data.toList.drop 23 = dktX16_init_1 := dk_seg dksX16_init_0 23 rfl rfl
theorem dX16_init_0 : decode cX16_init 0 = .ok (.aload_n 0, 1) := dk_42 (dk_at dksX16_init_0 0 rfl rfl)
theorem dX16_init_1 : decode cX16_init 1 = .ok (.invokespecial 3, 3) := dk_183 0 3 (dk_at dksX16_init_0 1 rfl rfl)
theorem dX16_init_4 : decode cX16_init 4 = .ok (.aload_n 0, 1) := dk_42 (dk_at dksX16_init_0 4 rfl rfl)
theorem dX16_init_5 : decode cX16_init 5 = .ok (.new 9, 3) := dk_187 0 9 (dk_at dksX16_init_0 5 rfl rfl)
theorem dX16_init_8 : decode cX16_init 8 = .ok (.dup, 1) := dk_89 (dk_at dksX16_init_0 8 rfl rfl)
theorem dX16_init_9 : decode cX16_init 9 = .ok (.invokespecial 11, 3) := dk_183 0 11 (dk_at dksX16_init_0 9 rfl rfl)
theorem dX16_init_12 : decode cX16_init 12 = .ok (.putfield 12, 3) := dk_181 0 12 (dk_at dksX16_init_0 12 rfl rfl)
theorem dX16_init_15 : decode cX16_init 15 = .ok (.aload_n 0, 1) := dk_42 (dk_at dksX16_init_0 15 rfl rfl)
theorem dX16_init_16 : decode cX16_init 16 = .ok (.new 9, 3) := dk_187 0 9 (dk_at dksX16_init_0 16 rfl rfl)
theorem dX16_init_19 : decode cX16_init 19 = .ok (.dup, 1) := dk_89 (dk_at dksX16_init_0 19 rfl rfl)
theorem dX16_init_20 : decode cX16_init 20 = .ok (.invokespecial 11, 3) := dk_183 0 11 (dk_at dksX16_init_0 20 rfl rfl)
theorem dX16_init_23 : decode cX16_init 23 = .ok (.putfield 18, 3) := dk_181 0 18 (dk_at dksX16_init_1 0 rfl rfl)
theorem dX16_init_26 : decode cX16_init 26 = .ok (.aload_n 0, 1) := dk_42 (dk_at dksX16_init_1 3 rfl rfl)
theorem dX16_init_27 : decode cX16_init 27 = .ok (.iconst (-1), 1) := dk_2 (dk_at dksX16_init_1 4 rfl rfl)
theorem dX16_init_28 : decode cX16_init 28 = .ok (.putfield 21, 3) := dk_181 0 21 (dk_at dksX16_init_1 5 rfl rfl)
theorem dX16_init_31 : decode cX16_init 31 = .ok (.return_, 1) := dk_177 (dk_at dksX16_init_1 8 rfl rfl)
abbrev cX16_summed : ByteArray := prog_16_method_2_code
def yX16_summed : MethodName := ⟨RX16, "summed", "(IIII)I"⟩
def dkwX16_summed_3 : List UInt8 := [167, 255, 192, 21, 5, 172]
abbrev dktX16_summed_3 : List UInt8 := dkwX16_summed_3 ++ []
def dkwX16_summed_2 : List UInt8 := [184, 0, 42, 153, 0, 18, 21, 5, 42, 180, 0, 25, 21, 6, 50, 21, 4, 46, 96, 54, 5, 132, 6, 1]
abbrev dktX16_summed_2 : List UInt8 := dkwX16_summed_2 ++ dktX16_summed_3
def dkwX16_summed_1 : List UInt8 := [182, 0, 29, 192, 0, 33, 58, 7, 25, 7, 27, 182, 0, 35, 153, 0, 31, 25, 7, 180, 0, 39, 28, 29]
abbrev dktX16_summed_1 : List UInt8 := dkwX16_summed_1 ++ dktX16_summed_2
def dkwX16_summed_0 : List UInt8 := [3, 54, 5, 3, 54, 6, 21, 6, 42, 180, 0, 25, 190, 162, 0, 60, 42, 180, 0, 12, 21, 6]
abbrev dktX16_summed_0 : List UInt8 := dkwX16_summed_0 ++ dktX16_summed_1
theorem dksX16_summed_0 : cX16_summed.data.toList.drop 0 = dktX16_summed_0 := by decide +kernel
theorem dksX16_summed_1 : cX16_summed.data.toList.drop 22 = dktX16_summed_1 := dk_seg dksX16_summed_0 22 rfl rfl
theorem dksX16_summed_2 : cX16_summed.data.toList.drop 46 = dktX16_summed_2 := dk_seg dksX16_summed_1 24 rfl rfl
theorem dksX16_summed_3 : cX16_summed.data.toList.drop 70 = dktX16_summed_3 := dk_seg dksX16_summed_2 24 rfl rfl
theorem dX16_summed_0 : decode cX16_summed 0 = .ok (.iconst 0, 1) := dk_3 (dk_at dksX16_summed_0 0 rfl rfl)
theorem dX16_summed_1 : decode cX16_summed 1 = .ok (.istore 5, 2) := dk_54 5 (dk_at dksX16_summed_0 1 rfl rfl)
theorem dX16_summed_3 : decode cX16_summed 3 = .ok (.iconst 0, 1) := dk_3 (dk_at dksX16_summed_0 3 rfl rfl)
theorem dX16_summed_4 : decode cX16_summed 4 = .ok (.istore 6, 2) := dk_54 6 (dk_at dksX16_summed_0 4 rfl rfl)
theorem dX16_summed_6 : decode cX16_summed 6 = .ok (.iload 6, 2) := dk_21 6 (dk_at dksX16_summed_0 6 rfl rfl)
theorem dX16_summed_8 : decode cX16_summed 8 = .ok (.aload_n 0, 1) := dk_42 (dk_at dksX16_summed_0 8 rfl rfl)
theorem dX16_summed_9 : decode cX16_summed 9 = .ok (.getfield 25, 3) := dk_180 0 25 (dk_at dksX16_summed_0 9 rfl rfl)
theorem dX16_summed_12 : decode cX16_summed 12 = .ok (.arraylength, 1) := dk_190 (dk_at dksX16_summed_0 12 rfl rfl)
theorem dX16_summed_13 : decode cX16_summed 13 = .ok (.if_icmp .ge 60, 3) := dk_162 0 60 (dk_at dksX16_summed_0 13 rfl rfl)
theorem dX16_summed_16 : decode cX16_summed 16 = .ok (.aload_n 0, 1) := dk_42 (dk_at dksX16_summed_0 16 rfl rfl)
theorem dX16_summed_17 : decode cX16_summed 17 = .ok (.getfield 12, 3) := dk_180 0 12 (dk_at dksX16_summed_0 17 rfl rfl)
theorem dX16_summed_20 : decode cX16_summed 20 = .ok (.iload 6, 2) := dk_21 6 (dk_at dksX16_summed_0 20 rfl rfl)
theorem dX16_summed_22 : decode cX16_summed 22 = .ok (.invokevirtual 29, 3) := dk_182 0 29 (dk_at dksX16_summed_1 0 rfl rfl)
theorem dX16_summed_25 : decode cX16_summed 25 = .ok (.checkcast 33, 3) := dk_192 0 33 (dk_at dksX16_summed_1 3 rfl rfl)
theorem dX16_summed_28 : decode cX16_summed 28 = .ok (.astore 7, 2) := dk_58 7 (dk_at dksX16_summed_1 6 rfl rfl)
theorem dX16_summed_30 : decode cX16_summed 30 = .ok (.aload 7, 2) := dk_25 7 (dk_at dksX16_summed_1 8 rfl rfl)
theorem dX16_summed_32 : decode cX16_summed 32 = .ok (.iload_n 1, 1) := dk_27 (dk_at dksX16_summed_1 10 rfl rfl)
theorem dX16_summed_33 : decode cX16_summed 33 = .ok (.invokevirtual 35, 3) := dk_182 0 35 (dk_at dksX16_summed_1 11 rfl rfl)
theorem dX16_summed_36 : decode cX16_summed 36 = .ok (.ifCond .eq 31, 3) := dk_153 0 31 (dk_at dksX16_summed_1 14 rfl rfl)
theorem dX16_summed_39 : decode cX16_summed 39 = .ok (.aload 7, 2) := dk_25 7 (dk_at dksX16_summed_1 17 rfl rfl)
theorem dX16_summed_41 : decode cX16_summed 41 = .ok (.getfield 39, 3) := dk_180 0 39 (dk_at dksX16_summed_1 19 rfl rfl)
theorem dX16_summed_44 : decode cX16_summed 44 = .ok (.iload_n 2, 1) := dk_28 (dk_at dksX16_summed_1 22 rfl rfl)
theorem dX16_summed_45 : decode cX16_summed 45 = .ok (.iload_n 3, 1) := dk_29 (dk_at dksX16_summed_1 23 rfl rfl)
theorem dX16_summed_46 : decode cX16_summed 46 = .ok (.invokestatic 42, 3) := dk_184 0 42 (dk_at dksX16_summed_2 0 rfl rfl)
theorem dX16_summed_49 : decode cX16_summed 49 = .ok (.ifCond .eq 18, 3) := dk_153 0 18 (dk_at dksX16_summed_2 3 rfl rfl)
theorem dX16_summed_52 : decode cX16_summed 52 = .ok (.iload 5, 2) := dk_21 5 (dk_at dksX16_summed_2 6 rfl rfl)
theorem dX16_summed_54 : decode cX16_summed 54 = .ok (.aload_n 0, 1) := dk_42 (dk_at dksX16_summed_2 8 rfl rfl)
theorem dX16_summed_55 : decode cX16_summed 55 = .ok (.getfield 25, 3) := dk_180 0 25 (dk_at dksX16_summed_2 9 rfl rfl)
theorem dX16_summed_58 : decode cX16_summed 58 = .ok (.iload 6, 2) := dk_21 6 (dk_at dksX16_summed_2 12 rfl rfl)
theorem dX16_summed_60 : decode cX16_summed 60 = .ok (.aaload, 1) := dk_50 (dk_at dksX16_summed_2 14 rfl rfl)
theorem dX16_summed_61 : decode cX16_summed 61 = .ok (.iload 4, 2) := dk_21 4 (dk_at dksX16_summed_2 15 rfl rfl)
theorem dX16_summed_63 : decode cX16_summed 63 = .ok (.iaload, 1) := dk_46 (dk_at dksX16_summed_2 17 rfl rfl)
theorem dX16_summed_64 : decode cX16_summed 64 = .ok (.iadd, 1) := dk_96 (dk_at dksX16_summed_2 18 rfl rfl)
theorem dX16_summed_65 : decode cX16_summed 65 = .ok (.istore 5, 2) := dk_54 5 (dk_at dksX16_summed_2 19 rfl rfl)
theorem dX16_summed_67 : decode cX16_summed 67 = .ok (.iinc 6 1, 3) := dk_132 6 1 (dk_at dksX16_summed_2 21 rfl rfl)
theorem dX16_summed_70 : decode cX16_summed 70 = .ok (.goto (-64), 3) := dk_167 255 192 (dk_at dksX16_summed_3 0 rfl rfl)
theorem dX16_summed_73 : decode cX16_summed 73 = .ok (.iload 5, 2) := dk_21 5 (dk_at dksX16_summed_3 3 rfl rfl)
theorem dX16_summed_75 : decode cX16_summed 75 = .ok (.ireturn, 1) := dk_172 (dk_at dksX16_summed_3 5 rfl rfl)
abbrev cX16_take : ByteArray := prog_16_method_3_code
def yX16_take : MethodName := ⟨RX16, "take", "(III)I"⟩
def dkwX16_take_5 : List UInt8 := [79, 21, 4, 21, 6, 96, 54, 4, 167, 255, 133, 21, 4, 172]
abbrev dktX16_take_5 : List UInt8 := dkwX16_take_5 ++ []
def dkwX16_take_4 : List UInt8 := [21, 4, 172, 29, 21, 4, 100, 25, 5, 4, 46, 184, 0, 62, 54, 6, 25, 5, 4, 92, 46, 21, 6, 100]
abbrev dktX16_take_4 : List UInt8 := dkwX16_take_4 ++ dktX16_take_5
def dkwX16_take_3 : List UInt8 := [25, 7, 5, 46, 25, 5, 5, 46, 162, 0, 7, 25, 7, 58, 5, 167, 255, 191, 25, 5, 199, 0, 6]
abbrev dktX16_take_3 : List UInt8 := dkwX16_take_3 ++ dktX16_take_4
def dkwX16_take_2 : List UInt8 := [27, 160, 0, 38, 25, 7, 4, 46, 158, 0, 31, 25, 7, 5, 46, 28, 161, 0, 23, 25, 5, 198, 0, 14]
abbrev dktX16_take_2 : List UInt8 := dkwX16_take_2 ++ dktX16_take_3
def dkwX16_take_1 : List UInt8 := [185, 0, 50, 1, 0, 153, 0, 61, 25, 6, 185, 0, 56, 1, 0, 192, 0, 60, 58, 7, 25, 7, 3, 46]
abbrev dktX16_take_1 : List UInt8 := dkwX16_take_1 ++ dktX16_take_2
def dkwX16_take_0 : List UInt8 := [3, 54, 4, 21, 4, 29, 162, 0, 123, 1, 58, 5, 42, 180, 0, 18, 182, 0, 46, 58, 6, 25, 6]
abbrev dktX16_take_0 : List UInt8 := dkwX16_take_0 ++ dktX16_take_1
theorem dksX16_take_0 : cX16_take.data.toList.drop 0 = dktX16_take_0 := by decide +kernel
theorem dksX16_take_1 : cX16_take.data.toList.drop 23 = dktX16_take_1 := dk_seg dksX16_take_0 23 rfl rfl
theorem dksX16_take_2 : cX16_take.data.toList.drop 47 = dktX16_take_2 := dk_seg dksX16_take_1 24 rfl rfl
theorem dksX16_take_3 : cX16_take.data.toList.drop 71 = dktX16_take_3 := dk_seg dksX16_take_2 24 rfl rfl
theorem dksX16_take_4 : cX16_take.data.toList.drop 94 = dktX16_take_4 := dk_seg dksX16_take_3 23 rfl rfl
theorem dksX16_take_5 : cX16_take.data.toList.drop 118 = dktX16_take_5 := dk_seg dksX16_take_4 24 rfl rfl
theorem dX16_take_0 : decode cX16_take 0 = .ok (.iconst 0, 1) := dk_3 (dk_at dksX16_take_0 0 rfl rfl)
theorem dX16_take_1 : decode cX16_take 1 = .ok (.istore 4, 2) := dk_54 4 (dk_at dksX16_take_0 1 rfl rfl)
theorem dX16_take_3 : decode cX16_take 3 = .ok (.iload 4, 2) := dk_21 4 (dk_at dksX16_take_0 3 rfl rfl)
theorem dX16_take_5 : decode cX16_take 5 = .ok (.iload_n 3, 1) := dk_29 (dk_at dksX16_take_0 5 rfl rfl)
theorem dX16_take_6 : decode cX16_take 6 = .ok (.if_icmp .ge 123, 3) := dk_162 0 123 (dk_at dksX16_take_0 6 rfl rfl)
theorem dX16_take_9 : decode cX16_take 9 = .ok (.aconst_null, 1) := dk_1 (dk_at dksX16_take_0 9 rfl rfl)
theorem dX16_take_10 : decode cX16_take 10 = .ok (.astore 5, 2) := dk_58 5 (dk_at dksX16_take_0 10 rfl rfl)
theorem dX16_take_12 : decode cX16_take 12 = .ok (.aload_n 0, 1) := dk_42 (dk_at dksX16_take_0 12 rfl rfl)
theorem dX16_take_13 : decode cX16_take 13 = .ok (.getfield 18, 3) := dk_180 0 18 (dk_at dksX16_take_0 13 rfl rfl)
theorem dX16_take_16 : decode cX16_take 16 = .ok (.invokevirtual 46, 3) := dk_182 0 46 (dk_at dksX16_take_0 16 rfl rfl)
theorem dX16_take_19 : decode cX16_take 19 = .ok (.astore 6, 2) := dk_58 6 (dk_at dksX16_take_0 19 rfl rfl)
theorem dX16_take_21 : decode cX16_take 21 = .ok (.aload 6, 2) := dk_25 6 (dk_at dksX16_take_0 21 rfl rfl)
theorem dX16_take_23 : decode cX16_take 23 = .ok (.invokeinterface 50 1, 5) := by decide +kernel
theorem dX16_take_28 : decode cX16_take 28 = .ok (.ifCond .eq 61, 3) := dk_153 0 61 (dk_at dksX16_take_1 5 rfl rfl)
theorem dX16_take_31 : decode cX16_take 31 = .ok (.aload 6, 2) := dk_25 6 (dk_at dksX16_take_1 8 rfl rfl)
theorem dX16_take_33 : decode cX16_take 33 = .ok (.invokeinterface 56 1, 5) := by decide +kernel
theorem dX16_take_38 : decode cX16_take 38 = .ok (.checkcast 60, 3) := dk_192 0 60 (dk_at dksX16_take_1 15 rfl rfl)
theorem dX16_take_41 : decode cX16_take 41 = .ok (.astore 7, 2) := dk_58 7 (dk_at dksX16_take_1 18 rfl rfl)
theorem dX16_take_43 : decode cX16_take 43 = .ok (.aload 7, 2) := dk_25 7 (dk_at dksX16_take_1 20 rfl rfl)
theorem dX16_take_45 : decode cX16_take 45 = .ok (.iconst 0, 1) := dk_3 (dk_at dksX16_take_1 22 rfl rfl)
theorem dX16_take_46 : decode cX16_take 46 = .ok (.iaload, 1) := dk_46 (dk_at dksX16_take_1 23 rfl rfl)
theorem dX16_take_47 : decode cX16_take 47 = .ok (.iload_n 1, 1) := dk_27 (dk_at dksX16_take_2 0 rfl rfl)
theorem dX16_take_48 : decode cX16_take 48 = .ok (.if_icmp .ne 38, 3) := dk_160 0 38 (dk_at dksX16_take_2 1 rfl rfl)
theorem dX16_take_51 : decode cX16_take 51 = .ok (.aload 7, 2) := dk_25 7 (dk_at dksX16_take_2 4 rfl rfl)
theorem dX16_take_53 : decode cX16_take 53 = .ok (.iconst 1, 1) := dk_4 (dk_at dksX16_take_2 6 rfl rfl)
theorem dX16_take_54 : decode cX16_take 54 = .ok (.iaload, 1) := dk_46 (dk_at dksX16_take_2 7 rfl rfl)
theorem dX16_take_55 : decode cX16_take 55 = .ok (.ifCond .le 31, 3) := dk_158 0 31 (dk_at dksX16_take_2 8 rfl rfl)
theorem dX16_take_58 : decode cX16_take 58 = .ok (.aload 7, 2) := dk_25 7 (dk_at dksX16_take_2 11 rfl rfl)
theorem dX16_take_60 : decode cX16_take 60 = .ok (.iconst 2, 1) := dk_5 (dk_at dksX16_take_2 13 rfl rfl)
theorem dX16_take_61 : decode cX16_take 61 = .ok (.iaload, 1) := dk_46 (dk_at dksX16_take_2 14 rfl rfl)
theorem dX16_take_62 : decode cX16_take 62 = .ok (.iload_n 2, 1) := dk_28 (dk_at dksX16_take_2 15 rfl rfl)
theorem dX16_take_63 : decode cX16_take 63 = .ok (.if_icmp .lt 23, 3) := dk_161 0 23 (dk_at dksX16_take_2 16 rfl rfl)
theorem dX16_take_66 : decode cX16_take 66 = .ok (.aload 5, 2) := dk_25 5 (dk_at dksX16_take_2 19 rfl rfl)
theorem dX16_take_68 : decode cX16_take 68 = .ok (.ifnull 14, 3) := dk_198 0 14 (dk_at dksX16_take_2 21 rfl rfl)
theorem dX16_take_71 : decode cX16_take 71 = .ok (.aload 7, 2) := dk_25 7 (dk_at dksX16_take_3 0 rfl rfl)
theorem dX16_take_73 : decode cX16_take 73 = .ok (.iconst 2, 1) := dk_5 (dk_at dksX16_take_3 2 rfl rfl)
theorem dX16_take_74 : decode cX16_take 74 = .ok (.iaload, 1) := dk_46 (dk_at dksX16_take_3 3 rfl rfl)
theorem dX16_take_75 : decode cX16_take 75 = .ok (.aload 5, 2) := dk_25 5 (dk_at dksX16_take_3 4 rfl rfl)
theorem dX16_take_77 : decode cX16_take 77 = .ok (.iconst 2, 1) := dk_5 (dk_at dksX16_take_3 6 rfl rfl)
theorem dX16_take_78 : decode cX16_take 78 = .ok (.iaload, 1) := dk_46 (dk_at dksX16_take_3 7 rfl rfl)
theorem dX16_take_79 : decode cX16_take 79 = .ok (.if_icmp .ge 7, 3) := dk_162 0 7 (dk_at dksX16_take_3 8 rfl rfl)
theorem dX16_take_82 : decode cX16_take 82 = .ok (.aload 7, 2) := dk_25 7 (dk_at dksX16_take_3 11 rfl rfl)
theorem dX16_take_84 : decode cX16_take 84 = .ok (.astore 5, 2) := dk_58 5 (dk_at dksX16_take_3 13 rfl rfl)
theorem dX16_take_86 : decode cX16_take 86 = .ok (.goto (-65), 3) := dk_167 255 191 (dk_at dksX16_take_3 15 rfl rfl)
theorem dX16_take_89 : decode cX16_take 89 = .ok (.aload 5, 2) := dk_25 5 (dk_at dksX16_take_3 18 rfl rfl)
theorem dX16_take_91 : decode cX16_take 91 = .ok (.ifnonnull 6, 3) := dk_199 0 6 (dk_at dksX16_take_3 20 rfl rfl)
theorem dX16_take_94 : decode cX16_take 94 = .ok (.iload 4, 2) := dk_21 4 (dk_at dksX16_take_4 0 rfl rfl)
theorem dX16_take_96 : decode cX16_take 96 = .ok (.ireturn, 1) := dk_172 (dk_at dksX16_take_4 2 rfl rfl)
theorem dX16_take_97 : decode cX16_take 97 = .ok (.iload_n 3, 1) := dk_29 (dk_at dksX16_take_4 3 rfl rfl)
theorem dX16_take_98 : decode cX16_take 98 = .ok (.iload 4, 2) := dk_21 4 (dk_at dksX16_take_4 4 rfl rfl)
theorem dX16_take_100 : decode cX16_take 100 = .ok (.isub, 1) := dk_100 (dk_at dksX16_take_4 6 rfl rfl)
theorem dX16_take_101 : decode cX16_take 101 = .ok (.aload 5, 2) := dk_25 5 (dk_at dksX16_take_4 7 rfl rfl)
theorem dX16_take_103 : decode cX16_take 103 = .ok (.iconst 1, 1) := dk_4 (dk_at dksX16_take_4 9 rfl rfl)
theorem dX16_take_104 : decode cX16_take 104 = .ok (.iaload, 1) := dk_46 (dk_at dksX16_take_4 10 rfl rfl)
theorem dX16_take_105 : decode cX16_take 105 = .ok (.invokestatic 62, 3) := dk_184 0 62 (dk_at dksX16_take_4 11 rfl rfl)
theorem dX16_take_108 : decode cX16_take 108 = .ok (.istore 6, 2) := dk_54 6 (dk_at dksX16_take_4 14 rfl rfl)
theorem dX16_take_110 : decode cX16_take 110 = .ok (.aload 5, 2) := dk_25 5 (dk_at dksX16_take_4 16 rfl rfl)
theorem dX16_take_112 : decode cX16_take 112 = .ok (.iconst 1, 1) := dk_4 (dk_at dksX16_take_4 18 rfl rfl)
theorem dX16_take_113 : decode cX16_take 113 = .ok (.dup2, 1) := dk_92 (dk_at dksX16_take_4 19 rfl rfl)
theorem dX16_take_114 : decode cX16_take 114 = .ok (.iaload, 1) := dk_46 (dk_at dksX16_take_4 20 rfl rfl)
theorem dX16_take_115 : decode cX16_take 115 = .ok (.iload 6, 2) := dk_21 6 (dk_at dksX16_take_4 21 rfl rfl)
theorem dX16_take_117 : decode cX16_take 117 = .ok (.isub, 1) := dk_100 (dk_at dksX16_take_4 23 rfl rfl)
theorem dX16_take_118 : decode cX16_take 118 = .ok (.iastore, 1) := dk_79 (dk_at dksX16_take_5 0 rfl rfl)
theorem dX16_take_119 : decode cX16_take 119 = .ok (.iload 4, 2) := dk_21 4 (dk_at dksX16_take_5 1 rfl rfl)
theorem dX16_take_121 : decode cX16_take 121 = .ok (.iload 6, 2) := dk_21 6 (dk_at dksX16_take_5 3 rfl rfl)
theorem dX16_take_123 : decode cX16_take 123 = .ok (.iadd, 1) := dk_96 (dk_at dksX16_take_5 5 rfl rfl)
theorem dX16_take_124 : decode cX16_take 124 = .ok (.istore 4, 2) := dk_54 4 (dk_at dksX16_take_5 6 rfl rfl)
theorem dX16_take_126 : decode cX16_take 126 = .ok (.goto (-123), 3) := dk_167 255 133 (dk_at dksX16_take_5 8 rfl rfl)
theorem dX16_take_129 : decode cX16_take 129 = .ok (.iload 4, 2) := dk_21 4 (dk_at dksX16_take_5 11 rfl rfl)
theorem dX16_take_131 : decode cX16_take 131 = .ok (.ireturn, 1) := dk_172 (dk_at dksX16_take_5 13 rfl rfl)
theorem q109 : (Jvm.Cond.initialized "RolloverModel$Book") ∈ lw_all := lw_g (lw_at lw_m1 40 rfl) rfl
theorem q244 : (Jvm.Cond.selects "RolloverModel$Book" ({ cls := "java/lang/Object", name := "getClass", desc := "()Ljava/lang/Class;" } : Jvm.MethodName) ({ cls := "java/lang/Object", name := "getClass", desc := "()Ljava/lang/Class;" } : Jvm.MethodName)) ∈ lw_all := lw_g (lw_at lw_m1 175 rfl) rfl
theorem q1781 : (Jvm.Cond.fieldLink "RolloverModel$Book" (39 : Nat) "RolloverModel$Ticket" "day" "I") ∈ lw_all := lw_g (lw_at lw_m8 32 rfl) rfl
theorem q1841 : (Jvm.Cond.instantiable "RolloverModel$Book" (5 : Nat)) ∈ lw_all := lw_g (lw_at lw_m8 92 rfl) rfl
theorem q1843 : (Jvm.Cond.instanceMethod ({ cls := "RolloverModel$Book", name := "<init>", desc := "()V" } : Jvm.MethodName)) ∈ lw_all := lw_g (lw_at lw_m8 94 rfl) rfl
theorem q1844 : (Jvm.Cond.code ({ cls := "RolloverModel$Book", name := "<init>", desc := "()V" } : Jvm.MethodName) prog_16_method_1_code (1 : Nat) (Option.none : Option Jvm.ClassFile.FieldType)) ∈ lw_all := lw_g (lw_at lw_m8 95 rfl) rfl
theorem q1845 : (Jvm.Cond.methodLink "RolloverModel$Book" (3 : Nat) ({ cls := "java/lang/Object", name := "<init>", desc := "()V" } : Jvm.MethodName)) ∈ lw_all := lw_g (lw_at lw_m8 96 rfl) rfl
theorem q1846 : (Jvm.Cond.classLink "RolloverModel$Book" (9 : Nat) "java/util/ArrayList") ∈ lw_all := lw_g (lw_at lw_m8 97 rfl) rfl
theorem q1847 : (Jvm.Cond.methodLink "RolloverModel$Book" (11 : Nat) ({ cls := "java/util/ArrayList", name := "<init>", desc := "()V" } : Jvm.MethodName)) ∈ lw_all := lw_g (lw_at lw_m8 98 rfl) rfl
theorem q1848 : (Jvm.Cond.fieldLink "RolloverModel$Book" (12 : Nat) "RolloverModel$Book" "all" "Ljava/util/ArrayList;") ∈ lw_all := lw_g (lw_at lw_m8 99 rfl) rfl
theorem q1850 : (Jvm.Cond.fieldLink "RolloverModel$Book" (18 : Nat) "RolloverModel$Book" "buckets" "Ljava/util/ArrayList;") ∈ lw_all := lw_g (lw_at lw_m8 101 rfl) rfl
theorem q1852 : (Jvm.Cond.fieldLink "RolloverModel$Book" (25 : Nat) "RolloverModel$Book" "rows" "[[I") ∈ lw_all := lw_g (lw_at lw_m8 103 rfl) rfl
theorem q1854 : (Jvm.Cond.fieldLink "RolloverModel$Book" (21 : Nat) "RolloverModel$Book" "who" "I") ∈ lw_all := lw_g (lw_at lw_m8 105 rfl) rfl
theorem q1857 : (Jvm.Cond.laysFinal "RolloverModel$Book" "RolloverModel$Book" "all" "Ljava/util/ArrayList;") ∈ lw_all := lw_g (lw_at lw_m8 108 rfl) rfl
theorem q1858 : (Jvm.Cond.soleField "RolloverModel$Book" "all") ∈ lw_all := lw_g (lw_at lw_m8 109 rfl) rfl
theorem q1859 : (Jvm.Cond.laysFinal "RolloverModel$Book" "RolloverModel$Book" "buckets" "Ljava/util/ArrayList;") ∈ lw_all := lw_g (lw_at lw_m8 110 rfl) rfl
theorem q1860 : (Jvm.Cond.soleField "RolloverModel$Book" "buckets") ∈ lw_all := lw_g (lw_at lw_m8 111 rfl) rfl
theorem q1861 : (Jvm.Cond.lays "RolloverModel$Book" "RolloverModel$Book" "rows" "[[I") ∈ lw_all := lw_g (lw_at lw_m8 112 rfl) rfl
theorem q1862 : (Jvm.Cond.soleField "RolloverModel$Book" "rows") ∈ lw_all := lw_g (lw_at lw_m8 113 rfl) rfl
theorem q1863 : (Jvm.Cond.lays "RolloverModel$Book" "RolloverModel$Book" "who" "I") ∈ lw_all := lw_g (lw_at lw_m8 114 rfl) rfl
theorem q1864 : (Jvm.Cond.soleField "RolloverModel$Book" "who") ∈ lw_all := lw_g (lw_at lw_m8 115 rfl) rfl
theorem q1865 : (Jvm.Cond.lays "RolloverModel$Book" "RolloverModel$Book" "plan" "I") ∈ lw_all := lw_g (lw_at lw_m8 116 rfl) rfl
theorem q1866 : (Jvm.Cond.soleField "RolloverModel$Book" "plan") ∈ lw_all := lw_g (lw_at lw_m8 117 rfl) rfl
theorem q1867 : (Jvm.Cond.superclass "RolloverModel$Book" "java/lang/Object") ∈ lw_all := lw_g (lw_at lw_m8 118 rfl) rfl
theorem q1907 : (Jvm.Cond.instanceMethod ({ cls := "RolloverModel$Book", name := "summed", desc := "(IIII)I" } : Jvm.MethodName)) ∈ lw_all := lw_g (lw_at lw_m8 158 rfl) rfl
theorem q1908 : (Jvm.Cond.selects "RolloverModel$Book" ({ cls := "RolloverModel$Book", name := "summed", desc := "(IIII)I" } : Jvm.MethodName) ({ cls := "RolloverModel$Book", name := "summed", desc := "(IIII)I" } : Jvm.MethodName)) ∈ lw_all := lw_g (lw_at lw_m8 159 rfl) rfl
theorem q1909 : (Jvm.Cond.code ({ cls := "RolloverModel$Book", name := "summed", desc := "(IIII)I" } : Jvm.MethodName) prog_16_method_2_code (8 : Nat) (Option.some Jvm.ClassFile.FieldType.int)) ∈ lw_all := lw_g (lw_at lw_m8 160 rfl) rfl
theorem q1910 : (Jvm.Cond.methodLink "RolloverModel$Book" (29 : Nat) ({ cls := "java/util/ArrayList", name := "get", desc := "(I)Ljava/lang/Object;" } : Jvm.MethodName)) ∈ lw_all := lw_g (lw_at lw_m8 161 rfl) rfl
theorem q1911 : (Jvm.Cond.classLink "RolloverModel$Book" (33 : Nat) "RolloverModel$Ticket") ∈ lw_all := lw_g (lw_at lw_m8 162 rfl) rfl
theorem q1912 : (Jvm.Cond.methodLink "RolloverModel$Book" (35 : Nat) ({ cls := "RolloverModel$Ticket", name := "isCallOf", desc := "(I)Z" } : Jvm.MethodName)) ∈ lw_all := lw_g (lw_at lw_m8 163 rfl) rfl
theorem q1916 : (Jvm.Cond.methodLinkNest "RolloverModel$Book" (42 : Nat) ({ cls := "RolloverModel", name := "isIn", desc := "(III)Z" } : Jvm.MethodName) "RolloverModel") ∈ lw_tbl := lw_at lw_m8 167 rfl
theorem q1922 : (Jvm.Cond.instanceMethod ({ cls := "RolloverModel$Book", name := "take", desc := "(III)I" } : Jvm.MethodName)) ∈ lw_all := lw_g (lw_at lw_m8 173 rfl) rfl
theorem q1923 : (Jvm.Cond.selects "RolloverModel$Book" ({ cls := "RolloverModel$Book", name := "take", desc := "(III)I" } : Jvm.MethodName) ({ cls := "RolloverModel$Book", name := "take", desc := "(III)I" } : Jvm.MethodName)) ∈ lw_all := lw_g (lw_at lw_m8 174 rfl) rfl
theorem q1924 : (Jvm.Cond.code ({ cls := "RolloverModel$Book", name := "take", desc := "(III)I" } : Jvm.MethodName) prog_16_method_3_code (8 : Nat) (Option.some Jvm.ClassFile.FieldType.int)) ∈ lw_all := lw_g (lw_at lw_m8 175 rfl) rfl
theorem q1925 : (Jvm.Cond.methodLink "RolloverModel$Book" (46 : Nat) ({ cls := "java/util/ArrayList", name := "iterator", desc := "()Ljava/util/Iterator;" } : Jvm.MethodName)) ∈ lw_all := lw_g (lw_at lw_m8 176 rfl) rfl
theorem q1926 : (Jvm.Cond.interfaceEntry "RolloverModel$Book" (50 : Nat)) ∈ lw_tbl := lw_at lw_m8 177 rfl
theorem q1927 : (Jvm.Cond.methodLink "RolloverModel$Book" (50 : Nat) ({ cls := "java/util/Iterator", name := "hasNext", desc := "()Z" } : Jvm.MethodName)) ∈ lw_all := lw_g (lw_at lw_m8 178 rfl) rfl
theorem q1928 : (Jvm.Cond.interfaceEntry "RolloverModel$Book" (56 : Nat)) ∈ lw_tbl := lw_at lw_m8 179 rfl
theorem q1929 : (Jvm.Cond.methodLink "RolloverModel$Book" (56 : Nat) ({ cls := "java/util/Iterator", name := "next", desc := "()Ljava/lang/Object;" } : Jvm.MethodName)) ∈ lw_all := lw_g (lw_at lw_m8 180 rfl) rfl
theorem q1930 : (Jvm.Cond.classLink "RolloverModel$Book" (60 : Nat) "[I") ∈ lw_all := lw_g (lw_at lw_m8 181 rfl) rfl
theorem q1931 : (Jvm.Cond.methodLink "RolloverModel$Book" (62 : Nat) ({ cls := "java/lang/Math", name := "min", desc := "(II)I" } : Jvm.MethodName)) ∈ lw_all := lw_g (lw_at lw_m8 182 rfl) rfl
theorem q2120 : (Jvm.Cond.castable "RolloverModel$Book" "java/lang/Object") ∈ lw_tbl := lw_at lw_m9 131 rfl
theorem in_X16 : ∀ w ∈ wsX160, w ∈ lw_all := lw_in wsX160 [1857, 1859, 1861, 1863, 1865] (by decide +kernel) (by decide +kernel)
/-! Rollover$Sum -/
set_option maxRecDepth 100000
def RX17 : String := "Rollover$Sum"
def TX17 : u_T := fun k => match k with
  | _ => ("Rollover$Sum", "total", "J", false)
def tyX17 : Nat → FieldType := fun k => match k with
  | _ => .long
abbrev wsX170 : List Cond := u_ws RX17 TX17 1
theorem nmX17 : ∀ a, a < 1 → ∀ b, b < 1 → a ≠ b → (TX17 a).2.1 ≠ (TX17 b).2.1 := by decide +kernel
theorem tyX17_ok : ∀ k, k < 1 → parseFieldDescriptor (TX17 k).2.2.1 = some (tyX17 k) := by decide +kernel
abbrev cX17_init : ByteArray := prog_11_method_1_code
def yX17_init : MethodName := ⟨RX17, "<init>", "()V"⟩
def dkwX17_init_0 : List UInt8 := [42, 183, 0, 1, 42, 20, 0, 7, 181, 0, 9, 177]
abbrev dktX17_init_0 : List UInt8 := dkwX17_init_0 ++ []
theorem dksX17_init_0 : cX17_init.data.toList.drop 0 = dktX17_init_0 := by decide +kernel
theorem dX17_init_0 : decode cX17_init 0 = .ok (.aload_n 0, 1) := dk_42 (dk_at dksX17_init_0 0 rfl rfl)
theorem dX17_init_1 : decode cX17_init 1 = .ok (.invokespecial 1, 3) := dk_183 0 1 (dk_at dksX17_init_0 1 rfl rfl)
theorem dX17_init_4 : decode cX17_init 4 = .ok (.aload_n 0, 1) := dk_42 (dk_at dksX17_init_0 4 rfl rfl)
theorem dX17_init_5 : decode cX17_init 5 = .ok (.ldc2_w 7, 3) := dk_20 0 7 (dk_at dksX17_init_0 5 rfl rfl)
theorem dX17_init_8 : decode cX17_init 8 = .ok (.putfield 9, 3) := dk_181 0 9 (dk_at dksX17_init_0 8 rfl rfl)
theorem dX17_init_11 : decode cX17_init 11 = .ok (.return_, 1) := dk_177 (dk_at dksX17_init_0 11 rfl rfl)
abbrev cX17_add : ByteArray := prog_11_method_2_code
def yX17_add : MethodName := ⟨RX17, "add", "(J)V"⟩
def dkwX17_add_0 : List UInt8 := [42, 42, 180, 0, 9, 20, 0, 15, 105, 31, 97, 181, 0, 9, 177]
abbrev dktX17_add_0 : List UInt8 := dkwX17_add_0 ++ []
theorem dksX17_add_0 : cX17_add.data.toList.drop 0 = dktX17_add_0 := by decide +kernel
theorem dX17_add_0 : decode cX17_add 0 = .ok (.aload_n 0, 1) := dk_42 (dk_at dksX17_add_0 0 rfl rfl)
theorem dX17_add_1 : decode cX17_add 1 = .ok (.aload_n 0, 1) := dk_42 (dk_at dksX17_add_0 1 rfl rfl)
theorem dX17_add_2 : decode cX17_add 2 = .ok (.getfield 9, 3) := dk_180 0 9 (dk_at dksX17_add_0 2 rfl rfl)
theorem dX17_add_5 : decode cX17_add 5 = .ok (.ldc2_w 15, 3) := dk_20 0 15 (dk_at dksX17_add_0 5 rfl rfl)
theorem dX17_add_8 : decode cX17_add 8 = .ok (.lmul, 1) := dk_105 (dk_at dksX17_add_0 8 rfl rfl)
theorem dX17_add_9 : decode cX17_add 9 = .ok (.lload_n 1, 1) := dk_31 (dk_at dksX17_add_0 9 rfl rfl)
theorem dX17_add_10 : decode cX17_add 10 = .ok (.ladd, 1) := dk_97 (dk_at dksX17_add_0 10 rfl rfl)
theorem dX17_add_11 : decode cX17_add 11 = .ok (.putfield 9, 3) := dk_181 0 9 (dk_at dksX17_add_0 11 rfl rfl)
theorem dX17_add_14 : decode cX17_add 14 = .ok (.return_, 1) := dk_177 (dk_at dksX17_add_0 14 rfl rfl)
theorem q114 : (Jvm.Cond.initialized "Rollover$Sum") ∈ lw_all := lw_g (lw_at lw_m1 45 rfl) rfl
theorem q240 : (Jvm.Cond.selects "Rollover$Sum" ({ cls := "java/lang/Object", name := "getClass", desc := "()Ljava/lang/Class;" } : Jvm.MethodName) ({ cls := "java/lang/Object", name := "getClass", desc := "()Ljava/lang/Class;" } : Jvm.MethodName)) ∈ lw_all := lw_g (lw_at lw_m1 171 rfl) rfl
theorem q624 : (Jvm.Cond.instantiable "Rollover$Sum" (1 : Nat)) ∈ lw_all := lw_g (lw_at lw_m3 75 rfl) rfl
theorem q626 : (Jvm.Cond.instanceMethod ({ cls := "Rollover$Sum", name := "<init>", desc := "()V" } : Jvm.MethodName)) ∈ lw_all := lw_g (lw_at lw_m3 77 rfl) rfl
theorem q627 : (Jvm.Cond.code ({ cls := "Rollover$Sum", name := "<init>", desc := "()V" } : Jvm.MethodName) prog_11_method_1_code (1 : Nat) (Option.none : Option Jvm.ClassFile.FieldType)) ∈ lw_all := lw_g (lw_at lw_m3 78 rfl) rfl
theorem q628 : (Jvm.Cond.methodLink "Rollover$Sum" (1 : Nat) ({ cls := "java/lang/Object", name := "<init>", desc := "()V" } : Jvm.MethodName)) ∈ lw_all := lw_g (lw_at lw_m3 79 rfl) rfl
theorem q629 : (Jvm.Cond.constantLong "Rollover$Sum" (7 : Nat) (8111 : Int64)) ∈ lw_all := lw_g (lw_at lw_m3 80 rfl) rfl
theorem q630 : (Jvm.Cond.fieldLink "Rollover$Sum" (9 : Nat) "Rollover$Sum" "total" "J") ∈ lw_all := lw_g (lw_at lw_m3 81 rfl) rfl
theorem q632 : (Jvm.Cond.lays "Rollover$Sum" "Rollover$Sum" "total" "J") ∈ lw_all := lw_g (lw_at lw_m3 83 rfl) rfl
theorem q633 : (Jvm.Cond.soleField "Rollover$Sum" "total") ∈ lw_all := lw_g (lw_at lw_m3 84 rfl) rfl
theorem q634 : (Jvm.Cond.superclass "Rollover$Sum" "java/lang/Object") ∈ lw_all := lw_g (lw_at lw_m3 85 rfl) rfl
theorem q709 : (Jvm.Cond.instanceMethod ({ cls := "Rollover$Sum", name := "add", desc := "(J)V" } : Jvm.MethodName)) ∈ lw_all := lw_g (lw_at lw_m3 160 rfl) rfl
theorem q710 : (Jvm.Cond.selects "Rollover$Sum" ({ cls := "Rollover$Sum", name := "add", desc := "(J)V" } : Jvm.MethodName) ({ cls := "Rollover$Sum", name := "add", desc := "(J)V" } : Jvm.MethodName)) ∈ lw_all := lw_g (lw_at lw_m3 161 rfl) rfl
theorem q711 : (Jvm.Cond.code ({ cls := "Rollover$Sum", name := "add", desc := "(J)V" } : Jvm.MethodName) prog_11_method_2_code (3 : Nat) (Option.none : Option Jvm.ClassFile.FieldType)) ∈ lw_all := lw_g (lw_at lw_m3 162 rfl) rfl
theorem q712 : (Jvm.Cond.constantLong "Rollover$Sum" (15 : Nat) (31 : Int64)) ∈ lw_all := lw_g (lw_at lw_m3 163 rfl) rfl
theorem q2123 : (Jvm.Cond.castable "Rollover$Sum" "java/lang/Object") ∈ lw_tbl := lw_at lw_m9 134 rfl
theorem in_X17 : ∀ w ∈ wsX170, w ∈ lw_all := lw_in wsX170 [632] (by decide +kernel) (by decide +kernel)

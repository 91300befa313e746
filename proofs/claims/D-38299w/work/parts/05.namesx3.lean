/-! RolloverModel -/
set_option maxRecDepth 100000
def RX3 : String := "RolloverModel"
def TX3 : u_T := fun k => match k with
  | 0 => ("RolloverModel", "thrown", "I", false)
  | 1 => ("RolloverModel", "today", "I", false)
  | 2 => ("RolloverModel", "doubled", "I", false)
  | 3 => ("RolloverModel", "plans", "Ljava/util/ArrayList;", true)
  | 4 => ("RolloverModel", "customers", "Ljava/util/ArrayList;", true)
  | 5 => ("RolloverModel", "changes", "Ljava/util/ArrayList;", true)
  | 6 => ("RolloverModel", "tickets", "Ljava/util/ArrayList;", true)
  | 7 => ("RolloverModel", "portings", "Ljava/util/ArrayList;", true)
  | _ => ("RolloverModel", "incoming", "[I", true)
def tyX3 : Nat → FieldType := fun k => match k with
  | 0 => .int
  | 1 => .int
  | 2 => .int
  | 3 => .object "java/util/ArrayList"
  | 4 => .object "java/util/ArrayList"
  | 5 => .object "java/util/ArrayList"
  | 6 => .object "java/util/ArrayList"
  | 7 => .object "java/util/ArrayList"
  | _ => .array .int
abbrev wsX30 : List Cond := u_ws RX3 TX3 9
theorem nmX3 : ∀ a, a < 9 → ∀ b, b < 9 → a ≠ b → (TX3 a).2.1 ≠ (TX3 b).2.1 := by decide +kernel
theorem tyX3_ok : ∀ k, k < 9 → parseFieldDescriptor (TX3 k).2.2.1 = some (tyX3 k) := by decide +kernel
abbrev cX3_init : ByteArray := prog_15_method_1_code
def yX3_init : MethodName := ⟨RX3, "<init>", "()V"⟩
def dkwX3_init_2 : List UInt8 := [181, 0, 22, 42, 187, 0, 7, 89, 183, 0, 9, 181, 0, 25, 42, 7, 188, 10, 181, 0, 28, 177]
abbrev dktX3_init_2 : List UInt8 := dkwX3_init_2 ++ []
def dkwX3_init_1 : List UInt8 := [181, 0, 16, 42, 187, 0, 7, 89, 183, 0, 9, 181, 0, 19, 42, 187, 0, 7, 89, 183, 0, 9]
abbrev dktX3_init_1 : List UInt8 := dkwX3_init_1 ++ dktX3_init_2
def dkwX3_init_0 : List UInt8 := [42, 183, 0, 1, 42, 187, 0, 7, 89, 183, 0, 9, 181, 0, 10, 42, 187, 0, 7, 89, 183, 0, 9]
abbrev dktX3_init_0 : List UInt8 := dkwX3_init_0 ++ dktX3_init_1
theorem dksX3_init_0 : cX3_init.data.toList.drop 0 = dktX3_init_0 := by decide +kernel
theorem dksX3_init_1 : cX3_init.data.toList.drop 23 = dktX3_init_1 := dk_seg dksX3_init_0 23 rfl rfl
theorem dksX3_init_2 : cX3_init.data.toList.drop 45 = dktX3_init_2 := dk_seg dksX3_init_1 22 rfl rfl
theorem dX3_init_0 : decode cX3_init 0 = .ok (.aload_n 0, 1) := dk_42 (dk_at dksX3_init_0 0 rfl rfl)
theorem dX3_init_1 : decode cX3_init 1 = .ok (.invokespecial 1, 3) := dk_183 0 1 (dk_at dksX3_init_0 1 rfl rfl)
theorem dX3_init_4 : decode cX3_init 4 = .ok (.aload_n 0, 1) := dk_42 (dk_at dksX3_init_0 4 rfl rfl)
theorem dX3_init_5 : decode cX3_init 5 = .ok (.new 7, 3) := dk_187 0 7 (dk_at dksX3_init_0 5 rfl rfl)
theorem dX3_init_8 : decode cX3_init 8 = .ok (.dup, 1) := dk_89 (dk_at dksX3_init_0 8 rfl rfl)
theorem dX3_init_9 : decode cX3_init 9 = .ok (.invokespecial 9, 3) := dk_183 0 9 (dk_at dksX3_init_0 9 rfl rfl)
theorem dX3_init_12 : decode cX3_init 12 = .ok (.putfield 10, 3) := dk_181 0 10 (dk_at dksX3_init_0 12 rfl rfl)
theorem dX3_init_15 : decode cX3_init 15 = .ok (.aload_n 0, 1) := dk_42 (dk_at dksX3_init_0 15 rfl rfl)
theorem dX3_init_16 : decode cX3_init 16 = .ok (.new 7, 3) := dk_187 0 7 (dk_at dksX3_init_0 16 rfl rfl)
theorem dX3_init_19 : decode cX3_init 19 = .ok (.dup, 1) := dk_89 (dk_at dksX3_init_0 19 rfl rfl)
theorem dX3_init_20 : decode cX3_init 20 = .ok (.invokespecial 9, 3) := dk_183 0 9 (dk_at dksX3_init_0 20 rfl rfl)
theorem dX3_init_23 : decode cX3_init 23 = .ok (.putfield 16, 3) := dk_181 0 16 (dk_at dksX3_init_1 0 rfl rfl)
theorem dX3_init_26 : decode cX3_init 26 = .ok (.aload_n 0, 1) := dk_42 (dk_at dksX3_init_1 3 rfl rfl)
theorem dX3_init_27 : decode cX3_init 27 = .ok (.new 7, 3) := dk_187 0 7 (dk_at dksX3_init_1 4 rfl rfl)
theorem dX3_init_30 : decode cX3_init 30 = .ok (.dup, 1) := dk_89 (dk_at dksX3_init_1 7 rfl rfl)
theorem dX3_init_31 : decode cX3_init 31 = .ok (.invokespecial 9, 3) := dk_183 0 9 (dk_at dksX3_init_1 8 rfl rfl)
theorem dX3_init_34 : decode cX3_init 34 = .ok (.putfield 19, 3) := dk_181 0 19 (dk_at dksX3_init_1 11 rfl rfl)
theorem dX3_init_37 : decode cX3_init 37 = .ok (.aload_n 0, 1) := dk_42 (dk_at dksX3_init_1 14 rfl rfl)
theorem dX3_init_38 : decode cX3_init 38 = .ok (.new 7, 3) := dk_187 0 7 (dk_at dksX3_init_1 15 rfl rfl)
theorem dX3_init_41 : decode cX3_init 41 = .ok (.dup, 1) := dk_89 (dk_at dksX3_init_1 18 rfl rfl)
theorem dX3_init_42 : decode cX3_init 42 = .ok (.invokespecial 9, 3) := dk_183 0 9 (dk_at dksX3_init_1 19 rfl rfl)
theorem dX3_init_45 : decode cX3_init 45 = .ok (.putfield 22, 3) := dk_181 0 22 (dk_at dksX3_init_2 0 rfl rfl)
theorem dX3_init_48 : decode cX3_init 48 = .ok (.aload_n 0, 1) := dk_42 (dk_at dksX3_init_2 3 rfl rfl)
theorem dX3_init_49 : decode cX3_init 49 = .ok (.new 7, 3) := dk_187 0 7 (dk_at dksX3_init_2 4 rfl rfl)
theorem dX3_init_52 : decode cX3_init 52 = .ok (.dup, 1) := dk_89 (dk_at dksX3_init_2 7 rfl rfl)
theorem dX3_init_53 : decode cX3_init 53 = .ok (.invokespecial 9, 3) := dk_183 0 9 (dk_at dksX3_init_2 8 rfl rfl)
theorem dX3_init_56 : decode cX3_init 56 = .ok (.putfield 25, 3) := dk_181 0 25 (dk_at dksX3_init_2 11 rfl rfl)
theorem dX3_init_59 : decode cX3_init 59 = .ok (.aload_n 0, 1) := dk_42 (dk_at dksX3_init_2 14 rfl rfl)
theorem dX3_init_60 : decode cX3_init 60 = .ok (.iconst 4, 1) := dk_7 (dk_at dksX3_init_2 15 rfl rfl)
theorem dX3_init_61 : decode cX3_init 61 = .ok (.newarray .int, 2) := dk_188_10 (dk_at dksX3_init_2 16 rfl rfl)
theorem dX3_init_63 : decode cX3_init 63 = .ok (.putfield 28, 3) := dk_181 0 28 (dk_at dksX3_init_2 18 rfl rfl)
theorem dX3_init_66 : decode cX3_init 66 = .ok (.return_, 1) := dk_177 (dk_at dksX3_init_2 21 rfl rfl)
abbrev cX3_thrown : ByteArray := prog_15_method_4_code
def yX3_thrown : MethodName := ⟨RX3, "thrown", "()I"⟩
theorem dX3_thrown_0 : decode cX3_thrown 0 = .ok (.aload_n 0, 1) := by decide +kernel
theorem dX3_thrown_1 : decode cX3_thrown 1 = .ok (.getfield 32, 3) := by decide +kernel
theorem dX3_thrown_4 : decode cX3_thrown 4 = .ok (.ireturn, 1) := by decide +kernel
abbrev cX3_plan : ByteArray := prog_15_method_25_code
def yX3_plan : MethodName := ⟨RX3, "plan", "(III)I"⟩
def dkwX3_plan_5 : List UInt8 := [182, 0, 40, 4, 100, 172]
abbrev dktX3_plan_5 : List UInt8 := dkwX3_plan_5 ++ []
def dkwX3_plan_4 : List UInt8 := [181, 0, 223, 25, 4, 29, 181, 0, 226, 42, 180, 0, 10, 25, 4, 182, 0, 97, 87, 42, 180, 0, 10]
abbrev dktX3_plan_4 : List UInt8 := dkwX3_plan_4 ++ dktX3_plan_5
def dkwX3_plan_3 : List UInt8 := [187, 0, 86, 89, 183, 0, 222, 58, 4, 25, 4, 27, 181, 0, 210, 25, 4, 28, 181, 0, 91, 25, 4, 29]
abbrev dktX3_plan_3 : List UInt8 := dkwX3_plan_3 ++ dktX3_plan_4
def dkwX3_plan_2 : List UInt8 := [180, 0, 10, 182, 0, 40, 8, 160, 0, 7, 4, 167, 0, 4, 3, 5, 182, 0, 36, 153, 0, 5, 3, 172]
abbrev dktX3_plan_2 : List UInt8 := dkwX3_plan_2 ++ dktX3_plan_3
def dkwX3_plan_1 : List UInt8 := [17, 39, 15, 184, 0, 44, 154, 0, 7, 4, 167, 0, 4, 3, 4, 182, 0, 219, 154, 0, 27, 42, 42]
abbrev dktX3_plan_1 : List UInt8 := dkwX3_plan_1 ++ dktX3_plan_2
def dkwX3_plan_0 : List UInt8 := [42, 27, 3, 16, 99, 184, 0, 44, 153, 0, 24, 29, 3, 16, 99, 184, 0, 44, 153, 0, 14, 28, 3]
abbrev dktX3_plan_0 : List UInt8 := dkwX3_plan_0 ++ dktX3_plan_1
theorem dksX3_plan_0 : cX3_plan.data.toList.drop 0 = dktX3_plan_0 := by decide +kernel
theorem dksX3_plan_1 : cX3_plan.data.toList.drop 23 = dktX3_plan_1 := dk_seg dksX3_plan_0 23 rfl rfl
theorem dksX3_plan_2 : cX3_plan.data.toList.drop 46 = dktX3_plan_2 := dk_seg dksX3_plan_1 23 rfl rfl
theorem dksX3_plan_3 : cX3_plan.data.toList.drop 70 = dktX3_plan_3 := dk_seg dksX3_plan_2 24 rfl rfl
theorem dksX3_plan_4 : cX3_plan.data.toList.drop 94 = dktX3_plan_4 := dk_seg dksX3_plan_3 24 rfl rfl
theorem dksX3_plan_5 : cX3_plan.data.toList.drop 117 = dktX3_plan_5 := dk_seg dksX3_plan_4 23 rfl rfl
theorem dX3_plan_0 : decode cX3_plan 0 = .ok (.aload_n 0, 1) := dk_42 (dk_at dksX3_plan_0 0 rfl rfl)
theorem dX3_plan_1 : decode cX3_plan 1 = .ok (.iload_n 1, 1) := dk_27 (dk_at dksX3_plan_0 1 rfl rfl)
theorem dX3_plan_2 : decode cX3_plan 2 = .ok (.iconst 0, 1) := dk_3 (dk_at dksX3_plan_0 2 rfl rfl)
theorem dX3_plan_3 : decode cX3_plan 3 = .ok (.bipush 99, 2) := dk_16 99 (dk_at dksX3_plan_0 3 rfl rfl)
theorem dX3_plan_5 : decode cX3_plan 5 = .ok (.invokestatic 44, 3) := dk_184 0 44 (dk_at dksX3_plan_0 5 rfl rfl)
theorem dX3_plan_8 : decode cX3_plan 8 = .ok (.ifCond .eq 24, 3) := dk_153 0 24 (dk_at dksX3_plan_0 8 rfl rfl)
theorem dX3_plan_11 : decode cX3_plan 11 = .ok (.iload_n 3, 1) := dk_29 (dk_at dksX3_plan_0 11 rfl rfl)
theorem dX3_plan_12 : decode cX3_plan 12 = .ok (.iconst 0, 1) := dk_3 (dk_at dksX3_plan_0 12 rfl rfl)
theorem dX3_plan_13 : decode cX3_plan 13 = .ok (.bipush 99, 2) := dk_16 99 (dk_at dksX3_plan_0 13 rfl rfl)
theorem dX3_plan_15 : decode cX3_plan 15 = .ok (.invokestatic 44, 3) := dk_184 0 44 (dk_at dksX3_plan_0 15 rfl rfl)
theorem dX3_plan_18 : decode cX3_plan 18 = .ok (.ifCond .eq 14, 3) := dk_153 0 14 (dk_at dksX3_plan_0 18 rfl rfl)
theorem dX3_plan_21 : decode cX3_plan 21 = .ok (.iload_n 2, 1) := dk_28 (dk_at dksX3_plan_0 21 rfl rfl)
theorem dX3_plan_22 : decode cX3_plan 22 = .ok (.iconst 0, 1) := dk_3 (dk_at dksX3_plan_0 22 rfl rfl)
theorem dX3_plan_23 : decode cX3_plan 23 = .ok (.sipush 9999, 3) := dk_17 39 15 (dk_at dksX3_plan_1 0 rfl rfl)
theorem dX3_plan_26 : decode cX3_plan 26 = .ok (.invokestatic 44, 3) := dk_184 0 44 (dk_at dksX3_plan_1 3 rfl rfl)
theorem dX3_plan_29 : decode cX3_plan 29 = .ok (.ifCond .ne 7, 3) := dk_154 0 7 (dk_at dksX3_plan_1 6 rfl rfl)
theorem dX3_plan_32 : decode cX3_plan 32 = .ok (.iconst 1, 1) := dk_4 (dk_at dksX3_plan_1 9 rfl rfl)
theorem dX3_plan_33 : decode cX3_plan 33 = .ok (.goto 4, 3) := dk_167 0 4 (dk_at dksX3_plan_1 10 rfl rfl)
theorem dX3_plan_36 : decode cX3_plan 36 = .ok (.iconst 0, 1) := dk_3 (dk_at dksX3_plan_1 13 rfl rfl)
theorem dX3_plan_37 : decode cX3_plan 37 = .ok (.iconst 1, 1) := dk_4 (dk_at dksX3_plan_1 14 rfl rfl)
theorem dX3_plan_38 : decode cX3_plan 38 = .ok (.invokevirtual 219, 3) := dk_182 0 219 (dk_at dksX3_plan_1 15 rfl rfl)
theorem dX3_plan_41 : decode cX3_plan 41 = .ok (.ifCond .ne 27, 3) := dk_154 0 27 (dk_at dksX3_plan_1 18 rfl rfl)
theorem dX3_plan_44 : decode cX3_plan 44 = .ok (.aload_n 0, 1) := dk_42 (dk_at dksX3_plan_1 21 rfl rfl)
theorem dX3_plan_45 : decode cX3_plan 45 = .ok (.aload_n 0, 1) := dk_42 (dk_at dksX3_plan_1 22 rfl rfl)
theorem dX3_plan_46 : decode cX3_plan 46 = .ok (.getfield 10, 3) := dk_180 0 10 (dk_at dksX3_plan_2 0 rfl rfl)
theorem dX3_plan_49 : decode cX3_plan 49 = .ok (.invokevirtual 40, 3) := dk_182 0 40 (dk_at dksX3_plan_2 3 rfl rfl)
theorem dX3_plan_52 : decode cX3_plan 52 = .ok (.iconst 5, 1) := dk_8 (dk_at dksX3_plan_2 6 rfl rfl)
theorem dX3_plan_53 : decode cX3_plan 53 = .ok (.if_icmp .ne 7, 3) := dk_160 0 7 (dk_at dksX3_plan_2 7 rfl rfl)
theorem dX3_plan_56 : decode cX3_plan 56 = .ok (.iconst 1, 1) := dk_4 (dk_at dksX3_plan_2 10 rfl rfl)
theorem dX3_plan_57 : decode cX3_plan 57 = .ok (.goto 4, 3) := dk_167 0 4 (dk_at dksX3_plan_2 11 rfl rfl)
theorem dX3_plan_60 : decode cX3_plan 60 = .ok (.iconst 0, 1) := dk_3 (dk_at dksX3_plan_2 14 rfl rfl)
theorem dX3_plan_61 : decode cX3_plan 61 = .ok (.iconst 2, 1) := dk_5 (dk_at dksX3_plan_2 15 rfl rfl)
theorem dX3_plan_62 : decode cX3_plan 62 = .ok (.invokevirtual 36, 3) := dk_182 0 36 (dk_at dksX3_plan_2 16 rfl rfl)
theorem dX3_plan_65 : decode cX3_plan 65 = .ok (.ifCond .eq 5, 3) := dk_153 0 5 (dk_at dksX3_plan_2 19 rfl rfl)
theorem dX3_plan_68 : decode cX3_plan 68 = .ok (.iconst 0, 1) := dk_3 (dk_at dksX3_plan_2 22 rfl rfl)
theorem dX3_plan_69 : decode cX3_plan 69 = .ok (.ireturn, 1) := dk_172 (dk_at dksX3_plan_2 23 rfl rfl)
theorem dX3_plan_70 : decode cX3_plan 70 = .ok (.new 86, 3) := dk_187 0 86 (dk_at dksX3_plan_3 0 rfl rfl)
theorem dX3_plan_73 : decode cX3_plan 73 = .ok (.dup, 1) := dk_89 (dk_at dksX3_plan_3 3 rfl rfl)
theorem dX3_plan_74 : decode cX3_plan 74 = .ok (.invokespecial 222, 3) := dk_183 0 222 (dk_at dksX3_plan_3 4 rfl rfl)
theorem dX3_plan_77 : decode cX3_plan 77 = .ok (.astore 4, 2) := dk_58 4 (dk_at dksX3_plan_3 7 rfl rfl)
theorem dX3_plan_79 : decode cX3_plan 79 = .ok (.aload 4, 2) := dk_25 4 (dk_at dksX3_plan_3 9 rfl rfl)
theorem dX3_plan_81 : decode cX3_plan 81 = .ok (.iload_n 1, 1) := dk_27 (dk_at dksX3_plan_3 11 rfl rfl)
theorem dX3_plan_82 : decode cX3_plan 82 = .ok (.putfield 210, 3) := dk_181 0 210 (dk_at dksX3_plan_3 12 rfl rfl)
theorem dX3_plan_85 : decode cX3_plan 85 = .ok (.aload 4, 2) := dk_25 4 (dk_at dksX3_plan_3 15 rfl rfl)
theorem dX3_plan_87 : decode cX3_plan 87 = .ok (.iload_n 2, 1) := dk_28 (dk_at dksX3_plan_3 17 rfl rfl)
theorem dX3_plan_88 : decode cX3_plan 88 = .ok (.putfield 91, 3) := dk_181 0 91 (dk_at dksX3_plan_3 18 rfl rfl)
theorem dX3_plan_91 : decode cX3_plan 91 = .ok (.aload 4, 2) := dk_25 4 (dk_at dksX3_plan_3 21 rfl rfl)
theorem dX3_plan_93 : decode cX3_plan 93 = .ok (.iload_n 3, 1) := dk_29 (dk_at dksX3_plan_3 23 rfl rfl)
theorem dX3_plan_94 : decode cX3_plan 94 = .ok (.putfield 223, 3) := dk_181 0 223 (dk_at dksX3_plan_4 0 rfl rfl)
theorem dX3_plan_97 : decode cX3_plan 97 = .ok (.aload 4, 2) := dk_25 4 (dk_at dksX3_plan_4 3 rfl rfl)
theorem dX3_plan_99 : decode cX3_plan 99 = .ok (.iload_n 3, 1) := dk_29 (dk_at dksX3_plan_4 5 rfl rfl)
theorem dX3_plan_100 : decode cX3_plan 100 = .ok (.putfield 226, 3) := dk_181 0 226 (dk_at dksX3_plan_4 6 rfl rfl)
theorem dX3_plan_103 : decode cX3_plan 103 = .ok (.aload_n 0, 1) := dk_42 (dk_at dksX3_plan_4 9 rfl rfl)
theorem dX3_plan_104 : decode cX3_plan 104 = .ok (.getfield 10, 3) := dk_180 0 10 (dk_at dksX3_plan_4 10 rfl rfl)
theorem dX3_plan_107 : decode cX3_plan 107 = .ok (.aload 4, 2) := dk_25 4 (dk_at dksX3_plan_4 13 rfl rfl)
theorem dX3_plan_109 : decode cX3_plan 109 = .ok (.invokevirtual 97, 3) := dk_182 0 97 (dk_at dksX3_plan_4 15 rfl rfl)
theorem dX3_plan_112 : decode cX3_plan 112 = .ok (.pop, 1) := dk_87 (dk_at dksX3_plan_4 18 rfl rfl)
theorem dX3_plan_113 : decode cX3_plan 113 = .ok (.aload_n 0, 1) := dk_42 (dk_at dksX3_plan_4 19 rfl rfl)
theorem dX3_plan_114 : decode cX3_plan 114 = .ok (.getfield 10, 3) := dk_180 0 10 (dk_at dksX3_plan_4 20 rfl rfl)
theorem dX3_plan_117 : decode cX3_plan 117 = .ok (.invokevirtual 40, 3) := dk_182 0 40 (dk_at dksX3_plan_5 0 rfl rfl)
theorem dX3_plan_120 : decode cX3_plan 120 = .ok (.iconst 1, 1) := dk_4 (dk_at dksX3_plan_5 3 rfl rfl)
theorem dX3_plan_121 : decode cX3_plan 121 = .ok (.isub, 1) := dk_100 (dk_at dksX3_plan_5 4 rfl rfl)
theorem dX3_plan_122 : decode cX3_plan 122 = .ok (.ireturn, 1) := dk_172 (dk_at dksX3_plan_5 5 rfl rfl)
abbrev cX3_isIn : ByteArray := prog_15_method_2_code
def yX3_isIn : MethodName := ⟨RX3, "isIn", "(III)Z"⟩
def dkwX3_isIn_0 : List UInt8 := [26, 27, 161, 0, 12, 26, 28, 163, 0, 7, 4, 167, 0, 4, 3, 172]
abbrev dktX3_isIn_0 : List UInt8 := dkwX3_isIn_0 ++ []
theorem dksX3_isIn_0 : cX3_isIn.data.toList.drop 0 = dktX3_isIn_0 := by decide +kernel
theorem dX3_isIn_0 : decode cX3_isIn 0 = .ok (.iload_n 0, 1) := dk_26 (dk_at dksX3_isIn_0 0 rfl rfl)
theorem dX3_isIn_1 : decode cX3_isIn 1 = .ok (.iload_n 1, 1) := dk_27 (dk_at dksX3_isIn_0 1 rfl rfl)
theorem dX3_isIn_2 : decode cX3_isIn 2 = .ok (.if_icmp .lt 12, 3) := dk_161 0 12 (dk_at dksX3_isIn_0 2 rfl rfl)
theorem dX3_isIn_5 : decode cX3_isIn 5 = .ok (.iload_n 0, 1) := dk_26 (dk_at dksX3_isIn_0 5 rfl rfl)
theorem dX3_isIn_6 : decode cX3_isIn 6 = .ok (.iload_n 2, 1) := dk_28 (dk_at dksX3_isIn_0 6 rfl rfl)
theorem dX3_isIn_7 : decode cX3_isIn 7 = .ok (.if_icmp .gt 7, 3) := dk_163 0 7 (dk_at dksX3_isIn_0 7 rfl rfl)
theorem dX3_isIn_10 : decode cX3_isIn 10 = .ok (.iconst 1, 1) := dk_4 (dk_at dksX3_isIn_0 10 rfl rfl)
theorem dX3_isIn_11 : decode cX3_isIn 11 = .ok (.goto 4, 3) := dk_167 0 4 (dk_at dksX3_isIn_0 11 rfl rfl)
theorem dX3_isIn_14 : decode cX3_isIn 14 = .ok (.iconst 0, 1) := dk_3 (dk_at dksX3_isIn_0 14 rfl rfl)
theorem dX3_isIn_15 : decode cX3_isIn 15 = .ok (.ireturn, 1) := dk_172 (dk_at dksX3_isIn_0 15 rfl rfl)
abbrev cX3_start : ByteArray := prog_15_method_6_code
def yX3_start : MethodName := ⟨RX3, "start", "(ZI)Z"⟩
def dkwX3_start_0 : List UInt8 := [42, 3, 181, 0, 32, 42, 27, 28, 182, 0, 36, 172]
abbrev dktX3_start_0 : List UInt8 := dkwX3_start_0 ++ []
theorem dksX3_start_0 : cX3_start.data.toList.drop 0 = dktX3_start_0 := by decide +kernel
theorem dX3_start_0 : decode cX3_start 0 = .ok (.aload_n 0, 1) := dk_42 (dk_at dksX3_start_0 0 rfl rfl)
theorem dX3_start_1 : decode cX3_start 1 = .ok (.iconst 0, 1) := dk_3 (dk_at dksX3_start_0 1 rfl rfl)
theorem dX3_start_2 : decode cX3_start 2 = .ok (.putfield 32, 3) := dk_181 0 32 (dk_at dksX3_start_0 2 rfl rfl)
theorem dX3_start_5 : decode cX3_start 5 = .ok (.aload_n 0, 1) := dk_42 (dk_at dksX3_start_0 5 rfl rfl)
theorem dX3_start_6 : decode cX3_start 6 = .ok (.iload_n 1, 1) := dk_27 (dk_at dksX3_start_0 6 rfl rfl)
theorem dX3_start_7 : decode cX3_start 7 = .ok (.iload_n 2, 1) := dk_28 (dk_at dksX3_start_0 7 rfl rfl)
theorem dX3_start_8 : decode cX3_start 8 = .ok (.invokevirtual 36, 3) := dk_182 0 36 (dk_at dksX3_start_0 8 rfl rfl)
theorem dX3_start_11 : decode cX3_start 11 = .ok (.ireturn, 1) := dk_172 (dk_at dksX3_start_0 11 rfl rfl)
abbrev cX3_refuse : ByteArray := prog_15_method_5_code
def yX3_refuse : MethodName := ⟨RX3, "refuse", "(ZI)Z"⟩
def dkwX3_refuse_1 : List UInt8 := [167, 0, 4, 3, 172]
abbrev dktX3_refuse_1 : List UInt8 := dkwX3_refuse_1 ++ []
def dkwX3_refuse_0 : List UInt8 := [27, 153, 0, 15, 42, 180, 0, 32, 154, 0, 8, 42, 28, 181, 0, 32, 42, 180, 0, 32, 158, 0, 7, 4]
abbrev dktX3_refuse_0 : List UInt8 := dkwX3_refuse_0 ++ dktX3_refuse_1
theorem dksX3_refuse_0 : cX3_refuse.data.toList.drop 0 = dktX3_refuse_0 := by decide +kernel
theorem dksX3_refuse_1 : cX3_refuse.data.toList.drop 24 = dktX3_refuse_1 := dk_seg dksX3_refuse_0 24 rfl rfl
theorem dX3_refuse_0 : decode cX3_refuse 0 = .ok (.iload_n 1, 1) := dk_27 (dk_at dksX3_refuse_0 0 rfl rfl)
theorem dX3_refuse_1 : decode cX3_refuse 1 = .ok (.ifCond .eq 15, 3) := dk_153 0 15 (dk_at dksX3_refuse_0 1 rfl rfl)
theorem dX3_refuse_4 : decode cX3_refuse 4 = .ok (.aload_n 0, 1) := dk_42 (dk_at dksX3_refuse_0 4 rfl rfl)
theorem dX3_refuse_5 : decode cX3_refuse 5 = .ok (.getfield 32, 3) := dk_180 0 32 (dk_at dksX3_refuse_0 5 rfl rfl)
theorem dX3_refuse_8 : decode cX3_refuse 8 = .ok (.ifCond .ne 8, 3) := dk_154 0 8 (dk_at dksX3_refuse_0 8 rfl rfl)
theorem dX3_refuse_11 : decode cX3_refuse 11 = .ok (.aload_n 0, 1) := dk_42 (dk_at dksX3_refuse_0 11 rfl rfl)
theorem dX3_refuse_12 : decode cX3_refuse 12 = .ok (.iload_n 2, 1) := dk_28 (dk_at dksX3_refuse_0 12 rfl rfl)
theorem dX3_refuse_13 : decode cX3_refuse 13 = .ok (.putfield 32, 3) := dk_181 0 32 (dk_at dksX3_refuse_0 13 rfl rfl)
theorem dX3_refuse_16 : decode cX3_refuse 16 = .ok (.aload_n 0, 1) := dk_42 (dk_at dksX3_refuse_0 16 rfl rfl)
theorem dX3_refuse_17 : decode cX3_refuse 17 = .ok (.getfield 32, 3) := dk_180 0 32 (dk_at dksX3_refuse_0 17 rfl rfl)
theorem dX3_refuse_20 : decode cX3_refuse 20 = .ok (.ifCond .le 7, 3) := dk_158 0 7 (dk_at dksX3_refuse_0 20 rfl rfl)
theorem dX3_refuse_23 : decode cX3_refuse 23 = .ok (.iconst 1, 1) := dk_4 (dk_at dksX3_refuse_0 23 rfl rfl)
theorem dX3_refuse_24 : decode cX3_refuse 24 = .ok (.goto 4, 3) := dk_167 0 4 (dk_at dksX3_refuse_1 0 rfl rfl)
theorem dX3_refuse_27 : decode cX3_refuse 27 = .ok (.iconst 0, 1) := dk_3 (dk_at dksX3_refuse_1 3 rfl rfl)
theorem dX3_refuse_28 : decode cX3_refuse 28 = .ok (.ireturn, 1) := dk_172 (dk_at dksX3_refuse_1 4 rfl rfl)
abbrev cX3_units : ByteArray := prog_15_method_26_code
def yX3_units : MethodName := ⟨RX3, "units", "(IIIIZ)I"⟩
def dkwX3_units_4 : List UInt8 := [21, 4, 181, 0, 233, 25, 6, 21, 5, 181, 0, 158, 21, 7, 172]
abbrev dktX3_units_4 : List UInt8 := dkwX3_units_4 ++ []
def dkwX3_units_3 : List UInt8 := [58, 6, 25, 6, 180, 0, 233, 54, 7, 25, 6, 28, 181, 0, 94, 25, 6, 29, 181, 0, 236, 25, 6]
abbrev dktX3_units_3 : List UInt8 := dkwX3_units_3 ++ dktX3_units_4
def dkwX3_units_2 : List UInt8 := [167, 0, 4, 3, 5, 182, 0, 36, 153, 0, 5, 3, 172, 42, 180, 0, 10, 27, 182, 0, 51, 192, 0, 86]
abbrev dktX3_units_2 : List UInt8 := dkwX3_units_2 ++ dktX3_units_3
def dkwX3_units_1 : List UInt8 := [4, 16, 120, 184, 0, 44, 153, 0, 15, 21, 4, 16, 6, 16, 120, 184, 0, 44, 154, 0, 7, 4]
abbrev dktX3_units_1 : List UInt8 := dkwX3_units_1 ++ dktX3_units_2
def dkwX3_units_0 : List UInt8 := [42, 42, 27, 182, 0, 229, 4, 182, 0, 219, 154, 0, 47, 42, 28, 3, 6, 184, 0, 44, 153, 0, 25, 29]
abbrev dktX3_units_0 : List UInt8 := dkwX3_units_0 ++ dktX3_units_1
theorem dksX3_units_0 : cX3_units.data.toList.drop 0 = dktX3_units_0 := by decide +kernel
theorem dksX3_units_1 : cX3_units.data.toList.drop 24 = dktX3_units_1 := dk_seg dksX3_units_0 24 rfl rfl
theorem dksX3_units_2 : cX3_units.data.toList.drop 46 = dktX3_units_2 := dk_seg dksX3_units_1 22 rfl rfl
theorem dksX3_units_3 : cX3_units.data.toList.drop 70 = dktX3_units_3 := dk_seg dksX3_units_2 24 rfl rfl
theorem dksX3_units_4 : cX3_units.data.toList.drop 93 = dktX3_units_4 := dk_seg dksX3_units_3 23 rfl rfl
theorem dX3_units_0 : decode cX3_units 0 = .ok (.aload_n 0, 1) := dk_42 (dk_at dksX3_units_0 0 rfl rfl)
theorem dX3_units_1 : decode cX3_units 1 = .ok (.aload_n 0, 1) := dk_42 (dk_at dksX3_units_0 1 rfl rfl)
theorem dX3_units_2 : decode cX3_units 2 = .ok (.iload_n 1, 1) := dk_27 (dk_at dksX3_units_0 2 rfl rfl)
theorem dX3_units_3 : decode cX3_units 3 = .ok (.invokevirtual 229, 3) := dk_182 0 229 (dk_at dksX3_units_0 3 rfl rfl)
theorem dX3_units_6 : decode cX3_units 6 = .ok (.iconst 1, 1) := dk_4 (dk_at dksX3_units_0 6 rfl rfl)
theorem dX3_units_7 : decode cX3_units 7 = .ok (.invokevirtual 219, 3) := dk_182 0 219 (dk_at dksX3_units_0 7 rfl rfl)
theorem dX3_units_10 : decode cX3_units 10 = .ok (.ifCond .ne 47, 3) := dk_154 0 47 (dk_at dksX3_units_0 10 rfl rfl)
theorem dX3_units_13 : decode cX3_units 13 = .ok (.aload_n 0, 1) := dk_42 (dk_at dksX3_units_0 13 rfl rfl)
theorem dX3_units_14 : decode cX3_units 14 = .ok (.iload_n 2, 1) := dk_28 (dk_at dksX3_units_0 14 rfl rfl)
theorem dX3_units_15 : decode cX3_units 15 = .ok (.iconst 0, 1) := dk_3 (dk_at dksX3_units_0 15 rfl rfl)
theorem dX3_units_16 : decode cX3_units 16 = .ok (.iconst 3, 1) := dk_6 (dk_at dksX3_units_0 16 rfl rfl)
theorem dX3_units_17 : decode cX3_units 17 = .ok (.invokestatic 44, 3) := dk_184 0 44 (dk_at dksX3_units_0 17 rfl rfl)
theorem dX3_units_20 : decode cX3_units 20 = .ok (.ifCond .eq 25, 3) := dk_153 0 25 (dk_at dksX3_units_0 20 rfl rfl)
theorem dX3_units_23 : decode cX3_units 23 = .ok (.iload_n 3, 1) := dk_29 (dk_at dksX3_units_0 23 rfl rfl)
theorem dX3_units_24 : decode cX3_units 24 = .ok (.iconst 1, 1) := dk_4 (dk_at dksX3_units_1 0 rfl rfl)
theorem dX3_units_25 : decode cX3_units 25 = .ok (.bipush 120, 2) := dk_16 120 (dk_at dksX3_units_1 1 rfl rfl)
theorem dX3_units_27 : decode cX3_units 27 = .ok (.invokestatic 44, 3) := dk_184 0 44 (dk_at dksX3_units_1 3 rfl rfl)
theorem dX3_units_30 : decode cX3_units 30 = .ok (.ifCond .eq 15, 3) := dk_153 0 15 (dk_at dksX3_units_1 6 rfl rfl)
theorem dX3_units_33 : decode cX3_units 33 = .ok (.iload 4, 2) := dk_21 4 (dk_at dksX3_units_1 9 rfl rfl)
theorem dX3_units_35 : decode cX3_units 35 = .ok (.bipush 6, 2) := dk_16 6 (dk_at dksX3_units_1 11 rfl rfl)
theorem dX3_units_37 : decode cX3_units 37 = .ok (.bipush 120, 2) := dk_16 120 (dk_at dksX3_units_1 13 rfl rfl)
theorem dX3_units_39 : decode cX3_units 39 = .ok (.invokestatic 44, 3) := dk_184 0 44 (dk_at dksX3_units_1 15 rfl rfl)
theorem dX3_units_42 : decode cX3_units 42 = .ok (.ifCond .ne 7, 3) := dk_154 0 7 (dk_at dksX3_units_1 18 rfl rfl)
theorem dX3_units_45 : decode cX3_units 45 = .ok (.iconst 1, 1) := dk_4 (dk_at dksX3_units_1 21 rfl rfl)
theorem dX3_units_46 : decode cX3_units 46 = .ok (.goto 4, 3) := dk_167 0 4 (dk_at dksX3_units_2 0 rfl rfl)
theorem dX3_units_49 : decode cX3_units 49 = .ok (.iconst 0, 1) := dk_3 (dk_at dksX3_units_2 3 rfl rfl)
theorem dX3_units_50 : decode cX3_units 50 = .ok (.iconst 2, 1) := dk_5 (dk_at dksX3_units_2 4 rfl rfl)
theorem dX3_units_51 : decode cX3_units 51 = .ok (.invokevirtual 36, 3) := dk_182 0 36 (dk_at dksX3_units_2 5 rfl rfl)
theorem dX3_units_54 : decode cX3_units 54 = .ok (.ifCond .eq 5, 3) := dk_153 0 5 (dk_at dksX3_units_2 8 rfl rfl)
theorem dX3_units_57 : decode cX3_units 57 = .ok (.iconst 0, 1) := dk_3 (dk_at dksX3_units_2 11 rfl rfl)
theorem dX3_units_58 : decode cX3_units 58 = .ok (.ireturn, 1) := dk_172 (dk_at dksX3_units_2 12 rfl rfl)
theorem dX3_units_59 : decode cX3_units 59 = .ok (.aload_n 0, 1) := dk_42 (dk_at dksX3_units_2 13 rfl rfl)
theorem dX3_units_60 : decode cX3_units 60 = .ok (.getfield 10, 3) := dk_180 0 10 (dk_at dksX3_units_2 14 rfl rfl)
theorem dX3_units_63 : decode cX3_units 63 = .ok (.iload_n 1, 1) := dk_27 (dk_at dksX3_units_2 17 rfl rfl)
theorem dX3_units_64 : decode cX3_units 64 = .ok (.invokevirtual 51, 3) := dk_182 0 51 (dk_at dksX3_units_2 18 rfl rfl)
theorem dX3_units_67 : decode cX3_units 67 = .ok (.checkcast 86, 3) := dk_192 0 86 (dk_at dksX3_units_2 21 rfl rfl)
theorem dX3_units_70 : decode cX3_units 70 = .ok (.astore 6, 2) := dk_58 6 (dk_at dksX3_units_3 0 rfl rfl)
theorem dX3_units_72 : decode cX3_units 72 = .ok (.aload 6, 2) := dk_25 6 (dk_at dksX3_units_3 2 rfl rfl)
theorem dX3_units_74 : decode cX3_units 74 = .ok (.getfield 233, 3) := dk_180 0 233 (dk_at dksX3_units_3 4 rfl rfl)
theorem dX3_units_77 : decode cX3_units 77 = .ok (.istore 7, 2) := dk_54 7 (dk_at dksX3_units_3 7 rfl rfl)
theorem dX3_units_79 : decode cX3_units 79 = .ok (.aload 6, 2) := dk_25 6 (dk_at dksX3_units_3 9 rfl rfl)
theorem dX3_units_81 : decode cX3_units 81 = .ok (.iload_n 2, 1) := dk_28 (dk_at dksX3_units_3 11 rfl rfl)
theorem dX3_units_82 : decode cX3_units 82 = .ok (.putfield 94, 3) := dk_181 0 94 (dk_at dksX3_units_3 12 rfl rfl)
theorem dX3_units_85 : decode cX3_units 85 = .ok (.aload 6, 2) := dk_25 6 (dk_at dksX3_units_3 15 rfl rfl)
theorem dX3_units_87 : decode cX3_units 87 = .ok (.iload_n 3, 1) := dk_29 (dk_at dksX3_units_3 17 rfl rfl)
theorem dX3_units_88 : decode cX3_units 88 = .ok (.putfield 236, 3) := dk_181 0 236 (dk_at dksX3_units_3 18 rfl rfl)
theorem dX3_units_91 : decode cX3_units 91 = .ok (.aload 6, 2) := dk_25 6 (dk_at dksX3_units_3 21 rfl rfl)
theorem dX3_units_93 : decode cX3_units 93 = .ok (.iload 4, 2) := dk_21 4 (dk_at dksX3_units_4 0 rfl rfl)
theorem dX3_units_95 : decode cX3_units 95 = .ok (.putfield 233, 3) := dk_181 0 233 (dk_at dksX3_units_4 2 rfl rfl)
theorem dX3_units_98 : decode cX3_units 98 = .ok (.aload 6, 2) := dk_25 6 (dk_at dksX3_units_4 5 rfl rfl)
theorem dX3_units_100 : decode cX3_units 100 = .ok (.iload 5, 2) := dk_21 5 (dk_at dksX3_units_4 7 rfl rfl)
theorem dX3_units_102 : decode cX3_units 102 = .ok (.putfield 158, 3) := dk_181 0 158 (dk_at dksX3_units_4 9 rfl rfl)
theorem dX3_units_105 : decode cX3_units 105 = .ok (.iload 7, 2) := dk_21 7 (dk_at dksX3_units_4 12 rfl rfl)
theorem dX3_units_107 : decode cX3_units 107 = .ok (.ireturn, 1) := dk_172 (dk_at dksX3_units_4 14 rfl rfl)
abbrev cX3_isNoPlan : ByteArray := prog_15_method_7_code
def yX3_isNoPlan : MethodName := ⟨RX3, "isNoPlan", "(I)Z"⟩
def dkwX3_isNoPlan_0 : List UInt8 := [27, 3, 42, 180, 0, 10, 182, 0, 40, 4, 100, 184, 0, 44, 154, 0, 7, 4, 167, 0, 4, 3, 172]
abbrev dktX3_isNoPlan_0 : List UInt8 := dkwX3_isNoPlan_0 ++ []
theorem dksX3_isNoPlan_0 : cX3_isNoPlan.data.toList.drop 0 = dktX3_isNoPlan_0 := by decide +kernel
theorem dX3_isNoPlan_0 : decode cX3_isNoPlan 0 = .ok (.iload_n 1, 1) := dk_27 (dk_at dksX3_isNoPlan_0 0 rfl rfl)
theorem dX3_isNoPlan_1 : decode cX3_isNoPlan 1 = .ok (.iconst 0, 1) := dk_3 (dk_at dksX3_isNoPlan_0 1 rfl rfl)
theorem dX3_isNoPlan_2 : decode cX3_isNoPlan 2 = .ok (.aload_n 0, 1) := dk_42 (dk_at dksX3_isNoPlan_0 2 rfl rfl)
theorem dX3_isNoPlan_3 : decode cX3_isNoPlan 3 = .ok (.getfield 10, 3) := dk_180 0 10 (dk_at dksX3_isNoPlan_0 3 rfl rfl)
theorem dX3_isNoPlan_6 : decode cX3_isNoPlan 6 = .ok (.invokevirtual 40, 3) := dk_182 0 40 (dk_at dksX3_isNoPlan_0 6 rfl rfl)
theorem dX3_isNoPlan_9 : decode cX3_isNoPlan 9 = .ok (.iconst 1, 1) := dk_4 (dk_at dksX3_isNoPlan_0 9 rfl rfl)
theorem dX3_isNoPlan_10 : decode cX3_isNoPlan 10 = .ok (.isub, 1) := dk_100 (dk_at dksX3_isNoPlan_0 10 rfl rfl)
theorem dX3_isNoPlan_11 : decode cX3_isNoPlan 11 = .ok (.invokestatic 44, 3) := dk_184 0 44 (dk_at dksX3_isNoPlan_0 11 rfl rfl)
theorem dX3_isNoPlan_14 : decode cX3_isNoPlan 14 = .ok (.ifCond .ne 7, 3) := dk_154 0 7 (dk_at dksX3_isNoPlan_0 14 rfl rfl)
theorem dX3_isNoPlan_17 : decode cX3_isNoPlan 17 = .ok (.iconst 1, 1) := dk_4 (dk_at dksX3_isNoPlan_0 17 rfl rfl)
theorem dX3_isNoPlan_18 : decode cX3_isNoPlan 18 = .ok (.goto 4, 3) := dk_167 0 4 (dk_at dksX3_isNoPlan_0 18 rfl rfl)
theorem dX3_isNoPlan_21 : decode cX3_isNoPlan 21 = .ok (.iconst 0, 1) := dk_3 (dk_at dksX3_isNoPlan_0 21 rfl rfl)
theorem dX3_isNoPlan_22 : decode cX3_isNoPlan 22 = .ok (.ireturn, 1) := dk_172 (dk_at dksX3_isNoPlan_0 22 rfl rfl)
abbrev cX3_steps : ByteArray := prog_15_method_27_code
def yX3_steps : MethodName := ⟨RX3, "steps", "(IIII)I"⟩
def dkwX3_steps_4 : List UInt8 := [181, 0, 226, 25, 5, 21, 4, 181, 0, 190, 21, 6, 172]
abbrev dktX3_steps_4 : List UInt8 := dkwX3_steps_4 ++ []
def dkwX3_steps_3 : List UInt8 := [182, 0, 51, 192, 0, 86, 58, 5, 25, 5, 180, 0, 190, 54, 6, 25, 5, 28, 181, 0, 239, 25, 5, 29]
abbrev dktX3_steps_3 : List UInt8 := dkwX3_steps_3 ++ dktX3_steps_4
def dkwX3_steps_2 : List UInt8 := [154, 0, 7, 4, 167, 0, 4, 3, 5, 182, 0, 36, 153, 0, 5, 3, 172, 42, 180, 0, 10, 27]
abbrev dktX3_steps_2 : List UInt8 := dkwX3_steps_2 ++ dktX3_steps_3
def dkwX3_steps_1 : List UInt8 := [153, 0, 25, 29, 3, 16, 99, 184, 0, 44, 153, 0, 15, 21, 4, 3, 17, 3, 231, 184, 0, 44]
abbrev dktX3_steps_1 : List UInt8 := dkwX3_steps_1 ++ dktX3_steps_2
def dkwX3_steps_0 : List UInt8 := [42, 42, 27, 182, 0, 229, 4, 182, 0, 219, 154, 0, 49, 42, 28, 3, 17, 39, 15, 184, 0, 44]
abbrev dktX3_steps_0 : List UInt8 := dkwX3_steps_0 ++ dktX3_steps_1
theorem dksX3_steps_0 : cX3_steps.data.toList.drop 0 = dktX3_steps_0 := by decide +kernel
theorem dksX3_steps_1 : cX3_steps.data.toList.drop 22 = dktX3_steps_1 := dk_seg dksX3_steps_0 22 rfl rfl
theorem dksX3_steps_2 : cX3_steps.data.toList.drop 44 = dktX3_steps_2 := dk_seg dksX3_steps_1 22 rfl rfl
theorem dksX3_steps_3 : cX3_steps.data.toList.drop 66 = dktX3_steps_3 := dk_seg dksX3_steps_2 22 rfl rfl
theorem dksX3_steps_4 : cX3_steps.data.toList.drop 90 = dktX3_steps_4 := dk_seg dksX3_steps_3 24 rfl rfl
theorem dX3_steps_0 : decode cX3_steps 0 = .ok (.aload_n 0, 1) := dk_42 (dk_at dksX3_steps_0 0 rfl rfl)
theorem dX3_steps_1 : decode cX3_steps 1 = .ok (.aload_n 0, 1) := dk_42 (dk_at dksX3_steps_0 1 rfl rfl)
theorem dX3_steps_2 : decode cX3_steps 2 = .ok (.iload_n 1, 1) := dk_27 (dk_at dksX3_steps_0 2 rfl rfl)
theorem dX3_steps_3 : decode cX3_steps 3 = .ok (.invokevirtual 229, 3) := dk_182 0 229 (dk_at dksX3_steps_0 3 rfl rfl)
theorem dX3_steps_6 : decode cX3_steps 6 = .ok (.iconst 1, 1) := dk_4 (dk_at dksX3_steps_0 6 rfl rfl)
theorem dX3_steps_7 : decode cX3_steps 7 = .ok (.invokevirtual 219, 3) := dk_182 0 219 (dk_at dksX3_steps_0 7 rfl rfl)
theorem dX3_steps_10 : decode cX3_steps 10 = .ok (.ifCond .ne 49, 3) := dk_154 0 49 (dk_at dksX3_steps_0 10 rfl rfl)
theorem dX3_steps_13 : decode cX3_steps 13 = .ok (.aload_n 0, 1) := dk_42 (dk_at dksX3_steps_0 13 rfl rfl)
theorem dX3_steps_14 : decode cX3_steps 14 = .ok (.iload_n 2, 1) := dk_28 (dk_at dksX3_steps_0 14 rfl rfl)
theorem dX3_steps_15 : decode cX3_steps 15 = .ok (.iconst 0, 1) := dk_3 (dk_at dksX3_steps_0 15 rfl rfl)
theorem dX3_steps_16 : decode cX3_steps 16 = .ok (.sipush 9999, 3) := dk_17 39 15 (dk_at dksX3_steps_0 16 rfl rfl)
theorem dX3_steps_19 : decode cX3_steps 19 = .ok (.invokestatic 44, 3) := dk_184 0 44 (dk_at dksX3_steps_0 19 rfl rfl)
theorem dX3_steps_22 : decode cX3_steps 22 = .ok (.ifCond .eq 25, 3) := dk_153 0 25 (dk_at dksX3_steps_1 0 rfl rfl)
theorem dX3_steps_25 : decode cX3_steps 25 = .ok (.iload_n 3, 1) := dk_29 (dk_at dksX3_steps_1 3 rfl rfl)
theorem dX3_steps_26 : decode cX3_steps 26 = .ok (.iconst 0, 1) := dk_3 (dk_at dksX3_steps_1 4 rfl rfl)
theorem dX3_steps_27 : decode cX3_steps 27 = .ok (.bipush 99, 2) := dk_16 99 (dk_at dksX3_steps_1 5 rfl rfl)
theorem dX3_steps_29 : decode cX3_steps 29 = .ok (.invokestatic 44, 3) := dk_184 0 44 (dk_at dksX3_steps_1 7 rfl rfl)
theorem dX3_steps_32 : decode cX3_steps 32 = .ok (.ifCond .eq 15, 3) := dk_153 0 15 (dk_at dksX3_steps_1 10 rfl rfl)
theorem dX3_steps_35 : decode cX3_steps 35 = .ok (.iload 4, 2) := dk_21 4 (dk_at dksX3_steps_1 13 rfl rfl)
theorem dX3_steps_37 : decode cX3_steps 37 = .ok (.iconst 0, 1) := dk_3 (dk_at dksX3_steps_1 15 rfl rfl)
theorem dX3_steps_38 : decode cX3_steps 38 = .ok (.sipush 999, 3) := dk_17 3 231 (dk_at dksX3_steps_1 16 rfl rfl)
theorem dX3_steps_41 : decode cX3_steps 41 = .ok (.invokestatic 44, 3) := dk_184 0 44 (dk_at dksX3_steps_1 19 rfl rfl)
theorem dX3_steps_44 : decode cX3_steps 44 = .ok (.ifCond .ne 7, 3) := dk_154 0 7 (dk_at dksX3_steps_2 0 rfl rfl)
theorem dX3_steps_47 : decode cX3_steps 47 = .ok (.iconst 1, 1) := dk_4 (dk_at dksX3_steps_2 3 rfl rfl)
theorem dX3_steps_48 : decode cX3_steps 48 = .ok (.goto 4, 3) := dk_167 0 4 (dk_at dksX3_steps_2 4 rfl rfl)
theorem dX3_steps_51 : decode cX3_steps 51 = .ok (.iconst 0, 1) := dk_3 (dk_at dksX3_steps_2 7 rfl rfl)
theorem dX3_steps_52 : decode cX3_steps 52 = .ok (.iconst 2, 1) := dk_5 (dk_at dksX3_steps_2 8 rfl rfl)
theorem dX3_steps_53 : decode cX3_steps 53 = .ok (.invokevirtual 36, 3) := dk_182 0 36 (dk_at dksX3_steps_2 9 rfl rfl)
theorem dX3_steps_56 : decode cX3_steps 56 = .ok (.ifCond .eq 5, 3) := dk_153 0 5 (dk_at dksX3_steps_2 12 rfl rfl)
theorem dX3_steps_59 : decode cX3_steps 59 = .ok (.iconst 0, 1) := dk_3 (dk_at dksX3_steps_2 15 rfl rfl)
theorem dX3_steps_60 : decode cX3_steps 60 = .ok (.ireturn, 1) := dk_172 (dk_at dksX3_steps_2 16 rfl rfl)
theorem dX3_steps_61 : decode cX3_steps 61 = .ok (.aload_n 0, 1) := dk_42 (dk_at dksX3_steps_2 17 rfl rfl)
theorem dX3_steps_62 : decode cX3_steps 62 = .ok (.getfield 10, 3) := dk_180 0 10 (dk_at dksX3_steps_2 18 rfl rfl)
theorem dX3_steps_65 : decode cX3_steps 65 = .ok (.iload_n 1, 1) := dk_27 (dk_at dksX3_steps_2 21 rfl rfl)
theorem dX3_steps_66 : decode cX3_steps 66 = .ok (.invokevirtual 51, 3) := dk_182 0 51 (dk_at dksX3_steps_3 0 rfl rfl)
theorem dX3_steps_69 : decode cX3_steps 69 = .ok (.checkcast 86, 3) := dk_192 0 86 (dk_at dksX3_steps_3 3 rfl rfl)
theorem dX3_steps_72 : decode cX3_steps 72 = .ok (.astore 5, 2) := dk_58 5 (dk_at dksX3_steps_3 6 rfl rfl)
theorem dX3_steps_74 : decode cX3_steps 74 = .ok (.aload 5, 2) := dk_25 5 (dk_at dksX3_steps_3 8 rfl rfl)
theorem dX3_steps_76 : decode cX3_steps 76 = .ok (.getfield 190, 3) := dk_180 0 190 (dk_at dksX3_steps_3 10 rfl rfl)
theorem dX3_steps_79 : decode cX3_steps 79 = .ok (.istore 6, 2) := dk_54 6 (dk_at dksX3_steps_3 13 rfl rfl)
theorem dX3_steps_81 : decode cX3_steps 81 = .ok (.aload 5, 2) := dk_25 5 (dk_at dksX3_steps_3 15 rfl rfl)
theorem dX3_steps_83 : decode cX3_steps 83 = .ok (.iload_n 2, 1) := dk_28 (dk_at dksX3_steps_3 17 rfl rfl)
theorem dX3_steps_84 : decode cX3_steps 84 = .ok (.putfield 239, 3) := dk_181 0 239 (dk_at dksX3_steps_3 18 rfl rfl)
theorem dX3_steps_87 : decode cX3_steps 87 = .ok (.aload 5, 2) := dk_25 5 (dk_at dksX3_steps_3 21 rfl rfl)
theorem dX3_steps_89 : decode cX3_steps 89 = .ok (.iload_n 3, 1) := dk_29 (dk_at dksX3_steps_3 23 rfl rfl)
theorem dX3_steps_90 : decode cX3_steps 90 = .ok (.putfield 226, 3) := dk_181 0 226 (dk_at dksX3_steps_4 0 rfl rfl)
theorem dX3_steps_93 : decode cX3_steps 93 = .ok (.aload 5, 2) := dk_25 5 (dk_at dksX3_steps_4 3 rfl rfl)
theorem dX3_steps_95 : decode cX3_steps 95 = .ok (.iload 4, 2) := dk_21 4 (dk_at dksX3_steps_4 5 rfl rfl)
theorem dX3_steps_97 : decode cX3_steps 97 = .ok (.putfield 190, 3) := dk_181 0 190 (dk_at dksX3_steps_4 7 rfl rfl)
theorem dX3_steps_100 : decode cX3_steps 100 = .ok (.iload 6, 2) := dk_21 6 (dk_at dksX3_steps_4 10 rfl rfl)
theorem dX3_steps_102 : decode cX3_steps 102 = .ok (.ireturn, 1) := dk_172 (dk_at dksX3_steps_4 12 rfl rfl)
abbrev cX3_join : ByteArray := prog_15_method_28_code
def yX3_join : MethodName := ⟨RX3, "join", "(II)I"⟩
def dkwX3_join_5 : List UInt8 := [180, 0, 16, 45, 182, 0, 97, 87, 42, 180, 0, 16, 182, 0, 40, 4, 100, 172]
abbrev dktX3_join_5 : List UInt8 := dkwX3_join_5 ++ []
def dkwX3_join_4 : List UInt8 := [180, 0, 16, 182, 0, 40, 79, 89, 4, 45, 180, 0, 57, 79, 89, 5, 27, 79, 182, 0, 97, 87, 42]
abbrev dktX3_join_4 : List UInt8 := dkwX3_join_4 ++ dktX3_join_5
def dkwX3_join_3 : List UInt8 := [183, 0, 242, 78, 45, 42, 180, 0, 48, 28, 100, 181, 0, 57, 42, 180, 0, 19, 6, 188, 10, 89, 3, 42]
abbrev dktX3_join_3 : List UInt8 := dkwX3_join_3 ++ dktX3_join_4
def dkwX3_join_2 : List UInt8 := [16, 8, 160, 0, 7, 4, 167, 0, 4, 3, 6, 182, 0, 36, 153, 0, 5, 3, 172, 187, 0, 55, 89]
abbrev dktX3_join_2 : List UInt8 := dkwX3_join_2 ++ dktX3_join_3
def dkwX3_join_1 : List UInt8 := [154, 0, 7, 4, 167, 0, 4, 3, 5, 182, 0, 36, 154, 0, 28, 42, 42, 180, 0, 16, 182, 0, 40]
abbrev dktX3_join_1 : List UInt8 := dkwX3_join_1 ++ dktX3_join_2
def dkwX3_join_0 : List UInt8 := [42, 42, 27, 182, 0, 229, 4, 182, 0, 219, 154, 0, 53, 42, 28, 3, 42, 180, 0, 48, 184, 0, 44]
abbrev dktX3_join_0 : List UInt8 := dkwX3_join_0 ++ dktX3_join_1
theorem dksX3_join_0 : cX3_join.data.toList.drop 0 = dktX3_join_0 := by decide +kernel
theorem dksX3_join_1 : cX3_join.data.toList.drop 23 = dktX3_join_1 := dk_seg dksX3_join_0 23 rfl rfl
theorem dksX3_join_2 : cX3_join.data.toList.drop 46 = dktX3_join_2 := dk_seg dksX3_join_1 23 rfl rfl
theorem dksX3_join_3 : cX3_join.data.toList.drop 69 = dktX3_join_3 := dk_seg dksX3_join_2 23 rfl rfl
theorem dksX3_join_4 : cX3_join.data.toList.drop 93 = dktX3_join_4 := dk_seg dksX3_join_3 24 rfl rfl
theorem dksX3_join_5 : cX3_join.data.toList.drop 116 = dktX3_join_5 := dk_seg dksX3_join_4 23 rfl rfl
theorem dX3_join_0 : decode cX3_join 0 = .ok (.aload_n 0, 1) := dk_42 (dk_at dksX3_join_0 0 rfl rfl)
theorem dX3_join_1 : decode cX3_join 1 = .ok (.aload_n 0, 1) := dk_42 (dk_at dksX3_join_0 1 rfl rfl)
theorem dX3_join_2 : decode cX3_join 2 = .ok (.iload_n 1, 1) := dk_27 (dk_at dksX3_join_0 2 rfl rfl)
theorem dX3_join_3 : decode cX3_join 3 = .ok (.invokevirtual 229, 3) := dk_182 0 229 (dk_at dksX3_join_0 3 rfl rfl)
theorem dX3_join_6 : decode cX3_join 6 = .ok (.iconst 1, 1) := dk_4 (dk_at dksX3_join_0 6 rfl rfl)
theorem dX3_join_7 : decode cX3_join 7 = .ok (.invokevirtual 219, 3) := dk_182 0 219 (dk_at dksX3_join_0 7 rfl rfl)
theorem dX3_join_10 : decode cX3_join 10 = .ok (.ifCond .ne 53, 3) := dk_154 0 53 (dk_at dksX3_join_0 10 rfl rfl)
theorem dX3_join_13 : decode cX3_join 13 = .ok (.aload_n 0, 1) := dk_42 (dk_at dksX3_join_0 13 rfl rfl)
theorem dX3_join_14 : decode cX3_join 14 = .ok (.iload_n 2, 1) := dk_28 (dk_at dksX3_join_0 14 rfl rfl)
theorem dX3_join_15 : decode cX3_join 15 = .ok (.iconst 0, 1) := dk_3 (dk_at dksX3_join_0 15 rfl rfl)
theorem dX3_join_16 : decode cX3_join 16 = .ok (.aload_n 0, 1) := dk_42 (dk_at dksX3_join_0 16 rfl rfl)
theorem dX3_join_17 : decode cX3_join 17 = .ok (.getfield 48, 3) := dk_180 0 48 (dk_at dksX3_join_0 17 rfl rfl)
theorem dX3_join_20 : decode cX3_join 20 = .ok (.invokestatic 44, 3) := dk_184 0 44 (dk_at dksX3_join_0 20 rfl rfl)
theorem dX3_join_23 : decode cX3_join 23 = .ok (.ifCond .ne 7, 3) := dk_154 0 7 (dk_at dksX3_join_1 0 rfl rfl)
theorem dX3_join_26 : decode cX3_join 26 = .ok (.iconst 1, 1) := dk_4 (dk_at dksX3_join_1 3 rfl rfl)
theorem dX3_join_27 : decode cX3_join 27 = .ok (.goto 4, 3) := dk_167 0 4 (dk_at dksX3_join_1 4 rfl rfl)
theorem dX3_join_30 : decode cX3_join 30 = .ok (.iconst 0, 1) := dk_3 (dk_at dksX3_join_1 7 rfl rfl)
theorem dX3_join_31 : decode cX3_join 31 = .ok (.iconst 2, 1) := dk_5 (dk_at dksX3_join_1 8 rfl rfl)
theorem dX3_join_32 : decode cX3_join 32 = .ok (.invokevirtual 36, 3) := dk_182 0 36 (dk_at dksX3_join_1 9 rfl rfl)
theorem dX3_join_35 : decode cX3_join 35 = .ok (.ifCond .ne 28, 3) := dk_154 0 28 (dk_at dksX3_join_1 12 rfl rfl)
theorem dX3_join_38 : decode cX3_join 38 = .ok (.aload_n 0, 1) := dk_42 (dk_at dksX3_join_1 15 rfl rfl)
theorem dX3_join_39 : decode cX3_join 39 = .ok (.aload_n 0, 1) := dk_42 (dk_at dksX3_join_1 16 rfl rfl)
theorem dX3_join_40 : decode cX3_join 40 = .ok (.getfield 16, 3) := dk_180 0 16 (dk_at dksX3_join_1 17 rfl rfl)
theorem dX3_join_43 : decode cX3_join 43 = .ok (.invokevirtual 40, 3) := dk_182 0 40 (dk_at dksX3_join_1 20 rfl rfl)
theorem dX3_join_46 : decode cX3_join 46 = .ok (.bipush 8, 2) := dk_16 8 (dk_at dksX3_join_2 0 rfl rfl)
theorem dX3_join_48 : decode cX3_join 48 = .ok (.if_icmp .ne 7, 3) := dk_160 0 7 (dk_at dksX3_join_2 2 rfl rfl)
theorem dX3_join_51 : decode cX3_join 51 = .ok (.iconst 1, 1) := dk_4 (dk_at dksX3_join_2 5 rfl rfl)
theorem dX3_join_52 : decode cX3_join 52 = .ok (.goto 4, 3) := dk_167 0 4 (dk_at dksX3_join_2 6 rfl rfl)
theorem dX3_join_55 : decode cX3_join 55 = .ok (.iconst 0, 1) := dk_3 (dk_at dksX3_join_2 9 rfl rfl)
theorem dX3_join_56 : decode cX3_join 56 = .ok (.iconst 3, 1) := dk_6 (dk_at dksX3_join_2 10 rfl rfl)
theorem dX3_join_57 : decode cX3_join 57 = .ok (.invokevirtual 36, 3) := dk_182 0 36 (dk_at dksX3_join_2 11 rfl rfl)
theorem dX3_join_60 : decode cX3_join 60 = .ok (.ifCond .eq 5, 3) := dk_153 0 5 (dk_at dksX3_join_2 14 rfl rfl)
theorem dX3_join_63 : decode cX3_join 63 = .ok (.iconst 0, 1) := dk_3 (dk_at dksX3_join_2 17 rfl rfl)
theorem dX3_join_64 : decode cX3_join 64 = .ok (.ireturn, 1) := dk_172 (dk_at dksX3_join_2 18 rfl rfl)
theorem dX3_join_65 : decode cX3_join 65 = .ok (.new 55, 3) := dk_187 0 55 (dk_at dksX3_join_2 19 rfl rfl)
theorem dX3_join_68 : decode cX3_join 68 = .ok (.dup, 1) := dk_89 (dk_at dksX3_join_2 22 rfl rfl)
theorem dX3_join_69 : decode cX3_join 69 = .ok (.invokespecial 242, 3) := dk_183 0 242 (dk_at dksX3_join_3 0 rfl rfl)
theorem dX3_join_72 : decode cX3_join 72 = .ok (.astore_n 3, 1) := dk_78 (dk_at dksX3_join_3 3 rfl rfl)
theorem dX3_join_73 : decode cX3_join 73 = .ok (.aload_n 3, 1) := dk_45 (dk_at dksX3_join_3 4 rfl rfl)
theorem dX3_join_74 : decode cX3_join 74 = .ok (.aload_n 0, 1) := dk_42 (dk_at dksX3_join_3 5 rfl rfl)
theorem dX3_join_75 : decode cX3_join 75 = .ok (.getfield 48, 3) := dk_180 0 48 (dk_at dksX3_join_3 6 rfl rfl)
theorem dX3_join_78 : decode cX3_join 78 = .ok (.iload_n 2, 1) := dk_28 (dk_at dksX3_join_3 9 rfl rfl)
theorem dX3_join_79 : decode cX3_join 79 = .ok (.isub, 1) := dk_100 (dk_at dksX3_join_3 10 rfl rfl)
theorem dX3_join_80 : decode cX3_join 80 = .ok (.putfield 57, 3) := dk_181 0 57 (dk_at dksX3_join_3 11 rfl rfl)
theorem dX3_join_83 : decode cX3_join 83 = .ok (.aload_n 0, 1) := dk_42 (dk_at dksX3_join_3 14 rfl rfl)
theorem dX3_join_84 : decode cX3_join 84 = .ok (.getfield 19, 3) := dk_180 0 19 (dk_at dksX3_join_3 15 rfl rfl)
theorem dX3_join_87 : decode cX3_join 87 = .ok (.iconst 3, 1) := dk_6 (dk_at dksX3_join_3 18 rfl rfl)
theorem dX3_join_88 : decode cX3_join 88 = .ok (.newarray .int, 2) := dk_188_10 (dk_at dksX3_join_3 19 rfl rfl)
theorem dX3_join_90 : decode cX3_join 90 = .ok (.dup, 1) := dk_89 (dk_at dksX3_join_3 21 rfl rfl)
theorem dX3_join_91 : decode cX3_join 91 = .ok (.iconst 0, 1) := dk_3 (dk_at dksX3_join_3 22 rfl rfl)
theorem dX3_join_92 : decode cX3_join 92 = .ok (.aload_n 0, 1) := dk_42 (dk_at dksX3_join_3 23 rfl rfl)
theorem dX3_join_93 : decode cX3_join 93 = .ok (.getfield 16, 3) := dk_180 0 16 (dk_at dksX3_join_4 0 rfl rfl)
theorem dX3_join_96 : decode cX3_join 96 = .ok (.invokevirtual 40, 3) := dk_182 0 40 (dk_at dksX3_join_4 3 rfl rfl)
theorem dX3_join_99 : decode cX3_join 99 = .ok (.iastore, 1) := dk_79 (dk_at dksX3_join_4 6 rfl rfl)
theorem dX3_join_100 : decode cX3_join 100 = .ok (.dup, 1) := dk_89 (dk_at dksX3_join_4 7 rfl rfl)
theorem dX3_join_101 : decode cX3_join 101 = .ok (.iconst 1, 1) := dk_4 (dk_at dksX3_join_4 8 rfl rfl)
theorem dX3_join_102 : decode cX3_join 102 = .ok (.aload_n 3, 1) := dk_45 (dk_at dksX3_join_4 9 rfl rfl)
theorem dX3_join_103 : decode cX3_join 103 = .ok (.getfield 57, 3) := dk_180 0 57 (dk_at dksX3_join_4 10 rfl rfl)
theorem dX3_join_106 : decode cX3_join 106 = .ok (.iastore, 1) := dk_79 (dk_at dksX3_join_4 13 rfl rfl)
theorem dX3_join_107 : decode cX3_join 107 = .ok (.dup, 1) := dk_89 (dk_at dksX3_join_4 14 rfl rfl)
theorem dX3_join_108 : decode cX3_join 108 = .ok (.iconst 2, 1) := dk_5 (dk_at dksX3_join_4 15 rfl rfl)
theorem dX3_join_109 : decode cX3_join 109 = .ok (.iload_n 1, 1) := dk_27 (dk_at dksX3_join_4 16 rfl rfl)
theorem dX3_join_110 : decode cX3_join 110 = .ok (.iastore, 1) := dk_79 (dk_at dksX3_join_4 17 rfl rfl)
theorem dX3_join_111 : decode cX3_join 111 = .ok (.invokevirtual 97, 3) := dk_182 0 97 (dk_at dksX3_join_4 18 rfl rfl)
theorem dX3_join_114 : decode cX3_join 114 = .ok (.pop, 1) := dk_87 (dk_at dksX3_join_4 21 rfl rfl)
theorem dX3_join_115 : decode cX3_join 115 = .ok (.aload_n 0, 1) := dk_42 (dk_at dksX3_join_4 22 rfl rfl)
theorem dX3_join_116 : decode cX3_join 116 = .ok (.getfield 16, 3) := dk_180 0 16 (dk_at dksX3_join_5 0 rfl rfl)
theorem dX3_join_119 : decode cX3_join 119 = .ok (.aload_n 3, 1) := dk_45 (dk_at dksX3_join_5 3 rfl rfl)
theorem dX3_join_120 : decode cX3_join 120 = .ok (.invokevirtual 97, 3) := dk_182 0 97 (dk_at dksX3_join_5 4 rfl rfl)
theorem dX3_join_123 : decode cX3_join 123 = .ok (.pop, 1) := dk_87 (dk_at dksX3_join_5 7 rfl rfl)
theorem dX3_join_124 : decode cX3_join 124 = .ok (.aload_n 0, 1) := dk_42 (dk_at dksX3_join_5 8 rfl rfl)
theorem dX3_join_125 : decode cX3_join 125 = .ok (.getfield 16, 3) := dk_180 0 16 (dk_at dksX3_join_5 9 rfl rfl)
theorem dX3_join_128 : decode cX3_join 128 = .ok (.invokevirtual 40, 3) := dk_182 0 40 (dk_at dksX3_join_5 12 rfl rfl)
theorem dX3_join_131 : decode cX3_join 131 = .ok (.iconst 1, 1) := dk_4 (dk_at dksX3_join_5 15 rfl rfl)
theorem dX3_join_132 : decode cX3_join 132 = .ok (.isub, 1) := dk_100 (dk_at dksX3_join_5 16 rfl rfl)
theorem dX3_join_133 : decode cX3_join 133 = .ok (.ireturn, 1) := dk_172 (dk_at dksX3_join_5 17 rfl rfl)
abbrev cX3_change : ByteArray := prog_15_method_29_code
def yX3_change : MethodName := ⟨RX3, "change", "(II)I"⟩
def dkwX3_change_3 : List UInt8 := [87, 29, 172]
abbrev dktX3_change_3 : List UInt8 := dkwX3_change_3 ++ []
def dkwX3_change_2 : List UInt8 := [180, 0, 19, 6, 188, 10, 89, 3, 27, 79, 89, 4, 42, 180, 0, 48, 79, 89, 5, 28, 79, 182, 0, 97]
abbrev dktX3_change_2 : List UInt8 := dkwX3_change_2 ++ dktX3_change_3
def dkwX3_change_1 : List UInt8 := [182, 0, 219, 153, 0, 5, 3, 172, 42, 180, 0, 19, 27, 42, 180, 0, 48, 2, 184, 0, 61, 62, 42]
abbrev dktX3_change_1 : List UInt8 := dkwX3_change_1 ++ dktX3_change_2
def dkwX3_change_0 : List UInt8 := [42, 42, 27, 182, 0, 243, 154, 0, 11, 42, 28, 182, 0, 229, 153, 0, 7, 4, 167, 0, 4, 3, 4]
abbrev dktX3_change_0 : List UInt8 := dkwX3_change_0 ++ dktX3_change_1
theorem dksX3_change_0 : cX3_change.data.toList.drop 0 = dktX3_change_0 := by decide +kernel
theorem dksX3_change_1 : cX3_change.data.toList.drop 23 = dktX3_change_1 := dk_seg dksX3_change_0 23 rfl rfl
theorem dksX3_change_2 : cX3_change.data.toList.drop 46 = dktX3_change_2 := dk_seg dksX3_change_1 23 rfl rfl
theorem dksX3_change_3 : cX3_change.data.toList.drop 70 = dktX3_change_3 := dk_seg dksX3_change_2 24 rfl rfl
theorem dX3_change_0 : decode cX3_change 0 = .ok (.aload_n 0, 1) := dk_42 (dk_at dksX3_change_0 0 rfl rfl)
theorem dX3_change_1 : decode cX3_change 1 = .ok (.aload_n 0, 1) := dk_42 (dk_at dksX3_change_0 1 rfl rfl)
theorem dX3_change_2 : decode cX3_change 2 = .ok (.iload_n 1, 1) := dk_27 (dk_at dksX3_change_0 2 rfl rfl)
theorem dX3_change_3 : decode cX3_change 3 = .ok (.invokevirtual 243, 3) := dk_182 0 243 (dk_at dksX3_change_0 3 rfl rfl)
theorem dX3_change_6 : decode cX3_change 6 = .ok (.ifCond .ne 11, 3) := dk_154 0 11 (dk_at dksX3_change_0 6 rfl rfl)
theorem dX3_change_9 : decode cX3_change 9 = .ok (.aload_n 0, 1) := dk_42 (dk_at dksX3_change_0 9 rfl rfl)
theorem dX3_change_10 : decode cX3_change 10 = .ok (.iload_n 2, 1) := dk_28 (dk_at dksX3_change_0 10 rfl rfl)
theorem dX3_change_11 : decode cX3_change 11 = .ok (.invokevirtual 229, 3) := dk_182 0 229 (dk_at dksX3_change_0 11 rfl rfl)
theorem dX3_change_14 : decode cX3_change 14 = .ok (.ifCond .eq 7, 3) := dk_153 0 7 (dk_at dksX3_change_0 14 rfl rfl)
theorem dX3_change_17 : decode cX3_change 17 = .ok (.iconst 1, 1) := dk_4 (dk_at dksX3_change_0 17 rfl rfl)
theorem dX3_change_18 : decode cX3_change 18 = .ok (.goto 4, 3) := dk_167 0 4 (dk_at dksX3_change_0 18 rfl rfl)
theorem dX3_change_21 : decode cX3_change 21 = .ok (.iconst 0, 1) := dk_3 (dk_at dksX3_change_0 21 rfl rfl)
theorem dX3_change_22 : decode cX3_change 22 = .ok (.iconst 1, 1) := dk_4 (dk_at dksX3_change_0 22 rfl rfl)
theorem dX3_change_23 : decode cX3_change 23 = .ok (.invokevirtual 219, 3) := dk_182 0 219 (dk_at dksX3_change_1 0 rfl rfl)
theorem dX3_change_26 : decode cX3_change 26 = .ok (.ifCond .eq 5, 3) := dk_153 0 5 (dk_at dksX3_change_1 3 rfl rfl)
theorem dX3_change_29 : decode cX3_change 29 = .ok (.iconst 0, 1) := dk_3 (dk_at dksX3_change_1 6 rfl rfl)
theorem dX3_change_30 : decode cX3_change 30 = .ok (.ireturn, 1) := dk_172 (dk_at dksX3_change_1 7 rfl rfl)
theorem dX3_change_31 : decode cX3_change 31 = .ok (.aload_n 0, 1) := dk_42 (dk_at dksX3_change_1 8 rfl rfl)
theorem dX3_change_32 : decode cX3_change 32 = .ok (.getfield 19, 3) := dk_180 0 19 (dk_at dksX3_change_1 9 rfl rfl)
theorem dX3_change_35 : decode cX3_change 35 = .ok (.iload_n 1, 1) := dk_27 (dk_at dksX3_change_1 12 rfl rfl)
theorem dX3_change_36 : decode cX3_change 36 = .ok (.aload_n 0, 1) := dk_42 (dk_at dksX3_change_1 13 rfl rfl)
theorem dX3_change_37 : decode cX3_change 37 = .ok (.getfield 48, 3) := dk_180 0 48 (dk_at dksX3_change_1 14 rfl rfl)
theorem dX3_change_40 : decode cX3_change 40 = .ok (.iconst (-1), 1) := dk_2 (dk_at dksX3_change_1 17 rfl rfl)
theorem dX3_change_41 : decode cX3_change 41 = .ok (.invokestatic 61, 3) := dk_184 0 61 (dk_at dksX3_change_1 18 rfl rfl)
theorem dX3_change_44 : decode cX3_change 44 = .ok (.istore_n 3, 1) := dk_62 (dk_at dksX3_change_1 21 rfl rfl)
theorem dX3_change_45 : decode cX3_change 45 = .ok (.aload_n 0, 1) := dk_42 (dk_at dksX3_change_1 22 rfl rfl)
theorem dX3_change_46 : decode cX3_change 46 = .ok (.getfield 19, 3) := dk_180 0 19 (dk_at dksX3_change_2 0 rfl rfl)
theorem dX3_change_49 : decode cX3_change 49 = .ok (.iconst 3, 1) := dk_6 (dk_at dksX3_change_2 3 rfl rfl)
theorem dX3_change_50 : decode cX3_change 50 = .ok (.newarray .int, 2) := dk_188_10 (dk_at dksX3_change_2 4 rfl rfl)
theorem dX3_change_52 : decode cX3_change 52 = .ok (.dup, 1) := dk_89 (dk_at dksX3_change_2 6 rfl rfl)
theorem dX3_change_53 : decode cX3_change 53 = .ok (.iconst 0, 1) := dk_3 (dk_at dksX3_change_2 7 rfl rfl)
theorem dX3_change_54 : decode cX3_change 54 = .ok (.iload_n 1, 1) := dk_27 (dk_at dksX3_change_2 8 rfl rfl)
theorem dX3_change_55 : decode cX3_change 55 = .ok (.iastore, 1) := dk_79 (dk_at dksX3_change_2 9 rfl rfl)
theorem dX3_change_56 : decode cX3_change 56 = .ok (.dup, 1) := dk_89 (dk_at dksX3_change_2 10 rfl rfl)
theorem dX3_change_57 : decode cX3_change 57 = .ok (.iconst 1, 1) := dk_4 (dk_at dksX3_change_2 11 rfl rfl)
theorem dX3_change_58 : decode cX3_change 58 = .ok (.aload_n 0, 1) := dk_42 (dk_at dksX3_change_2 12 rfl rfl)
theorem dX3_change_59 : decode cX3_change 59 = .ok (.getfield 48, 3) := dk_180 0 48 (dk_at dksX3_change_2 13 rfl rfl)
theorem dX3_change_62 : decode cX3_change 62 = .ok (.iastore, 1) := dk_79 (dk_at dksX3_change_2 16 rfl rfl)
theorem dX3_change_63 : decode cX3_change 63 = .ok (.dup, 1) := dk_89 (dk_at dksX3_change_2 17 rfl rfl)
theorem dX3_change_64 : decode cX3_change 64 = .ok (.iconst 2, 1) := dk_5 (dk_at dksX3_change_2 18 rfl rfl)
theorem dX3_change_65 : decode cX3_change 65 = .ok (.iload_n 2, 1) := dk_28 (dk_at dksX3_change_2 19 rfl rfl)
theorem dX3_change_66 : decode cX3_change 66 = .ok (.iastore, 1) := dk_79 (dk_at dksX3_change_2 20 rfl rfl)
theorem dX3_change_67 : decode cX3_change 67 = .ok (.invokevirtual 97, 3) := dk_182 0 97 (dk_at dksX3_change_2 21 rfl rfl)
theorem dX3_change_70 : decode cX3_change 70 = .ok (.pop, 1) := dk_87 (dk_at dksX3_change_3 0 rfl rfl)
theorem dX3_change_71 : decode cX3_change 71 = .ok (.iload_n 3, 1) := dk_29 (dk_at dksX3_change_3 1 rfl rfl)
theorem dX3_change_72 : decode cX3_change 72 = .ok (.ireturn, 1) := dk_172 (dk_at dksX3_change_3 2 rfl rfl)
abbrev cX3_isNoCustomer : ByteArray := prog_15_method_8_code
def yX3_isNoCustomer : MethodName := ⟨RX3, "isNoCustomer", "(I)Z"⟩
def dkwX3_isNoCustomer_0 : List UInt8 := [27, 3, 42, 180, 0, 16, 182, 0, 40, 4, 100, 184, 0, 44, 154, 0, 7, 4, 167, 0, 4, 3, 172]
abbrev dktX3_isNoCustomer_0 : List UInt8 := dkwX3_isNoCustomer_0 ++ []
theorem dksX3_isNoCustomer_0 : cX3_isNoCustomer.data.toList.drop 0 = dktX3_isNoCustomer_0 := by decide +kernel
theorem dX3_isNoCustomer_0 : decode cX3_isNoCustomer 0 = .ok (.iload_n 1, 1) := dk_27 (dk_at dksX3_isNoCustomer_0 0 rfl rfl)
theorem dX3_isNoCustomer_1 : decode cX3_isNoCustomer 1 = .ok (.iconst 0, 1) := dk_3 (dk_at dksX3_isNoCustomer_0 1 rfl rfl)
theorem dX3_isNoCustomer_2 : decode cX3_isNoCustomer 2 = .ok (.aload_n 0, 1) := dk_42 (dk_at dksX3_isNoCustomer_0 2 rfl rfl)
theorem dX3_isNoCustomer_3 : decode cX3_isNoCustomer 3 = .ok (.getfield 16, 3) := dk_180 0 16 (dk_at dksX3_isNoCustomer_0 3 rfl rfl)
theorem dX3_isNoCustomer_6 : decode cX3_isNoCustomer 6 = .ok (.invokevirtual 40, 3) := dk_182 0 40 (dk_at dksX3_isNoCustomer_0 6 rfl rfl)
theorem dX3_isNoCustomer_9 : decode cX3_isNoCustomer 9 = .ok (.iconst 1, 1) := dk_4 (dk_at dksX3_isNoCustomer_0 9 rfl rfl)
theorem dX3_isNoCustomer_10 : decode cX3_isNoCustomer 10 = .ok (.isub, 1) := dk_100 (dk_at dksX3_isNoCustomer_0 10 rfl rfl)
theorem dX3_isNoCustomer_11 : decode cX3_isNoCustomer 11 = .ok (.invokestatic 44, 3) := dk_184 0 44 (dk_at dksX3_isNoCustomer_0 11 rfl rfl)
theorem dX3_isNoCustomer_14 : decode cX3_isNoCustomer 14 = .ok (.ifCond .ne 7, 3) := dk_154 0 7 (dk_at dksX3_isNoCustomer_0 14 rfl rfl)
theorem dX3_isNoCustomer_17 : decode cX3_isNoCustomer 17 = .ok (.iconst 1, 1) := dk_4 (dk_at dksX3_isNoCustomer_0 17 rfl rfl)
theorem dX3_isNoCustomer_18 : decode cX3_isNoCustomer 18 = .ok (.goto 4, 3) := dk_167 0 4 (dk_at dksX3_isNoCustomer_0 18 rfl rfl)
theorem dX3_isNoCustomer_21 : decode cX3_isNoCustomer 21 = .ok (.iconst 0, 1) := dk_3 (dk_at dksX3_isNoCustomer_0 21 rfl rfl)
theorem dX3_isNoCustomer_22 : decode cX3_isNoCustomer 22 = .ok (.ireturn, 1) := dk_172 (dk_at dksX3_isNoCustomer_0 22 rfl rfl)
abbrev cX3_latest : ByteArray := prog_15_method_14_code
def yX3_latest : MethodName := ⟨RX3, "latest", "(Ljava/util/ArrayList;III)I"⟩
def dkwX3_latest_2 : List UInt8 := [182, 0, 51, 192, 0, 60, 5, 46, 172, 132, 4, 255, 167, 255, 206, 29, 172]
abbrev dktX3_latest_2 : List UInt8 := dkwX3_latest_2 ++ []
def dkwX3_latest_1 : List UInt8 := [27, 160, 0, 30, 42, 21, 4, 182, 0, 51, 192, 0, 60, 4, 46, 28, 163, 0, 15, 42, 21, 4]
abbrev dktX3_latest_1 : List UInt8 := dkwX3_latest_1 ++ dktX3_latest_2
def dkwX3_latest_0 : List UInt8 := [42, 182, 0, 40, 4, 100, 54, 4, 21, 4, 155, 0, 51, 42, 21, 4, 182, 0, 51, 192, 0, 60, 3, 46]
abbrev dktX3_latest_0 : List UInt8 := dkwX3_latest_0 ++ dktX3_latest_1
theorem dksX3_latest_0 : cX3_latest.data.toList.drop 0 = dktX3_latest_0 := by decide +kernel
theorem dksX3_latest_1 : cX3_latest.data.toList.drop 24 = dktX3_latest_1 := dk_seg dksX3_latest_0 24 rfl rfl
theorem dksX3_latest_2 : cX3_latest.data.toList.drop 46 = dktX3_latest_2 := dk_seg dksX3_latest_1 22 rfl rfl
theorem dX3_latest_0 : decode cX3_latest 0 = .ok (.aload_n 0, 1) := dk_42 (dk_at dksX3_latest_0 0 rfl rfl)
theorem dX3_latest_1 : decode cX3_latest 1 = .ok (.invokevirtual 40, 3) := dk_182 0 40 (dk_at dksX3_latest_0 1 rfl rfl)
theorem dX3_latest_4 : decode cX3_latest 4 = .ok (.iconst 1, 1) := dk_4 (dk_at dksX3_latest_0 4 rfl rfl)
theorem dX3_latest_5 : decode cX3_latest 5 = .ok (.isub, 1) := dk_100 (dk_at dksX3_latest_0 5 rfl rfl)
theorem dX3_latest_6 : decode cX3_latest 6 = .ok (.istore 4, 2) := dk_54 4 (dk_at dksX3_latest_0 6 rfl rfl)
theorem dX3_latest_8 : decode cX3_latest 8 = .ok (.iload 4, 2) := dk_21 4 (dk_at dksX3_latest_0 8 rfl rfl)
theorem dX3_latest_10 : decode cX3_latest 10 = .ok (.ifCond .lt 51, 3) := dk_155 0 51 (dk_at dksX3_latest_0 10 rfl rfl)
theorem dX3_latest_13 : decode cX3_latest 13 = .ok (.aload_n 0, 1) := dk_42 (dk_at dksX3_latest_0 13 rfl rfl)
theorem dX3_latest_14 : decode cX3_latest 14 = .ok (.iload 4, 2) := dk_21 4 (dk_at dksX3_latest_0 14 rfl rfl)
theorem dX3_latest_16 : decode cX3_latest 16 = .ok (.invokevirtual 51, 3) := dk_182 0 51 (dk_at dksX3_latest_0 16 rfl rfl)
theorem dX3_latest_19 : decode cX3_latest 19 = .ok (.checkcast 60, 3) := dk_192 0 60 (dk_at dksX3_latest_0 19 rfl rfl)
theorem dX3_latest_22 : decode cX3_latest 22 = .ok (.iconst 0, 1) := dk_3 (dk_at dksX3_latest_0 22 rfl rfl)
theorem dX3_latest_23 : decode cX3_latest 23 = .ok (.iaload, 1) := dk_46 (dk_at dksX3_latest_0 23 rfl rfl)
theorem dX3_latest_24 : decode cX3_latest 24 = .ok (.iload_n 1, 1) := dk_27 (dk_at dksX3_latest_1 0 rfl rfl)
theorem dX3_latest_25 : decode cX3_latest 25 = .ok (.if_icmp .ne 30, 3) := dk_160 0 30 (dk_at dksX3_latest_1 1 rfl rfl)
theorem dX3_latest_28 : decode cX3_latest 28 = .ok (.aload_n 0, 1) := dk_42 (dk_at dksX3_latest_1 4 rfl rfl)
theorem dX3_latest_29 : decode cX3_latest 29 = .ok (.iload 4, 2) := dk_21 4 (dk_at dksX3_latest_1 5 rfl rfl)
theorem dX3_latest_31 : decode cX3_latest 31 = .ok (.invokevirtual 51, 3) := dk_182 0 51 (dk_at dksX3_latest_1 7 rfl rfl)
theorem dX3_latest_34 : decode cX3_latest 34 = .ok (.checkcast 60, 3) := dk_192 0 60 (dk_at dksX3_latest_1 10 rfl rfl)
theorem dX3_latest_37 : decode cX3_latest 37 = .ok (.iconst 1, 1) := dk_4 (dk_at dksX3_latest_1 13 rfl rfl)
theorem dX3_latest_38 : decode cX3_latest 38 = .ok (.iaload, 1) := dk_46 (dk_at dksX3_latest_1 14 rfl rfl)
theorem dX3_latest_39 : decode cX3_latest 39 = .ok (.iload_n 2, 1) := dk_28 (dk_at dksX3_latest_1 15 rfl rfl)
theorem dX3_latest_40 : decode cX3_latest 40 = .ok (.if_icmp .gt 15, 3) := dk_163 0 15 (dk_at dksX3_latest_1 16 rfl rfl)
theorem dX3_latest_43 : decode cX3_latest 43 = .ok (.aload_n 0, 1) := dk_42 (dk_at dksX3_latest_1 19 rfl rfl)
theorem dX3_latest_44 : decode cX3_latest 44 = .ok (.iload 4, 2) := dk_21 4 (dk_at dksX3_latest_1 20 rfl rfl)
theorem dX3_latest_46 : decode cX3_latest 46 = .ok (.invokevirtual 51, 3) := dk_182 0 51 (dk_at dksX3_latest_2 0 rfl rfl)
theorem dX3_latest_49 : decode cX3_latest 49 = .ok (.checkcast 60, 3) := dk_192 0 60 (dk_at dksX3_latest_2 3 rfl rfl)
theorem dX3_latest_52 : decode cX3_latest 52 = .ok (.iconst 2, 1) := dk_5 (dk_at dksX3_latest_2 6 rfl rfl)
theorem dX3_latest_53 : decode cX3_latest 53 = .ok (.iaload, 1) := dk_46 (dk_at dksX3_latest_2 7 rfl rfl)
theorem dX3_latest_54 : decode cX3_latest 54 = .ok (.ireturn, 1) := dk_172 (dk_at dksX3_latest_2 8 rfl rfl)
theorem dX3_latest_55 : decode cX3_latest 55 = .ok (.iinc 4 (-1), 3) := dk_132 4 255 (dk_at dksX3_latest_2 9 rfl rfl)
theorem dX3_latest_58 : decode cX3_latest 58 = .ok (.goto (-50), 3) := dk_167 255 206 (dk_at dksX3_latest_2 12 rfl rfl)
theorem dX3_latest_61 : decode cX3_latest 61 = .ok (.iload_n 3, 1) := dk_29 (dk_at dksX3_latest_2 15 rfl rfl)
theorem dX3_latest_62 : decode cX3_latest 62 = .ok (.ireturn, 1) := dk_172 (dk_at dksX3_latest_2 16 rfl rfl)
abbrev cX3_circle : ByteArray := prog_15_method_31_code
def yX3_circle : MethodName := ⟨RX3, "circle", "(II)I"⟩
def dkwX3_circle_2 : List UInt8 := [180, 0, 16, 27, 182, 0, 51, 192, 0, 55, 28, 181, 0, 155, 28, 184, 0, 247, 172]
abbrev dktX3_circle_2 : List UInt8 := dkwX3_circle_2 ++ []
def dkwX3_circle_1 : List UInt8 := [28, 184, 0, 247, 7, 164, 0, 7, 4, 167, 0, 4, 3, 5, 182, 0, 36, 153, 0, 5, 3, 172, 42]
abbrev dktX3_circle_1 : List UInt8 := dkwX3_circle_1 ++ dktX3_circle_2
def dkwX3_circle_0 : List UInt8 := [42, 42, 27, 182, 0, 243, 4, 182, 0, 219, 154, 0, 34, 42, 28, 3, 18, 246, 184, 0, 44, 153, 0, 11]
abbrev dktX3_circle_0 : List UInt8 := dkwX3_circle_0 ++ dktX3_circle_1
theorem dksX3_circle_0 : cX3_circle.data.toList.drop 0 = dktX3_circle_0 := by decide +kernel
theorem dksX3_circle_1 : cX3_circle.data.toList.drop 24 = dktX3_circle_1 := dk_seg dksX3_circle_0 24 rfl rfl
theorem dksX3_circle_2 : cX3_circle.data.toList.drop 47 = dktX3_circle_2 := dk_seg dksX3_circle_1 23 rfl rfl
theorem dX3_circle_0 : decode cX3_circle 0 = .ok (.aload_n 0, 1) := dk_42 (dk_at dksX3_circle_0 0 rfl rfl)
theorem dX3_circle_1 : decode cX3_circle 1 = .ok (.aload_n 0, 1) := dk_42 (dk_at dksX3_circle_0 1 rfl rfl)
theorem dX3_circle_2 : decode cX3_circle 2 = .ok (.iload_n 1, 1) := dk_27 (dk_at dksX3_circle_0 2 rfl rfl)
theorem dX3_circle_3 : decode cX3_circle 3 = .ok (.invokevirtual 243, 3) := dk_182 0 243 (dk_at dksX3_circle_0 3 rfl rfl)
theorem dX3_circle_6 : decode cX3_circle 6 = .ok (.iconst 1, 1) := dk_4 (dk_at dksX3_circle_0 6 rfl rfl)
theorem dX3_circle_7 : decode cX3_circle 7 = .ok (.invokevirtual 219, 3) := dk_182 0 219 (dk_at dksX3_circle_0 7 rfl rfl)
theorem dX3_circle_10 : decode cX3_circle 10 = .ok (.ifCond .ne 34, 3) := dk_154 0 34 (dk_at dksX3_circle_0 10 rfl rfl)
theorem dX3_circle_13 : decode cX3_circle 13 = .ok (.aload_n 0, 1) := dk_42 (dk_at dksX3_circle_0 13 rfl rfl)
theorem dX3_circle_14 : decode cX3_circle 14 = .ok (.iload_n 2, 1) := dk_28 (dk_at dksX3_circle_0 14 rfl rfl)
theorem dX3_circle_15 : decode cX3_circle 15 = .ok (.iconst 0, 1) := dk_3 (dk_at dksX3_circle_0 15 rfl rfl)
theorem dX3_circle_16 : decode cX3_circle 16 = .ok (.ldc 246, 2) := dk_18 246 (dk_at dksX3_circle_0 16 rfl rfl)
theorem dX3_circle_18 : decode cX3_circle 18 = .ok (.invokestatic 44, 3) := dk_184 0 44 (dk_at dksX3_circle_0 18 rfl rfl)
theorem dX3_circle_21 : decode cX3_circle 21 = .ok (.ifCond .eq 11, 3) := dk_153 0 11 (dk_at dksX3_circle_0 21 rfl rfl)
theorem dX3_circle_24 : decode cX3_circle 24 = .ok (.iload_n 2, 1) := dk_28 (dk_at dksX3_circle_1 0 rfl rfl)
theorem dX3_circle_25 : decode cX3_circle 25 = .ok (.invokestatic 247, 3) := dk_184 0 247 (dk_at dksX3_circle_1 1 rfl rfl)
theorem dX3_circle_28 : decode cX3_circle 28 = .ok (.iconst 4, 1) := dk_7 (dk_at dksX3_circle_1 4 rfl rfl)
theorem dX3_circle_29 : decode cX3_circle 29 = .ok (.if_icmp .le 7, 3) := dk_164 0 7 (dk_at dksX3_circle_1 5 rfl rfl)
theorem dX3_circle_32 : decode cX3_circle 32 = .ok (.iconst 1, 1) := dk_4 (dk_at dksX3_circle_1 8 rfl rfl)
theorem dX3_circle_33 : decode cX3_circle 33 = .ok (.goto 4, 3) := dk_167 0 4 (dk_at dksX3_circle_1 9 rfl rfl)
theorem dX3_circle_36 : decode cX3_circle 36 = .ok (.iconst 0, 1) := dk_3 (dk_at dksX3_circle_1 12 rfl rfl)
theorem dX3_circle_37 : decode cX3_circle 37 = .ok (.iconst 2, 1) := dk_5 (dk_at dksX3_circle_1 13 rfl rfl)
theorem dX3_circle_38 : decode cX3_circle 38 = .ok (.invokevirtual 36, 3) := dk_182 0 36 (dk_at dksX3_circle_1 14 rfl rfl)
theorem dX3_circle_41 : decode cX3_circle 41 = .ok (.ifCond .eq 5, 3) := dk_153 0 5 (dk_at dksX3_circle_1 17 rfl rfl)
theorem dX3_circle_44 : decode cX3_circle 44 = .ok (.iconst 0, 1) := dk_3 (dk_at dksX3_circle_1 20 rfl rfl)
theorem dX3_circle_45 : decode cX3_circle 45 = .ok (.ireturn, 1) := dk_172 (dk_at dksX3_circle_1 21 rfl rfl)
theorem dX3_circle_46 : decode cX3_circle 46 = .ok (.aload_n 0, 1) := dk_42 (dk_at dksX3_circle_1 22 rfl rfl)
theorem dX3_circle_47 : decode cX3_circle 47 = .ok (.getfield 16, 3) := dk_180 0 16 (dk_at dksX3_circle_2 0 rfl rfl)
theorem dX3_circle_50 : decode cX3_circle 50 = .ok (.iload_n 1, 1) := dk_27 (dk_at dksX3_circle_2 3 rfl rfl)
theorem dX3_circle_51 : decode cX3_circle 51 = .ok (.invokevirtual 51, 3) := dk_182 0 51 (dk_at dksX3_circle_2 4 rfl rfl)
theorem dX3_circle_54 : decode cX3_circle 54 = .ok (.checkcast 55, 3) := dk_192 0 55 (dk_at dksX3_circle_2 7 rfl rfl)
theorem dX3_circle_57 : decode cX3_circle 57 = .ok (.iload_n 2, 1) := dk_28 (dk_at dksX3_circle_2 10 rfl rfl)
theorem dX3_circle_58 : decode cX3_circle 58 = .ok (.putfield 155, 3) := dk_181 0 155 (dk_at dksX3_circle_2 11 rfl rfl)
theorem dX3_circle_61 : decode cX3_circle 61 = .ok (.iload_n 2, 1) := dk_28 (dk_at dksX3_circle_2 14 rfl rfl)
theorem dX3_circle_62 : decode cX3_circle 62 = .ok (.invokestatic 247, 3) := dk_184 0 247 (dk_at dksX3_circle_2 15 rfl rfl)
theorem dX3_circle_65 : decode cX3_circle 65 = .ok (.ireturn, 1) := dk_172 (dk_at dksX3_circle_2 18 rfl rfl)
abbrev cX3_many : ByteArray := prog_15_method_30_code
def yX3_many : MethodName := ⟨RX3, "many", "(I)I"⟩
def dkwX3_many_0 : List UInt8 := [3, 60, 26, 61, 28, 158, 0, 16, 27, 28, 5, 112, 96, 60, 28, 5, 108, 61, 167, 255, 242, 27, 172]
abbrev dktX3_many_0 : List UInt8 := dkwX3_many_0 ++ []
theorem dksX3_many_0 : cX3_many.data.toList.drop 0 = dktX3_many_0 := by decide +kernel
theorem dX3_many_0 : decode cX3_many 0 = .ok (.iconst 0, 1) := dk_3 (dk_at dksX3_many_0 0 rfl rfl)
theorem dX3_many_1 : decode cX3_many 1 = .ok (.istore_n 1, 1) := dk_60 (dk_at dksX3_many_0 1 rfl rfl)
theorem dX3_many_2 : decode cX3_many 2 = .ok (.iload_n 0, 1) := dk_26 (dk_at dksX3_many_0 2 rfl rfl)
theorem dX3_many_3 : decode cX3_many 3 = .ok (.istore_n 2, 1) := dk_61 (dk_at dksX3_many_0 3 rfl rfl)
theorem dX3_many_4 : decode cX3_many 4 = .ok (.iload_n 2, 1) := dk_28 (dk_at dksX3_many_0 4 rfl rfl)
theorem dX3_many_5 : decode cX3_many 5 = .ok (.ifCond .le 16, 3) := dk_158 0 16 (dk_at dksX3_many_0 5 rfl rfl)
theorem dX3_many_8 : decode cX3_many 8 = .ok (.iload_n 1, 1) := dk_27 (dk_at dksX3_many_0 8 rfl rfl)
theorem dX3_many_9 : decode cX3_many 9 = .ok (.iload_n 2, 1) := dk_28 (dk_at dksX3_many_0 9 rfl rfl)
theorem dX3_many_10 : decode cX3_many 10 = .ok (.iconst 2, 1) := dk_5 (dk_at dksX3_many_0 10 rfl rfl)
theorem dX3_many_11 : decode cX3_many 11 = .ok (.irem, 1) := dk_112 (dk_at dksX3_many_0 11 rfl rfl)
theorem dX3_many_12 : decode cX3_many 12 = .ok (.iadd, 1) := dk_96 (dk_at dksX3_many_0 12 rfl rfl)
theorem dX3_many_13 : decode cX3_many 13 = .ok (.istore_n 1, 1) := dk_60 (dk_at dksX3_many_0 13 rfl rfl)
theorem dX3_many_14 : decode cX3_many 14 = .ok (.iload_n 2, 1) := dk_28 (dk_at dksX3_many_0 14 rfl rfl)
theorem dX3_many_15 : decode cX3_many 15 = .ok (.iconst 2, 1) := dk_5 (dk_at dksX3_many_0 15 rfl rfl)
theorem dX3_many_16 : decode cX3_many 16 = .ok (.idiv, 1) := dk_108 (dk_at dksX3_many_0 16 rfl rfl)
theorem dX3_many_17 : decode cX3_many 17 = .ok (.istore_n 2, 1) := dk_61 (dk_at dksX3_many_0 17 rfl rfl)
theorem dX3_many_18 : decode cX3_many 18 = .ok (.goto (-14), 3) := dk_167 255 242 (dk_at dksX3_many_0 18 rfl rfl)
theorem dX3_many_21 : decode cX3_many 21 = .ok (.iload_n 1, 1) := dk_27 (dk_at dksX3_many_0 21 rfl rfl)
theorem dX3_many_22 : decode cX3_many 22 = .ok (.ireturn, 1) := dk_172 (dk_at dksX3_many_0 22 rfl rfl)
abbrev cX3_child : ByteArray := prog_15_method_33_code
def yX3_child : MethodName := ⟨RX3, "child", "(III)I"⟩
def dkwX3_child_6 : List UInt8 := [181, 0, 175, 21, 5, 172]
abbrev dktX3_child_6 : List UInt8 := dkwX3_child_6 ++ []
def dkwX3_child_5 : List UInt8 := [182, 0, 51, 192, 0, 55, 58, 4, 25, 4, 180, 0, 172, 54, 5, 25, 4, 28, 181, 0, 172, 25, 4, 29]
abbrev dktX3_child_5 : List UInt8 := dkwX3_child_5 ++ dktX3_child_6
def dkwX3_child_4 : List UInt8 := [153, 0, 7, 4, 167, 0, 4, 3, 6, 182, 0, 36, 153, 0, 5, 3, 172, 42, 180, 0, 16, 27]
abbrev dktX3_child_4 : List UInt8 := dkwX3_child_4 ++ dktX3_child_5
def dkwX3_child_3 : List UInt8 := [42, 180, 0, 16, 28, 182, 0, 51, 192, 0, 55, 180, 0, 172, 2, 160, 0, 11, 42, 27, 182, 0, 250]
abbrev dktX3_child_3 : List UInt8 := dkwX3_child_3 ++ dktX3_child_4
def dkwX3_child_2 : List UInt8 := [184, 0, 44, 154, 0, 7, 4, 167, 0, 4, 3, 5, 182, 0, 36, 154, 0, 47, 42, 28, 2, 159, 0, 33]
abbrev dktX3_child_2 : List UInt8 := dkwX3_child_2 ++ dktX3_child_3
def dkwX3_child_1 : List UInt8 := [167, 0, 4, 3, 4, 182, 0, 219, 154, 0, 76, 42, 27, 28, 159, 0, 14, 29, 3, 17, 39, 15]
abbrev dktX3_child_1 : List UInt8 := dkwX3_child_1 ++ dktX3_child_2
def dkwX3_child_0 : List UInt8 := [42, 42, 27, 182, 0, 243, 154, 0, 16, 28, 2, 159, 0, 15, 42, 28, 182, 0, 243, 153, 0, 7, 4]
abbrev dktX3_child_0 : List UInt8 := dkwX3_child_0 ++ dktX3_child_1
theorem dksX3_child_0 : cX3_child.data.toList.drop 0 = dktX3_child_0 := by decide +kernel
theorem dksX3_child_1 : cX3_child.data.toList.drop 23 = dktX3_child_1 := dk_seg dksX3_child_0 23 rfl rfl
theorem dksX3_child_2 : cX3_child.data.toList.drop 45 = dktX3_child_2 := dk_seg dksX3_child_1 22 rfl rfl
theorem dksX3_child_3 : cX3_child.data.toList.drop 69 = dktX3_child_3 := dk_seg dksX3_child_2 24 rfl rfl
theorem dksX3_child_4 : cX3_child.data.toList.drop 92 = dktX3_child_4 := dk_seg dksX3_child_3 23 rfl rfl
theorem dksX3_child_5 : cX3_child.data.toList.drop 114 = dktX3_child_5 := dk_seg dksX3_child_4 22 rfl rfl
theorem dksX3_child_6 : cX3_child.data.toList.drop 138 = dktX3_child_6 := dk_seg dksX3_child_5 24 rfl rfl
theorem dX3_child_0 : decode cX3_child 0 = .ok (.aload_n 0, 1) := dk_42 (dk_at dksX3_child_0 0 rfl rfl)
theorem dX3_child_1 : decode cX3_child 1 = .ok (.aload_n 0, 1) := dk_42 (dk_at dksX3_child_0 1 rfl rfl)
theorem dX3_child_2 : decode cX3_child 2 = .ok (.iload_n 1, 1) := dk_27 (dk_at dksX3_child_0 2 rfl rfl)
theorem dX3_child_3 : decode cX3_child 3 = .ok (.invokevirtual 243, 3) := dk_182 0 243 (dk_at dksX3_child_0 3 rfl rfl)
theorem dX3_child_6 : decode cX3_child 6 = .ok (.ifCond .ne 16, 3) := dk_154 0 16 (dk_at dksX3_child_0 6 rfl rfl)
theorem dX3_child_9 : decode cX3_child 9 = .ok (.iload_n 2, 1) := dk_28 (dk_at dksX3_child_0 9 rfl rfl)
theorem dX3_child_10 : decode cX3_child 10 = .ok (.iconst (-1), 1) := dk_2 (dk_at dksX3_child_0 10 rfl rfl)
theorem dX3_child_11 : decode cX3_child 11 = .ok (.if_icmp .eq 15, 3) := dk_159 0 15 (dk_at dksX3_child_0 11 rfl rfl)
theorem dX3_child_14 : decode cX3_child 14 = .ok (.aload_n 0, 1) := dk_42 (dk_at dksX3_child_0 14 rfl rfl)
theorem dX3_child_15 : decode cX3_child 15 = .ok (.iload_n 2, 1) := dk_28 (dk_at dksX3_child_0 15 rfl rfl)
theorem dX3_child_16 : decode cX3_child 16 = .ok (.invokevirtual 243, 3) := dk_182 0 243 (dk_at dksX3_child_0 16 rfl rfl)
theorem dX3_child_19 : decode cX3_child 19 = .ok (.ifCond .eq 7, 3) := dk_153 0 7 (dk_at dksX3_child_0 19 rfl rfl)
theorem dX3_child_22 : decode cX3_child 22 = .ok (.iconst 1, 1) := dk_4 (dk_at dksX3_child_0 22 rfl rfl)
theorem dX3_child_23 : decode cX3_child 23 = .ok (.goto 4, 3) := dk_167 0 4 (dk_at dksX3_child_1 0 rfl rfl)
theorem dX3_child_26 : decode cX3_child 26 = .ok (.iconst 0, 1) := dk_3 (dk_at dksX3_child_1 3 rfl rfl)
theorem dX3_child_27 : decode cX3_child 27 = .ok (.iconst 1, 1) := dk_4 (dk_at dksX3_child_1 4 rfl rfl)
theorem dX3_child_28 : decode cX3_child 28 = .ok (.invokevirtual 219, 3) := dk_182 0 219 (dk_at dksX3_child_1 5 rfl rfl)
theorem dX3_child_31 : decode cX3_child 31 = .ok (.ifCond .ne 76, 3) := dk_154 0 76 (dk_at dksX3_child_1 8 rfl rfl)
theorem dX3_child_34 : decode cX3_child 34 = .ok (.aload_n 0, 1) := dk_42 (dk_at dksX3_child_1 11 rfl rfl)
theorem dX3_child_35 : decode cX3_child 35 = .ok (.iload_n 1, 1) := dk_27 (dk_at dksX3_child_1 12 rfl rfl)
theorem dX3_child_36 : decode cX3_child 36 = .ok (.iload_n 2, 1) := dk_28 (dk_at dksX3_child_1 13 rfl rfl)
theorem dX3_child_37 : decode cX3_child 37 = .ok (.if_icmp .eq 14, 3) := dk_159 0 14 (dk_at dksX3_child_1 14 rfl rfl)
theorem dX3_child_40 : decode cX3_child 40 = .ok (.iload_n 3, 1) := dk_29 (dk_at dksX3_child_1 17 rfl rfl)
theorem dX3_child_41 : decode cX3_child 41 = .ok (.iconst 0, 1) := dk_3 (dk_at dksX3_child_1 18 rfl rfl)
theorem dX3_child_42 : decode cX3_child 42 = .ok (.sipush 9999, 3) := dk_17 39 15 (dk_at dksX3_child_1 19 rfl rfl)
theorem dX3_child_45 : decode cX3_child 45 = .ok (.invokestatic 44, 3) := dk_184 0 44 (dk_at dksX3_child_2 0 rfl rfl)
theorem dX3_child_48 : decode cX3_child 48 = .ok (.ifCond .ne 7, 3) := dk_154 0 7 (dk_at dksX3_child_2 3 rfl rfl)
theorem dX3_child_51 : decode cX3_child 51 = .ok (.iconst 1, 1) := dk_4 (dk_at dksX3_child_2 6 rfl rfl)
theorem dX3_child_52 : decode cX3_child 52 = .ok (.goto 4, 3) := dk_167 0 4 (dk_at dksX3_child_2 7 rfl rfl)
theorem dX3_child_55 : decode cX3_child 55 = .ok (.iconst 0, 1) := dk_3 (dk_at dksX3_child_2 10 rfl rfl)
theorem dX3_child_56 : decode cX3_child 56 = .ok (.iconst 2, 1) := dk_5 (dk_at dksX3_child_2 11 rfl rfl)
theorem dX3_child_57 : decode cX3_child 57 = .ok (.invokevirtual 36, 3) := dk_182 0 36 (dk_at dksX3_child_2 12 rfl rfl)
theorem dX3_child_60 : decode cX3_child 60 = .ok (.ifCond .ne 47, 3) := dk_154 0 47 (dk_at dksX3_child_2 15 rfl rfl)
theorem dX3_child_63 : decode cX3_child 63 = .ok (.aload_n 0, 1) := dk_42 (dk_at dksX3_child_2 18 rfl rfl)
theorem dX3_child_64 : decode cX3_child 64 = .ok (.iload_n 2, 1) := dk_28 (dk_at dksX3_child_2 19 rfl rfl)
theorem dX3_child_65 : decode cX3_child 65 = .ok (.iconst (-1), 1) := dk_2 (dk_at dksX3_child_2 20 rfl rfl)
theorem dX3_child_66 : decode cX3_child 66 = .ok (.if_icmp .eq 33, 3) := dk_159 0 33 (dk_at dksX3_child_2 21 rfl rfl)
theorem dX3_child_69 : decode cX3_child 69 = .ok (.aload_n 0, 1) := dk_42 (dk_at dksX3_child_3 0 rfl rfl)
theorem dX3_child_70 : decode cX3_child 70 = .ok (.getfield 16, 3) := dk_180 0 16 (dk_at dksX3_child_3 1 rfl rfl)
theorem dX3_child_73 : decode cX3_child 73 = .ok (.iload_n 2, 1) := dk_28 (dk_at dksX3_child_3 4 rfl rfl)
theorem dX3_child_74 : decode cX3_child 74 = .ok (.invokevirtual 51, 3) := dk_182 0 51 (dk_at dksX3_child_3 5 rfl rfl)
theorem dX3_child_77 : decode cX3_child 77 = .ok (.checkcast 55, 3) := dk_192 0 55 (dk_at dksX3_child_3 8 rfl rfl)
theorem dX3_child_80 : decode cX3_child 80 = .ok (.getfield 172, 3) := dk_180 0 172 (dk_at dksX3_child_3 11 rfl rfl)
theorem dX3_child_83 : decode cX3_child 83 = .ok (.iconst (-1), 1) := dk_2 (dk_at dksX3_child_3 14 rfl rfl)
theorem dX3_child_84 : decode cX3_child 84 = .ok (.if_icmp .ne 11, 3) := dk_160 0 11 (dk_at dksX3_child_3 15 rfl rfl)
theorem dX3_child_87 : decode cX3_child 87 = .ok (.aload_n 0, 1) := dk_42 (dk_at dksX3_child_3 18 rfl rfl)
theorem dX3_child_88 : decode cX3_child 88 = .ok (.iload_n 1, 1) := dk_27 (dk_at dksX3_child_3 19 rfl rfl)
theorem dX3_child_89 : decode cX3_child 89 = .ok (.invokevirtual 250, 3) := dk_182 0 250 (dk_at dksX3_child_3 20 rfl rfl)
theorem dX3_child_92 : decode cX3_child 92 = .ok (.ifCond .eq 7, 3) := dk_153 0 7 (dk_at dksX3_child_4 0 rfl rfl)
theorem dX3_child_95 : decode cX3_child 95 = .ok (.iconst 1, 1) := dk_4 (dk_at dksX3_child_4 3 rfl rfl)
theorem dX3_child_96 : decode cX3_child 96 = .ok (.goto 4, 3) := dk_167 0 4 (dk_at dksX3_child_4 4 rfl rfl)
theorem dX3_child_99 : decode cX3_child 99 = .ok (.iconst 0, 1) := dk_3 (dk_at dksX3_child_4 7 rfl rfl)
theorem dX3_child_100 : decode cX3_child 100 = .ok (.iconst 3, 1) := dk_6 (dk_at dksX3_child_4 8 rfl rfl)
theorem dX3_child_101 : decode cX3_child 101 = .ok (.invokevirtual 36, 3) := dk_182 0 36 (dk_at dksX3_child_4 9 rfl rfl)
theorem dX3_child_104 : decode cX3_child 104 = .ok (.ifCond .eq 5, 3) := dk_153 0 5 (dk_at dksX3_child_4 12 rfl rfl)
theorem dX3_child_107 : decode cX3_child 107 = .ok (.iconst 0, 1) := dk_3 (dk_at dksX3_child_4 15 rfl rfl)
theorem dX3_child_108 : decode cX3_child 108 = .ok (.ireturn, 1) := dk_172 (dk_at dksX3_child_4 16 rfl rfl)
theorem dX3_child_109 : decode cX3_child 109 = .ok (.aload_n 0, 1) := dk_42 (dk_at dksX3_child_4 17 rfl rfl)
theorem dX3_child_110 : decode cX3_child 110 = .ok (.getfield 16, 3) := dk_180 0 16 (dk_at dksX3_child_4 18 rfl rfl)
theorem dX3_child_113 : decode cX3_child 113 = .ok (.iload_n 1, 1) := dk_27 (dk_at dksX3_child_4 21 rfl rfl)
theorem dX3_child_114 : decode cX3_child 114 = .ok (.invokevirtual 51, 3) := dk_182 0 51 (dk_at dksX3_child_5 0 rfl rfl)
theorem dX3_child_117 : decode cX3_child 117 = .ok (.checkcast 55, 3) := dk_192 0 55 (dk_at dksX3_child_5 3 rfl rfl)
theorem dX3_child_120 : decode cX3_child 120 = .ok (.astore 4, 2) := dk_58 4 (dk_at dksX3_child_5 6 rfl rfl)
theorem dX3_child_122 : decode cX3_child 122 = .ok (.aload 4, 2) := dk_25 4 (dk_at dksX3_child_5 8 rfl rfl)
theorem dX3_child_124 : decode cX3_child 124 = .ok (.getfield 172, 3) := dk_180 0 172 (dk_at dksX3_child_5 10 rfl rfl)
theorem dX3_child_127 : decode cX3_child 127 = .ok (.istore 5, 2) := dk_54 5 (dk_at dksX3_child_5 13 rfl rfl)
theorem dX3_child_129 : decode cX3_child 129 = .ok (.aload 4, 2) := dk_25 4 (dk_at dksX3_child_5 15 rfl rfl)
theorem dX3_child_131 : decode cX3_child 131 = .ok (.iload_n 2, 1) := dk_28 (dk_at dksX3_child_5 17 rfl rfl)
theorem dX3_child_132 : decode cX3_child 132 = .ok (.putfield 172, 3) := dk_181 0 172 (dk_at dksX3_child_5 18 rfl rfl)
theorem dX3_child_135 : decode cX3_child 135 = .ok (.aload 4, 2) := dk_25 4 (dk_at dksX3_child_5 21 rfl rfl)
theorem dX3_child_137 : decode cX3_child 137 = .ok (.iload_n 3, 1) := dk_29 (dk_at dksX3_child_5 23 rfl rfl)
theorem dX3_child_138 : decode cX3_child 138 = .ok (.putfield 175, 3) := dk_181 0 175 (dk_at dksX3_child_6 0 rfl rfl)
theorem dX3_child_141 : decode cX3_child 141 = .ok (.iload 5, 2) := dk_21 5 (dk_at dksX3_child_6 3 rfl rfl)
theorem dX3_child_143 : decode cX3_child 143 = .ok (.ireturn, 1) := dk_172 (dk_at dksX3_child_6 5 rfl rfl)
abbrev cX3_hasChild : ByteArray := prog_15_method_32_code
def yX3_hasChild : MethodName := ⟨RX3, "hasChild", "(I)Z"⟩
def dkwX3_hasChild_1 : List UInt8 := [192, 0, 55, 78, 45, 180, 0, 172, 27, 160, 0, 5, 4, 172, 167, 255, 227, 3, 172]
abbrev dktX3_hasChild_1 : List UInt8 := dkwX3_hasChild_1 ++ []
def dkwX3_hasChild_0 : List UInt8 := [42, 180, 0, 16, 182, 0, 193, 77, 44, 185, 0, 197, 1, 0, 153, 0, 26, 44, 185, 0, 203, 1, 0]
abbrev dktX3_hasChild_0 : List UInt8 := dkwX3_hasChild_0 ++ dktX3_hasChild_1
theorem dksX3_hasChild_0 : cX3_hasChild.data.toList.drop 0 = dktX3_hasChild_0 := by decide +kernel
theorem dksX3_hasChild_1 : cX3_hasChild.data.toList.drop 23 = dktX3_hasChild_1 := dk_seg dksX3_hasChild_0 23 rfl rfl
theorem dX3_hasChild_0 : decode cX3_hasChild 0 = .ok (.aload_n 0, 1) := dk_42 (dk_at dksX3_hasChild_0 0 rfl rfl)
theorem dX3_hasChild_1 : decode cX3_hasChild 1 = .ok (.getfield 16, 3) := dk_180 0 16 (dk_at dksX3_hasChild_0 1 rfl rfl)
theorem dX3_hasChild_4 : decode cX3_hasChild 4 = .ok (.invokevirtual 193, 3) := dk_182 0 193 (dk_at dksX3_hasChild_0 4 rfl rfl)
theorem dX3_hasChild_7 : decode cX3_hasChild 7 = .ok (.astore_n 2, 1) := dk_77 (dk_at dksX3_hasChild_0 7 rfl rfl)
theorem dX3_hasChild_8 : decode cX3_hasChild 8 = .ok (.aload_n 2, 1) := dk_44 (dk_at dksX3_hasChild_0 8 rfl rfl)
theorem dX3_hasChild_9 : decode cX3_hasChild 9 = .ok (.invokeinterface 197 1, 5) := by decide +kernel
theorem dX3_hasChild_14 : decode cX3_hasChild 14 = .ok (.ifCond .eq 26, 3) := dk_153 0 26 (dk_at dksX3_hasChild_0 14 rfl rfl)
theorem dX3_hasChild_17 : decode cX3_hasChild 17 = .ok (.aload_n 2, 1) := dk_44 (dk_at dksX3_hasChild_0 17 rfl rfl)
theorem dX3_hasChild_18 : decode cX3_hasChild 18 = .ok (.invokeinterface 203 1, 5) := by decide +kernel
theorem dX3_hasChild_23 : decode cX3_hasChild 23 = .ok (.checkcast 55, 3) := dk_192 0 55 (dk_at dksX3_hasChild_1 0 rfl rfl)
theorem dX3_hasChild_26 : decode cX3_hasChild 26 = .ok (.astore_n 3, 1) := dk_78 (dk_at dksX3_hasChild_1 3 rfl rfl)
theorem dX3_hasChild_27 : decode cX3_hasChild 27 = .ok (.aload_n 3, 1) := dk_45 (dk_at dksX3_hasChild_1 4 rfl rfl)
theorem dX3_hasChild_28 : decode cX3_hasChild 28 = .ok (.getfield 172, 3) := dk_180 0 172 (dk_at dksX3_hasChild_1 5 rfl rfl)
theorem dX3_hasChild_31 : decode cX3_hasChild 31 = .ok (.iload_n 1, 1) := dk_27 (dk_at dksX3_hasChild_1 8 rfl rfl)
theorem dX3_hasChild_32 : decode cX3_hasChild 32 = .ok (.if_icmp .ne 5, 3) := dk_160 0 5 (dk_at dksX3_hasChild_1 9 rfl rfl)
theorem dX3_hasChild_35 : decode cX3_hasChild 35 = .ok (.iconst 1, 1) := dk_4 (dk_at dksX3_hasChild_1 12 rfl rfl)
theorem dX3_hasChild_36 : decode cX3_hasChild 36 = .ok (.ireturn, 1) := dk_172 (dk_at dksX3_hasChild_1 13 rfl rfl)
theorem dX3_hasChild_37 : decode cX3_hasChild 37 = .ok (.goto (-29), 3) := dk_167 255 227 (dk_at dksX3_hasChild_1 14 rfl rfl)
theorem dX3_hasChild_40 : decode cX3_hasChild 40 = .ok (.iconst 0, 1) := dk_3 (dk_at dksX3_hasChild_1 17 rfl rfl)
theorem dX3_hasChild_41 : decode cX3_hasChild 41 = .ok (.ireturn, 1) := dk_172 (dk_at dksX3_hasChild_1 18 rfl rfl)
abbrev cX3_pass : ByteArray := prog_15_method_34_code
def yX3_pass : MethodName := ⟨RX3, "pass", "(I)I"⟩
def dkwX3_pass_2 : List UInt8 := [3, 172, 42, 89, 180, 0, 48, 27, 96, 181, 0, 48, 42, 180, 0, 48, 172]
abbrev dktX3_pass_2 : List UInt8 := dkwX3_pass_2 ++ []
def dkwX3_pass_1 : List UInt8 := [42, 180, 0, 48, 27, 96, 17, 1, 104, 161, 0, 7, 4, 167, 0, 4, 3, 5, 182, 0, 36, 153, 0, 5]
abbrev dktX3_pass_1 : List UInt8 := dkwX3_pass_1 ++ dktX3_pass_2
def dkwX3_pass_0 : List UInt8 := [42, 27, 4, 16, 120, 184, 0, 44, 154, 0, 7, 4, 167, 0, 4, 3, 4, 182, 0, 219, 154, 0, 28, 42]
abbrev dktX3_pass_0 : List UInt8 := dkwX3_pass_0 ++ dktX3_pass_1
theorem dksX3_pass_0 : cX3_pass.data.toList.drop 0 = dktX3_pass_0 := by decide +kernel
theorem dksX3_pass_1 : cX3_pass.data.toList.drop 24 = dktX3_pass_1 := dk_seg dksX3_pass_0 24 rfl rfl
theorem dksX3_pass_2 : cX3_pass.data.toList.drop 48 = dktX3_pass_2 := dk_seg dksX3_pass_1 24 rfl rfl
theorem dX3_pass_0 : decode cX3_pass 0 = .ok (.aload_n 0, 1) := dk_42 (dk_at dksX3_pass_0 0 rfl rfl)
theorem dX3_pass_1 : decode cX3_pass 1 = .ok (.iload_n 1, 1) := dk_27 (dk_at dksX3_pass_0 1 rfl rfl)
theorem dX3_pass_2 : decode cX3_pass 2 = .ok (.iconst 1, 1) := dk_4 (dk_at dksX3_pass_0 2 rfl rfl)
theorem dX3_pass_3 : decode cX3_pass 3 = .ok (.bipush 120, 2) := dk_16 120 (dk_at dksX3_pass_0 3 rfl rfl)
theorem dX3_pass_5 : decode cX3_pass 5 = .ok (.invokestatic 44, 3) := dk_184 0 44 (dk_at dksX3_pass_0 5 rfl rfl)
theorem dX3_pass_8 : decode cX3_pass 8 = .ok (.ifCond .ne 7, 3) := dk_154 0 7 (dk_at dksX3_pass_0 8 rfl rfl)
theorem dX3_pass_11 : decode cX3_pass 11 = .ok (.iconst 1, 1) := dk_4 (dk_at dksX3_pass_0 11 rfl rfl)
theorem dX3_pass_12 : decode cX3_pass 12 = .ok (.goto 4, 3) := dk_167 0 4 (dk_at dksX3_pass_0 12 rfl rfl)
theorem dX3_pass_15 : decode cX3_pass 15 = .ok (.iconst 0, 1) := dk_3 (dk_at dksX3_pass_0 15 rfl rfl)
theorem dX3_pass_16 : decode cX3_pass 16 = .ok (.iconst 1, 1) := dk_4 (dk_at dksX3_pass_0 16 rfl rfl)
theorem dX3_pass_17 : decode cX3_pass 17 = .ok (.invokevirtual 219, 3) := dk_182 0 219 (dk_at dksX3_pass_0 17 rfl rfl)
theorem dX3_pass_20 : decode cX3_pass 20 = .ok (.ifCond .ne 28, 3) := dk_154 0 28 (dk_at dksX3_pass_0 20 rfl rfl)
theorem dX3_pass_23 : decode cX3_pass 23 = .ok (.aload_n 0, 1) := dk_42 (dk_at dksX3_pass_0 23 rfl rfl)
theorem dX3_pass_24 : decode cX3_pass 24 = .ok (.aload_n 0, 1) := dk_42 (dk_at dksX3_pass_1 0 rfl rfl)
theorem dX3_pass_25 : decode cX3_pass 25 = .ok (.getfield 48, 3) := dk_180 0 48 (dk_at dksX3_pass_1 1 rfl rfl)
theorem dX3_pass_28 : decode cX3_pass 28 = .ok (.iload_n 1, 1) := dk_27 (dk_at dksX3_pass_1 4 rfl rfl)
theorem dX3_pass_29 : decode cX3_pass 29 = .ok (.iadd, 1) := dk_96 (dk_at dksX3_pass_1 5 rfl rfl)
theorem dX3_pass_30 : decode cX3_pass 30 = .ok (.sipush 360, 3) := dk_17 1 104 (dk_at dksX3_pass_1 6 rfl rfl)
theorem dX3_pass_33 : decode cX3_pass 33 = .ok (.if_icmp .lt 7, 3) := dk_161 0 7 (dk_at dksX3_pass_1 9 rfl rfl)
theorem dX3_pass_36 : decode cX3_pass 36 = .ok (.iconst 1, 1) := dk_4 (dk_at dksX3_pass_1 12 rfl rfl)
theorem dX3_pass_37 : decode cX3_pass 37 = .ok (.goto 4, 3) := dk_167 0 4 (dk_at dksX3_pass_1 13 rfl rfl)
theorem dX3_pass_40 : decode cX3_pass 40 = .ok (.iconst 0, 1) := dk_3 (dk_at dksX3_pass_1 16 rfl rfl)
theorem dX3_pass_41 : decode cX3_pass 41 = .ok (.iconst 2, 1) := dk_5 (dk_at dksX3_pass_1 17 rfl rfl)
theorem dX3_pass_42 : decode cX3_pass 42 = .ok (.invokevirtual 36, 3) := dk_182 0 36 (dk_at dksX3_pass_1 18 rfl rfl)
theorem dX3_pass_45 : decode cX3_pass 45 = .ok (.ifCond .eq 5, 3) := dk_153 0 5 (dk_at dksX3_pass_1 21 rfl rfl)
theorem dX3_pass_48 : decode cX3_pass 48 = .ok (.iconst 0, 1) := dk_3 (dk_at dksX3_pass_2 0 rfl rfl)
theorem dX3_pass_49 : decode cX3_pass 49 = .ok (.ireturn, 1) := dk_172 (dk_at dksX3_pass_2 1 rfl rfl)
theorem dX3_pass_50 : decode cX3_pass 50 = .ok (.aload_n 0, 1) := dk_42 (dk_at dksX3_pass_2 2 rfl rfl)
theorem dX3_pass_51 : decode cX3_pass 51 = .ok (.dup, 1) := dk_89 (dk_at dksX3_pass_2 3 rfl rfl)
theorem dX3_pass_52 : decode cX3_pass 52 = .ok (.getfield 48, 3) := dk_180 0 48 (dk_at dksX3_pass_2 4 rfl rfl)
theorem dX3_pass_55 : decode cX3_pass 55 = .ok (.iload_n 1, 1) := dk_27 (dk_at dksX3_pass_2 7 rfl rfl)
theorem dX3_pass_56 : decode cX3_pass 56 = .ok (.iadd, 1) := dk_96 (dk_at dksX3_pass_2 8 rfl rfl)
theorem dX3_pass_57 : decode cX3_pass 57 = .ok (.putfield 48, 3) := dk_181 0 48 (dk_at dksX3_pass_2 9 rfl rfl)
theorem dX3_pass_60 : decode cX3_pass 60 = .ok (.aload_n 0, 1) := dk_42 (dk_at dksX3_pass_2 12 rfl rfl)
theorem dX3_pass_61 : decode cX3_pass 61 = .ok (.getfield 48, 3) := dk_180 0 48 (dk_at dksX3_pass_2 13 rfl rfl)
theorem dX3_pass_64 : decode cX3_pass 64 = .ok (.ireturn, 1) := dk_172 (dk_at dksX3_pass_2 16 rfl rfl)
abbrev cX3_call : ByteArray := prog_15_method_38_code
def yX3_call : MethodName := ⟨RX3, "call", "(IIIIII)I"⟩
def dkwX3_call_8 : List UInt8 := [4, 96, 181, 1, 18, 2, 172, 42, 25, 7, 182, 1, 21, 172]
abbrev dktX3_call_8 : List UInt8 := dkwX3_call_8 ++ []
def dkwX3_call_7 : List UInt8 := [182, 0, 75, 160, 255, 207, 25, 9, 180, 0, 148, 21, 4, 159, 0, 6, 167, 255, 194, 42, 89, 180, 1, 18]
abbrev dktX3_call_7 : List UInt8 := dkwX3_call_7 ++ dktX3_call_8
def dkwX3_call_6 : List UInt8 := [25, 9, 180, 0, 136, 154, 255, 229, 25, 9, 180, 0, 142, 27, 160, 255, 220, 25, 9, 182, 0, 75, 25, 7]
abbrev dktX3_call_6 : List UInt8 := dkwX3_call_6 ++ dktX3_call_7
def dkwX3_call_5 : List UInt8 := [58, 8, 25, 8, 185, 0, 197, 1, 0, 153, 0, 70, 25, 8, 185, 0, 203, 1, 0, 192, 0, 73, 58, 9]
abbrev dktX3_call_5 : List UInt8 := dkwX3_call_5 ++ dktX3_call_6
def dkwX3_call_4 : List UInt8 := [180, 0, 48, 28, 100, 29, 21, 6, 21, 4, 21, 5, 182, 1, 14, 58, 7, 42, 180, 0, 22, 182, 0, 193]
abbrev dktX3_call_4 : List UInt8 := dkwX3_call_4 ++ dktX3_call_5
def dkwX3_call_3 : List UInt8 := [182, 0, 36, 154, 0, 15, 42, 42, 182, 1, 11, 6, 182, 0, 36, 153, 0, 5, 3, 172, 42, 3, 27, 42]
abbrev dktX3_call_3 : List UInt8 := dkwX3_call_3 ++ dktX3_call_4
def dkwX3_call_2 : List UInt8 := [21, 5, 3, 6, 184, 0, 44, 153, 0, 11, 21, 6, 184, 1, 8, 153, 0, 7, 4, 167, 0, 4, 3, 5]
abbrev dktX3_call_2 : List UInt8 := dkwX3_call_2 ++ dktX3_call_3
def dkwX3_call_1 : List UInt8 := [182, 0, 219, 154, 0, 62, 42, 42, 27, 28, 182, 1, 1, 154, 0, 28, 29, 184, 1, 5, 154, 0, 21]
abbrev dktX3_call_1 : List UInt8 := dkwX3_call_1 ++ dktX3_call_2
def dkwX3_call_0 : List UInt8 := [42, 42, 27, 182, 0, 243, 154, 0, 11, 21, 4, 184, 0, 254, 153, 0, 7, 4, 167, 0, 4, 3, 4]
abbrev dktX3_call_0 : List UInt8 := dkwX3_call_0 ++ dktX3_call_1
theorem dksX3_call_0 : cX3_call.data.toList.drop 0 = dktX3_call_0 := by decide +kernel
theorem dksX3_call_1 : cX3_call.data.toList.drop 23 = dktX3_call_1 := dk_seg dksX3_call_0 23 rfl rfl
theorem dksX3_call_2 : cX3_call.data.toList.drop 46 = dktX3_call_2 := dk_seg dksX3_call_1 23 rfl rfl
theorem dksX3_call_3 : cX3_call.data.toList.drop 70 = dktX3_call_3 := dk_seg dksX3_call_2 24 rfl rfl
theorem dksX3_call_4 : cX3_call.data.toList.drop 94 = dktX3_call_4 := dk_seg dksX3_call_3 24 rfl rfl
theorem dksX3_call_5 : cX3_call.data.toList.drop 118 = dktX3_call_5 := dk_seg dksX3_call_4 24 rfl rfl
theorem dksX3_call_6 : cX3_call.data.toList.drop 142 = dktX3_call_6 := dk_seg dksX3_call_5 24 rfl rfl
theorem dksX3_call_7 : cX3_call.data.toList.drop 166 = dktX3_call_7 := dk_seg dksX3_call_6 24 rfl rfl
theorem dksX3_call_8 : cX3_call.data.toList.drop 190 = dktX3_call_8 := dk_seg dksX3_call_7 24 rfl rfl
theorem dX3_call_0 : decode cX3_call 0 = .ok (.aload_n 0, 1) := dk_42 (dk_at dksX3_call_0 0 rfl rfl)
theorem dX3_call_1 : decode cX3_call 1 = .ok (.aload_n 0, 1) := dk_42 (dk_at dksX3_call_0 1 rfl rfl)
theorem dX3_call_2 : decode cX3_call 2 = .ok (.iload_n 1, 1) := dk_27 (dk_at dksX3_call_0 2 rfl rfl)
theorem dX3_call_3 : decode cX3_call 3 = .ok (.invokevirtual 243, 3) := dk_182 0 243 (dk_at dksX3_call_0 3 rfl rfl)
theorem dX3_call_6 : decode cX3_call 6 = .ok (.ifCond .ne 11, 3) := dk_154 0 11 (dk_at dksX3_call_0 6 rfl rfl)
theorem dX3_call_9 : decode cX3_call 9 = .ok (.iload 4, 2) := dk_21 4 (dk_at dksX3_call_0 9 rfl rfl)
theorem dX3_call_11 : decode cX3_call 11 = .ok (.invokestatic 254, 3) := dk_184 0 254 (dk_at dksX3_call_0 11 rfl rfl)
theorem dX3_call_14 : decode cX3_call 14 = .ok (.ifCond .eq 7, 3) := dk_153 0 7 (dk_at dksX3_call_0 14 rfl rfl)
theorem dX3_call_17 : decode cX3_call 17 = .ok (.iconst 1, 1) := dk_4 (dk_at dksX3_call_0 17 rfl rfl)
theorem dX3_call_18 : decode cX3_call 18 = .ok (.goto 4, 3) := dk_167 0 4 (dk_at dksX3_call_0 18 rfl rfl)
theorem dX3_call_21 : decode cX3_call 21 = .ok (.iconst 0, 1) := dk_3 (dk_at dksX3_call_0 21 rfl rfl)
theorem dX3_call_22 : decode cX3_call 22 = .ok (.iconst 1, 1) := dk_4 (dk_at dksX3_call_0 22 rfl rfl)
theorem dX3_call_23 : decode cX3_call 23 = .ok (.invokevirtual 219, 3) := dk_182 0 219 (dk_at dksX3_call_1 0 rfl rfl)
theorem dX3_call_26 : decode cX3_call 26 = .ok (.ifCond .ne 62, 3) := dk_154 0 62 (dk_at dksX3_call_1 3 rfl rfl)
theorem dX3_call_29 : decode cX3_call 29 = .ok (.aload_n 0, 1) := dk_42 (dk_at dksX3_call_1 6 rfl rfl)
theorem dX3_call_30 : decode cX3_call 30 = .ok (.aload_n 0, 1) := dk_42 (dk_at dksX3_call_1 7 rfl rfl)
theorem dX3_call_31 : decode cX3_call 31 = .ok (.iload_n 1, 1) := dk_27 (dk_at dksX3_call_1 8 rfl rfl)
theorem dX3_call_32 : decode cX3_call 32 = .ok (.iload_n 2, 1) := dk_28 (dk_at dksX3_call_1 9 rfl rfl)
theorem dX3_call_33 : decode cX3_call 33 = .ok (.invokevirtual 257, 3) := dk_182 1 1 (dk_at dksX3_call_1 10 rfl rfl)
theorem dX3_call_36 : decode cX3_call 36 = .ok (.ifCond .ne 28, 3) := dk_154 0 28 (dk_at dksX3_call_1 13 rfl rfl)
theorem dX3_call_39 : decode cX3_call 39 = .ok (.iload_n 3, 1) := dk_29 (dk_at dksX3_call_1 16 rfl rfl)
theorem dX3_call_40 : decode cX3_call 40 = .ok (.invokestatic 261, 3) := dk_184 1 5 (dk_at dksX3_call_1 17 rfl rfl)
theorem dX3_call_43 : decode cX3_call 43 = .ok (.ifCond .ne 21, 3) := dk_154 0 21 (dk_at dksX3_call_1 20 rfl rfl)
theorem dX3_call_46 : decode cX3_call 46 = .ok (.iload 5, 2) := dk_21 5 (dk_at dksX3_call_2 0 rfl rfl)
theorem dX3_call_48 : decode cX3_call 48 = .ok (.iconst 0, 1) := dk_3 (dk_at dksX3_call_2 2 rfl rfl)
theorem dX3_call_49 : decode cX3_call 49 = .ok (.iconst 3, 1) := dk_6 (dk_at dksX3_call_2 3 rfl rfl)
theorem dX3_call_50 : decode cX3_call 50 = .ok (.invokestatic 44, 3) := dk_184 0 44 (dk_at dksX3_call_2 4 rfl rfl)
theorem dX3_call_53 : decode cX3_call 53 = .ok (.ifCond .eq 11, 3) := dk_153 0 11 (dk_at dksX3_call_2 7 rfl rfl)
theorem dX3_call_56 : decode cX3_call 56 = .ok (.iload 6, 2) := dk_21 6 (dk_at dksX3_call_2 10 rfl rfl)
theorem dX3_call_58 : decode cX3_call 58 = .ok (.invokestatic 264, 3) := dk_184 1 8 (dk_at dksX3_call_2 12 rfl rfl)
theorem dX3_call_61 : decode cX3_call 61 = .ok (.ifCond .eq 7, 3) := dk_153 0 7 (dk_at dksX3_call_2 15 rfl rfl)
theorem dX3_call_64 : decode cX3_call 64 = .ok (.iconst 1, 1) := dk_4 (dk_at dksX3_call_2 18 rfl rfl)
theorem dX3_call_65 : decode cX3_call 65 = .ok (.goto 4, 3) := dk_167 0 4 (dk_at dksX3_call_2 19 rfl rfl)
theorem dX3_call_68 : decode cX3_call 68 = .ok (.iconst 0, 1) := dk_3 (dk_at dksX3_call_2 22 rfl rfl)
theorem dX3_call_69 : decode cX3_call 69 = .ok (.iconst 2, 1) := dk_5 (dk_at dksX3_call_2 23 rfl rfl)
theorem dX3_call_70 : decode cX3_call 70 = .ok (.invokevirtual 36, 3) := dk_182 0 36 (dk_at dksX3_call_3 0 rfl rfl)
theorem dX3_call_73 : decode cX3_call 73 = .ok (.ifCond .ne 15, 3) := dk_154 0 15 (dk_at dksX3_call_3 3 rfl rfl)
theorem dX3_call_76 : decode cX3_call 76 = .ok (.aload_n 0, 1) := dk_42 (dk_at dksX3_call_3 6 rfl rfl)
theorem dX3_call_77 : decode cX3_call 77 = .ok (.aload_n 0, 1) := dk_42 (dk_at dksX3_call_3 7 rfl rfl)
theorem dX3_call_78 : decode cX3_call 78 = .ok (.invokevirtual 267, 3) := dk_182 1 11 (dk_at dksX3_call_3 8 rfl rfl)
theorem dX3_call_81 : decode cX3_call 81 = .ok (.iconst 3, 1) := dk_6 (dk_at dksX3_call_3 11 rfl rfl)
theorem dX3_call_82 : decode cX3_call 82 = .ok (.invokevirtual 36, 3) := dk_182 0 36 (dk_at dksX3_call_3 12 rfl rfl)
theorem dX3_call_85 : decode cX3_call 85 = .ok (.ifCond .eq 5, 3) := dk_153 0 5 (dk_at dksX3_call_3 15 rfl rfl)
theorem dX3_call_88 : decode cX3_call 88 = .ok (.iconst 0, 1) := dk_3 (dk_at dksX3_call_3 18 rfl rfl)
theorem dX3_call_89 : decode cX3_call 89 = .ok (.ireturn, 1) := dk_172 (dk_at dksX3_call_3 19 rfl rfl)
theorem dX3_call_90 : decode cX3_call 90 = .ok (.aload_n 0, 1) := dk_42 (dk_at dksX3_call_3 20 rfl rfl)
theorem dX3_call_91 : decode cX3_call 91 = .ok (.iconst 0, 1) := dk_3 (dk_at dksX3_call_3 21 rfl rfl)
theorem dX3_call_92 : decode cX3_call 92 = .ok (.iload_n 1, 1) := dk_27 (dk_at dksX3_call_3 22 rfl rfl)
theorem dX3_call_93 : decode cX3_call 93 = .ok (.aload_n 0, 1) := dk_42 (dk_at dksX3_call_3 23 rfl rfl)
theorem dX3_call_94 : decode cX3_call 94 = .ok (.getfield 48, 3) := dk_180 0 48 (dk_at dksX3_call_4 0 rfl rfl)
theorem dX3_call_97 : decode cX3_call 97 = .ok (.iload_n 2, 1) := dk_28 (dk_at dksX3_call_4 3 rfl rfl)
theorem dX3_call_98 : decode cX3_call 98 = .ok (.isub, 1) := dk_100 (dk_at dksX3_call_4 4 rfl rfl)
theorem dX3_call_99 : decode cX3_call 99 = .ok (.iload_n 3, 1) := dk_29 (dk_at dksX3_call_4 5 rfl rfl)
theorem dX3_call_100 : decode cX3_call 100 = .ok (.iload 6, 2) := dk_21 6 (dk_at dksX3_call_4 6 rfl rfl)
theorem dX3_call_102 : decode cX3_call 102 = .ok (.iload 4, 2) := dk_21 4 (dk_at dksX3_call_4 8 rfl rfl)
theorem dX3_call_104 : decode cX3_call 104 = .ok (.iload 5, 2) := dk_21 5 (dk_at dksX3_call_4 10 rfl rfl)
theorem dX3_call_106 : decode cX3_call 106 = .ok (.invokevirtual 270, 3) := dk_182 1 14 (dk_at dksX3_call_4 12 rfl rfl)
theorem dX3_call_109 : decode cX3_call 109 = .ok (.astore 7, 2) := dk_58 7 (dk_at dksX3_call_4 15 rfl rfl)
theorem dX3_call_111 : decode cX3_call 111 = .ok (.aload_n 0, 1) := dk_42 (dk_at dksX3_call_4 17 rfl rfl)
theorem dX3_call_112 : decode cX3_call 112 = .ok (.getfield 22, 3) := dk_180 0 22 (dk_at dksX3_call_4 18 rfl rfl)
theorem dX3_call_115 : decode cX3_call 115 = .ok (.invokevirtual 193, 3) := dk_182 0 193 (dk_at dksX3_call_4 21 rfl rfl)
theorem dX3_call_118 : decode cX3_call 118 = .ok (.astore 8, 2) := dk_58 8 (dk_at dksX3_call_5 0 rfl rfl)
theorem dX3_call_120 : decode cX3_call 120 = .ok (.aload 8, 2) := dk_25 8 (dk_at dksX3_call_5 2 rfl rfl)
theorem dX3_call_122 : decode cX3_call 122 = .ok (.invokeinterface 197 1, 5) := by decide +kernel
theorem dX3_call_127 : decode cX3_call 127 = .ok (.ifCond .eq 70, 3) := dk_153 0 70 (dk_at dksX3_call_5 9 rfl rfl)
theorem dX3_call_130 : decode cX3_call 130 = .ok (.aload 8, 2) := dk_25 8 (dk_at dksX3_call_5 12 rfl rfl)
theorem dX3_call_132 : decode cX3_call 132 = .ok (.invokeinterface 203 1, 5) := by decide +kernel
theorem dX3_call_137 : decode cX3_call 137 = .ok (.checkcast 73, 3) := dk_192 0 73 (dk_at dksX3_call_5 19 rfl rfl)
theorem dX3_call_140 : decode cX3_call 140 = .ok (.astore 9, 2) := dk_58 9 (dk_at dksX3_call_5 22 rfl rfl)
theorem dX3_call_142 : decode cX3_call 142 = .ok (.aload 9, 2) := dk_25 9 (dk_at dksX3_call_6 0 rfl rfl)
theorem dX3_call_144 : decode cX3_call 144 = .ok (.getfield 136, 3) := dk_180 0 136 (dk_at dksX3_call_6 2 rfl rfl)
theorem dX3_call_147 : decode cX3_call 147 = .ok (.ifCond .ne (-27), 3) := dk_154 255 229 (dk_at dksX3_call_6 5 rfl rfl)
theorem dX3_call_150 : decode cX3_call 150 = .ok (.aload 9, 2) := dk_25 9 (dk_at dksX3_call_6 8 rfl rfl)
theorem dX3_call_152 : decode cX3_call 152 = .ok (.getfield 142, 3) := dk_180 0 142 (dk_at dksX3_call_6 10 rfl rfl)
theorem dX3_call_155 : decode cX3_call 155 = .ok (.iload_n 1, 1) := dk_27 (dk_at dksX3_call_6 13 rfl rfl)
theorem dX3_call_156 : decode cX3_call 156 = .ok (.if_icmp .ne (-36), 3) := dk_160 255 220 (dk_at dksX3_call_6 14 rfl rfl)
theorem dX3_call_159 : decode cX3_call 159 = .ok (.aload 9, 2) := dk_25 9 (dk_at dksX3_call_6 17 rfl rfl)
theorem dX3_call_161 : decode cX3_call 161 = .ok (.invokevirtual 75, 3) := dk_182 0 75 (dk_at dksX3_call_6 19 rfl rfl)
theorem dX3_call_164 : decode cX3_call 164 = .ok (.aload 7, 2) := dk_25 7 (dk_at dksX3_call_6 22 rfl rfl)
theorem dX3_call_166 : decode cX3_call 166 = .ok (.invokevirtual 75, 3) := dk_182 0 75 (dk_at dksX3_call_7 0 rfl rfl)
theorem dX3_call_169 : decode cX3_call 169 = .ok (.if_icmp .ne (-49), 3) := dk_160 255 207 (dk_at dksX3_call_7 3 rfl rfl)
theorem dX3_call_172 : decode cX3_call 172 = .ok (.aload 9, 2) := dk_25 9 (dk_at dksX3_call_7 6 rfl rfl)
theorem dX3_call_174 : decode cX3_call 174 = .ok (.getfield 148, 3) := dk_180 0 148 (dk_at dksX3_call_7 8 rfl rfl)
theorem dX3_call_177 : decode cX3_call 177 = .ok (.iload 4, 2) := dk_21 4 (dk_at dksX3_call_7 11 rfl rfl)
theorem dX3_call_179 : decode cX3_call 179 = .ok (.if_icmp .eq 6, 3) := dk_159 0 6 (dk_at dksX3_call_7 13 rfl rfl)
theorem dX3_call_182 : decode cX3_call 182 = .ok (.goto (-62), 3) := dk_167 255 194 (dk_at dksX3_call_7 16 rfl rfl)
theorem dX3_call_185 : decode cX3_call 185 = .ok (.aload_n 0, 1) := dk_42 (dk_at dksX3_call_7 19 rfl rfl)
theorem dX3_call_186 : decode cX3_call 186 = .ok (.dup, 1) := dk_89 (dk_at dksX3_call_7 20 rfl rfl)
theorem dX3_call_187 : decode cX3_call 187 = .ok (.getfield 274, 3) := dk_180 1 18 (dk_at dksX3_call_7 21 rfl rfl)
theorem dX3_call_190 : decode cX3_call 190 = .ok (.iconst 1, 1) := dk_4 (dk_at dksX3_call_8 0 rfl rfl)
theorem dX3_call_191 : decode cX3_call 191 = .ok (.iadd, 1) := dk_96 (dk_at dksX3_call_8 1 rfl rfl)
theorem dX3_call_192 : decode cX3_call 192 = .ok (.putfield 274, 3) := dk_181 1 18 (dk_at dksX3_call_8 2 rfl rfl)
theorem dX3_call_195 : decode cX3_call 195 = .ok (.iconst (-1), 1) := dk_2 (dk_at dksX3_call_8 5 rfl rfl)
theorem dX3_call_196 : decode cX3_call 196 = .ok (.ireturn, 1) := dk_172 (dk_at dksX3_call_8 6 rfl rfl)
theorem dX3_call_197 : decode cX3_call 197 = .ok (.aload_n 0, 1) := dk_42 (dk_at dksX3_call_8 7 rfl rfl)
theorem dX3_call_198 : decode cX3_call 198 = .ok (.aload 7, 2) := dk_25 7 (dk_at dksX3_call_8 8 rfl rfl)
theorem dX3_call_200 : decode cX3_call 200 = .ok (.invokevirtual 277, 3) := dk_182 1 21 (dk_at dksX3_call_8 10 rfl rfl)
theorem dX3_call_203 : decode cX3_call 203 = .ok (.ireturn, 1) := dk_172 (dk_at dksX3_call_8 13 rfl rfl)
abbrev cX3_isNoNumber : ByteArray := prog_15_method_10_code
def yX3_isNoNumber : MethodName := ⟨RX3, "isNoNumber", "(I)Z"⟩
def dkwX3_isNoNumber_0 : List UInt8 := [26, 3, 16, 15, 184, 0, 44, 154, 0, 7, 4, 167, 0, 4, 3, 172]
abbrev dktX3_isNoNumber_0 : List UInt8 := dkwX3_isNoNumber_0 ++ []
theorem dksX3_isNoNumber_0 : cX3_isNoNumber.data.toList.drop 0 = dktX3_isNoNumber_0 := by decide +kernel
theorem dX3_isNoNumber_0 : decode cX3_isNoNumber 0 = .ok (.iload_n 0, 1) := dk_26 (dk_at dksX3_isNoNumber_0 0 rfl rfl)
theorem dX3_isNoNumber_1 : decode cX3_isNoNumber 1 = .ok (.iconst 0, 1) := dk_3 (dk_at dksX3_isNoNumber_0 1 rfl rfl)
theorem dX3_isNoNumber_2 : decode cX3_isNoNumber 2 = .ok (.bipush 15, 2) := dk_16 15 (dk_at dksX3_isNoNumber_0 2 rfl rfl)
theorem dX3_isNoNumber_4 : decode cX3_isNoNumber 4 = .ok (.invokestatic 44, 3) := dk_184 0 44 (dk_at dksX3_isNoNumber_0 4 rfl rfl)
theorem dX3_isNoNumber_7 : decode cX3_isNoNumber 7 = .ok (.ifCond .ne 7, 3) := dk_154 0 7 (dk_at dksX3_isNoNumber_0 7 rfl rfl)
theorem dX3_isNoNumber_10 : decode cX3_isNoNumber 10 = .ok (.iconst 1, 1) := dk_4 (dk_at dksX3_isNoNumber_0 10 rfl rfl)
theorem dX3_isNoNumber_11 : decode cX3_isNoNumber 11 = .ok (.goto 4, 3) := dk_167 0 4 (dk_at dksX3_isNoNumber_0 11 rfl rfl)
theorem dX3_isNoNumber_14 : decode cX3_isNoNumber 14 = .ok (.iconst 0, 1) := dk_3 (dk_at dksX3_isNoNumber_0 14 rfl rfl)
theorem dX3_isNoNumber_15 : decode cX3_isNoNumber 15 = .ok (.ireturn, 1) := dk_172 (dk_at dksX3_isNoNumber_0 15 rfl rfl)
abbrev cX3_isNoDay : ByteArray := prog_15_method_11_code
def yX3_isNoDay : MethodName := ⟨RX3, "isNoDay", "(II)Z"⟩
def dkwX3_isNoDay_1 : List UInt8 := [154, 0, 7, 4, 167, 0, 4, 3, 172]
abbrev dktX3_isNoDay_1 : List UInt8 := dkwX3_isNoDay_1 ++ []
def dkwX3_isNoDay_0 : List UInt8 := [28, 3, 42, 180, 0, 48, 42, 180, 0, 16, 27, 182, 0, 51, 192, 0, 55, 180, 0, 57, 100, 184, 0, 44]
abbrev dktX3_isNoDay_0 : List UInt8 := dkwX3_isNoDay_0 ++ dktX3_isNoDay_1
theorem dksX3_isNoDay_0 : cX3_isNoDay.data.toList.drop 0 = dktX3_isNoDay_0 := by decide +kernel
theorem dksX3_isNoDay_1 : cX3_isNoDay.data.toList.drop 24 = dktX3_isNoDay_1 := dk_seg dksX3_isNoDay_0 24 rfl rfl
theorem dX3_isNoDay_0 : decode cX3_isNoDay 0 = .ok (.iload_n 2, 1) := dk_28 (dk_at dksX3_isNoDay_0 0 rfl rfl)
theorem dX3_isNoDay_1 : decode cX3_isNoDay 1 = .ok (.iconst 0, 1) := dk_3 (dk_at dksX3_isNoDay_0 1 rfl rfl)
theorem dX3_isNoDay_2 : decode cX3_isNoDay 2 = .ok (.aload_n 0, 1) := dk_42 (dk_at dksX3_isNoDay_0 2 rfl rfl)
theorem dX3_isNoDay_3 : decode cX3_isNoDay 3 = .ok (.getfield 48, 3) := dk_180 0 48 (dk_at dksX3_isNoDay_0 3 rfl rfl)
theorem dX3_isNoDay_6 : decode cX3_isNoDay 6 = .ok (.aload_n 0, 1) := dk_42 (dk_at dksX3_isNoDay_0 6 rfl rfl)
theorem dX3_isNoDay_7 : decode cX3_isNoDay 7 = .ok (.getfield 16, 3) := dk_180 0 16 (dk_at dksX3_isNoDay_0 7 rfl rfl)
theorem dX3_isNoDay_10 : decode cX3_isNoDay 10 = .ok (.iload_n 1, 1) := dk_27 (dk_at dksX3_isNoDay_0 10 rfl rfl)
theorem dX3_isNoDay_11 : decode cX3_isNoDay 11 = .ok (.invokevirtual 51, 3) := dk_182 0 51 (dk_at dksX3_isNoDay_0 11 rfl rfl)
theorem dX3_isNoDay_14 : decode cX3_isNoDay 14 = .ok (.checkcast 55, 3) := dk_192 0 55 (dk_at dksX3_isNoDay_0 14 rfl rfl)
theorem dX3_isNoDay_17 : decode cX3_isNoDay 17 = .ok (.getfield 57, 3) := dk_180 0 57 (dk_at dksX3_isNoDay_0 17 rfl rfl)
theorem dX3_isNoDay_20 : decode cX3_isNoDay 20 = .ok (.isub, 1) := dk_100 (dk_at dksX3_isNoDay_0 20 rfl rfl)
theorem dX3_isNoDay_21 : decode cX3_isNoDay 21 = .ok (.invokestatic 44, 3) := dk_184 0 44 (dk_at dksX3_isNoDay_0 21 rfl rfl)
theorem dX3_isNoDay_24 : decode cX3_isNoDay 24 = .ok (.ifCond .ne 7, 3) := dk_154 0 7 (dk_at dksX3_isNoDay_1 0 rfl rfl)
theorem dX3_isNoDay_27 : decode cX3_isNoDay 27 = .ok (.iconst 1, 1) := dk_4 (dk_at dksX3_isNoDay_1 3 rfl rfl)
theorem dX3_isNoDay_28 : decode cX3_isNoDay 28 = .ok (.goto 4, 3) := dk_167 0 4 (dk_at dksX3_isNoDay_1 4 rfl rfl)
theorem dX3_isNoDay_31 : decode cX3_isNoDay 31 = .ok (.iconst 0, 1) := dk_3 (dk_at dksX3_isNoDay_1 7 rfl rfl)
theorem dX3_isNoDay_32 : decode cX3_isNoDay 32 = .ok (.ireturn, 1) := dk_172 (dk_at dksX3_isNoDay_1 8 rfl rfl)
abbrev cX3_isNoMinute : ByteArray := prog_15_method_12_code
def yX3_isNoMinute : MethodName := ⟨RX3, "isNoMinute", "(I)Z"⟩
def dkwX3_isNoMinute_0 : List UInt8 := [26, 3, 17, 5, 159, 184, 0, 44, 154, 0, 7, 4, 167, 0, 4, 3, 172]
abbrev dktX3_isNoMinute_0 : List UInt8 := dkwX3_isNoMinute_0 ++ []
theorem dksX3_isNoMinute_0 : cX3_isNoMinute.data.toList.drop 0 = dktX3_isNoMinute_0 := by decide +kernel
theorem dX3_isNoMinute_0 : decode cX3_isNoMinute 0 = .ok (.iload_n 0, 1) := dk_26 (dk_at dksX3_isNoMinute_0 0 rfl rfl)
theorem dX3_isNoMinute_1 : decode cX3_isNoMinute 1 = .ok (.iconst 0, 1) := dk_3 (dk_at dksX3_isNoMinute_0 1 rfl rfl)
theorem dX3_isNoMinute_2 : decode cX3_isNoMinute 2 = .ok (.sipush 1439, 3) := dk_17 5 159 (dk_at dksX3_isNoMinute_0 2 rfl rfl)
theorem dX3_isNoMinute_5 : decode cX3_isNoMinute 5 = .ok (.invokestatic 44, 3) := dk_184 0 44 (dk_at dksX3_isNoMinute_0 5 rfl rfl)
theorem dX3_isNoMinute_8 : decode cX3_isNoMinute 8 = .ok (.ifCond .ne 7, 3) := dk_154 0 7 (dk_at dksX3_isNoMinute_0 8 rfl rfl)
theorem dX3_isNoMinute_11 : decode cX3_isNoMinute 11 = .ok (.iconst 1, 1) := dk_4 (dk_at dksX3_isNoMinute_0 11 rfl rfl)
theorem dX3_isNoMinute_12 : decode cX3_isNoMinute 12 = .ok (.goto 4, 3) := dk_167 0 4 (dk_at dksX3_isNoMinute_0 12 rfl rfl)
theorem dX3_isNoMinute_15 : decode cX3_isNoMinute 15 = .ok (.iconst 0, 1) := dk_3 (dk_at dksX3_isNoMinute_0 15 rfl rfl)
theorem dX3_isNoMinute_16 : decode cX3_isNoMinute 16 = .ok (.ireturn, 1) := dk_172 (dk_at dksX3_isNoMinute_0 16 rfl rfl)
abbrev cX3_isNoSeconds : ByteArray := prog_15_method_13_code
def yX3_isNoSeconds : MethodName := ⟨RX3, "isNoSeconds", "(I)Z"⟩
def dkwX3_isNoSeconds_0 : List UInt8 := [26, 4, 17, 39, 15, 184, 0, 44, 154, 0, 7, 4, 167, 0, 4, 3, 172]
abbrev dktX3_isNoSeconds_0 : List UInt8 := dkwX3_isNoSeconds_0 ++ []
theorem dksX3_isNoSeconds_0 : cX3_isNoSeconds.data.toList.drop 0 = dktX3_isNoSeconds_0 := by decide +kernel
theorem dX3_isNoSeconds_0 : decode cX3_isNoSeconds 0 = .ok (.iload_n 0, 1) := dk_26 (dk_at dksX3_isNoSeconds_0 0 rfl rfl)
theorem dX3_isNoSeconds_1 : decode cX3_isNoSeconds 1 = .ok (.iconst 1, 1) := dk_4 (dk_at dksX3_isNoSeconds_0 1 rfl rfl)
theorem dX3_isNoSeconds_2 : decode cX3_isNoSeconds 2 = .ok (.sipush 9999, 3) := dk_17 39 15 (dk_at dksX3_isNoSeconds_0 2 rfl rfl)
theorem dX3_isNoSeconds_5 : decode cX3_isNoSeconds 5 = .ok (.invokestatic 44, 3) := dk_184 0 44 (dk_at dksX3_isNoSeconds_0 5 rfl rfl)
theorem dX3_isNoSeconds_8 : decode cX3_isNoSeconds 8 = .ok (.ifCond .ne 7, 3) := dk_154 0 7 (dk_at dksX3_isNoSeconds_0 8 rfl rfl)
theorem dX3_isNoSeconds_11 : decode cX3_isNoSeconds 11 = .ok (.iconst 1, 1) := dk_4 (dk_at dksX3_isNoSeconds_0 11 rfl rfl)
theorem dX3_isNoSeconds_12 : decode cX3_isNoSeconds 12 = .ok (.goto 4, 3) := dk_167 0 4 (dk_at dksX3_isNoSeconds_0 12 rfl rfl)
theorem dX3_isNoSeconds_15 : decode cX3_isNoSeconds 15 = .ok (.iconst 0, 1) := dk_3 (dk_at dksX3_isNoSeconds_0 15 rfl rfl)
theorem dX3_isNoSeconds_16 : decode cX3_isNoSeconds 16 = .ok (.ireturn, 1) := dk_172 (dk_at dksX3_isNoSeconds_0 16 rfl rfl)
abbrev cX3_isFull : ByteArray := prog_15_method_37_code
def yX3_isFull : MethodName := ⟨RX3, "isFull", "()Z"⟩
def dkwX3_isFull_0 : List UInt8 := [42, 180, 0, 22, 182, 0, 40, 16, 48, 160, 0, 7, 4, 167, 0, 4, 3, 172]
abbrev dktX3_isFull_0 : List UInt8 := dkwX3_isFull_0 ++ []
theorem dksX3_isFull_0 : cX3_isFull.data.toList.drop 0 = dktX3_isFull_0 := by decide +kernel
theorem dX3_isFull_0 : decode cX3_isFull 0 = .ok (.aload_n 0, 1) := dk_42 (dk_at dksX3_isFull_0 0 rfl rfl)
theorem dX3_isFull_1 : decode cX3_isFull 1 = .ok (.getfield 22, 3) := dk_180 0 22 (dk_at dksX3_isFull_0 1 rfl rfl)
theorem dX3_isFull_4 : decode cX3_isFull 4 = .ok (.invokevirtual 40, 3) := dk_182 0 40 (dk_at dksX3_isFull_0 4 rfl rfl)
theorem dX3_isFull_7 : decode cX3_isFull 7 = .ok (.bipush 48, 2) := dk_16 48 (dk_at dksX3_isFull_0 7 rfl rfl)
theorem dX3_isFull_9 : decode cX3_isFull 9 = .ok (.if_icmp .ne 7, 3) := dk_160 0 7 (dk_at dksX3_isFull_0 9 rfl rfl)
theorem dX3_isFull_12 : decode cX3_isFull 12 = .ok (.iconst 1, 1) := dk_4 (dk_at dksX3_isFull_0 12 rfl rfl)
theorem dX3_isFull_13 : decode cX3_isFull 13 = .ok (.goto 4, 3) := dk_167 0 4 (dk_at dksX3_isFull_0 13 rfl rfl)
theorem dX3_isFull_16 : decode cX3_isFull 16 = .ok (.iconst 0, 1) := dk_3 (dk_at dksX3_isFull_0 16 rfl rfl)
theorem dX3_isFull_17 : decode cX3_isFull 17 = .ok (.ireturn, 1) := dk_172 (dk_at dksX3_isFull_0 17 rfl rfl)
abbrev cX3_made : ByteArray := prog_15_method_35_code
def yX3_made : MethodName := ⟨RX3, "made", "(IIIIIII)LRolloverModel$Ticket;"⟩
def dkwX3_made_2 : List UInt8 := [25, 8, 21, 7, 181, 0, 187, 25, 8, 176]
abbrev dktX3_made_2 : List UInt8 := dkwX3_made_2 ++ []
def dkwX3_made_1 : List UInt8 := [181, 0, 118, 25, 8, 21, 4, 181, 0, 161, 25, 8, 21, 5, 181, 0, 145, 25, 8, 21, 6, 181, 0, 148]
abbrev dktX3_made_1 : List UInt8 := dkwX3_made_1 ++ dktX3_made_2
def dkwX3_made_0 : List UInt8 := [187, 0, 73, 89, 183, 0, 253, 58, 8, 25, 8, 27, 181, 0, 136, 25, 8, 28, 181, 0, 142, 25, 8, 29]
abbrev dktX3_made_0 : List UInt8 := dkwX3_made_0 ++ dktX3_made_1
theorem dksX3_made_0 : cX3_made.data.toList.drop 0 = dktX3_made_0 := by decide +kernel
theorem dksX3_made_1 : cX3_made.data.toList.drop 24 = dktX3_made_1 := dk_seg dksX3_made_0 24 rfl rfl
theorem dksX3_made_2 : cX3_made.data.toList.drop 48 = dktX3_made_2 := dk_seg dksX3_made_1 24 rfl rfl
theorem dX3_made_0 : decode cX3_made 0 = .ok (.new 73, 3) := dk_187 0 73 (dk_at dksX3_made_0 0 rfl rfl)
theorem dX3_made_3 : decode cX3_made 3 = .ok (.dup, 1) := dk_89 (dk_at dksX3_made_0 3 rfl rfl)
theorem dX3_made_4 : decode cX3_made 4 = .ok (.invokespecial 253, 3) := dk_183 0 253 (dk_at dksX3_made_0 4 rfl rfl)
theorem dX3_made_7 : decode cX3_made 7 = .ok (.astore 8, 2) := dk_58 8 (dk_at dksX3_made_0 7 rfl rfl)
theorem dX3_made_9 : decode cX3_made 9 = .ok (.aload 8, 2) := dk_25 8 (dk_at dksX3_made_0 9 rfl rfl)
theorem dX3_made_11 : decode cX3_made 11 = .ok (.iload_n 1, 1) := dk_27 (dk_at dksX3_made_0 11 rfl rfl)
theorem dX3_made_12 : decode cX3_made 12 = .ok (.putfield 136, 3) := dk_181 0 136 (dk_at dksX3_made_0 12 rfl rfl)
theorem dX3_made_15 : decode cX3_made 15 = .ok (.aload 8, 2) := dk_25 8 (dk_at dksX3_made_0 15 rfl rfl)
theorem dX3_made_17 : decode cX3_made 17 = .ok (.iload_n 2, 1) := dk_28 (dk_at dksX3_made_0 17 rfl rfl)
theorem dX3_made_18 : decode cX3_made 18 = .ok (.putfield 142, 3) := dk_181 0 142 (dk_at dksX3_made_0 18 rfl rfl)
theorem dX3_made_21 : decode cX3_made 21 = .ok (.aload 8, 2) := dk_25 8 (dk_at dksX3_made_0 21 rfl rfl)
theorem dX3_made_23 : decode cX3_made 23 = .ok (.iload_n 3, 1) := dk_29 (dk_at dksX3_made_0 23 rfl rfl)
theorem dX3_made_24 : decode cX3_made 24 = .ok (.putfield 118, 3) := dk_181 0 118 (dk_at dksX3_made_1 0 rfl rfl)
theorem dX3_made_27 : decode cX3_made 27 = .ok (.aload 8, 2) := dk_25 8 (dk_at dksX3_made_1 3 rfl rfl)
theorem dX3_made_29 : decode cX3_made 29 = .ok (.iload 4, 2) := dk_21 4 (dk_at dksX3_made_1 5 rfl rfl)
theorem dX3_made_31 : decode cX3_made 31 = .ok (.putfield 161, 3) := dk_181 0 161 (dk_at dksX3_made_1 7 rfl rfl)
theorem dX3_made_34 : decode cX3_made 34 = .ok (.aload 8, 2) := dk_25 8 (dk_at dksX3_made_1 10 rfl rfl)
theorem dX3_made_36 : decode cX3_made 36 = .ok (.iload 5, 2) := dk_21 5 (dk_at dksX3_made_1 12 rfl rfl)
theorem dX3_made_38 : decode cX3_made 38 = .ok (.putfield 145, 3) := dk_181 0 145 (dk_at dksX3_made_1 14 rfl rfl)
theorem dX3_made_41 : decode cX3_made 41 = .ok (.aload 8, 2) := dk_25 8 (dk_at dksX3_made_1 17 rfl rfl)
theorem dX3_made_43 : decode cX3_made 43 = .ok (.iload 6, 2) := dk_21 6 (dk_at dksX3_made_1 19 rfl rfl)
theorem dX3_made_45 : decode cX3_made 45 = .ok (.putfield 148, 3) := dk_181 0 148 (dk_at dksX3_made_1 21 rfl rfl)
theorem dX3_made_48 : decode cX3_made 48 = .ok (.aload 8, 2) := dk_25 8 (dk_at dksX3_made_2 0 rfl rfl)
theorem dX3_made_50 : decode cX3_made 50 = .ok (.iload 7, 2) := dk_21 7 (dk_at dksX3_made_2 2 rfl rfl)
theorem dX3_made_52 : decode cX3_made 52 = .ok (.putfield 187, 3) := dk_181 0 187 (dk_at dksX3_made_2 4 rfl rfl)
theorem dX3_made_55 : decode cX3_made 55 = .ok (.aload 8, 2) := dk_25 8 (dk_at dksX3_made_2 7 rfl rfl)
theorem dX3_made_57 : decode cX3_made 57 = .ok (.areturn, 1) := dk_176 (dk_at dksX3_made_2 9 rfl rfl)
abbrev cX3_add : ByteArray := prog_15_method_36_code
def yX3_add : MethodName := ⟨RX3, "add", "(LRolloverModel$Ticket;)I"⟩
def dkwX3_add_0 : List UInt8 := [42, 180, 0, 22, 43, 182, 0, 97, 87, 42, 180, 0, 22, 182, 0, 40, 4, 100, 172]
abbrev dktX3_add_0 : List UInt8 := dkwX3_add_0 ++ []
theorem dksX3_add_0 : cX3_add.data.toList.drop 0 = dktX3_add_0 := by decide +kernel
theorem dX3_add_0 : decode cX3_add 0 = .ok (.aload_n 0, 1) := dk_42 (dk_at dksX3_add_0 0 rfl rfl)
theorem dX3_add_1 : decode cX3_add 1 = .ok (.getfield 22, 3) := dk_180 0 22 (dk_at dksX3_add_0 1 rfl rfl)
theorem dX3_add_4 : decode cX3_add 4 = .ok (.aload_n 1, 1) := dk_43 (dk_at dksX3_add_0 4 rfl rfl)
theorem dX3_add_5 : decode cX3_add 5 = .ok (.invokevirtual 97, 3) := dk_182 0 97 (dk_at dksX3_add_0 5 rfl rfl)
theorem dX3_add_8 : decode cX3_add 8 = .ok (.pop, 1) := dk_87 (dk_at dksX3_add_0 8 rfl rfl)
theorem dX3_add_9 : decode cX3_add 9 = .ok (.aload_n 0, 1) := dk_42 (dk_at dksX3_add_0 9 rfl rfl)
theorem dX3_add_10 : decode cX3_add 10 = .ok (.getfield 22, 3) := dk_180 0 22 (dk_at dksX3_add_0 10 rfl rfl)
theorem dX3_add_13 : decode cX3_add 13 = .ok (.invokevirtual 40, 3) := dk_182 0 40 (dk_at dksX3_add_0 13 rfl rfl)
theorem dX3_add_16 : decode cX3_add 16 = .ok (.iconst 1, 1) := dk_4 (dk_at dksX3_add_0 16 rfl rfl)
theorem dX3_add_17 : decode cX3_add 17 = .ok (.isub, 1) := dk_100 (dk_at dksX3_add_0 17 rfl rfl)
theorem dX3_add_18 : decode cX3_add 18 = .ok (.ireturn, 1) := dk_172 (dk_at dksX3_add_0 18 rfl rfl)
abbrev cX3_gift : ByteArray := prog_15_method_39_code
def yX3_gift : MethodName := ⟨RX3, "gift", "(IIIII)I"⟩
def dkwX3_gift_4 : List UInt8 := [172, 42, 42, 4, 27, 42, 180, 0, 48, 29, 100, 21, 4, 21, 5, 28, 3, 182, 1, 14, 182, 1, 21, 172]
abbrev dktX3_gift_4 : List UInt8 := dkwX3_gift_4 ++ []
def dkwX3_gift_3 : List UInt8 := [167, 0, 4, 3, 5, 182, 0, 36, 154, 0, 15, 42, 42, 182, 1, 11, 6, 182, 0, 36, 153, 0, 5, 3]
abbrev dktX3_gift_3 : List UInt8 := dkwX3_gift_3 ++ dktX3_gift_4
def dkwX3_gift_2 : List UInt8 := [182, 1, 1, 154, 0, 19, 21, 4, 184, 1, 5, 154, 0, 11, 21, 5, 184, 1, 8, 153, 0, 7, 4]
abbrev dktX3_gift_2 : List UInt8 := dkwX3_gift_2 ++ dktX3_gift_3
def dkwX3_gift_1 : List UInt8 := [182, 0, 219, 154, 0, 67, 42, 27, 28, 159, 0, 37, 42, 27, 29, 182, 1, 1, 154, 0, 28, 42, 28, 29]
abbrev dktX3_gift_1 : List UInt8 := dkwX3_gift_1 ++ dktX3_gift_2
def dkwX3_gift_0 : List UInt8 := [42, 42, 27, 182, 0, 243, 154, 0, 11, 42, 28, 182, 0, 243, 153, 0, 7, 4, 167, 0, 4, 3, 4]
abbrev dktX3_gift_0 : List UInt8 := dkwX3_gift_0 ++ dktX3_gift_1
theorem dksX3_gift_0 : cX3_gift.data.toList.drop 0 = dktX3_gift_0 := by decide +kernel
theorem dksX3_gift_1 : cX3_gift.data.toList.drop 23 = dktX3_gift_1 := dk_seg dksX3_gift_0 23 rfl rfl
theorem dksX3_gift_2 : cX3_gift.data.toList.drop 47 = dktX3_gift_2 := dk_seg dksX3_gift_1 24 rfl rfl
theorem dksX3_gift_3 : cX3_gift.data.toList.drop 70 = dktX3_gift_3 := dk_seg dksX3_gift_2 23 rfl rfl
theorem dksX3_gift_4 : cX3_gift.data.toList.drop 94 = dktX3_gift_4 := dk_seg dksX3_gift_3 24 rfl rfl
theorem dX3_gift_0 : decode cX3_gift 0 = .ok (.aload_n 0, 1) := dk_42 (dk_at dksX3_gift_0 0 rfl rfl)
theorem dX3_gift_1 : decode cX3_gift 1 = .ok (.aload_n 0, 1) := dk_42 (dk_at dksX3_gift_0 1 rfl rfl)
theorem dX3_gift_2 : decode cX3_gift 2 = .ok (.iload_n 1, 1) := dk_27 (dk_at dksX3_gift_0 2 rfl rfl)
theorem dX3_gift_3 : decode cX3_gift 3 = .ok (.invokevirtual 243, 3) := dk_182 0 243 (dk_at dksX3_gift_0 3 rfl rfl)
theorem dX3_gift_6 : decode cX3_gift 6 = .ok (.ifCond .ne 11, 3) := dk_154 0 11 (dk_at dksX3_gift_0 6 rfl rfl)
theorem dX3_gift_9 : decode cX3_gift 9 = .ok (.aload_n 0, 1) := dk_42 (dk_at dksX3_gift_0 9 rfl rfl)
theorem dX3_gift_10 : decode cX3_gift 10 = .ok (.iload_n 2, 1) := dk_28 (dk_at dksX3_gift_0 10 rfl rfl)
theorem dX3_gift_11 : decode cX3_gift 11 = .ok (.invokevirtual 243, 3) := dk_182 0 243 (dk_at dksX3_gift_0 11 rfl rfl)
theorem dX3_gift_14 : decode cX3_gift 14 = .ok (.ifCond .eq 7, 3) := dk_153 0 7 (dk_at dksX3_gift_0 14 rfl rfl)
theorem dX3_gift_17 : decode cX3_gift 17 = .ok (.iconst 1, 1) := dk_4 (dk_at dksX3_gift_0 17 rfl rfl)
theorem dX3_gift_18 : decode cX3_gift 18 = .ok (.goto 4, 3) := dk_167 0 4 (dk_at dksX3_gift_0 18 rfl rfl)
theorem dX3_gift_21 : decode cX3_gift 21 = .ok (.iconst 0, 1) := dk_3 (dk_at dksX3_gift_0 21 rfl rfl)
theorem dX3_gift_22 : decode cX3_gift 22 = .ok (.iconst 1, 1) := dk_4 (dk_at dksX3_gift_0 22 rfl rfl)
theorem dX3_gift_23 : decode cX3_gift 23 = .ok (.invokevirtual 219, 3) := dk_182 0 219 (dk_at dksX3_gift_1 0 rfl rfl)
theorem dX3_gift_26 : decode cX3_gift 26 = .ok (.ifCond .ne 67, 3) := dk_154 0 67 (dk_at dksX3_gift_1 3 rfl rfl)
theorem dX3_gift_29 : decode cX3_gift 29 = .ok (.aload_n 0, 1) := dk_42 (dk_at dksX3_gift_1 6 rfl rfl)
theorem dX3_gift_30 : decode cX3_gift 30 = .ok (.iload_n 1, 1) := dk_27 (dk_at dksX3_gift_1 7 rfl rfl)
theorem dX3_gift_31 : decode cX3_gift 31 = .ok (.iload_n 2, 1) := dk_28 (dk_at dksX3_gift_1 8 rfl rfl)
theorem dX3_gift_32 : decode cX3_gift 32 = .ok (.if_icmp .eq 37, 3) := dk_159 0 37 (dk_at dksX3_gift_1 9 rfl rfl)
theorem dX3_gift_35 : decode cX3_gift 35 = .ok (.aload_n 0, 1) := dk_42 (dk_at dksX3_gift_1 12 rfl rfl)
theorem dX3_gift_36 : decode cX3_gift 36 = .ok (.iload_n 1, 1) := dk_27 (dk_at dksX3_gift_1 13 rfl rfl)
theorem dX3_gift_37 : decode cX3_gift 37 = .ok (.iload_n 3, 1) := dk_29 (dk_at dksX3_gift_1 14 rfl rfl)
theorem dX3_gift_38 : decode cX3_gift 38 = .ok (.invokevirtual 257, 3) := dk_182 1 1 (dk_at dksX3_gift_1 15 rfl rfl)
theorem dX3_gift_41 : decode cX3_gift 41 = .ok (.ifCond .ne 28, 3) := dk_154 0 28 (dk_at dksX3_gift_1 18 rfl rfl)
theorem dX3_gift_44 : decode cX3_gift 44 = .ok (.aload_n 0, 1) := dk_42 (dk_at dksX3_gift_1 21 rfl rfl)
theorem dX3_gift_45 : decode cX3_gift 45 = .ok (.iload_n 2, 1) := dk_28 (dk_at dksX3_gift_1 22 rfl rfl)
theorem dX3_gift_46 : decode cX3_gift 46 = .ok (.iload_n 3, 1) := dk_29 (dk_at dksX3_gift_1 23 rfl rfl)
theorem dX3_gift_47 : decode cX3_gift 47 = .ok (.invokevirtual 257, 3) := dk_182 1 1 (dk_at dksX3_gift_2 0 rfl rfl)
theorem dX3_gift_50 : decode cX3_gift 50 = .ok (.ifCond .ne 19, 3) := dk_154 0 19 (dk_at dksX3_gift_2 3 rfl rfl)
theorem dX3_gift_53 : decode cX3_gift 53 = .ok (.iload 4, 2) := dk_21 4 (dk_at dksX3_gift_2 6 rfl rfl)
theorem dX3_gift_55 : decode cX3_gift 55 = .ok (.invokestatic 261, 3) := dk_184 1 5 (dk_at dksX3_gift_2 8 rfl rfl)
theorem dX3_gift_58 : decode cX3_gift 58 = .ok (.ifCond .ne 11, 3) := dk_154 0 11 (dk_at dksX3_gift_2 11 rfl rfl)
theorem dX3_gift_61 : decode cX3_gift 61 = .ok (.iload 5, 2) := dk_21 5 (dk_at dksX3_gift_2 14 rfl rfl)
theorem dX3_gift_63 : decode cX3_gift 63 = .ok (.invokestatic 264, 3) := dk_184 1 8 (dk_at dksX3_gift_2 16 rfl rfl)
theorem dX3_gift_66 : decode cX3_gift 66 = .ok (.ifCond .eq 7, 3) := dk_153 0 7 (dk_at dksX3_gift_2 19 rfl rfl)
theorem dX3_gift_69 : decode cX3_gift 69 = .ok (.iconst 1, 1) := dk_4 (dk_at dksX3_gift_2 22 rfl rfl)
theorem dX3_gift_70 : decode cX3_gift 70 = .ok (.goto 4, 3) := dk_167 0 4 (dk_at dksX3_gift_3 0 rfl rfl)
theorem dX3_gift_73 : decode cX3_gift 73 = .ok (.iconst 0, 1) := dk_3 (dk_at dksX3_gift_3 3 rfl rfl)
theorem dX3_gift_74 : decode cX3_gift 74 = .ok (.iconst 2, 1) := dk_5 (dk_at dksX3_gift_3 4 rfl rfl)
theorem dX3_gift_75 : decode cX3_gift 75 = .ok (.invokevirtual 36, 3) := dk_182 0 36 (dk_at dksX3_gift_3 5 rfl rfl)
theorem dX3_gift_78 : decode cX3_gift 78 = .ok (.ifCond .ne 15, 3) := dk_154 0 15 (dk_at dksX3_gift_3 8 rfl rfl)
theorem dX3_gift_81 : decode cX3_gift 81 = .ok (.aload_n 0, 1) := dk_42 (dk_at dksX3_gift_3 11 rfl rfl)
theorem dX3_gift_82 : decode cX3_gift 82 = .ok (.aload_n 0, 1) := dk_42 (dk_at dksX3_gift_3 12 rfl rfl)
theorem dX3_gift_83 : decode cX3_gift 83 = .ok (.invokevirtual 267, 3) := dk_182 1 11 (dk_at dksX3_gift_3 13 rfl rfl)
theorem dX3_gift_86 : decode cX3_gift 86 = .ok (.iconst 3, 1) := dk_6 (dk_at dksX3_gift_3 16 rfl rfl)
theorem dX3_gift_87 : decode cX3_gift 87 = .ok (.invokevirtual 36, 3) := dk_182 0 36 (dk_at dksX3_gift_3 17 rfl rfl)
theorem dX3_gift_90 : decode cX3_gift 90 = .ok (.ifCond .eq 5, 3) := dk_153 0 5 (dk_at dksX3_gift_3 20 rfl rfl)
theorem dX3_gift_93 : decode cX3_gift 93 = .ok (.iconst 0, 1) := dk_3 (dk_at dksX3_gift_3 23 rfl rfl)
theorem dX3_gift_94 : decode cX3_gift 94 = .ok (.ireturn, 1) := dk_172 (dk_at dksX3_gift_4 0 rfl rfl)
theorem dX3_gift_95 : decode cX3_gift 95 = .ok (.aload_n 0, 1) := dk_42 (dk_at dksX3_gift_4 1 rfl rfl)
theorem dX3_gift_96 : decode cX3_gift 96 = .ok (.aload_n 0, 1) := dk_42 (dk_at dksX3_gift_4 2 rfl rfl)
theorem dX3_gift_97 : decode cX3_gift 97 = .ok (.iconst 1, 1) := dk_4 (dk_at dksX3_gift_4 3 rfl rfl)
theorem dX3_gift_98 : decode cX3_gift 98 = .ok (.iload_n 1, 1) := dk_27 (dk_at dksX3_gift_4 4 rfl rfl)
theorem dX3_gift_99 : decode cX3_gift 99 = .ok (.aload_n 0, 1) := dk_42 (dk_at dksX3_gift_4 5 rfl rfl)
theorem dX3_gift_100 : decode cX3_gift 100 = .ok (.getfield 48, 3) := dk_180 0 48 (dk_at dksX3_gift_4 6 rfl rfl)
theorem dX3_gift_103 : decode cX3_gift 103 = .ok (.iload_n 3, 1) := dk_29 (dk_at dksX3_gift_4 9 rfl rfl)
theorem dX3_gift_104 : decode cX3_gift 104 = .ok (.isub, 1) := dk_100 (dk_at dksX3_gift_4 10 rfl rfl)
theorem dX3_gift_105 : decode cX3_gift 105 = .ok (.iload 4, 2) := dk_21 4 (dk_at dksX3_gift_4 11 rfl rfl)
theorem dX3_gift_107 : decode cX3_gift 107 = .ok (.iload 5, 2) := dk_21 5 (dk_at dksX3_gift_4 13 rfl rfl)
theorem dX3_gift_109 : decode cX3_gift 109 = .ok (.iload_n 2, 1) := dk_28 (dk_at dksX3_gift_4 15 rfl rfl)
theorem dX3_gift_110 : decode cX3_gift 110 = .ok (.iconst 0, 1) := dk_3 (dk_at dksX3_gift_4 16 rfl rfl)
theorem dX3_gift_111 : decode cX3_gift 111 = .ok (.invokevirtual 270, 3) := dk_182 1 14 (dk_at dksX3_gift_4 17 rfl rfl)
theorem dX3_gift_114 : decode cX3_gift 114 = .ok (.invokevirtual 277, 3) := dk_182 1 21 (dk_at dksX3_gift_4 20 rfl rfl)
theorem dX3_gift_117 : decode cX3_gift 117 = .ok (.ireturn, 1) := dk_172 (dk_at dksX3_gift_4 23 rfl rfl)
abbrev cX3_addOn : ByteArray := prog_15_method_40_code
def yX3_addOn : MethodName := ⟨RX3, "addOn", "(IIIIII)I"⟩
def dkwX3_addOn_4 : List UInt8 := [180, 0, 48, 28, 100, 29, 21, 4, 21, 5, 21, 6, 182, 1, 14, 182, 1, 21, 172]
abbrev dktX3_addOn_4 : List UInt8 := dkwX3_addOn_4 ++ []
def dkwX3_addOn_3 : List UInt8 := [154, 0, 15, 42, 42, 182, 1, 11, 6, 182, 0, 36, 153, 0, 5, 3, 172, 42, 42, 5, 27, 42]
abbrev dktX3_addOn_3 : List UInt8 := dkwX3_addOn_3 ++ dktX3_addOn_4
def dkwX3_addOn_2 : List UInt8 := [153, 0, 14, 21, 6, 3, 16, 99, 184, 0, 44, 154, 0, 7, 4, 167, 0, 4, 3, 5, 182, 0, 36]
abbrev dktX3_addOn_2 : List UInt8 := dkwX3_addOn_2 ++ dktX3_addOn_3
def dkwX3_addOn_1 : List UInt8 := [184, 1, 5, 154, 0, 33, 21, 4, 184, 1, 8, 154, 0, 25, 21, 5, 4, 16, 90, 184, 0, 44]
abbrev dktX3_addOn_1 : List UInt8 := dkwX3_addOn_1 ++ dktX3_addOn_2
def dkwX3_addOn_0 : List UInt8 := [42, 42, 27, 182, 0, 243, 4, 182, 0, 219, 154, 0, 74, 42, 42, 27, 28, 182, 1, 1, 154, 0, 40, 29]
abbrev dktX3_addOn_0 : List UInt8 := dkwX3_addOn_0 ++ dktX3_addOn_1
theorem dksX3_addOn_0 : cX3_addOn.data.toList.drop 0 = dktX3_addOn_0 := by decide +kernel
theorem dksX3_addOn_1 : cX3_addOn.data.toList.drop 24 = dktX3_addOn_1 := dk_seg dksX3_addOn_0 24 rfl rfl
theorem dksX3_addOn_2 : cX3_addOn.data.toList.drop 46 = dktX3_addOn_2 := dk_seg dksX3_addOn_1 22 rfl rfl
theorem dksX3_addOn_3 : cX3_addOn.data.toList.drop 69 = dktX3_addOn_3 := dk_seg dksX3_addOn_2 23 rfl rfl
theorem dksX3_addOn_4 : cX3_addOn.data.toList.drop 91 = dktX3_addOn_4 := dk_seg dksX3_addOn_3 22 rfl rfl
theorem dX3_addOn_0 : decode cX3_addOn 0 = .ok (.aload_n 0, 1) := dk_42 (dk_at dksX3_addOn_0 0 rfl rfl)
theorem dX3_addOn_1 : decode cX3_addOn 1 = .ok (.aload_n 0, 1) := dk_42 (dk_at dksX3_addOn_0 1 rfl rfl)
theorem dX3_addOn_2 : decode cX3_addOn 2 = .ok (.iload_n 1, 1) := dk_27 (dk_at dksX3_addOn_0 2 rfl rfl)
theorem dX3_addOn_3 : decode cX3_addOn 3 = .ok (.invokevirtual 243, 3) := dk_182 0 243 (dk_at dksX3_addOn_0 3 rfl rfl)
theorem dX3_addOn_6 : decode cX3_addOn 6 = .ok (.iconst 1, 1) := dk_4 (dk_at dksX3_addOn_0 6 rfl rfl)
theorem dX3_addOn_7 : decode cX3_addOn 7 = .ok (.invokevirtual 219, 3) := dk_182 0 219 (dk_at dksX3_addOn_0 7 rfl rfl)
theorem dX3_addOn_10 : decode cX3_addOn 10 = .ok (.ifCond .ne 74, 3) := dk_154 0 74 (dk_at dksX3_addOn_0 10 rfl rfl)
theorem dX3_addOn_13 : decode cX3_addOn 13 = .ok (.aload_n 0, 1) := dk_42 (dk_at dksX3_addOn_0 13 rfl rfl)
theorem dX3_addOn_14 : decode cX3_addOn 14 = .ok (.aload_n 0, 1) := dk_42 (dk_at dksX3_addOn_0 14 rfl rfl)
theorem dX3_addOn_15 : decode cX3_addOn 15 = .ok (.iload_n 1, 1) := dk_27 (dk_at dksX3_addOn_0 15 rfl rfl)
theorem dX3_addOn_16 : decode cX3_addOn 16 = .ok (.iload_n 2, 1) := dk_28 (dk_at dksX3_addOn_0 16 rfl rfl)
theorem dX3_addOn_17 : decode cX3_addOn 17 = .ok (.invokevirtual 257, 3) := dk_182 1 1 (dk_at dksX3_addOn_0 17 rfl rfl)
theorem dX3_addOn_20 : decode cX3_addOn 20 = .ok (.ifCond .ne 40, 3) := dk_154 0 40 (dk_at dksX3_addOn_0 20 rfl rfl)
theorem dX3_addOn_23 : decode cX3_addOn 23 = .ok (.iload_n 3, 1) := dk_29 (dk_at dksX3_addOn_0 23 rfl rfl)
theorem dX3_addOn_24 : decode cX3_addOn 24 = .ok (.invokestatic 261, 3) := dk_184 1 5 (dk_at dksX3_addOn_1 0 rfl rfl)
theorem dX3_addOn_27 : decode cX3_addOn 27 = .ok (.ifCond .ne 33, 3) := dk_154 0 33 (dk_at dksX3_addOn_1 3 rfl rfl)
theorem dX3_addOn_30 : decode cX3_addOn 30 = .ok (.iload 4, 2) := dk_21 4 (dk_at dksX3_addOn_1 6 rfl rfl)
theorem dX3_addOn_32 : decode cX3_addOn 32 = .ok (.invokestatic 264, 3) := dk_184 1 8 (dk_at dksX3_addOn_1 8 rfl rfl)
theorem dX3_addOn_35 : decode cX3_addOn 35 = .ok (.ifCond .ne 25, 3) := dk_154 0 25 (dk_at dksX3_addOn_1 11 rfl rfl)
theorem dX3_addOn_38 : decode cX3_addOn 38 = .ok (.iload 5, 2) := dk_21 5 (dk_at dksX3_addOn_1 14 rfl rfl)
theorem dX3_addOn_40 : decode cX3_addOn 40 = .ok (.iconst 1, 1) := dk_4 (dk_at dksX3_addOn_1 16 rfl rfl)
theorem dX3_addOn_41 : decode cX3_addOn 41 = .ok (.bipush 90, 2) := dk_16 90 (dk_at dksX3_addOn_1 17 rfl rfl)
theorem dX3_addOn_43 : decode cX3_addOn 43 = .ok (.invokestatic 44, 3) := dk_184 0 44 (dk_at dksX3_addOn_1 19 rfl rfl)
theorem dX3_addOn_46 : decode cX3_addOn 46 = .ok (.ifCond .eq 14, 3) := dk_153 0 14 (dk_at dksX3_addOn_2 0 rfl rfl)
theorem dX3_addOn_49 : decode cX3_addOn 49 = .ok (.iload 6, 2) := dk_21 6 (dk_at dksX3_addOn_2 3 rfl rfl)
theorem dX3_addOn_51 : decode cX3_addOn 51 = .ok (.iconst 0, 1) := dk_3 (dk_at dksX3_addOn_2 5 rfl rfl)
theorem dX3_addOn_52 : decode cX3_addOn 52 = .ok (.bipush 99, 2) := dk_16 99 (dk_at dksX3_addOn_2 6 rfl rfl)
theorem dX3_addOn_54 : decode cX3_addOn 54 = .ok (.invokestatic 44, 3) := dk_184 0 44 (dk_at dksX3_addOn_2 8 rfl rfl)
theorem dX3_addOn_57 : decode cX3_addOn 57 = .ok (.ifCond .ne 7, 3) := dk_154 0 7 (dk_at dksX3_addOn_2 11 rfl rfl)
theorem dX3_addOn_60 : decode cX3_addOn 60 = .ok (.iconst 1, 1) := dk_4 (dk_at dksX3_addOn_2 14 rfl rfl)
theorem dX3_addOn_61 : decode cX3_addOn 61 = .ok (.goto 4, 3) := dk_167 0 4 (dk_at dksX3_addOn_2 15 rfl rfl)
theorem dX3_addOn_64 : decode cX3_addOn 64 = .ok (.iconst 0, 1) := dk_3 (dk_at dksX3_addOn_2 18 rfl rfl)
theorem dX3_addOn_65 : decode cX3_addOn 65 = .ok (.iconst 2, 1) := dk_5 (dk_at dksX3_addOn_2 19 rfl rfl)
theorem dX3_addOn_66 : decode cX3_addOn 66 = .ok (.invokevirtual 36, 3) := dk_182 0 36 (dk_at dksX3_addOn_2 20 rfl rfl)
theorem dX3_addOn_69 : decode cX3_addOn 69 = .ok (.ifCond .ne 15, 3) := dk_154 0 15 (dk_at dksX3_addOn_3 0 rfl rfl)
theorem dX3_addOn_72 : decode cX3_addOn 72 = .ok (.aload_n 0, 1) := dk_42 (dk_at dksX3_addOn_3 3 rfl rfl)
theorem dX3_addOn_73 : decode cX3_addOn 73 = .ok (.aload_n 0, 1) := dk_42 (dk_at dksX3_addOn_3 4 rfl rfl)
theorem dX3_addOn_74 : decode cX3_addOn 74 = .ok (.invokevirtual 267, 3) := dk_182 1 11 (dk_at dksX3_addOn_3 5 rfl rfl)
theorem dX3_addOn_77 : decode cX3_addOn 77 = .ok (.iconst 3, 1) := dk_6 (dk_at dksX3_addOn_3 8 rfl rfl)
theorem dX3_addOn_78 : decode cX3_addOn 78 = .ok (.invokevirtual 36, 3) := dk_182 0 36 (dk_at dksX3_addOn_3 9 rfl rfl)
theorem dX3_addOn_81 : decode cX3_addOn 81 = .ok (.ifCond .eq 5, 3) := dk_153 0 5 (dk_at dksX3_addOn_3 12 rfl rfl)
theorem dX3_addOn_84 : decode cX3_addOn 84 = .ok (.iconst 0, 1) := dk_3 (dk_at dksX3_addOn_3 15 rfl rfl)
theorem dX3_addOn_85 : decode cX3_addOn 85 = .ok (.ireturn, 1) := dk_172 (dk_at dksX3_addOn_3 16 rfl rfl)
theorem dX3_addOn_86 : decode cX3_addOn 86 = .ok (.aload_n 0, 1) := dk_42 (dk_at dksX3_addOn_3 17 rfl rfl)
theorem dX3_addOn_87 : decode cX3_addOn 87 = .ok (.aload_n 0, 1) := dk_42 (dk_at dksX3_addOn_3 18 rfl rfl)
theorem dX3_addOn_88 : decode cX3_addOn 88 = .ok (.iconst 2, 1) := dk_5 (dk_at dksX3_addOn_3 19 rfl rfl)
theorem dX3_addOn_89 : decode cX3_addOn 89 = .ok (.iload_n 1, 1) := dk_27 (dk_at dksX3_addOn_3 20 rfl rfl)
theorem dX3_addOn_90 : decode cX3_addOn 90 = .ok (.aload_n 0, 1) := dk_42 (dk_at dksX3_addOn_3 21 rfl rfl)
theorem dX3_addOn_91 : decode cX3_addOn 91 = .ok (.getfield 48, 3) := dk_180 0 48 (dk_at dksX3_addOn_4 0 rfl rfl)
theorem dX3_addOn_94 : decode cX3_addOn 94 = .ok (.iload_n 2, 1) := dk_28 (dk_at dksX3_addOn_4 3 rfl rfl)
theorem dX3_addOn_95 : decode cX3_addOn 95 = .ok (.isub, 1) := dk_100 (dk_at dksX3_addOn_4 4 rfl rfl)
theorem dX3_addOn_96 : decode cX3_addOn 96 = .ok (.iload_n 3, 1) := dk_29 (dk_at dksX3_addOn_4 5 rfl rfl)
theorem dX3_addOn_97 : decode cX3_addOn 97 = .ok (.iload 4, 2) := dk_21 4 (dk_at dksX3_addOn_4 6 rfl rfl)
theorem dX3_addOn_99 : decode cX3_addOn 99 = .ok (.iload 5, 2) := dk_21 5 (dk_at dksX3_addOn_4 8 rfl rfl)
theorem dX3_addOn_101 : decode cX3_addOn 101 = .ok (.iload 6, 2) := dk_21 6 (dk_at dksX3_addOn_4 10 rfl rfl)
theorem dX3_addOn_103 : decode cX3_addOn 103 = .ok (.invokevirtual 270, 3) := dk_182 1 14 (dk_at dksX3_addOn_4 12 rfl rfl)
theorem dX3_addOn_106 : decode cX3_addOn 106 = .ok (.invokevirtual 277, 3) := dk_182 1 21 (dk_at dksX3_addOn_4 15 rfl rfl)
theorem dX3_addOn_109 : decode cX3_addOn 109 = .ok (.ireturn, 1) := dk_172 (dk_at dksX3_addOn_4 18 rfl rfl)
abbrev cX3_correct : ByteArray := prog_15_method_41_code
def yX3_correct : MethodName := ⟨RX3, "correct", "(II)I"⟩
def dkwX3_correct_5 : List UInt8 := [42, 42, 182, 1, 27, 45, 180, 0, 142, 45, 180, 0, 118, 16, 30, 108, 182, 0, 216, 21, 4, 100, 172]
abbrev dktX3_correct_5 : List UInt8 := dkwX3_correct_5 ++ []
def dkwX3_correct_4 : List UInt8 := [182, 1, 27, 45, 180, 0, 142, 45, 180, 0, 118, 16, 30, 108, 182, 0, 216, 54, 4, 45, 28, 181, 0, 145]
abbrev dktX3_correct_4 : List UInt8 := dkwX3_correct_4 ++ dktX3_correct_5
def dkwX3_correct_3 : List UInt8 := [182, 0, 36, 153, 0, 5, 3, 172, 42, 180, 0, 22, 27, 182, 0, 51, 192, 0, 73, 78, 42, 42]
abbrev dktX3_correct_3 : List UInt8 := dkwX3_correct_3 ++ dktX3_correct_4
def dkwX3_correct_2 : List UInt8 := [180, 0, 22, 27, 182, 0, 51, 192, 0, 73, 180, 0, 124, 153, 0, 7, 4, 167, 0, 4, 3, 6]
abbrev dktX3_correct_2 : List UInt8 := dkwX3_correct_2 ++ dktX3_correct_3
def dkwX3_correct_1 : List UInt8 := [154, 0, 50, 42, 42, 180, 0, 22, 27, 182, 0, 51, 192, 0, 73, 180, 0, 136, 154, 0, 20, 42]
abbrev dktX3_correct_1 : List UInt8 := dkwX3_correct_1 ++ dktX3_correct_2
def dkwX3_correct_0 : List UInt8 := [42, 42, 27, 182, 1, 24, 4, 182, 0, 219, 154, 0, 62, 42, 28, 184, 1, 8, 5, 182, 0, 36]
abbrev dktX3_correct_0 : List UInt8 := dkwX3_correct_0 ++ dktX3_correct_1
theorem dksX3_correct_0 : cX3_correct.data.toList.drop 0 = dktX3_correct_0 := by decide +kernel
theorem dksX3_correct_1 : cX3_correct.data.toList.drop 22 = dktX3_correct_1 := dk_seg dksX3_correct_0 22 rfl rfl
theorem dksX3_correct_2 : cX3_correct.data.toList.drop 44 = dktX3_correct_2 := dk_seg dksX3_correct_1 22 rfl rfl
theorem dksX3_correct_3 : cX3_correct.data.toList.drop 66 = dktX3_correct_3 := dk_seg dksX3_correct_2 22 rfl rfl
theorem dksX3_correct_4 : cX3_correct.data.toList.drop 88 = dktX3_correct_4 := dk_seg dksX3_correct_3 22 rfl rfl
theorem dksX3_correct_5 : cX3_correct.data.toList.drop 112 = dktX3_correct_5 := dk_seg dksX3_correct_4 24 rfl rfl
theorem dX3_correct_0 : decode cX3_correct 0 = .ok (.aload_n 0, 1) := dk_42 (dk_at dksX3_correct_0 0 rfl rfl)
theorem dX3_correct_1 : decode cX3_correct 1 = .ok (.aload_n 0, 1) := dk_42 (dk_at dksX3_correct_0 1 rfl rfl)
theorem dX3_correct_2 : decode cX3_correct 2 = .ok (.iload_n 1, 1) := dk_27 (dk_at dksX3_correct_0 2 rfl rfl)
theorem dX3_correct_3 : decode cX3_correct 3 = .ok (.invokevirtual 280, 3) := dk_182 1 24 (dk_at dksX3_correct_0 3 rfl rfl)
theorem dX3_correct_6 : decode cX3_correct 6 = .ok (.iconst 1, 1) := dk_4 (dk_at dksX3_correct_0 6 rfl rfl)
theorem dX3_correct_7 : decode cX3_correct 7 = .ok (.invokevirtual 219, 3) := dk_182 0 219 (dk_at dksX3_correct_0 7 rfl rfl)
theorem dX3_correct_10 : decode cX3_correct 10 = .ok (.ifCond .ne 62, 3) := dk_154 0 62 (dk_at dksX3_correct_0 10 rfl rfl)
theorem dX3_correct_13 : decode cX3_correct 13 = .ok (.aload_n 0, 1) := dk_42 (dk_at dksX3_correct_0 13 rfl rfl)
theorem dX3_correct_14 : decode cX3_correct 14 = .ok (.iload_n 2, 1) := dk_28 (dk_at dksX3_correct_0 14 rfl rfl)
theorem dX3_correct_15 : decode cX3_correct 15 = .ok (.invokestatic 264, 3) := dk_184 1 8 (dk_at dksX3_correct_0 15 rfl rfl)
theorem dX3_correct_18 : decode cX3_correct 18 = .ok (.iconst 2, 1) := dk_5 (dk_at dksX3_correct_0 18 rfl rfl)
theorem dX3_correct_19 : decode cX3_correct 19 = .ok (.invokevirtual 36, 3) := dk_182 0 36 (dk_at dksX3_correct_0 19 rfl rfl)
theorem dX3_correct_22 : decode cX3_correct 22 = .ok (.ifCond .ne 50, 3) := dk_154 0 50 (dk_at dksX3_correct_1 0 rfl rfl)
theorem dX3_correct_25 : decode cX3_correct 25 = .ok (.aload_n 0, 1) := dk_42 (dk_at dksX3_correct_1 3 rfl rfl)
theorem dX3_correct_26 : decode cX3_correct 26 = .ok (.aload_n 0, 1) := dk_42 (dk_at dksX3_correct_1 4 rfl rfl)
theorem dX3_correct_27 : decode cX3_correct 27 = .ok (.getfield 22, 3) := dk_180 0 22 (dk_at dksX3_correct_1 5 rfl rfl)
theorem dX3_correct_30 : decode cX3_correct 30 = .ok (.iload_n 1, 1) := dk_27 (dk_at dksX3_correct_1 8 rfl rfl)
theorem dX3_correct_31 : decode cX3_correct 31 = .ok (.invokevirtual 51, 3) := dk_182 0 51 (dk_at dksX3_correct_1 9 rfl rfl)
theorem dX3_correct_34 : decode cX3_correct 34 = .ok (.checkcast 73, 3) := dk_192 0 73 (dk_at dksX3_correct_1 12 rfl rfl)
theorem dX3_correct_37 : decode cX3_correct 37 = .ok (.getfield 136, 3) := dk_180 0 136 (dk_at dksX3_correct_1 15 rfl rfl)
theorem dX3_correct_40 : decode cX3_correct 40 = .ok (.ifCond .ne 20, 3) := dk_154 0 20 (dk_at dksX3_correct_1 18 rfl rfl)
theorem dX3_correct_43 : decode cX3_correct 43 = .ok (.aload_n 0, 1) := dk_42 (dk_at dksX3_correct_1 21 rfl rfl)
theorem dX3_correct_44 : decode cX3_correct 44 = .ok (.getfield 22, 3) := dk_180 0 22 (dk_at dksX3_correct_2 0 rfl rfl)
theorem dX3_correct_47 : decode cX3_correct 47 = .ok (.iload_n 1, 1) := dk_27 (dk_at dksX3_correct_2 3 rfl rfl)
theorem dX3_correct_48 : decode cX3_correct 48 = .ok (.invokevirtual 51, 3) := dk_182 0 51 (dk_at dksX3_correct_2 4 rfl rfl)
theorem dX3_correct_51 : decode cX3_correct 51 = .ok (.checkcast 73, 3) := dk_192 0 73 (dk_at dksX3_correct_2 7 rfl rfl)
theorem dX3_correct_54 : decode cX3_correct 54 = .ok (.getfield 124, 3) := dk_180 0 124 (dk_at dksX3_correct_2 10 rfl rfl)
theorem dX3_correct_57 : decode cX3_correct 57 = .ok (.ifCond .eq 7, 3) := dk_153 0 7 (dk_at dksX3_correct_2 13 rfl rfl)
theorem dX3_correct_60 : decode cX3_correct 60 = .ok (.iconst 1, 1) := dk_4 (dk_at dksX3_correct_2 16 rfl rfl)
theorem dX3_correct_61 : decode cX3_correct 61 = .ok (.goto 4, 3) := dk_167 0 4 (dk_at dksX3_correct_2 17 rfl rfl)
theorem dX3_correct_64 : decode cX3_correct 64 = .ok (.iconst 0, 1) := dk_3 (dk_at dksX3_correct_2 20 rfl rfl)
theorem dX3_correct_65 : decode cX3_correct 65 = .ok (.iconst 3, 1) := dk_6 (dk_at dksX3_correct_2 21 rfl rfl)
theorem dX3_correct_66 : decode cX3_correct 66 = .ok (.invokevirtual 36, 3) := dk_182 0 36 (dk_at dksX3_correct_3 0 rfl rfl)
theorem dX3_correct_69 : decode cX3_correct 69 = .ok (.ifCond .eq 5, 3) := dk_153 0 5 (dk_at dksX3_correct_3 3 rfl rfl)
theorem dX3_correct_72 : decode cX3_correct 72 = .ok (.iconst 0, 1) := dk_3 (dk_at dksX3_correct_3 6 rfl rfl)
theorem dX3_correct_73 : decode cX3_correct 73 = .ok (.ireturn, 1) := dk_172 (dk_at dksX3_correct_3 7 rfl rfl)
theorem dX3_correct_74 : decode cX3_correct 74 = .ok (.aload_n 0, 1) := dk_42 (dk_at dksX3_correct_3 8 rfl rfl)
theorem dX3_correct_75 : decode cX3_correct 75 = .ok (.getfield 22, 3) := dk_180 0 22 (dk_at dksX3_correct_3 9 rfl rfl)
theorem dX3_correct_78 : decode cX3_correct 78 = .ok (.iload_n 1, 1) := dk_27 (dk_at dksX3_correct_3 12 rfl rfl)
theorem dX3_correct_79 : decode cX3_correct 79 = .ok (.invokevirtual 51, 3) := dk_182 0 51 (dk_at dksX3_correct_3 13 rfl rfl)
theorem dX3_correct_82 : decode cX3_correct 82 = .ok (.checkcast 73, 3) := dk_192 0 73 (dk_at dksX3_correct_3 16 rfl rfl)
theorem dX3_correct_85 : decode cX3_correct 85 = .ok (.astore_n 3, 1) := dk_78 (dk_at dksX3_correct_3 19 rfl rfl)
theorem dX3_correct_86 : decode cX3_correct 86 = .ok (.aload_n 0, 1) := dk_42 (dk_at dksX3_correct_3 20 rfl rfl)
theorem dX3_correct_87 : decode cX3_correct 87 = .ok (.aload_n 0, 1) := dk_42 (dk_at dksX3_correct_3 21 rfl rfl)
theorem dX3_correct_88 : decode cX3_correct 88 = .ok (.invokevirtual 283, 3) := dk_182 1 27 (dk_at dksX3_correct_4 0 rfl rfl)
theorem dX3_correct_91 : decode cX3_correct 91 = .ok (.aload_n 3, 1) := dk_45 (dk_at dksX3_correct_4 3 rfl rfl)
theorem dX3_correct_92 : decode cX3_correct 92 = .ok (.getfield 142, 3) := dk_180 0 142 (dk_at dksX3_correct_4 4 rfl rfl)
theorem dX3_correct_95 : decode cX3_correct 95 = .ok (.aload_n 3, 1) := dk_45 (dk_at dksX3_correct_4 7 rfl rfl)
theorem dX3_correct_96 : decode cX3_correct 96 = .ok (.getfield 118, 3) := dk_180 0 118 (dk_at dksX3_correct_4 8 rfl rfl)
theorem dX3_correct_99 : decode cX3_correct 99 = .ok (.bipush 30, 2) := dk_16 30 (dk_at dksX3_correct_4 11 rfl rfl)
theorem dX3_correct_101 : decode cX3_correct 101 = .ok (.idiv, 1) := dk_108 (dk_at dksX3_correct_4 13 rfl rfl)
theorem dX3_correct_102 : decode cX3_correct 102 = .ok (.invokevirtual 216, 3) := dk_182 0 216 (dk_at dksX3_correct_4 14 rfl rfl)
theorem dX3_correct_105 : decode cX3_correct 105 = .ok (.istore 4, 2) := dk_54 4 (dk_at dksX3_correct_4 17 rfl rfl)
theorem dX3_correct_107 : decode cX3_correct 107 = .ok (.aload_n 3, 1) := dk_45 (dk_at dksX3_correct_4 19 rfl rfl)
theorem dX3_correct_108 : decode cX3_correct 108 = .ok (.iload_n 2, 1) := dk_28 (dk_at dksX3_correct_4 20 rfl rfl)
theorem dX3_correct_109 : decode cX3_correct 109 = .ok (.putfield 145, 3) := dk_181 0 145 (dk_at dksX3_correct_4 21 rfl rfl)
theorem dX3_correct_112 : decode cX3_correct 112 = .ok (.aload_n 0, 1) := dk_42 (dk_at dksX3_correct_5 0 rfl rfl)
theorem dX3_correct_113 : decode cX3_correct 113 = .ok (.aload_n 0, 1) := dk_42 (dk_at dksX3_correct_5 1 rfl rfl)
theorem dX3_correct_114 : decode cX3_correct 114 = .ok (.invokevirtual 283, 3) := dk_182 1 27 (dk_at dksX3_correct_5 2 rfl rfl)
theorem dX3_correct_117 : decode cX3_correct 117 = .ok (.aload_n 3, 1) := dk_45 (dk_at dksX3_correct_5 5 rfl rfl)
theorem dX3_correct_118 : decode cX3_correct 118 = .ok (.getfield 142, 3) := dk_180 0 142 (dk_at dksX3_correct_5 6 rfl rfl)
theorem dX3_correct_121 : decode cX3_correct 121 = .ok (.aload_n 3, 1) := dk_45 (dk_at dksX3_correct_5 9 rfl rfl)
theorem dX3_correct_122 : decode cX3_correct 122 = .ok (.getfield 118, 3) := dk_180 0 118 (dk_at dksX3_correct_5 10 rfl rfl)
theorem dX3_correct_125 : decode cX3_correct 125 = .ok (.bipush 30, 2) := dk_16 30 (dk_at dksX3_correct_5 13 rfl rfl)
theorem dX3_correct_127 : decode cX3_correct 127 = .ok (.idiv, 1) := dk_108 (dk_at dksX3_correct_5 15 rfl rfl)
theorem dX3_correct_128 : decode cX3_correct 128 = .ok (.invokevirtual 216, 3) := dk_182 0 216 (dk_at dksX3_correct_5 16 rfl rfl)
theorem dX3_correct_131 : decode cX3_correct 131 = .ok (.iload 4, 2) := dk_21 4 (dk_at dksX3_correct_5 19 rfl rfl)
theorem dX3_correct_133 : decode cX3_correct 133 = .ok (.isub, 1) := dk_100 (dk_at dksX3_correct_5 21 rfl rfl)
theorem dX3_correct_134 : decode cX3_correct 134 = .ok (.ireturn, 1) := dk_172 (dk_at dksX3_correct_5 22 rfl rfl)
abbrev cX3_isNoTicket : ByteArray := prog_15_method_9_code
def yX3_isNoTicket : MethodName := ⟨RX3, "isNoTicket", "(I)Z"⟩
def dkwX3_isNoTicket_0 : List UInt8 := [27, 3, 42, 180, 0, 22, 182, 0, 40, 4, 100, 184, 0, 44, 154, 0, 7, 4, 167, 0, 4, 3, 172]
abbrev dktX3_isNoTicket_0 : List UInt8 := dkwX3_isNoTicket_0 ++ []
theorem dksX3_isNoTicket_0 : cX3_isNoTicket.data.toList.drop 0 = dktX3_isNoTicket_0 := by decide +kernel
theorem dX3_isNoTicket_0 : decode cX3_isNoTicket 0 = .ok (.iload_n 1, 1) := dk_27 (dk_at dksX3_isNoTicket_0 0 rfl rfl)
theorem dX3_isNoTicket_1 : decode cX3_isNoTicket 1 = .ok (.iconst 0, 1) := dk_3 (dk_at dksX3_isNoTicket_0 1 rfl rfl)
theorem dX3_isNoTicket_2 : decode cX3_isNoTicket 2 = .ok (.aload_n 0, 1) := dk_42 (dk_at dksX3_isNoTicket_0 2 rfl rfl)
theorem dX3_isNoTicket_3 : decode cX3_isNoTicket 3 = .ok (.getfield 22, 3) := dk_180 0 22 (dk_at dksX3_isNoTicket_0 3 rfl rfl)
theorem dX3_isNoTicket_6 : decode cX3_isNoTicket 6 = .ok (.invokevirtual 40, 3) := dk_182 0 40 (dk_at dksX3_isNoTicket_0 6 rfl rfl)
theorem dX3_isNoTicket_9 : decode cX3_isNoTicket 9 = .ok (.iconst 1, 1) := dk_4 (dk_at dksX3_isNoTicket_0 9 rfl rfl)
theorem dX3_isNoTicket_10 : decode cX3_isNoTicket 10 = .ok (.isub, 1) := dk_100 (dk_at dksX3_isNoTicket_0 10 rfl rfl)
theorem dX3_isNoTicket_11 : decode cX3_isNoTicket 11 = .ok (.invokestatic 44, 3) := dk_184 0 44 (dk_at dksX3_isNoTicket_0 11 rfl rfl)
theorem dX3_isNoTicket_14 : decode cX3_isNoTicket 14 = .ok (.ifCond .ne 7, 3) := dk_154 0 7 (dk_at dksX3_isNoTicket_0 14 rfl rfl)
theorem dX3_isNoTicket_17 : decode cX3_isNoTicket 17 = .ok (.iconst 1, 1) := dk_4 (dk_at dksX3_isNoTicket_0 17 rfl rfl)
theorem dX3_isNoTicket_18 : decode cX3_isNoTicket 18 = .ok (.goto 4, 3) := dk_167 0 4 (dk_at dksX3_isNoTicket_0 18 rfl rfl)
theorem dX3_isNoTicket_21 : decode cX3_isNoTicket 21 = .ok (.iconst 0, 1) := dk_3 (dk_at dksX3_isNoTicket_0 21 rfl rfl)
theorem dX3_isNoTicket_22 : decode cX3_isNoTicket 22 = .ok (.ireturn, 1) := dk_172 (dk_at dksX3_isNoTicket_0 22 rfl rfl)
abbrev cX3_asIs : ByteArray := prog_15_method_19_code
def yX3_asIs : MethodName := ⟨RX3, "asIs", "()LRolloverModel$Book;"⟩
def dkwX3_asIs_0 : List UInt8 := [42, 42, 180, 0, 48, 2, 2, 1, 182, 0, 132, 176]
abbrev dktX3_asIs_0 : List UInt8 := dkwX3_asIs_0 ++ []
theorem dksX3_asIs_0 : cX3_asIs.data.toList.drop 0 = dktX3_asIs_0 := by decide +kernel
theorem dX3_asIs_0 : decode cX3_asIs 0 = .ok (.aload_n 0, 1) := dk_42 (dk_at dksX3_asIs_0 0 rfl rfl)
theorem dX3_asIs_1 : decode cX3_asIs 1 = .ok (.aload_n 0, 1) := dk_42 (dk_at dksX3_asIs_0 1 rfl rfl)
theorem dX3_asIs_2 : decode cX3_asIs 2 = .ok (.getfield 48, 3) := dk_180 0 48 (dk_at dksX3_asIs_0 2 rfl rfl)
theorem dX3_asIs_5 : decode cX3_asIs 5 = .ok (.iconst (-1), 1) := dk_2 (dk_at dksX3_asIs_0 5 rfl rfl)
theorem dX3_asIs_6 : decode cX3_asIs 6 = .ok (.iconst (-1), 1) := dk_2 (dk_at dksX3_asIs_0 6 rfl rfl)
theorem dX3_asIs_7 : decode cX3_asIs 7 = .ok (.aconst_null, 1) := dk_1 (dk_at dksX3_asIs_0 7 rfl rfl)
theorem dX3_asIs_8 : decode cX3_asIs 8 = .ok (.invokevirtual 132, 3) := dk_182 0 132 (dk_at dksX3_asIs_0 8 rfl rfl)
theorem dX3_asIs_11 : decode cX3_asIs 11 = .ok (.areturn, 1) := dk_176 (dk_at dksX3_asIs_0 11 rfl rfl)
abbrev cX3_book : ByteArray := prog_15_method_18_code
def yX3_book : MethodName := ⟨RX3, "book", "(IIILRolloverModel$Ticket;)LRolloverModel$Book;"⟩
def dkwX3_book_10 : List UInt8 := [132, 7, 1, 167, 255, 239, 25, 5, 176]
abbrev dktX3_book_10 : List UInt8 := dkwX3_book_10 ++ []
def dkwX3_book_9 : List UInt8 := [182, 0, 128, 132, 10, 1, 167, 255, 164, 21, 7, 27, 163, 0, 17, 42, 25, 5, 21, 7, 182, 0, 121]
abbrev dktX3_book_9 : List UInt8 := dkwX3_book_9 ++ dktX3_book_10
def dkwX3_book_8 : List UInt8 := [167, 255, 235, 25, 12, 180, 0, 124, 154, 0, 19, 42, 25, 5, 25, 12, 25, 5, 180, 0, 111, 21, 11, 50]
abbrev dktX3_book_8 : List UInt8 := dkwX3_book_8 ++ dktX3_book_9
def dkwX3_book_7 : List UInt8 := [167, 0, 57, 21, 7, 25, 12, 180, 0, 118, 163, 0, 17, 42, 25, 5, 21, 7, 182, 0, 121, 132, 7, 1]
abbrev dktX3_book_7 : List UInt8 := dkwX3_book_7 ++ dktX3_book_8
def dkwX3_book_6 : List UInt8 := [180, 0, 102, 21, 11, 182, 0, 51, 192, 0, 73, 58, 12, 25, 12, 180, 0, 118, 27, 164, 0, 6]
abbrev dktX3_book_6 : List UInt8 := dkwX3_book_6 ++ dktX3_book_7
def dkwX3_book_5 : List UInt8 := [25, 8, 190, 54, 9, 3, 54, 10, 21, 10, 21, 9, 162, 0, 91, 25, 8, 21, 10, 46, 54, 11, 25, 5]
abbrev dktX3_book_5 : List UInt8 := dkwX3_book_5 ++ dktX3_book_6
def dkwX3_book_4 : List UInt8 := [180, 0, 102, 21, 7, 184, 0, 114, 21, 7, 79, 132, 7, 1, 167, 255, 230, 3, 54, 7, 25, 6, 58, 8]
abbrev dktX3_book_4 : List UInt8 := dkwX3_book_4 ++ dktX3_book_5
def dkwX3_book_3 : List UInt8 := [180, 0, 111, 190, 188, 10, 58, 6, 3, 54, 7, 21, 7, 25, 6, 190, 162, 0, 24, 25, 6, 25, 5]
abbrev dktX3_book_3 : List UInt8 := dkwX3_book_3 ++ dktX3_book_4
def dkwX3_book_2 : List UInt8 := [16, 6, 197, 0, 109, 2, 181, 0, 111, 25, 5, 28, 181, 0, 65, 25, 5, 29, 181, 0, 70, 25, 5]
abbrev dktX3_book_2 : List UInt8 := dkwX3_book_2 ++ dktX3_book_3
def dkwX3_book_1 : List UInt8 := [198, 0, 14, 25, 5, 180, 0, 102, 25, 4, 182, 0, 97, 87, 25, 5, 25, 5, 180, 0, 102, 182, 0, 40]
abbrev dktX3_book_1 : List UInt8 := dkwX3_book_1 ++ dktX3_book_2
def dkwX3_book_0 : List UInt8 := [187, 0, 66, 89, 183, 0, 101, 58, 5, 25, 5, 180, 0, 102, 42, 180, 0, 22, 182, 0, 105, 87, 25, 4]
abbrev dktX3_book_0 : List UInt8 := dkwX3_book_0 ++ dktX3_book_1
theorem dksX3_book_0 : cX3_book.data.toList.drop 0 = dktX3_book_0 := by decide +kernel
theorem dksX3_book_1 : cX3_book.data.toList.drop 24 = dktX3_book_1 := dk_seg dksX3_book_0 24 rfl rfl
theorem dksX3_book_2 : cX3_book.data.toList.drop 48 = dktX3_book_2 := dk_seg dksX3_book_1 24 rfl rfl
theorem dksX3_book_3 : cX3_book.data.toList.drop 71 = dktX3_book_3 := dk_seg dksX3_book_2 23 rfl rfl
theorem dksX3_book_4 : cX3_book.data.toList.drop 94 = dktX3_book_4 := dk_seg dksX3_book_3 23 rfl rfl
theorem dksX3_book_5 : cX3_book.data.toList.drop 118 = dktX3_book_5 := dk_seg dksX3_book_4 24 rfl rfl
theorem dksX3_book_6 : cX3_book.data.toList.drop 142 = dktX3_book_6 := dk_seg dksX3_book_5 24 rfl rfl
theorem dksX3_book_7 : cX3_book.data.toList.drop 164 = dktX3_book_7 := dk_seg dksX3_book_6 22 rfl rfl
theorem dksX3_book_8 : cX3_book.data.toList.drop 188 = dktX3_book_8 := dk_seg dksX3_book_7 24 rfl rfl
theorem dksX3_book_9 : cX3_book.data.toList.drop 212 = dktX3_book_9 := dk_seg dksX3_book_8 24 rfl rfl
theorem dksX3_book_10 : cX3_book.data.toList.drop 235 = dktX3_book_10 := dk_seg dksX3_book_9 23 rfl rfl
theorem dX3_book_0 : decode cX3_book 0 = .ok (.new 66, 3) := dk_187 0 66 (dk_at dksX3_book_0 0 rfl rfl)
theorem dX3_book_3 : decode cX3_book 3 = .ok (.dup, 1) := dk_89 (dk_at dksX3_book_0 3 rfl rfl)
theorem dX3_book_4 : decode cX3_book 4 = .ok (.invokespecial 101, 3) := dk_183 0 101 (dk_at dksX3_book_0 4 rfl rfl)
theorem dX3_book_7 : decode cX3_book 7 = .ok (.astore 5, 2) := dk_58 5 (dk_at dksX3_book_0 7 rfl rfl)
theorem dX3_book_9 : decode cX3_book 9 = .ok (.aload 5, 2) := dk_25 5 (dk_at dksX3_book_0 9 rfl rfl)
theorem dX3_book_11 : decode cX3_book 11 = .ok (.getfield 102, 3) := dk_180 0 102 (dk_at dksX3_book_0 11 rfl rfl)
theorem dX3_book_14 : decode cX3_book 14 = .ok (.aload_n 0, 1) := dk_42 (dk_at dksX3_book_0 14 rfl rfl)
theorem dX3_book_15 : decode cX3_book 15 = .ok (.getfield 22, 3) := dk_180 0 22 (dk_at dksX3_book_0 15 rfl rfl)
theorem dX3_book_18 : decode cX3_book 18 = .ok (.invokevirtual 105, 3) := dk_182 0 105 (dk_at dksX3_book_0 18 rfl rfl)
theorem dX3_book_21 : decode cX3_book 21 = .ok (.pop, 1) := dk_87 (dk_at dksX3_book_0 21 rfl rfl)
theorem dX3_book_22 : decode cX3_book 22 = .ok (.aload 4, 2) := dk_25 4 (dk_at dksX3_book_0 22 rfl rfl)
theorem dX3_book_24 : decode cX3_book 24 = .ok (.ifnull 14, 3) := dk_198 0 14 (dk_at dksX3_book_1 0 rfl rfl)
theorem dX3_book_27 : decode cX3_book 27 = .ok (.aload 5, 2) := dk_25 5 (dk_at dksX3_book_1 3 rfl rfl)
theorem dX3_book_29 : decode cX3_book 29 = .ok (.getfield 102, 3) := dk_180 0 102 (dk_at dksX3_book_1 5 rfl rfl)
theorem dX3_book_32 : decode cX3_book 32 = .ok (.aload 4, 2) := dk_25 4 (dk_at dksX3_book_1 8 rfl rfl)
theorem dX3_book_34 : decode cX3_book 34 = .ok (.invokevirtual 97, 3) := dk_182 0 97 (dk_at dksX3_book_1 10 rfl rfl)
theorem dX3_book_37 : decode cX3_book 37 = .ok (.pop, 1) := dk_87 (dk_at dksX3_book_1 13 rfl rfl)
theorem dX3_book_38 : decode cX3_book 38 = .ok (.aload 5, 2) := dk_25 5 (dk_at dksX3_book_1 14 rfl rfl)
theorem dX3_book_40 : decode cX3_book 40 = .ok (.aload 5, 2) := dk_25 5 (dk_at dksX3_book_1 16 rfl rfl)
theorem dX3_book_42 : decode cX3_book 42 = .ok (.getfield 102, 3) := dk_180 0 102 (dk_at dksX3_book_1 18 rfl rfl)
theorem dX3_book_45 : decode cX3_book 45 = .ok (.invokevirtual 40, 3) := dk_182 0 40 (dk_at dksX3_book_1 21 rfl rfl)
theorem dX3_book_48 : decode cX3_book 48 = .ok (.bipush 6, 2) := dk_16 6 (dk_at dksX3_book_2 0 rfl rfl)
theorem dX3_book_50 : decode cX3_book 50 = .ok (.multianewarray 109 2, 4) := by decide +kernel
theorem dX3_book_54 : decode cX3_book 54 = .ok (.putfield 111, 3) := dk_181 0 111 (dk_at dksX3_book_2 6 rfl rfl)
theorem dX3_book_57 : decode cX3_book 57 = .ok (.aload 5, 2) := dk_25 5 (dk_at dksX3_book_2 9 rfl rfl)
theorem dX3_book_59 : decode cX3_book 59 = .ok (.iload_n 2, 1) := dk_28 (dk_at dksX3_book_2 11 rfl rfl)
theorem dX3_book_60 : decode cX3_book 60 = .ok (.putfield 65, 3) := dk_181 0 65 (dk_at dksX3_book_2 12 rfl rfl)
theorem dX3_book_63 : decode cX3_book 63 = .ok (.aload 5, 2) := dk_25 5 (dk_at dksX3_book_2 15 rfl rfl)
theorem dX3_book_65 : decode cX3_book 65 = .ok (.iload_n 3, 1) := dk_29 (dk_at dksX3_book_2 17 rfl rfl)
theorem dX3_book_66 : decode cX3_book 66 = .ok (.putfield 70, 3) := dk_181 0 70 (dk_at dksX3_book_2 18 rfl rfl)
theorem dX3_book_69 : decode cX3_book 69 = .ok (.aload 5, 2) := dk_25 5 (dk_at dksX3_book_2 21 rfl rfl)
theorem dX3_book_71 : decode cX3_book 71 = .ok (.getfield 111, 3) := dk_180 0 111 (dk_at dksX3_book_3 0 rfl rfl)
theorem dX3_book_74 : decode cX3_book 74 = .ok (.arraylength, 1) := dk_190 (dk_at dksX3_book_3 3 rfl rfl)
theorem dX3_book_75 : decode cX3_book 75 = .ok (.newarray .int, 2) := dk_188_10 (dk_at dksX3_book_3 4 rfl rfl)
theorem dX3_book_77 : decode cX3_book 77 = .ok (.astore 6, 2) := dk_58 6 (dk_at dksX3_book_3 6 rfl rfl)
theorem dX3_book_79 : decode cX3_book 79 = .ok (.iconst 0, 1) := dk_3 (dk_at dksX3_book_3 8 rfl rfl)
theorem dX3_book_80 : decode cX3_book 80 = .ok (.istore 7, 2) := dk_54 7 (dk_at dksX3_book_3 9 rfl rfl)
theorem dX3_book_82 : decode cX3_book 82 = .ok (.iload 7, 2) := dk_21 7 (dk_at dksX3_book_3 11 rfl rfl)
theorem dX3_book_84 : decode cX3_book 84 = .ok (.aload 6, 2) := dk_25 6 (dk_at dksX3_book_3 13 rfl rfl)
theorem dX3_book_86 : decode cX3_book 86 = .ok (.arraylength, 1) := dk_190 (dk_at dksX3_book_3 15 rfl rfl)
theorem dX3_book_87 : decode cX3_book 87 = .ok (.if_icmp .ge 24, 3) := dk_162 0 24 (dk_at dksX3_book_3 16 rfl rfl)
theorem dX3_book_90 : decode cX3_book 90 = .ok (.aload 6, 2) := dk_25 6 (dk_at dksX3_book_3 19 rfl rfl)
theorem dX3_book_92 : decode cX3_book 92 = .ok (.aload 5, 2) := dk_25 5 (dk_at dksX3_book_3 21 rfl rfl)
theorem dX3_book_94 : decode cX3_book 94 = .ok (.getfield 102, 3) := dk_180 0 102 (dk_at dksX3_book_4 0 rfl rfl)
theorem dX3_book_97 : decode cX3_book 97 = .ok (.iload 7, 2) := dk_21 7 (dk_at dksX3_book_4 3 rfl rfl)
theorem dX3_book_99 : decode cX3_book 99 = .ok (.invokestatic 114, 3) := dk_184 0 114 (dk_at dksX3_book_4 5 rfl rfl)
theorem dX3_book_102 : decode cX3_book 102 = .ok (.iload 7, 2) := dk_21 7 (dk_at dksX3_book_4 8 rfl rfl)
theorem dX3_book_104 : decode cX3_book 104 = .ok (.iastore, 1) := dk_79 (dk_at dksX3_book_4 10 rfl rfl)
theorem dX3_book_105 : decode cX3_book 105 = .ok (.iinc 7 1, 3) := dk_132 7 1 (dk_at dksX3_book_4 11 rfl rfl)
theorem dX3_book_108 : decode cX3_book 108 = .ok (.goto (-26), 3) := dk_167 255 230 (dk_at dksX3_book_4 14 rfl rfl)
theorem dX3_book_111 : decode cX3_book 111 = .ok (.iconst 0, 1) := dk_3 (dk_at dksX3_book_4 17 rfl rfl)
theorem dX3_book_112 : decode cX3_book 112 = .ok (.istore 7, 2) := dk_54 7 (dk_at dksX3_book_4 18 rfl rfl)
theorem dX3_book_114 : decode cX3_book 114 = .ok (.aload 6, 2) := dk_25 6 (dk_at dksX3_book_4 20 rfl rfl)
theorem dX3_book_116 : decode cX3_book 116 = .ok (.astore 8, 2) := dk_58 8 (dk_at dksX3_book_4 22 rfl rfl)
theorem dX3_book_118 : decode cX3_book 118 = .ok (.aload 8, 2) := dk_25 8 (dk_at dksX3_book_5 0 rfl rfl)
theorem dX3_book_120 : decode cX3_book 120 = .ok (.arraylength, 1) := dk_190 (dk_at dksX3_book_5 2 rfl rfl)
theorem dX3_book_121 : decode cX3_book 121 = .ok (.istore 9, 2) := dk_54 9 (dk_at dksX3_book_5 3 rfl rfl)
theorem dX3_book_123 : decode cX3_book 123 = .ok (.iconst 0, 1) := dk_3 (dk_at dksX3_book_5 5 rfl rfl)
theorem dX3_book_124 : decode cX3_book 124 = .ok (.istore 10, 2) := dk_54 10 (dk_at dksX3_book_5 6 rfl rfl)
theorem dX3_book_126 : decode cX3_book 126 = .ok (.iload 10, 2) := dk_21 10 (dk_at dksX3_book_5 8 rfl rfl)
theorem dX3_book_128 : decode cX3_book 128 = .ok (.iload 9, 2) := dk_21 9 (dk_at dksX3_book_5 10 rfl rfl)
theorem dX3_book_130 : decode cX3_book 130 = .ok (.if_icmp .ge 91, 3) := dk_162 0 91 (dk_at dksX3_book_5 12 rfl rfl)
theorem dX3_book_133 : decode cX3_book 133 = .ok (.aload 8, 2) := dk_25 8 (dk_at dksX3_book_5 15 rfl rfl)
theorem dX3_book_135 : decode cX3_book 135 = .ok (.iload 10, 2) := dk_21 10 (dk_at dksX3_book_5 17 rfl rfl)
theorem dX3_book_137 : decode cX3_book 137 = .ok (.iaload, 1) := dk_46 (dk_at dksX3_book_5 19 rfl rfl)
theorem dX3_book_138 : decode cX3_book 138 = .ok (.istore 11, 2) := dk_54 11 (dk_at dksX3_book_5 20 rfl rfl)
theorem dX3_book_140 : decode cX3_book 140 = .ok (.aload 5, 2) := dk_25 5 (dk_at dksX3_book_5 22 rfl rfl)
theorem dX3_book_142 : decode cX3_book 142 = .ok (.getfield 102, 3) := dk_180 0 102 (dk_at dksX3_book_6 0 rfl rfl)
theorem dX3_book_145 : decode cX3_book 145 = .ok (.iload 11, 2) := dk_21 11 (dk_at dksX3_book_6 3 rfl rfl)
theorem dX3_book_147 : decode cX3_book 147 = .ok (.invokevirtual 51, 3) := dk_182 0 51 (dk_at dksX3_book_6 5 rfl rfl)
theorem dX3_book_150 : decode cX3_book 150 = .ok (.checkcast 73, 3) := dk_192 0 73 (dk_at dksX3_book_6 8 rfl rfl)
theorem dX3_book_153 : decode cX3_book 153 = .ok (.astore 12, 2) := dk_58 12 (dk_at dksX3_book_6 11 rfl rfl)
theorem dX3_book_155 : decode cX3_book 155 = .ok (.aload 12, 2) := dk_25 12 (dk_at dksX3_book_6 13 rfl rfl)
theorem dX3_book_157 : decode cX3_book 157 = .ok (.getfield 118, 3) := dk_180 0 118 (dk_at dksX3_book_6 15 rfl rfl)
theorem dX3_book_160 : decode cX3_book 160 = .ok (.iload_n 1, 1) := dk_27 (dk_at dksX3_book_6 18 rfl rfl)
theorem dX3_book_161 : decode cX3_book 161 = .ok (.if_icmp .le 6, 3) := dk_164 0 6 (dk_at dksX3_book_6 19 rfl rfl)
theorem dX3_book_164 : decode cX3_book 164 = .ok (.goto 57, 3) := dk_167 0 57 (dk_at dksX3_book_7 0 rfl rfl)
theorem dX3_book_167 : decode cX3_book 167 = .ok (.iload 7, 2) := dk_21 7 (dk_at dksX3_book_7 3 rfl rfl)
theorem dX3_book_169 : decode cX3_book 169 = .ok (.aload 12, 2) := dk_25 12 (dk_at dksX3_book_7 5 rfl rfl)
theorem dX3_book_171 : decode cX3_book 171 = .ok (.getfield 118, 3) := dk_180 0 118 (dk_at dksX3_book_7 7 rfl rfl)
theorem dX3_book_174 : decode cX3_book 174 = .ok (.if_icmp .gt 17, 3) := dk_163 0 17 (dk_at dksX3_book_7 10 rfl rfl)
theorem dX3_book_177 : decode cX3_book 177 = .ok (.aload_n 0, 1) := dk_42 (dk_at dksX3_book_7 13 rfl rfl)
theorem dX3_book_178 : decode cX3_book 178 = .ok (.aload 5, 2) := dk_25 5 (dk_at dksX3_book_7 14 rfl rfl)
theorem dX3_book_180 : decode cX3_book 180 = .ok (.iload 7, 2) := dk_21 7 (dk_at dksX3_book_7 16 rfl rfl)
theorem dX3_book_182 : decode cX3_book 182 = .ok (.invokevirtual 121, 3) := dk_182 0 121 (dk_at dksX3_book_7 18 rfl rfl)
theorem dX3_book_185 : decode cX3_book 185 = .ok (.iinc 7 1, 3) := dk_132 7 1 (dk_at dksX3_book_7 21 rfl rfl)
theorem dX3_book_188 : decode cX3_book 188 = .ok (.goto (-21), 3) := dk_167 255 235 (dk_at dksX3_book_8 0 rfl rfl)
theorem dX3_book_191 : decode cX3_book 191 = .ok (.aload 12, 2) := dk_25 12 (dk_at dksX3_book_8 3 rfl rfl)
theorem dX3_book_193 : decode cX3_book 193 = .ok (.getfield 124, 3) := dk_180 0 124 (dk_at dksX3_book_8 5 rfl rfl)
theorem dX3_book_196 : decode cX3_book 196 = .ok (.ifCond .ne 19, 3) := dk_154 0 19 (dk_at dksX3_book_8 8 rfl rfl)
theorem dX3_book_199 : decode cX3_book 199 = .ok (.aload_n 0, 1) := dk_42 (dk_at dksX3_book_8 11 rfl rfl)
theorem dX3_book_200 : decode cX3_book 200 = .ok (.aload 5, 2) := dk_25 5 (dk_at dksX3_book_8 12 rfl rfl)
theorem dX3_book_202 : decode cX3_book 202 = .ok (.aload 12, 2) := dk_25 12 (dk_at dksX3_book_8 14 rfl rfl)
theorem dX3_book_204 : decode cX3_book 204 = .ok (.aload 5, 2) := dk_25 5 (dk_at dksX3_book_8 16 rfl rfl)
theorem dX3_book_206 : decode cX3_book 206 = .ok (.getfield 111, 3) := dk_180 0 111 (dk_at dksX3_book_8 18 rfl rfl)
theorem dX3_book_209 : decode cX3_book 209 = .ok (.iload 11, 2) := dk_21 11 (dk_at dksX3_book_8 21 rfl rfl)
theorem dX3_book_211 : decode cX3_book 211 = .ok (.aaload, 1) := dk_50 (dk_at dksX3_book_8 23 rfl rfl)
theorem dX3_book_212 : decode cX3_book 212 = .ok (.invokevirtual 128, 3) := dk_182 0 128 (dk_at dksX3_book_9 0 rfl rfl)
theorem dX3_book_215 : decode cX3_book 215 = .ok (.iinc 10 1, 3) := dk_132 10 1 (dk_at dksX3_book_9 3 rfl rfl)
theorem dX3_book_218 : decode cX3_book 218 = .ok (.goto (-92), 3) := dk_167 255 164 (dk_at dksX3_book_9 6 rfl rfl)
theorem dX3_book_221 : decode cX3_book 221 = .ok (.iload 7, 2) := dk_21 7 (dk_at dksX3_book_9 9 rfl rfl)
theorem dX3_book_223 : decode cX3_book 223 = .ok (.iload_n 1, 1) := dk_27 (dk_at dksX3_book_9 11 rfl rfl)
theorem dX3_book_224 : decode cX3_book 224 = .ok (.if_icmp .gt 17, 3) := dk_163 0 17 (dk_at dksX3_book_9 12 rfl rfl)
theorem dX3_book_227 : decode cX3_book 227 = .ok (.aload_n 0, 1) := dk_42 (dk_at dksX3_book_9 15 rfl rfl)
theorem dX3_book_228 : decode cX3_book 228 = .ok (.aload 5, 2) := dk_25 5 (dk_at dksX3_book_9 16 rfl rfl)
theorem dX3_book_230 : decode cX3_book 230 = .ok (.iload 7, 2) := dk_21 7 (dk_at dksX3_book_9 18 rfl rfl)
theorem dX3_book_232 : decode cX3_book 232 = .ok (.invokevirtual 121, 3) := dk_182 0 121 (dk_at dksX3_book_9 20 rfl rfl)
theorem dX3_book_235 : decode cX3_book 235 = .ok (.iinc 7 1, 3) := dk_132 7 1 (dk_at dksX3_book_10 0 rfl rfl)
theorem dX3_book_238 : decode cX3_book 238 = .ok (.goto (-17), 3) := dk_167 255 239 (dk_at dksX3_book_10 3 rfl rfl)
theorem dX3_book_241 : decode cX3_book 241 = .ok (.aload 5, 2) := dk_25 5 (dk_at dksX3_book_10 6 rfl rfl)
theorem dX3_book_243 : decode cX3_book 243 = .ok (.areturn, 1) := dk_176 (dk_at dksX3_book_10 8 rfl rfl)
abbrev cX3_place : ByteArray := prog_15_method_16_code
def yX3_place : MethodName := ⟨RX3, "place", "(Ljava/util/ArrayList;I)I"⟩
def dkwX3_place_3 : List UInt8 := [184, 0, 78, 96, 62, 132, 4, 1, 167, 255, 195, 29, 172]
abbrev dktX3_place_3 : List UInt8 := dkwX3_place_3 ++ []
def dkwX3_place_2 : List UInt8 := [182, 0, 51, 192, 0, 73, 182, 0, 75, 28, 160, 0, 13, 21, 4, 27, 162, 0, 7, 4, 167, 0, 4, 3]
abbrev dktX3_place_2 : List UInt8 := dkwX3_place_2 ++ dktX3_place_3
def dkwX3_place_1 : List UInt8 := [162, 0, 58, 29, 42, 21, 4, 182, 0, 51, 192, 0, 73, 182, 0, 75, 28, 161, 0, 25, 42, 21, 4]
abbrev dktX3_place_1 : List UInt8 := dkwX3_place_1 ++ dktX3_place_2
def dkwX3_place_0 : List UInt8 := [42, 27, 182, 0, 51, 192, 0, 73, 182, 0, 75, 61, 3, 62, 3, 54, 4, 21, 4, 42, 182, 0, 40]
abbrev dktX3_place_0 : List UInt8 := dkwX3_place_0 ++ dktX3_place_1
theorem dksX3_place_0 : cX3_place.data.toList.drop 0 = dktX3_place_0 := by decide +kernel
theorem dksX3_place_1 : cX3_place.data.toList.drop 23 = dktX3_place_1 := dk_seg dksX3_place_0 23 rfl rfl
theorem dksX3_place_2 : cX3_place.data.toList.drop 46 = dktX3_place_2 := dk_seg dksX3_place_1 23 rfl rfl
theorem dksX3_place_3 : cX3_place.data.toList.drop 70 = dktX3_place_3 := dk_seg dksX3_place_2 24 rfl rfl
theorem dX3_place_0 : decode cX3_place 0 = .ok (.aload_n 0, 1) := dk_42 (dk_at dksX3_place_0 0 rfl rfl)
theorem dX3_place_1 : decode cX3_place 1 = .ok (.iload_n 1, 1) := dk_27 (dk_at dksX3_place_0 1 rfl rfl)
theorem dX3_place_2 : decode cX3_place 2 = .ok (.invokevirtual 51, 3) := dk_182 0 51 (dk_at dksX3_place_0 2 rfl rfl)
theorem dX3_place_5 : decode cX3_place 5 = .ok (.checkcast 73, 3) := dk_192 0 73 (dk_at dksX3_place_0 5 rfl rfl)
theorem dX3_place_8 : decode cX3_place 8 = .ok (.invokevirtual 75, 3) := dk_182 0 75 (dk_at dksX3_place_0 8 rfl rfl)
theorem dX3_place_11 : decode cX3_place 11 = .ok (.istore_n 2, 1) := dk_61 (dk_at dksX3_place_0 11 rfl rfl)
theorem dX3_place_12 : decode cX3_place 12 = .ok (.iconst 0, 1) := dk_3 (dk_at dksX3_place_0 12 rfl rfl)
theorem dX3_place_13 : decode cX3_place 13 = .ok (.istore_n 3, 1) := dk_62 (dk_at dksX3_place_0 13 rfl rfl)
theorem dX3_place_14 : decode cX3_place 14 = .ok (.iconst 0, 1) := dk_3 (dk_at dksX3_place_0 14 rfl rfl)
theorem dX3_place_15 : decode cX3_place 15 = .ok (.istore 4, 2) := dk_54 4 (dk_at dksX3_place_0 15 rfl rfl)
theorem dX3_place_17 : decode cX3_place 17 = .ok (.iload 4, 2) := dk_21 4 (dk_at dksX3_place_0 17 rfl rfl)
theorem dX3_place_19 : decode cX3_place 19 = .ok (.aload_n 0, 1) := dk_42 (dk_at dksX3_place_0 19 rfl rfl)
theorem dX3_place_20 : decode cX3_place 20 = .ok (.invokevirtual 40, 3) := dk_182 0 40 (dk_at dksX3_place_0 20 rfl rfl)
theorem dX3_place_23 : decode cX3_place 23 = .ok (.if_icmp .ge 58, 3) := dk_162 0 58 (dk_at dksX3_place_1 0 rfl rfl)
theorem dX3_place_26 : decode cX3_place 26 = .ok (.iload_n 3, 1) := dk_29 (dk_at dksX3_place_1 3 rfl rfl)
theorem dX3_place_27 : decode cX3_place 27 = .ok (.aload_n 0, 1) := dk_42 (dk_at dksX3_place_1 4 rfl rfl)
theorem dX3_place_28 : decode cX3_place 28 = .ok (.iload 4, 2) := dk_21 4 (dk_at dksX3_place_1 5 rfl rfl)
theorem dX3_place_30 : decode cX3_place 30 = .ok (.invokevirtual 51, 3) := dk_182 0 51 (dk_at dksX3_place_1 7 rfl rfl)
theorem dX3_place_33 : decode cX3_place 33 = .ok (.checkcast 73, 3) := dk_192 0 73 (dk_at dksX3_place_1 10 rfl rfl)
theorem dX3_place_36 : decode cX3_place 36 = .ok (.invokevirtual 75, 3) := dk_182 0 75 (dk_at dksX3_place_1 13 rfl rfl)
theorem dX3_place_39 : decode cX3_place 39 = .ok (.iload_n 2, 1) := dk_28 (dk_at dksX3_place_1 16 rfl rfl)
theorem dX3_place_40 : decode cX3_place 40 = .ok (.if_icmp .lt 25, 3) := dk_161 0 25 (dk_at dksX3_place_1 17 rfl rfl)
theorem dX3_place_43 : decode cX3_place 43 = .ok (.aload_n 0, 1) := dk_42 (dk_at dksX3_place_1 20 rfl rfl)
theorem dX3_place_44 : decode cX3_place 44 = .ok (.iload 4, 2) := dk_21 4 (dk_at dksX3_place_1 21 rfl rfl)
theorem dX3_place_46 : decode cX3_place 46 = .ok (.invokevirtual 51, 3) := dk_182 0 51 (dk_at dksX3_place_2 0 rfl rfl)
theorem dX3_place_49 : decode cX3_place 49 = .ok (.checkcast 73, 3) := dk_192 0 73 (dk_at dksX3_place_2 3 rfl rfl)
theorem dX3_place_52 : decode cX3_place 52 = .ok (.invokevirtual 75, 3) := dk_182 0 75 (dk_at dksX3_place_2 6 rfl rfl)
theorem dX3_place_55 : decode cX3_place 55 = .ok (.iload_n 2, 1) := dk_28 (dk_at dksX3_place_2 9 rfl rfl)
theorem dX3_place_56 : decode cX3_place 56 = .ok (.if_icmp .ne 13, 3) := dk_160 0 13 (dk_at dksX3_place_2 10 rfl rfl)
theorem dX3_place_59 : decode cX3_place 59 = .ok (.iload 4, 2) := dk_21 4 (dk_at dksX3_place_2 13 rfl rfl)
theorem dX3_place_61 : decode cX3_place 61 = .ok (.iload_n 1, 1) := dk_27 (dk_at dksX3_place_2 15 rfl rfl)
theorem dX3_place_62 : decode cX3_place 62 = .ok (.if_icmp .ge 7, 3) := dk_162 0 7 (dk_at dksX3_place_2 16 rfl rfl)
theorem dX3_place_65 : decode cX3_place 65 = .ok (.iconst 1, 1) := dk_4 (dk_at dksX3_place_2 19 rfl rfl)
theorem dX3_place_66 : decode cX3_place 66 = .ok (.goto 4, 3) := dk_167 0 4 (dk_at dksX3_place_2 20 rfl rfl)
theorem dX3_place_69 : decode cX3_place 69 = .ok (.iconst 0, 1) := dk_3 (dk_at dksX3_place_2 23 rfl rfl)
theorem dX3_place_70 : decode cX3_place 70 = .ok (.invokestatic 78, 3) := dk_184 0 78 (dk_at dksX3_place_3 0 rfl rfl)
theorem dX3_place_73 : decode cX3_place 73 = .ok (.iadd, 1) := dk_96 (dk_at dksX3_place_3 3 rfl rfl)
theorem dX3_place_74 : decode cX3_place 74 = .ok (.istore_n 3, 1) := dk_62 (dk_at dksX3_place_3 4 rfl rfl)
theorem dX3_place_75 : decode cX3_place 75 = .ok (.iinc 4 1, 3) := dk_132 4 1 (dk_at dksX3_place_3 5 rfl rfl)
theorem dX3_place_78 : decode cX3_place 78 = .ok (.goto (-61), 3) := dk_167 255 195 (dk_at dksX3_place_3 8 rfl rfl)
theorem dX3_place_81 : decode cX3_place 81 = .ok (.iload_n 3, 1) := dk_29 (dk_at dksX3_place_3 11 rfl rfl)
theorem dX3_place_82 : decode cX3_place 82 = .ok (.ireturn, 1) := dk_172 (dk_at dksX3_place_3 12 rfl rfl)
abbrev cX3_one : ByteArray := prog_15_method_3_code
def yX3_one : MethodName := ⟨RX3, "one", "(Z)I"⟩
def dkwX3_one_0 : List UInt8 := [26, 153, 0, 7, 4, 167, 0, 4, 3, 172]
abbrev dktX3_one_0 : List UInt8 := dkwX3_one_0 ++ []
theorem dksX3_one_0 : cX3_one.data.toList.drop 0 = dktX3_one_0 := by decide +kernel
theorem dX3_one_0 : decode cX3_one 0 = .ok (.iload_n 0, 1) := dk_26 (dk_at dksX3_one_0 0 rfl rfl)
theorem dX3_one_1 : decode cX3_one 1 = .ok (.ifCond .eq 7, 3) := dk_153 0 7 (dk_at dksX3_one_0 1 rfl rfl)
theorem dX3_one_4 : decode cX3_one 4 = .ok (.iconst 1, 1) := dk_4 (dk_at dksX3_one_0 4 rfl rfl)
theorem dX3_one_5 : decode cX3_one 5 = .ok (.goto 4, 3) := dk_167 0 4 (dk_at dksX3_one_0 5 rfl rfl)
theorem dX3_one_8 : decode cX3_one 8 = .ok (.iconst 0, 1) := dk_3 (dk_at dksX3_one_0 8 rfl rfl)
theorem dX3_one_9 : decode cX3_one 9 = .ok (.ireturn, 1) := dk_172 (dk_at dksX3_one_0 9 rfl rfl)
abbrev cX3_grant : ByteArray := prog_15_method_17_code
def yX3_grant : MethodName := ⟨RX3, "grant", "(LRolloverModel$Book;I)V"⟩
def dkwX3_grant_5 : List UInt8 := [16, 30, 104, 4, 100, 79, 182, 0, 97, 87, 132, 3, 1, 167, 255, 127, 177]
abbrev dktX3_grant_5 : List UInt8 := dkwX3_grant_5 ++ []
def dkwX3_grant_4 : List UInt8 := [180, 0, 91, 21, 6, 104, 16, 30, 108, 79, 89, 5, 28, 16, 30, 108, 25, 5, 180, 0, 94, 96, 4, 96]
abbrev dktX3_grant_4 : List UInt8 := dkwX3_grant_4 ++ dktX3_grant_5
def dkwX3_grant_3 : List UInt8 := [28, 16, 30, 112, 100, 54, 6, 43, 180, 0, 88, 6, 188, 10, 89, 3, 29, 79, 89, 4, 25, 5]
abbrev dktX3_grant_3 : List UInt8 := dkwX3_grant_3 ++ dktX3_grant_4
def dkwX3_grant_2 : List UInt8 := [167, 0, 80, 42, 180, 0, 10, 42, 43, 29, 28, 182, 0, 82, 182, 0, 51, 192, 0, 86, 58, 5, 16, 30]
abbrev dktX3_grant_2 : List UInt8 := dkwX3_grant_2 ++ dktX3_grant_3
def dkwX3_grant_1 : List UInt8 := [180, 0, 57, 54, 4, 28, 21, 4, 161, 0, 96, 28, 21, 4, 164, 0, 13, 28, 16, 30, 112, 158, 0, 6]
abbrev dktX3_grant_1 : List UInt8 := dkwX3_grant_1 ++ dktX3_grant_2
def dkwX3_grant_0 : List UInt8 := [3, 62, 29, 42, 180, 0, 16, 182, 0, 40, 162, 0, 124, 42, 180, 0, 16, 29, 182, 0, 51, 192, 0, 55]
abbrev dktX3_grant_0 : List UInt8 := dkwX3_grant_0 ++ dktX3_grant_1
theorem dksX3_grant_0 : cX3_grant.data.toList.drop 0 = dktX3_grant_0 := by decide +kernel
theorem dksX3_grant_1 : cX3_grant.data.toList.drop 24 = dktX3_grant_1 := dk_seg dksX3_grant_0 24 rfl rfl
theorem dksX3_grant_2 : cX3_grant.data.toList.drop 48 = dktX3_grant_2 := dk_seg dksX3_grant_1 24 rfl rfl
theorem dksX3_grant_3 : cX3_grant.data.toList.drop 72 = dktX3_grant_3 := dk_seg dksX3_grant_2 24 rfl rfl
theorem dksX3_grant_4 : cX3_grant.data.toList.drop 94 = dktX3_grant_4 := dk_seg dksX3_grant_3 22 rfl rfl
theorem dksX3_grant_5 : cX3_grant.data.toList.drop 118 = dktX3_grant_5 := dk_seg dksX3_grant_4 24 rfl rfl
theorem dX3_grant_0 : decode cX3_grant 0 = .ok (.iconst 0, 1) := dk_3 (dk_at dksX3_grant_0 0 rfl rfl)
theorem dX3_grant_1 : decode cX3_grant 1 = .ok (.istore_n 3, 1) := dk_62 (dk_at dksX3_grant_0 1 rfl rfl)
theorem dX3_grant_2 : decode cX3_grant 2 = .ok (.iload_n 3, 1) := dk_29 (dk_at dksX3_grant_0 2 rfl rfl)
theorem dX3_grant_3 : decode cX3_grant 3 = .ok (.aload_n 0, 1) := dk_42 (dk_at dksX3_grant_0 3 rfl rfl)
theorem dX3_grant_4 : decode cX3_grant 4 = .ok (.getfield 16, 3) := dk_180 0 16 (dk_at dksX3_grant_0 4 rfl rfl)
theorem dX3_grant_7 : decode cX3_grant 7 = .ok (.invokevirtual 40, 3) := dk_182 0 40 (dk_at dksX3_grant_0 7 rfl rfl)
theorem dX3_grant_10 : decode cX3_grant 10 = .ok (.if_icmp .ge 124, 3) := dk_162 0 124 (dk_at dksX3_grant_0 10 rfl rfl)
theorem dX3_grant_13 : decode cX3_grant 13 = .ok (.aload_n 0, 1) := dk_42 (dk_at dksX3_grant_0 13 rfl rfl)
theorem dX3_grant_14 : decode cX3_grant 14 = .ok (.getfield 16, 3) := dk_180 0 16 (dk_at dksX3_grant_0 14 rfl rfl)
theorem dX3_grant_17 : decode cX3_grant 17 = .ok (.iload_n 3, 1) := dk_29 (dk_at dksX3_grant_0 17 rfl rfl)
theorem dX3_grant_18 : decode cX3_grant 18 = .ok (.invokevirtual 51, 3) := dk_182 0 51 (dk_at dksX3_grant_0 18 rfl rfl)
theorem dX3_grant_21 : decode cX3_grant 21 = .ok (.checkcast 55, 3) := dk_192 0 55 (dk_at dksX3_grant_0 21 rfl rfl)
theorem dX3_grant_24 : decode cX3_grant 24 = .ok (.getfield 57, 3) := dk_180 0 57 (dk_at dksX3_grant_1 0 rfl rfl)
theorem dX3_grant_27 : decode cX3_grant 27 = .ok (.istore 4, 2) := dk_54 4 (dk_at dksX3_grant_1 3 rfl rfl)
theorem dX3_grant_29 : decode cX3_grant 29 = .ok (.iload_n 2, 1) := dk_28 (dk_at dksX3_grant_1 5 rfl rfl)
theorem dX3_grant_30 : decode cX3_grant 30 = .ok (.iload 4, 2) := dk_21 4 (dk_at dksX3_grant_1 6 rfl rfl)
theorem dX3_grant_32 : decode cX3_grant 32 = .ok (.if_icmp .lt 96, 3) := dk_161 0 96 (dk_at dksX3_grant_1 8 rfl rfl)
theorem dX3_grant_35 : decode cX3_grant 35 = .ok (.iload_n 2, 1) := dk_28 (dk_at dksX3_grant_1 11 rfl rfl)
theorem dX3_grant_36 : decode cX3_grant 36 = .ok (.iload 4, 2) := dk_21 4 (dk_at dksX3_grant_1 12 rfl rfl)
theorem dX3_grant_38 : decode cX3_grant 38 = .ok (.if_icmp .le 13, 3) := dk_164 0 13 (dk_at dksX3_grant_1 14 rfl rfl)
theorem dX3_grant_41 : decode cX3_grant 41 = .ok (.iload_n 2, 1) := dk_28 (dk_at dksX3_grant_1 17 rfl rfl)
theorem dX3_grant_42 : decode cX3_grant 42 = .ok (.bipush 30, 2) := dk_16 30 (dk_at dksX3_grant_1 18 rfl rfl)
theorem dX3_grant_44 : decode cX3_grant 44 = .ok (.irem, 1) := dk_112 (dk_at dksX3_grant_1 20 rfl rfl)
theorem dX3_grant_45 : decode cX3_grant 45 = .ok (.ifCond .le 6, 3) := dk_158 0 6 (dk_at dksX3_grant_1 21 rfl rfl)
theorem dX3_grant_48 : decode cX3_grant 48 = .ok (.goto 80, 3) := dk_167 0 80 (dk_at dksX3_grant_2 0 rfl rfl)
theorem dX3_grant_51 : decode cX3_grant 51 = .ok (.aload_n 0, 1) := dk_42 (dk_at dksX3_grant_2 3 rfl rfl)
theorem dX3_grant_52 : decode cX3_grant 52 = .ok (.getfield 10, 3) := dk_180 0 10 (dk_at dksX3_grant_2 4 rfl rfl)
theorem dX3_grant_55 : decode cX3_grant 55 = .ok (.aload_n 0, 1) := dk_42 (dk_at dksX3_grant_2 7 rfl rfl)
theorem dX3_grant_56 : decode cX3_grant 56 = .ok (.aload_n 1, 1) := dk_43 (dk_at dksX3_grant_2 8 rfl rfl)
theorem dX3_grant_57 : decode cX3_grant 57 = .ok (.iload_n 3, 1) := dk_29 (dk_at dksX3_grant_2 9 rfl rfl)
theorem dX3_grant_58 : decode cX3_grant 58 = .ok (.iload_n 2, 1) := dk_28 (dk_at dksX3_grant_2 10 rfl rfl)
theorem dX3_grant_59 : decode cX3_grant 59 = .ok (.invokevirtual 82, 3) := dk_182 0 82 (dk_at dksX3_grant_2 11 rfl rfl)
theorem dX3_grant_62 : decode cX3_grant 62 = .ok (.invokevirtual 51, 3) := dk_182 0 51 (dk_at dksX3_grant_2 14 rfl rfl)
theorem dX3_grant_65 : decode cX3_grant 65 = .ok (.checkcast 86, 3) := dk_192 0 86 (dk_at dksX3_grant_2 17 rfl rfl)
theorem dX3_grant_68 : decode cX3_grant 68 = .ok (.astore 5, 2) := dk_58 5 (dk_at dksX3_grant_2 20 rfl rfl)
theorem dX3_grant_70 : decode cX3_grant 70 = .ok (.bipush 30, 2) := dk_16 30 (dk_at dksX3_grant_2 22 rfl rfl)
theorem dX3_grant_72 : decode cX3_grant 72 = .ok (.iload_n 2, 1) := dk_28 (dk_at dksX3_grant_3 0 rfl rfl)
theorem dX3_grant_73 : decode cX3_grant 73 = .ok (.bipush 30, 2) := dk_16 30 (dk_at dksX3_grant_3 1 rfl rfl)
theorem dX3_grant_75 : decode cX3_grant 75 = .ok (.irem, 1) := dk_112 (dk_at dksX3_grant_3 3 rfl rfl)
theorem dX3_grant_76 : decode cX3_grant 76 = .ok (.isub, 1) := dk_100 (dk_at dksX3_grant_3 4 rfl rfl)
theorem dX3_grant_77 : decode cX3_grant 77 = .ok (.istore 6, 2) := dk_54 6 (dk_at dksX3_grant_3 5 rfl rfl)
theorem dX3_grant_79 : decode cX3_grant 79 = .ok (.aload_n 1, 1) := dk_43 (dk_at dksX3_grant_3 7 rfl rfl)
theorem dX3_grant_80 : decode cX3_grant 80 = .ok (.getfield 88, 3) := dk_180 0 88 (dk_at dksX3_grant_3 8 rfl rfl)
theorem dX3_grant_83 : decode cX3_grant 83 = .ok (.iconst 3, 1) := dk_6 (dk_at dksX3_grant_3 11 rfl rfl)
theorem dX3_grant_84 : decode cX3_grant 84 = .ok (.newarray .int, 2) := dk_188_10 (dk_at dksX3_grant_3 12 rfl rfl)
theorem dX3_grant_86 : decode cX3_grant 86 = .ok (.dup, 1) := dk_89 (dk_at dksX3_grant_3 14 rfl rfl)
theorem dX3_grant_87 : decode cX3_grant 87 = .ok (.iconst 0, 1) := dk_3 (dk_at dksX3_grant_3 15 rfl rfl)
theorem dX3_grant_88 : decode cX3_grant 88 = .ok (.iload_n 3, 1) := dk_29 (dk_at dksX3_grant_3 16 rfl rfl)
theorem dX3_grant_89 : decode cX3_grant 89 = .ok (.iastore, 1) := dk_79 (dk_at dksX3_grant_3 17 rfl rfl)
theorem dX3_grant_90 : decode cX3_grant 90 = .ok (.dup, 1) := dk_89 (dk_at dksX3_grant_3 18 rfl rfl)
theorem dX3_grant_91 : decode cX3_grant 91 = .ok (.iconst 1, 1) := dk_4 (dk_at dksX3_grant_3 19 rfl rfl)
theorem dX3_grant_92 : decode cX3_grant 92 = .ok (.aload 5, 2) := dk_25 5 (dk_at dksX3_grant_3 20 rfl rfl)
theorem dX3_grant_94 : decode cX3_grant 94 = .ok (.getfield 91, 3) := dk_180 0 91 (dk_at dksX3_grant_4 0 rfl rfl)
theorem dX3_grant_97 : decode cX3_grant 97 = .ok (.iload 6, 2) := dk_21 6 (dk_at dksX3_grant_4 3 rfl rfl)
theorem dX3_grant_99 : decode cX3_grant 99 = .ok (.imul, 1) := dk_104 (dk_at dksX3_grant_4 5 rfl rfl)
theorem dX3_grant_100 : decode cX3_grant 100 = .ok (.bipush 30, 2) := dk_16 30 (dk_at dksX3_grant_4 6 rfl rfl)
theorem dX3_grant_102 : decode cX3_grant 102 = .ok (.idiv, 1) := dk_108 (dk_at dksX3_grant_4 8 rfl rfl)
theorem dX3_grant_103 : decode cX3_grant 103 = .ok (.iastore, 1) := dk_79 (dk_at dksX3_grant_4 9 rfl rfl)
theorem dX3_grant_104 : decode cX3_grant 104 = .ok (.dup, 1) := dk_89 (dk_at dksX3_grant_4 10 rfl rfl)
theorem dX3_grant_105 : decode cX3_grant 105 = .ok (.iconst 2, 1) := dk_5 (dk_at dksX3_grant_4 11 rfl rfl)
theorem dX3_grant_106 : decode cX3_grant 106 = .ok (.iload_n 2, 1) := dk_28 (dk_at dksX3_grant_4 12 rfl rfl)
theorem dX3_grant_107 : decode cX3_grant 107 = .ok (.bipush 30, 2) := dk_16 30 (dk_at dksX3_grant_4 13 rfl rfl)
theorem dX3_grant_109 : decode cX3_grant 109 = .ok (.idiv, 1) := dk_108 (dk_at dksX3_grant_4 15 rfl rfl)
theorem dX3_grant_110 : decode cX3_grant 110 = .ok (.aload 5, 2) := dk_25 5 (dk_at dksX3_grant_4 16 rfl rfl)
theorem dX3_grant_112 : decode cX3_grant 112 = .ok (.getfield 94, 3) := dk_180 0 94 (dk_at dksX3_grant_4 18 rfl rfl)
theorem dX3_grant_115 : decode cX3_grant 115 = .ok (.iadd, 1) := dk_96 (dk_at dksX3_grant_4 21 rfl rfl)
theorem dX3_grant_116 : decode cX3_grant 116 = .ok (.iconst 1, 1) := dk_4 (dk_at dksX3_grant_4 22 rfl rfl)
theorem dX3_grant_117 : decode cX3_grant 117 = .ok (.iadd, 1) := dk_96 (dk_at dksX3_grant_4 23 rfl rfl)
theorem dX3_grant_118 : decode cX3_grant 118 = .ok (.bipush 30, 2) := dk_16 30 (dk_at dksX3_grant_5 0 rfl rfl)
theorem dX3_grant_120 : decode cX3_grant 120 = .ok (.imul, 1) := dk_104 (dk_at dksX3_grant_5 2 rfl rfl)
theorem dX3_grant_121 : decode cX3_grant 121 = .ok (.iconst 1, 1) := dk_4 (dk_at dksX3_grant_5 3 rfl rfl)
theorem dX3_grant_122 : decode cX3_grant 122 = .ok (.isub, 1) := dk_100 (dk_at dksX3_grant_5 4 rfl rfl)
theorem dX3_grant_123 : decode cX3_grant 123 = .ok (.iastore, 1) := dk_79 (dk_at dksX3_grant_5 5 rfl rfl)
theorem dX3_grant_124 : decode cX3_grant 124 = .ok (.invokevirtual 97, 3) := dk_182 0 97 (dk_at dksX3_grant_5 6 rfl rfl)
theorem dX3_grant_127 : decode cX3_grant 127 = .ok (.pop, 1) := dk_87 (dk_at dksX3_grant_5 9 rfl rfl)
theorem dX3_grant_128 : decode cX3_grant 128 = .ok (.iinc 3 1, 3) := dk_132 3 1 (dk_at dksX3_grant_5 10 rfl rfl)
theorem dX3_grant_131 : decode cX3_grant 131 = .ok (.goto (-129), 3) := dk_167 255 127 (dk_at dksX3_grant_5 13 rfl rfl)
theorem dX3_grant_134 : decode cX3_grant 134 = .ok (.return_, 1) := dk_177 (dk_at dksX3_grant_5 16 rfl rfl)
abbrev cX3_planOf : ByteArray := prog_15_method_15_code
def yX3_planOf : MethodName := ⟨RX3, "planOf", "(LRolloverModel$Book;II)I"⟩
def dkwX3_planOf_1 : List UInt8 := [159, 0, 10, 43, 180, 0, 70, 167, 0, 5, 21, 4, 172]
abbrev dktX3_planOf_1 : List UInt8 := dkwX3_planOf_1 ++ []
def dkwX3_planOf_0 : List UInt8 := [42, 180, 0, 19, 28, 29, 2, 184, 0, 61, 54, 4, 28, 43, 180, 0, 65, 160, 0, 16, 21, 4, 2]
abbrev dktX3_planOf_0 : List UInt8 := dkwX3_planOf_0 ++ dktX3_planOf_1
theorem dksX3_planOf_0 : cX3_planOf.data.toList.drop 0 = dktX3_planOf_0 := by decide +kernel
theorem dksX3_planOf_1 : cX3_planOf.data.toList.drop 23 = dktX3_planOf_1 := dk_seg dksX3_planOf_0 23 rfl rfl
theorem dX3_planOf_0 : decode cX3_planOf 0 = .ok (.aload_n 0, 1) := dk_42 (dk_at dksX3_planOf_0 0 rfl rfl)
theorem dX3_planOf_1 : decode cX3_planOf 1 = .ok (.getfield 19, 3) := dk_180 0 19 (dk_at dksX3_planOf_0 1 rfl rfl)
theorem dX3_planOf_4 : decode cX3_planOf 4 = .ok (.iload_n 2, 1) := dk_28 (dk_at dksX3_planOf_0 4 rfl rfl)
theorem dX3_planOf_5 : decode cX3_planOf 5 = .ok (.iload_n 3, 1) := dk_29 (dk_at dksX3_planOf_0 5 rfl rfl)
theorem dX3_planOf_6 : decode cX3_planOf 6 = .ok (.iconst (-1), 1) := dk_2 (dk_at dksX3_planOf_0 6 rfl rfl)
theorem dX3_planOf_7 : decode cX3_planOf 7 = .ok (.invokestatic 61, 3) := dk_184 0 61 (dk_at dksX3_planOf_0 7 rfl rfl)
theorem dX3_planOf_10 : decode cX3_planOf 10 = .ok (.istore 4, 2) := dk_54 4 (dk_at dksX3_planOf_0 10 rfl rfl)
theorem dX3_planOf_12 : decode cX3_planOf 12 = .ok (.iload_n 2, 1) := dk_28 (dk_at dksX3_planOf_0 12 rfl rfl)
theorem dX3_planOf_13 : decode cX3_planOf 13 = .ok (.aload_n 1, 1) := dk_43 (dk_at dksX3_planOf_0 13 rfl rfl)
theorem dX3_planOf_14 : decode cX3_planOf 14 = .ok (.getfield 65, 3) := dk_180 0 65 (dk_at dksX3_planOf_0 14 rfl rfl)
theorem dX3_planOf_17 : decode cX3_planOf 17 = .ok (.if_icmp .ne 16, 3) := dk_160 0 16 (dk_at dksX3_planOf_0 17 rfl rfl)
theorem dX3_planOf_20 : decode cX3_planOf 20 = .ok (.iload 4, 2) := dk_21 4 (dk_at dksX3_planOf_0 20 rfl rfl)
theorem dX3_planOf_22 : decode cX3_planOf 22 = .ok (.iconst (-1), 1) := dk_2 (dk_at dksX3_planOf_0 22 rfl rfl)
theorem dX3_planOf_23 : decode cX3_planOf 23 = .ok (.if_icmp .eq 10, 3) := dk_159 0 10 (dk_at dksX3_planOf_1 0 rfl rfl)
theorem dX3_planOf_26 : decode cX3_planOf 26 = .ok (.aload_n 1, 1) := dk_43 (dk_at dksX3_planOf_1 3 rfl rfl)
theorem dX3_planOf_27 : decode cX3_planOf 27 = .ok (.getfield 70, 3) := dk_180 0 70 (dk_at dksX3_planOf_1 4 rfl rfl)
theorem dX3_planOf_30 : decode cX3_planOf 30 = .ok (.goto 5, 3) := dk_167 0 5 (dk_at dksX3_planOf_1 7 rfl rfl)
theorem dX3_planOf_33 : decode cX3_planOf 33 = .ok (.iload 4, 2) := dk_21 4 (dk_at dksX3_planOf_1 10 rfl rfl)
theorem dX3_planOf_35 : decode cX3_planOf 35 = .ok (.ireturn, 1) := dk_172 (dk_at dksX3_planOf_1 12 rfl rfl)
abbrev cX3_rate : ByteArray := prog_15_method_20_code
def yX3_rate : MethodName := ⟨RX3, "rate", "(LRolloverModel$Book;LRolloverModel$Ticket;[I)V"⟩
def dkwX3_rate_5 : List UInt8 := [16, 30, 104, 4, 100, 79, 182, 0, 97, 87, 177]
abbrev dktX3_rate_5 : List UInt8 := dkwX3_rate_5 ++ []
def dkwX3_rate_4 : List UInt8 := [89, 3, 44, 180, 0, 148, 79, 89, 4, 45, 4, 46, 79, 89, 5, 44, 180, 0, 118, 16, 30, 108, 4, 96]
abbrev dktX3_rate_4 : List UInt8 := dkwX3_rate_4 ++ dktX3_rate_5
def dkwX3_rate_3 : List UInt8 := [180, 0, 118, 44, 180, 0, 145, 182, 0, 151, 79, 45, 4, 46, 158, 0, 44, 43, 180, 0, 88, 6, 188, 10]
abbrev dktX3_rate_3 : List UInt8 := dkwX3_rate_3 ++ dktX3_rate_4
def dkwX3_rate_2 : List UInt8 := [180, 0, 118, 44, 180, 0, 148, 96, 4, 100, 79, 182, 0, 97, 87, 177, 45, 4, 43, 44, 180, 0, 142, 44]
abbrev dktX3_rate_2 : List UInt8 := dkwX3_rate_2 ++ dktX3_rate_3
def dkwX3_rate_1 : List UInt8 := [180, 0, 88, 6, 188, 10, 89, 3, 44, 180, 0, 142, 79, 89, 4, 44, 180, 0, 145, 79, 89, 5, 44]
abbrev dktX3_rate_1 : List UInt8 := dkwX3_rate_1 ++ dktX3_rate_2
def dkwX3_rate_0 : List UInt8 := [44, 180, 0, 136, 154, 0, 11, 42, 43, 44, 45, 182, 0, 139, 177, 44, 180, 0, 136, 5, 160, 0, 43, 43]
abbrev dktX3_rate_0 : List UInt8 := dkwX3_rate_0 ++ dktX3_rate_1
theorem dksX3_rate_0 : cX3_rate.data.toList.drop 0 = dktX3_rate_0 := by decide +kernel
theorem dksX3_rate_1 : cX3_rate.data.toList.drop 24 = dktX3_rate_1 := dk_seg dksX3_rate_0 24 rfl rfl
theorem dksX3_rate_2 : cX3_rate.data.toList.drop 47 = dktX3_rate_2 := dk_seg dksX3_rate_1 23 rfl rfl
theorem dksX3_rate_3 : cX3_rate.data.toList.drop 71 = dktX3_rate_3 := dk_seg dksX3_rate_2 24 rfl rfl
theorem dksX3_rate_4 : cX3_rate.data.toList.drop 95 = dktX3_rate_4 := dk_seg dksX3_rate_3 24 rfl rfl
theorem dksX3_rate_5 : cX3_rate.data.toList.drop 119 = dktX3_rate_5 := dk_seg dksX3_rate_4 24 rfl rfl
theorem dX3_rate_0 : decode cX3_rate 0 = .ok (.aload_n 2, 1) := dk_44 (dk_at dksX3_rate_0 0 rfl rfl)
theorem dX3_rate_1 : decode cX3_rate 1 = .ok (.getfield 136, 3) := dk_180 0 136 (dk_at dksX3_rate_0 1 rfl rfl)
theorem dX3_rate_4 : decode cX3_rate 4 = .ok (.ifCond .ne 11, 3) := dk_154 0 11 (dk_at dksX3_rate_0 4 rfl rfl)
theorem dX3_rate_7 : decode cX3_rate 7 = .ok (.aload_n 0, 1) := dk_42 (dk_at dksX3_rate_0 7 rfl rfl)
theorem dX3_rate_8 : decode cX3_rate 8 = .ok (.aload_n 1, 1) := dk_43 (dk_at dksX3_rate_0 8 rfl rfl)
theorem dX3_rate_9 : decode cX3_rate 9 = .ok (.aload_n 2, 1) := dk_44 (dk_at dksX3_rate_0 9 rfl rfl)
theorem dX3_rate_10 : decode cX3_rate 10 = .ok (.aload_n 3, 1) := dk_45 (dk_at dksX3_rate_0 10 rfl rfl)
theorem dX3_rate_11 : decode cX3_rate 11 = .ok (.invokevirtual 139, 3) := dk_182 0 139 (dk_at dksX3_rate_0 11 rfl rfl)
theorem dX3_rate_14 : decode cX3_rate 14 = .ok (.return_, 1) := dk_177 (dk_at dksX3_rate_0 14 rfl rfl)
theorem dX3_rate_15 : decode cX3_rate 15 = .ok (.aload_n 2, 1) := dk_44 (dk_at dksX3_rate_0 15 rfl rfl)
theorem dX3_rate_16 : decode cX3_rate 16 = .ok (.getfield 136, 3) := dk_180 0 136 (dk_at dksX3_rate_0 16 rfl rfl)
theorem dX3_rate_19 : decode cX3_rate 19 = .ok (.iconst 2, 1) := dk_5 (dk_at dksX3_rate_0 19 rfl rfl)
theorem dX3_rate_20 : decode cX3_rate 20 = .ok (.if_icmp .ne 43, 3) := dk_160 0 43 (dk_at dksX3_rate_0 20 rfl rfl)
theorem dX3_rate_23 : decode cX3_rate 23 = .ok (.aload_n 1, 1) := dk_43 (dk_at dksX3_rate_0 23 rfl rfl)
theorem dX3_rate_24 : decode cX3_rate 24 = .ok (.getfield 88, 3) := dk_180 0 88 (dk_at dksX3_rate_1 0 rfl rfl)
theorem dX3_rate_27 : decode cX3_rate 27 = .ok (.iconst 3, 1) := dk_6 (dk_at dksX3_rate_1 3 rfl rfl)
theorem dX3_rate_28 : decode cX3_rate 28 = .ok (.newarray .int, 2) := dk_188_10 (dk_at dksX3_rate_1 4 rfl rfl)
theorem dX3_rate_30 : decode cX3_rate 30 = .ok (.dup, 1) := dk_89 (dk_at dksX3_rate_1 6 rfl rfl)
theorem dX3_rate_31 : decode cX3_rate 31 = .ok (.iconst 0, 1) := dk_3 (dk_at dksX3_rate_1 7 rfl rfl)
theorem dX3_rate_32 : decode cX3_rate 32 = .ok (.aload_n 2, 1) := dk_44 (dk_at dksX3_rate_1 8 rfl rfl)
theorem dX3_rate_33 : decode cX3_rate 33 = .ok (.getfield 142, 3) := dk_180 0 142 (dk_at dksX3_rate_1 9 rfl rfl)
theorem dX3_rate_36 : decode cX3_rate 36 = .ok (.iastore, 1) := dk_79 (dk_at dksX3_rate_1 12 rfl rfl)
theorem dX3_rate_37 : decode cX3_rate 37 = .ok (.dup, 1) := dk_89 (dk_at dksX3_rate_1 13 rfl rfl)
theorem dX3_rate_38 : decode cX3_rate 38 = .ok (.iconst 1, 1) := dk_4 (dk_at dksX3_rate_1 14 rfl rfl)
theorem dX3_rate_39 : decode cX3_rate 39 = .ok (.aload_n 2, 1) := dk_44 (dk_at dksX3_rate_1 15 rfl rfl)
theorem dX3_rate_40 : decode cX3_rate 40 = .ok (.getfield 145, 3) := dk_180 0 145 (dk_at dksX3_rate_1 16 rfl rfl)
theorem dX3_rate_43 : decode cX3_rate 43 = .ok (.iastore, 1) := dk_79 (dk_at dksX3_rate_1 19 rfl rfl)
theorem dX3_rate_44 : decode cX3_rate 44 = .ok (.dup, 1) := dk_89 (dk_at dksX3_rate_1 20 rfl rfl)
theorem dX3_rate_45 : decode cX3_rate 45 = .ok (.iconst 2, 1) := dk_5 (dk_at dksX3_rate_1 21 rfl rfl)
theorem dX3_rate_46 : decode cX3_rate 46 = .ok (.aload_n 2, 1) := dk_44 (dk_at dksX3_rate_1 22 rfl rfl)
theorem dX3_rate_47 : decode cX3_rate 47 = .ok (.getfield 118, 3) := dk_180 0 118 (dk_at dksX3_rate_2 0 rfl rfl)
theorem dX3_rate_50 : decode cX3_rate 50 = .ok (.aload_n 2, 1) := dk_44 (dk_at dksX3_rate_2 3 rfl rfl)
theorem dX3_rate_51 : decode cX3_rate 51 = .ok (.getfield 148, 3) := dk_180 0 148 (dk_at dksX3_rate_2 4 rfl rfl)
theorem dX3_rate_54 : decode cX3_rate 54 = .ok (.iadd, 1) := dk_96 (dk_at dksX3_rate_2 7 rfl rfl)
theorem dX3_rate_55 : decode cX3_rate 55 = .ok (.iconst 1, 1) := dk_4 (dk_at dksX3_rate_2 8 rfl rfl)
theorem dX3_rate_56 : decode cX3_rate 56 = .ok (.isub, 1) := dk_100 (dk_at dksX3_rate_2 9 rfl rfl)
theorem dX3_rate_57 : decode cX3_rate 57 = .ok (.iastore, 1) := dk_79 (dk_at dksX3_rate_2 10 rfl rfl)
theorem dX3_rate_58 : decode cX3_rate 58 = .ok (.invokevirtual 97, 3) := dk_182 0 97 (dk_at dksX3_rate_2 11 rfl rfl)
theorem dX3_rate_61 : decode cX3_rate 61 = .ok (.pop, 1) := dk_87 (dk_at dksX3_rate_2 14 rfl rfl)
theorem dX3_rate_62 : decode cX3_rate 62 = .ok (.return_, 1) := dk_177 (dk_at dksX3_rate_2 15 rfl rfl)
theorem dX3_rate_63 : decode cX3_rate 63 = .ok (.aload_n 3, 1) := dk_45 (dk_at dksX3_rate_2 16 rfl rfl)
theorem dX3_rate_64 : decode cX3_rate 64 = .ok (.iconst 1, 1) := dk_4 (dk_at dksX3_rate_2 17 rfl rfl)
theorem dX3_rate_65 : decode cX3_rate 65 = .ok (.aload_n 1, 1) := dk_43 (dk_at dksX3_rate_2 18 rfl rfl)
theorem dX3_rate_66 : decode cX3_rate 66 = .ok (.aload_n 2, 1) := dk_44 (dk_at dksX3_rate_2 19 rfl rfl)
theorem dX3_rate_67 : decode cX3_rate 67 = .ok (.getfield 142, 3) := dk_180 0 142 (dk_at dksX3_rate_2 20 rfl rfl)
theorem dX3_rate_70 : decode cX3_rate 70 = .ok (.aload_n 2, 1) := dk_44 (dk_at dksX3_rate_2 23 rfl rfl)
theorem dX3_rate_71 : decode cX3_rate 71 = .ok (.getfield 118, 3) := dk_180 0 118 (dk_at dksX3_rate_3 0 rfl rfl)
theorem dX3_rate_74 : decode cX3_rate 74 = .ok (.aload_n 2, 1) := dk_44 (dk_at dksX3_rate_3 3 rfl rfl)
theorem dX3_rate_75 : decode cX3_rate 75 = .ok (.getfield 145, 3) := dk_180 0 145 (dk_at dksX3_rate_3 4 rfl rfl)
theorem dX3_rate_78 : decode cX3_rate 78 = .ok (.invokevirtual 151, 3) := dk_182 0 151 (dk_at dksX3_rate_3 7 rfl rfl)
theorem dX3_rate_81 : decode cX3_rate 81 = .ok (.iastore, 1) := dk_79 (dk_at dksX3_rate_3 10 rfl rfl)
theorem dX3_rate_82 : decode cX3_rate 82 = .ok (.aload_n 3, 1) := dk_45 (dk_at dksX3_rate_3 11 rfl rfl)
theorem dX3_rate_83 : decode cX3_rate 83 = .ok (.iconst 1, 1) := dk_4 (dk_at dksX3_rate_3 12 rfl rfl)
theorem dX3_rate_84 : decode cX3_rate 84 = .ok (.iaload, 1) := dk_46 (dk_at dksX3_rate_3 13 rfl rfl)
theorem dX3_rate_85 : decode cX3_rate 85 = .ok (.ifCond .le 44, 3) := dk_158 0 44 (dk_at dksX3_rate_3 14 rfl rfl)
theorem dX3_rate_88 : decode cX3_rate 88 = .ok (.aload_n 1, 1) := dk_43 (dk_at dksX3_rate_3 17 rfl rfl)
theorem dX3_rate_89 : decode cX3_rate 89 = .ok (.getfield 88, 3) := dk_180 0 88 (dk_at dksX3_rate_3 18 rfl rfl)
theorem dX3_rate_92 : decode cX3_rate 92 = .ok (.iconst 3, 1) := dk_6 (dk_at dksX3_rate_3 21 rfl rfl)
theorem dX3_rate_93 : decode cX3_rate 93 = .ok (.newarray .int, 2) := dk_188_10 (dk_at dksX3_rate_3 22 rfl rfl)
theorem dX3_rate_95 : decode cX3_rate 95 = .ok (.dup, 1) := dk_89 (dk_at dksX3_rate_4 0 rfl rfl)
theorem dX3_rate_96 : decode cX3_rate 96 = .ok (.iconst 0, 1) := dk_3 (dk_at dksX3_rate_4 1 rfl rfl)
theorem dX3_rate_97 : decode cX3_rate 97 = .ok (.aload_n 2, 1) := dk_44 (dk_at dksX3_rate_4 2 rfl rfl)
theorem dX3_rate_98 : decode cX3_rate 98 = .ok (.getfield 148, 3) := dk_180 0 148 (dk_at dksX3_rate_4 3 rfl rfl)
theorem dX3_rate_101 : decode cX3_rate 101 = .ok (.iastore, 1) := dk_79 (dk_at dksX3_rate_4 6 rfl rfl)
theorem dX3_rate_102 : decode cX3_rate 102 = .ok (.dup, 1) := dk_89 (dk_at dksX3_rate_4 7 rfl rfl)
theorem dX3_rate_103 : decode cX3_rate 103 = .ok (.iconst 1, 1) := dk_4 (dk_at dksX3_rate_4 8 rfl rfl)
theorem dX3_rate_104 : decode cX3_rate 104 = .ok (.aload_n 3, 1) := dk_45 (dk_at dksX3_rate_4 9 rfl rfl)
theorem dX3_rate_105 : decode cX3_rate 105 = .ok (.iconst 1, 1) := dk_4 (dk_at dksX3_rate_4 10 rfl rfl)
theorem dX3_rate_106 : decode cX3_rate 106 = .ok (.iaload, 1) := dk_46 (dk_at dksX3_rate_4 11 rfl rfl)
theorem dX3_rate_107 : decode cX3_rate 107 = .ok (.iastore, 1) := dk_79 (dk_at dksX3_rate_4 12 rfl rfl)
theorem dX3_rate_108 : decode cX3_rate 108 = .ok (.dup, 1) := dk_89 (dk_at dksX3_rate_4 13 rfl rfl)
theorem dX3_rate_109 : decode cX3_rate 109 = .ok (.iconst 2, 1) := dk_5 (dk_at dksX3_rate_4 14 rfl rfl)
theorem dX3_rate_110 : decode cX3_rate 110 = .ok (.aload_n 2, 1) := dk_44 (dk_at dksX3_rate_4 15 rfl rfl)
theorem dX3_rate_111 : decode cX3_rate 111 = .ok (.getfield 118, 3) := dk_180 0 118 (dk_at dksX3_rate_4 16 rfl rfl)
theorem dX3_rate_114 : decode cX3_rate 114 = .ok (.bipush 30, 2) := dk_16 30 (dk_at dksX3_rate_4 19 rfl rfl)
theorem dX3_rate_116 : decode cX3_rate 116 = .ok (.idiv, 1) := dk_108 (dk_at dksX3_rate_4 21 rfl rfl)
theorem dX3_rate_117 : decode cX3_rate 117 = .ok (.iconst 1, 1) := dk_4 (dk_at dksX3_rate_4 22 rfl rfl)
theorem dX3_rate_118 : decode cX3_rate 118 = .ok (.iadd, 1) := dk_96 (dk_at dksX3_rate_4 23 rfl rfl)
theorem dX3_rate_119 : decode cX3_rate 119 = .ok (.bipush 30, 2) := dk_16 30 (dk_at dksX3_rate_5 0 rfl rfl)
theorem dX3_rate_121 : decode cX3_rate 121 = .ok (.imul, 1) := dk_104 (dk_at dksX3_rate_5 2 rfl rfl)
theorem dX3_rate_122 : decode cX3_rate 122 = .ok (.iconst 1, 1) := dk_4 (dk_at dksX3_rate_5 3 rfl rfl)
theorem dX3_rate_123 : decode cX3_rate 123 = .ok (.isub, 1) := dk_100 (dk_at dksX3_rate_5 4 rfl rfl)
theorem dX3_rate_124 : decode cX3_rate 124 = .ok (.iastore, 1) := dk_79 (dk_at dksX3_rate_5 5 rfl rfl)
theorem dX3_rate_125 : decode cX3_rate 125 = .ok (.invokevirtual 97, 3) := dk_182 0 97 (dk_at dksX3_rate_5 6 rfl rfl)
theorem dX3_rate_128 : decode cX3_rate 128 = .ok (.pop, 1) := dk_87 (dk_at dksX3_rate_5 9 rfl rfl)
theorem dX3_rate_129 : decode cX3_rate 129 = .ok (.return_, 1) := dk_177 (dk_at dksX3_rate_5 10 rfl rfl)
abbrev cX3_rateCall : ByteArray := prog_15_method_21_code
def yX3_rateCall : MethodName := ⟨RX3, "rateCall", "(LRolloverModel$Book;LRolloverModel$Ticket;[I)V"⟩
def dkwX3_rateCall_13 : List UInt8 := [184, 0, 178, 79, 177]
abbrev dktX3_rateCall_13 : List UInt8 := dkwX3_rateCall_13 ++ []
def dkwX3_rateCall_12 : List UInt8 := [25, 4, 180, 0, 190, 158, 0, 23, 45, 7, 45, 7, 46, 16, 100, 25, 4, 180, 0, 190, 104, 21, 10, 100]
abbrev dktX3_rateCall_12 : List UInt8 := dkwX3_rateCall_12 ++ dktX3_rateCall_13
def dkwX3_rateCall_11 : List UInt8 := [45, 7, 25, 4, 21, 9, 45, 6, 46, 182, 0, 184, 16, 100, 16, 25, 44, 180, 0, 187, 104, 96, 104, 79]
abbrev dktX3_rateCall_11 : List UInt8 := dkwX3_rateCall_11 ++ dktX3_rateCall_12
def dkwX3_rateCall_10 : List UInt8 := [21, 8, 100, 184, 0, 178, 182, 0, 151, 79, 45, 6, 45, 3, 46, 45, 4, 46, 100, 45, 5, 46, 100, 79]
abbrev dktX3_rateCall_10 : List UInt8 := dkwX3_rateCall_10 ++ dktX3_rateCall_11
def dkwX3_rateCall_9 : List UInt8 := [45, 5, 43, 25, 5, 180, 0, 172, 44, 180, 0, 118, 45, 3, 46, 45, 4, 46, 100, 25, 5, 180, 0, 175]
abbrev dktX3_rateCall_9 : List UInt8 := dkwX3_rateCall_9 ++ dktX3_rateCall_10
def dkwX3_rateCall_8 : List UInt8 := [44, 180, 0, 142, 44, 180, 0, 118, 45, 3, 46, 182, 0, 151, 79, 25, 5, 180, 0, 172, 2, 159, 0, 37]
abbrev dktX3_rateCall_8 : List UInt8 := dkwX3_rateCall_8 ++ dktX3_rateCall_9
def dkwX3_rateCall_7 : List UInt8 := [180, 0, 118, 7, 182, 0, 164, 54, 10, 45, 3, 25, 4, 44, 180, 0, 145, 182, 0, 168, 79, 45, 4, 43]
abbrev dktX3_rateCall_7 : List UInt8 := dkwX3_rateCall_7 ++ dktX3_rateCall_8
def dkwX3_rateCall_6 : List UInt8 := [180, 0, 142, 21, 6, 21, 7, 6, 182, 0, 164, 54, 9, 43, 44, 180, 0, 142, 44, 180, 0, 118, 44]
abbrev dktX3_rateCall_6 : List UInt8 := dkwX3_rateCall_6 ++ dktX3_rateCall_7
def dkwX3_rateCall_5 : List UInt8 := [96, 4, 100, 54, 7, 43, 44, 180, 0, 142, 21, 6, 21, 7, 5, 182, 0, 164, 54, 8, 43, 44]
abbrev dktX3_rateCall_5 : List UInt8 := dkwX3_rateCall_5 ++ dktX3_rateCall_6
def dkwX3_rateCall_4 : List UInt8 := [45, 8, 46, 4, 160, 0, 4, 177, 44, 180, 0, 118, 16, 30, 108, 16, 30, 104, 54, 6, 21, 6, 16, 30]
abbrev dktX3_rateCall_4 : List UInt8 := dkwX3_rateCall_4 ++ dktX3_rateCall_5
def dkwX3_rateCall_3 : List UInt8 := [180, 0, 161, 17, 1, 104, 17, 5, 39, 184, 0, 44, 154, 0, 7, 4, 167, 0, 4, 3, 184, 0, 78, 79]
abbrev dktX3_rateCall_3 : List UInt8 := dkwX3_rateCall_3 ++ dktX3_rateCall_4
def dkwX3_rateCall_2 : List UInt8 := [180, 0, 155, 44, 180, 0, 148, 122, 4, 126, 4, 159, 0, 27, 25, 4, 180, 0, 158, 153, 0, 23, 44]
abbrev dktX3_rateCall_2 : List UInt8 := dkwX3_rateCall_2 ++ dktX3_rateCall_3
def dkwX3_rateCall_1 : List UInt8 := [58, 4, 42, 180, 0, 16, 44, 180, 0, 142, 182, 0, 51, 192, 0, 55, 58, 5, 45, 8, 25, 5]
abbrev dktX3_rateCall_1 : List UInt8 := dkwX3_rateCall_1 ++ dktX3_rateCall_2
def dkwX3_rateCall_0 : List UInt8 := [42, 180, 0, 10, 42, 43, 44, 180, 0, 142, 44, 180, 0, 118, 182, 0, 82, 182, 0, 51, 192, 0, 86]
abbrev dktX3_rateCall_0 : List UInt8 := dkwX3_rateCall_0 ++ dktX3_rateCall_1
theorem dksX3_rateCall_0 : cX3_rateCall.data.toList.drop 0 = dktX3_rateCall_0 := by decide +kernel
theorem dksX3_rateCall_1 : cX3_rateCall.data.toList.drop 23 = dktX3_rateCall_1 := dk_seg dksX3_rateCall_0 23 rfl rfl
theorem dksX3_rateCall_2 : cX3_rateCall.data.toList.drop 45 = dktX3_rateCall_2 := dk_seg dksX3_rateCall_1 22 rfl rfl
theorem dksX3_rateCall_3 : cX3_rateCall.data.toList.drop 68 = dktX3_rateCall_3 := dk_seg dksX3_rateCall_2 23 rfl rfl
theorem dksX3_rateCall_4 : cX3_rateCall.data.toList.drop 92 = dktX3_rateCall_4 := dk_seg dksX3_rateCall_3 24 rfl rfl
theorem dksX3_rateCall_5 : cX3_rateCall.data.toList.drop 116 = dktX3_rateCall_5 := dk_seg dksX3_rateCall_4 24 rfl rfl
theorem dksX3_rateCall_6 : cX3_rateCall.data.toList.drop 138 = dktX3_rateCall_6 := dk_seg dksX3_rateCall_5 22 rfl rfl
theorem dksX3_rateCall_7 : cX3_rateCall.data.toList.drop 161 = dktX3_rateCall_7 := dk_seg dksX3_rateCall_6 23 rfl rfl
theorem dksX3_rateCall_8 : cX3_rateCall.data.toList.drop 185 = dktX3_rateCall_8 := dk_seg dksX3_rateCall_7 24 rfl rfl
theorem dksX3_rateCall_9 : cX3_rateCall.data.toList.drop 209 = dktX3_rateCall_9 := dk_seg dksX3_rateCall_8 24 rfl rfl
theorem dksX3_rateCall_10 : cX3_rateCall.data.toList.drop 233 = dktX3_rateCall_10 := dk_seg dksX3_rateCall_9 24 rfl rfl
theorem dksX3_rateCall_11 : cX3_rateCall.data.toList.drop 257 = dktX3_rateCall_11 := dk_seg dksX3_rateCall_10 24 rfl rfl
theorem dksX3_rateCall_12 : cX3_rateCall.data.toList.drop 281 = dktX3_rateCall_12 := dk_seg dksX3_rateCall_11 24 rfl rfl
theorem dksX3_rateCall_13 : cX3_rateCall.data.toList.drop 305 = dktX3_rateCall_13 := dk_seg dksX3_rateCall_12 24 rfl rfl
theorem dX3_rateCall_0 : decode cX3_rateCall 0 = .ok (.aload_n 0, 1) := dk_42 (dk_at dksX3_rateCall_0 0 rfl rfl)
theorem dX3_rateCall_1 : decode cX3_rateCall 1 = .ok (.getfield 10, 3) := dk_180 0 10 (dk_at dksX3_rateCall_0 1 rfl rfl)
theorem dX3_rateCall_4 : decode cX3_rateCall 4 = .ok (.aload_n 0, 1) := dk_42 (dk_at dksX3_rateCall_0 4 rfl rfl)
theorem dX3_rateCall_5 : decode cX3_rateCall 5 = .ok (.aload_n 1, 1) := dk_43 (dk_at dksX3_rateCall_0 5 rfl rfl)
theorem dX3_rateCall_6 : decode cX3_rateCall 6 = .ok (.aload_n 2, 1) := dk_44 (dk_at dksX3_rateCall_0 6 rfl rfl)
theorem dX3_rateCall_7 : decode cX3_rateCall 7 = .ok (.getfield 142, 3) := dk_180 0 142 (dk_at dksX3_rateCall_0 7 rfl rfl)
theorem dX3_rateCall_10 : decode cX3_rateCall 10 = .ok (.aload_n 2, 1) := dk_44 (dk_at dksX3_rateCall_0 10 rfl rfl)
theorem dX3_rateCall_11 : decode cX3_rateCall 11 = .ok (.getfield 118, 3) := dk_180 0 118 (dk_at dksX3_rateCall_0 11 rfl rfl)
theorem dX3_rateCall_14 : decode cX3_rateCall 14 = .ok (.invokevirtual 82, 3) := dk_182 0 82 (dk_at dksX3_rateCall_0 14 rfl rfl)
theorem dX3_rateCall_17 : decode cX3_rateCall 17 = .ok (.invokevirtual 51, 3) := dk_182 0 51 (dk_at dksX3_rateCall_0 17 rfl rfl)
theorem dX3_rateCall_20 : decode cX3_rateCall 20 = .ok (.checkcast 86, 3) := dk_192 0 86 (dk_at dksX3_rateCall_0 20 rfl rfl)
theorem dX3_rateCall_23 : decode cX3_rateCall 23 = .ok (.astore 4, 2) := dk_58 4 (dk_at dksX3_rateCall_1 0 rfl rfl)
theorem dX3_rateCall_25 : decode cX3_rateCall 25 = .ok (.aload_n 0, 1) := dk_42 (dk_at dksX3_rateCall_1 2 rfl rfl)
theorem dX3_rateCall_26 : decode cX3_rateCall 26 = .ok (.getfield 16, 3) := dk_180 0 16 (dk_at dksX3_rateCall_1 3 rfl rfl)
theorem dX3_rateCall_29 : decode cX3_rateCall 29 = .ok (.aload_n 2, 1) := dk_44 (dk_at dksX3_rateCall_1 6 rfl rfl)
theorem dX3_rateCall_30 : decode cX3_rateCall 30 = .ok (.getfield 142, 3) := dk_180 0 142 (dk_at dksX3_rateCall_1 7 rfl rfl)
theorem dX3_rateCall_33 : decode cX3_rateCall 33 = .ok (.invokevirtual 51, 3) := dk_182 0 51 (dk_at dksX3_rateCall_1 10 rfl rfl)
theorem dX3_rateCall_36 : decode cX3_rateCall 36 = .ok (.checkcast 55, 3) := dk_192 0 55 (dk_at dksX3_rateCall_1 13 rfl rfl)
theorem dX3_rateCall_39 : decode cX3_rateCall 39 = .ok (.astore 5, 2) := dk_58 5 (dk_at dksX3_rateCall_1 16 rfl rfl)
theorem dX3_rateCall_41 : decode cX3_rateCall 41 = .ok (.aload_n 3, 1) := dk_45 (dk_at dksX3_rateCall_1 18 rfl rfl)
theorem dX3_rateCall_42 : decode cX3_rateCall 42 = .ok (.iconst 5, 1) := dk_8 (dk_at dksX3_rateCall_1 19 rfl rfl)
theorem dX3_rateCall_43 : decode cX3_rateCall 43 = .ok (.aload 5, 2) := dk_25 5 (dk_at dksX3_rateCall_1 20 rfl rfl)
theorem dX3_rateCall_45 : decode cX3_rateCall 45 = .ok (.getfield 155, 3) := dk_180 0 155 (dk_at dksX3_rateCall_2 0 rfl rfl)
theorem dX3_rateCall_48 : decode cX3_rateCall 48 = .ok (.aload_n 2, 1) := dk_44 (dk_at dksX3_rateCall_2 3 rfl rfl)
theorem dX3_rateCall_49 : decode cX3_rateCall 49 = .ok (.getfield 148, 3) := dk_180 0 148 (dk_at dksX3_rateCall_2 4 rfl rfl)
theorem dX3_rateCall_52 : decode cX3_rateCall 52 = .ok (.ishr, 1) := dk_122 (dk_at dksX3_rateCall_2 7 rfl rfl)
theorem dX3_rateCall_53 : decode cX3_rateCall 53 = .ok (.iconst 1, 1) := dk_4 (dk_at dksX3_rateCall_2 8 rfl rfl)
theorem dX3_rateCall_54 : decode cX3_rateCall 54 = .ok (.iand, 1) := dk_126 (dk_at dksX3_rateCall_2 9 rfl rfl)
theorem dX3_rateCall_55 : decode cX3_rateCall 55 = .ok (.iconst 1, 1) := dk_4 (dk_at dksX3_rateCall_2 10 rfl rfl)
theorem dX3_rateCall_56 : decode cX3_rateCall 56 = .ok (.if_icmp .eq 27, 3) := dk_159 0 27 (dk_at dksX3_rateCall_2 11 rfl rfl)
theorem dX3_rateCall_59 : decode cX3_rateCall 59 = .ok (.aload 4, 2) := dk_25 4 (dk_at dksX3_rateCall_2 14 rfl rfl)
theorem dX3_rateCall_61 : decode cX3_rateCall 61 = .ok (.getfield 158, 3) := dk_180 0 158 (dk_at dksX3_rateCall_2 16 rfl rfl)
theorem dX3_rateCall_64 : decode cX3_rateCall 64 = .ok (.ifCond .eq 23, 3) := dk_153 0 23 (dk_at dksX3_rateCall_2 19 rfl rfl)
theorem dX3_rateCall_67 : decode cX3_rateCall 67 = .ok (.aload_n 2, 1) := dk_44 (dk_at dksX3_rateCall_2 22 rfl rfl)
theorem dX3_rateCall_68 : decode cX3_rateCall 68 = .ok (.getfield 161, 3) := dk_180 0 161 (dk_at dksX3_rateCall_3 0 rfl rfl)
theorem dX3_rateCall_71 : decode cX3_rateCall 71 = .ok (.sipush 360, 3) := dk_17 1 104 (dk_at dksX3_rateCall_3 3 rfl rfl)
theorem dX3_rateCall_74 : decode cX3_rateCall 74 = .ok (.sipush 1319, 3) := dk_17 5 39 (dk_at dksX3_rateCall_3 6 rfl rfl)
theorem dX3_rateCall_77 : decode cX3_rateCall 77 = .ok (.invokestatic 44, 3) := dk_184 0 44 (dk_at dksX3_rateCall_3 9 rfl rfl)
theorem dX3_rateCall_80 : decode cX3_rateCall 80 = .ok (.ifCond .ne 7, 3) := dk_154 0 7 (dk_at dksX3_rateCall_3 12 rfl rfl)
theorem dX3_rateCall_83 : decode cX3_rateCall 83 = .ok (.iconst 1, 1) := dk_4 (dk_at dksX3_rateCall_3 15 rfl rfl)
theorem dX3_rateCall_84 : decode cX3_rateCall 84 = .ok (.goto 4, 3) := dk_167 0 4 (dk_at dksX3_rateCall_3 16 rfl rfl)
theorem dX3_rateCall_87 : decode cX3_rateCall 87 = .ok (.iconst 0, 1) := dk_3 (dk_at dksX3_rateCall_3 19 rfl rfl)
theorem dX3_rateCall_88 : decode cX3_rateCall 88 = .ok (.invokestatic 78, 3) := dk_184 0 78 (dk_at dksX3_rateCall_3 20 rfl rfl)
theorem dX3_rateCall_91 : decode cX3_rateCall 91 = .ok (.iastore, 1) := dk_79 (dk_at dksX3_rateCall_3 23 rfl rfl)
theorem dX3_rateCall_92 : decode cX3_rateCall 92 = .ok (.aload_n 3, 1) := dk_45 (dk_at dksX3_rateCall_4 0 rfl rfl)
theorem dX3_rateCall_93 : decode cX3_rateCall 93 = .ok (.iconst 5, 1) := dk_8 (dk_at dksX3_rateCall_4 1 rfl rfl)
theorem dX3_rateCall_94 : decode cX3_rateCall 94 = .ok (.iaload, 1) := dk_46 (dk_at dksX3_rateCall_4 2 rfl rfl)
theorem dX3_rateCall_95 : decode cX3_rateCall 95 = .ok (.iconst 1, 1) := dk_4 (dk_at dksX3_rateCall_4 3 rfl rfl)
theorem dX3_rateCall_96 : decode cX3_rateCall 96 = .ok (.if_icmp .ne 4, 3) := dk_160 0 4 (dk_at dksX3_rateCall_4 4 rfl rfl)
theorem dX3_rateCall_99 : decode cX3_rateCall 99 = .ok (.return_, 1) := dk_177 (dk_at dksX3_rateCall_4 7 rfl rfl)
theorem dX3_rateCall_100 : decode cX3_rateCall 100 = .ok (.aload_n 2, 1) := dk_44 (dk_at dksX3_rateCall_4 8 rfl rfl)
theorem dX3_rateCall_101 : decode cX3_rateCall 101 = .ok (.getfield 118, 3) := dk_180 0 118 (dk_at dksX3_rateCall_4 9 rfl rfl)
theorem dX3_rateCall_104 : decode cX3_rateCall 104 = .ok (.bipush 30, 2) := dk_16 30 (dk_at dksX3_rateCall_4 12 rfl rfl)
theorem dX3_rateCall_106 : decode cX3_rateCall 106 = .ok (.idiv, 1) := dk_108 (dk_at dksX3_rateCall_4 14 rfl rfl)
theorem dX3_rateCall_107 : decode cX3_rateCall 107 = .ok (.bipush 30, 2) := dk_16 30 (dk_at dksX3_rateCall_4 15 rfl rfl)
theorem dX3_rateCall_109 : decode cX3_rateCall 109 = .ok (.imul, 1) := dk_104 (dk_at dksX3_rateCall_4 17 rfl rfl)
theorem dX3_rateCall_110 : decode cX3_rateCall 110 = .ok (.istore 6, 2) := dk_54 6 (dk_at dksX3_rateCall_4 18 rfl rfl)
theorem dX3_rateCall_112 : decode cX3_rateCall 112 = .ok (.iload 6, 2) := dk_21 6 (dk_at dksX3_rateCall_4 20 rfl rfl)
theorem dX3_rateCall_114 : decode cX3_rateCall 114 = .ok (.bipush 30, 2) := dk_16 30 (dk_at dksX3_rateCall_4 22 rfl rfl)
theorem dX3_rateCall_116 : decode cX3_rateCall 116 = .ok (.iadd, 1) := dk_96 (dk_at dksX3_rateCall_5 0 rfl rfl)
theorem dX3_rateCall_117 : decode cX3_rateCall 117 = .ok (.iconst 1, 1) := dk_4 (dk_at dksX3_rateCall_5 1 rfl rfl)
theorem dX3_rateCall_118 : decode cX3_rateCall 118 = .ok (.isub, 1) := dk_100 (dk_at dksX3_rateCall_5 2 rfl rfl)
theorem dX3_rateCall_119 : decode cX3_rateCall 119 = .ok (.istore 7, 2) := dk_54 7 (dk_at dksX3_rateCall_5 3 rfl rfl)
theorem dX3_rateCall_121 : decode cX3_rateCall 121 = .ok (.aload_n 1, 1) := dk_43 (dk_at dksX3_rateCall_5 5 rfl rfl)
theorem dX3_rateCall_122 : decode cX3_rateCall 122 = .ok (.aload_n 2, 1) := dk_44 (dk_at dksX3_rateCall_5 6 rfl rfl)
theorem dX3_rateCall_123 : decode cX3_rateCall 123 = .ok (.getfield 142, 3) := dk_180 0 142 (dk_at dksX3_rateCall_5 7 rfl rfl)
theorem dX3_rateCall_126 : decode cX3_rateCall 126 = .ok (.iload 6, 2) := dk_21 6 (dk_at dksX3_rateCall_5 10 rfl rfl)
theorem dX3_rateCall_128 : decode cX3_rateCall 128 = .ok (.iload 7, 2) := dk_21 7 (dk_at dksX3_rateCall_5 12 rfl rfl)
theorem dX3_rateCall_130 : decode cX3_rateCall 130 = .ok (.iconst 2, 1) := dk_5 (dk_at dksX3_rateCall_5 14 rfl rfl)
theorem dX3_rateCall_131 : decode cX3_rateCall 131 = .ok (.invokevirtual 164, 3) := dk_182 0 164 (dk_at dksX3_rateCall_5 15 rfl rfl)
theorem dX3_rateCall_134 : decode cX3_rateCall 134 = .ok (.istore 8, 2) := dk_54 8 (dk_at dksX3_rateCall_5 18 rfl rfl)
theorem dX3_rateCall_136 : decode cX3_rateCall 136 = .ok (.aload_n 1, 1) := dk_43 (dk_at dksX3_rateCall_5 20 rfl rfl)
theorem dX3_rateCall_137 : decode cX3_rateCall 137 = .ok (.aload_n 2, 1) := dk_44 (dk_at dksX3_rateCall_5 21 rfl rfl)
theorem dX3_rateCall_138 : decode cX3_rateCall 138 = .ok (.getfield 142, 3) := dk_180 0 142 (dk_at dksX3_rateCall_6 0 rfl rfl)
theorem dX3_rateCall_141 : decode cX3_rateCall 141 = .ok (.iload 6, 2) := dk_21 6 (dk_at dksX3_rateCall_6 3 rfl rfl)
theorem dX3_rateCall_143 : decode cX3_rateCall 143 = .ok (.iload 7, 2) := dk_21 7 (dk_at dksX3_rateCall_6 5 rfl rfl)
theorem dX3_rateCall_145 : decode cX3_rateCall 145 = .ok (.iconst 3, 1) := dk_6 (dk_at dksX3_rateCall_6 7 rfl rfl)
theorem dX3_rateCall_146 : decode cX3_rateCall 146 = .ok (.invokevirtual 164, 3) := dk_182 0 164 (dk_at dksX3_rateCall_6 8 rfl rfl)
theorem dX3_rateCall_149 : decode cX3_rateCall 149 = .ok (.istore 9, 2) := dk_54 9 (dk_at dksX3_rateCall_6 11 rfl rfl)
theorem dX3_rateCall_151 : decode cX3_rateCall 151 = .ok (.aload_n 1, 1) := dk_43 (dk_at dksX3_rateCall_6 13 rfl rfl)
theorem dX3_rateCall_152 : decode cX3_rateCall 152 = .ok (.aload_n 2, 1) := dk_44 (dk_at dksX3_rateCall_6 14 rfl rfl)
theorem dX3_rateCall_153 : decode cX3_rateCall 153 = .ok (.getfield 142, 3) := dk_180 0 142 (dk_at dksX3_rateCall_6 15 rfl rfl)
theorem dX3_rateCall_156 : decode cX3_rateCall 156 = .ok (.aload_n 2, 1) := dk_44 (dk_at dksX3_rateCall_6 18 rfl rfl)
theorem dX3_rateCall_157 : decode cX3_rateCall 157 = .ok (.getfield 118, 3) := dk_180 0 118 (dk_at dksX3_rateCall_6 19 rfl rfl)
theorem dX3_rateCall_160 : decode cX3_rateCall 160 = .ok (.aload_n 2, 1) := dk_44 (dk_at dksX3_rateCall_6 22 rfl rfl)
theorem dX3_rateCall_161 : decode cX3_rateCall 161 = .ok (.getfield 118, 3) := dk_180 0 118 (dk_at dksX3_rateCall_7 0 rfl rfl)
theorem dX3_rateCall_164 : decode cX3_rateCall 164 = .ok (.iconst 4, 1) := dk_7 (dk_at dksX3_rateCall_7 3 rfl rfl)
theorem dX3_rateCall_165 : decode cX3_rateCall 165 = .ok (.invokevirtual 164, 3) := dk_182 0 164 (dk_at dksX3_rateCall_7 4 rfl rfl)
theorem dX3_rateCall_168 : decode cX3_rateCall 168 = .ok (.istore 10, 2) := dk_54 10 (dk_at dksX3_rateCall_7 7 rfl rfl)
theorem dX3_rateCall_170 : decode cX3_rateCall 170 = .ok (.aload_n 3, 1) := dk_45 (dk_at dksX3_rateCall_7 9 rfl rfl)
theorem dX3_rateCall_171 : decode cX3_rateCall 171 = .ok (.iconst 0, 1) := dk_3 (dk_at dksX3_rateCall_7 10 rfl rfl)
theorem dX3_rateCall_172 : decode cX3_rateCall 172 = .ok (.aload 4, 2) := dk_25 4 (dk_at dksX3_rateCall_7 11 rfl rfl)
theorem dX3_rateCall_174 : decode cX3_rateCall 174 = .ok (.aload_n 2, 1) := dk_44 (dk_at dksX3_rateCall_7 13 rfl rfl)
theorem dX3_rateCall_175 : decode cX3_rateCall 175 = .ok (.getfield 145, 3) := dk_180 0 145 (dk_at dksX3_rateCall_7 14 rfl rfl)
theorem dX3_rateCall_178 : decode cX3_rateCall 178 = .ok (.invokevirtual 168, 3) := dk_182 0 168 (dk_at dksX3_rateCall_7 17 rfl rfl)
theorem dX3_rateCall_181 : decode cX3_rateCall 181 = .ok (.iastore, 1) := dk_79 (dk_at dksX3_rateCall_7 20 rfl rfl)
theorem dX3_rateCall_182 : decode cX3_rateCall 182 = .ok (.aload_n 3, 1) := dk_45 (dk_at dksX3_rateCall_7 21 rfl rfl)
theorem dX3_rateCall_183 : decode cX3_rateCall 183 = .ok (.iconst 1, 1) := dk_4 (dk_at dksX3_rateCall_7 22 rfl rfl)
theorem dX3_rateCall_184 : decode cX3_rateCall 184 = .ok (.aload_n 1, 1) := dk_43 (dk_at dksX3_rateCall_7 23 rfl rfl)
theorem dX3_rateCall_185 : decode cX3_rateCall 185 = .ok (.aload_n 2, 1) := dk_44 (dk_at dksX3_rateCall_8 0 rfl rfl)
theorem dX3_rateCall_186 : decode cX3_rateCall 186 = .ok (.getfield 142, 3) := dk_180 0 142 (dk_at dksX3_rateCall_8 1 rfl rfl)
theorem dX3_rateCall_189 : decode cX3_rateCall 189 = .ok (.aload_n 2, 1) := dk_44 (dk_at dksX3_rateCall_8 4 rfl rfl)
theorem dX3_rateCall_190 : decode cX3_rateCall 190 = .ok (.getfield 118, 3) := dk_180 0 118 (dk_at dksX3_rateCall_8 5 rfl rfl)
theorem dX3_rateCall_193 : decode cX3_rateCall 193 = .ok (.aload_n 3, 1) := dk_45 (dk_at dksX3_rateCall_8 8 rfl rfl)
theorem dX3_rateCall_194 : decode cX3_rateCall 194 = .ok (.iconst 0, 1) := dk_3 (dk_at dksX3_rateCall_8 9 rfl rfl)
theorem dX3_rateCall_195 : decode cX3_rateCall 195 = .ok (.iaload, 1) := dk_46 (dk_at dksX3_rateCall_8 10 rfl rfl)
theorem dX3_rateCall_196 : decode cX3_rateCall 196 = .ok (.invokevirtual 151, 3) := dk_182 0 151 (dk_at dksX3_rateCall_8 11 rfl rfl)
theorem dX3_rateCall_199 : decode cX3_rateCall 199 = .ok (.iastore, 1) := dk_79 (dk_at dksX3_rateCall_8 14 rfl rfl)
theorem dX3_rateCall_200 : decode cX3_rateCall 200 = .ok (.aload 5, 2) := dk_25 5 (dk_at dksX3_rateCall_8 15 rfl rfl)
theorem dX3_rateCall_202 : decode cX3_rateCall 202 = .ok (.getfield 172, 3) := dk_180 0 172 (dk_at dksX3_rateCall_8 17 rfl rfl)
theorem dX3_rateCall_205 : decode cX3_rateCall 205 = .ok (.iconst (-1), 1) := dk_2 (dk_at dksX3_rateCall_8 20 rfl rfl)
theorem dX3_rateCall_206 : decode cX3_rateCall 206 = .ok (.if_icmp .eq 37, 3) := dk_159 0 37 (dk_at dksX3_rateCall_8 21 rfl rfl)
theorem dX3_rateCall_209 : decode cX3_rateCall 209 = .ok (.aload_n 3, 1) := dk_45 (dk_at dksX3_rateCall_9 0 rfl rfl)
theorem dX3_rateCall_210 : decode cX3_rateCall 210 = .ok (.iconst 2, 1) := dk_5 (dk_at dksX3_rateCall_9 1 rfl rfl)
theorem dX3_rateCall_211 : decode cX3_rateCall 211 = .ok (.aload_n 1, 1) := dk_43 (dk_at dksX3_rateCall_9 2 rfl rfl)
theorem dX3_rateCall_212 : decode cX3_rateCall 212 = .ok (.aload 5, 2) := dk_25 5 (dk_at dksX3_rateCall_9 3 rfl rfl)
theorem dX3_rateCall_214 : decode cX3_rateCall 214 = .ok (.getfield 172, 3) := dk_180 0 172 (dk_at dksX3_rateCall_9 5 rfl rfl)
theorem dX3_rateCall_217 : decode cX3_rateCall 217 = .ok (.aload_n 2, 1) := dk_44 (dk_at dksX3_rateCall_9 8 rfl rfl)
theorem dX3_rateCall_218 : decode cX3_rateCall 218 = .ok (.getfield 118, 3) := dk_180 0 118 (dk_at dksX3_rateCall_9 9 rfl rfl)
theorem dX3_rateCall_221 : decode cX3_rateCall 221 = .ok (.aload_n 3, 1) := dk_45 (dk_at dksX3_rateCall_9 12 rfl rfl)
theorem dX3_rateCall_222 : decode cX3_rateCall 222 = .ok (.iconst 0, 1) := dk_3 (dk_at dksX3_rateCall_9 13 rfl rfl)
theorem dX3_rateCall_223 : decode cX3_rateCall 223 = .ok (.iaload, 1) := dk_46 (dk_at dksX3_rateCall_9 14 rfl rfl)
theorem dX3_rateCall_224 : decode cX3_rateCall 224 = .ok (.aload_n 3, 1) := dk_45 (dk_at dksX3_rateCall_9 15 rfl rfl)
theorem dX3_rateCall_225 : decode cX3_rateCall 225 = .ok (.iconst 1, 1) := dk_4 (dk_at dksX3_rateCall_9 16 rfl rfl)
theorem dX3_rateCall_226 : decode cX3_rateCall 226 = .ok (.iaload, 1) := dk_46 (dk_at dksX3_rateCall_9 17 rfl rfl)
theorem dX3_rateCall_227 : decode cX3_rateCall 227 = .ok (.isub, 1) := dk_100 (dk_at dksX3_rateCall_9 18 rfl rfl)
theorem dX3_rateCall_228 : decode cX3_rateCall 228 = .ok (.aload 5, 2) := dk_25 5 (dk_at dksX3_rateCall_9 19 rfl rfl)
theorem dX3_rateCall_230 : decode cX3_rateCall 230 = .ok (.getfield 175, 3) := dk_180 0 175 (dk_at dksX3_rateCall_9 21 rfl rfl)
theorem dX3_rateCall_233 : decode cX3_rateCall 233 = .ok (.iload 8, 2) := dk_21 8 (dk_at dksX3_rateCall_10 0 rfl rfl)
theorem dX3_rateCall_235 : decode cX3_rateCall 235 = .ok (.isub, 1) := dk_100 (dk_at dksX3_rateCall_10 2 rfl rfl)
theorem dX3_rateCall_236 : decode cX3_rateCall 236 = .ok (.invokestatic 178, 3) := dk_184 0 178 (dk_at dksX3_rateCall_10 3 rfl rfl)
theorem dX3_rateCall_239 : decode cX3_rateCall 239 = .ok (.invokevirtual 151, 3) := dk_182 0 151 (dk_at dksX3_rateCall_10 6 rfl rfl)
theorem dX3_rateCall_242 : decode cX3_rateCall 242 = .ok (.iastore, 1) := dk_79 (dk_at dksX3_rateCall_10 9 rfl rfl)
theorem dX3_rateCall_243 : decode cX3_rateCall 243 = .ok (.aload_n 3, 1) := dk_45 (dk_at dksX3_rateCall_10 10 rfl rfl)
theorem dX3_rateCall_244 : decode cX3_rateCall 244 = .ok (.iconst 3, 1) := dk_6 (dk_at dksX3_rateCall_10 11 rfl rfl)
theorem dX3_rateCall_245 : decode cX3_rateCall 245 = .ok (.aload_n 3, 1) := dk_45 (dk_at dksX3_rateCall_10 12 rfl rfl)
theorem dX3_rateCall_246 : decode cX3_rateCall 246 = .ok (.iconst 0, 1) := dk_3 (dk_at dksX3_rateCall_10 13 rfl rfl)
theorem dX3_rateCall_247 : decode cX3_rateCall 247 = .ok (.iaload, 1) := dk_46 (dk_at dksX3_rateCall_10 14 rfl rfl)
theorem dX3_rateCall_248 : decode cX3_rateCall 248 = .ok (.aload_n 3, 1) := dk_45 (dk_at dksX3_rateCall_10 15 rfl rfl)
theorem dX3_rateCall_249 : decode cX3_rateCall 249 = .ok (.iconst 1, 1) := dk_4 (dk_at dksX3_rateCall_10 16 rfl rfl)
theorem dX3_rateCall_250 : decode cX3_rateCall 250 = .ok (.iaload, 1) := dk_46 (dk_at dksX3_rateCall_10 17 rfl rfl)
theorem dX3_rateCall_251 : decode cX3_rateCall 251 = .ok (.isub, 1) := dk_100 (dk_at dksX3_rateCall_10 18 rfl rfl)
theorem dX3_rateCall_252 : decode cX3_rateCall 252 = .ok (.aload_n 3, 1) := dk_45 (dk_at dksX3_rateCall_10 19 rfl rfl)
theorem dX3_rateCall_253 : decode cX3_rateCall 253 = .ok (.iconst 2, 1) := dk_5 (dk_at dksX3_rateCall_10 20 rfl rfl)
theorem dX3_rateCall_254 : decode cX3_rateCall 254 = .ok (.iaload, 1) := dk_46 (dk_at dksX3_rateCall_10 21 rfl rfl)
theorem dX3_rateCall_255 : decode cX3_rateCall 255 = .ok (.isub, 1) := dk_100 (dk_at dksX3_rateCall_10 22 rfl rfl)
theorem dX3_rateCall_256 : decode cX3_rateCall 256 = .ok (.iastore, 1) := dk_79 (dk_at dksX3_rateCall_10 23 rfl rfl)
theorem dX3_rateCall_257 : decode cX3_rateCall 257 = .ok (.aload_n 3, 1) := dk_45 (dk_at dksX3_rateCall_11 0 rfl rfl)
theorem dX3_rateCall_258 : decode cX3_rateCall 258 = .ok (.iconst 4, 1) := dk_7 (dk_at dksX3_rateCall_11 1 rfl rfl)
theorem dX3_rateCall_259 : decode cX3_rateCall 259 = .ok (.aload 4, 2) := dk_25 4 (dk_at dksX3_rateCall_11 2 rfl rfl)
theorem dX3_rateCall_261 : decode cX3_rateCall 261 = .ok (.iload 9, 2) := dk_21 9 (dk_at dksX3_rateCall_11 4 rfl rfl)
theorem dX3_rateCall_263 : decode cX3_rateCall 263 = .ok (.aload_n 3, 1) := dk_45 (dk_at dksX3_rateCall_11 6 rfl rfl)
theorem dX3_rateCall_264 : decode cX3_rateCall 264 = .ok (.iconst 3, 1) := dk_6 (dk_at dksX3_rateCall_11 7 rfl rfl)
theorem dX3_rateCall_265 : decode cX3_rateCall 265 = .ok (.iaload, 1) := dk_46 (dk_at dksX3_rateCall_11 8 rfl rfl)
theorem dX3_rateCall_266 : decode cX3_rateCall 266 = .ok (.invokevirtual 184, 3) := dk_182 0 184 (dk_at dksX3_rateCall_11 9 rfl rfl)
theorem dX3_rateCall_269 : decode cX3_rateCall 269 = .ok (.bipush 100, 2) := dk_16 100 (dk_at dksX3_rateCall_11 12 rfl rfl)
theorem dX3_rateCall_271 : decode cX3_rateCall 271 = .ok (.bipush 25, 2) := dk_16 25 (dk_at dksX3_rateCall_11 14 rfl rfl)
theorem dX3_rateCall_273 : decode cX3_rateCall 273 = .ok (.aload_n 2, 1) := dk_44 (dk_at dksX3_rateCall_11 16 rfl rfl)
theorem dX3_rateCall_274 : decode cX3_rateCall 274 = .ok (.getfield 187, 3) := dk_180 0 187 (dk_at dksX3_rateCall_11 17 rfl rfl)
theorem dX3_rateCall_277 : decode cX3_rateCall 277 = .ok (.imul, 1) := dk_104 (dk_at dksX3_rateCall_11 20 rfl rfl)
theorem dX3_rateCall_278 : decode cX3_rateCall 278 = .ok (.iadd, 1) := dk_96 (dk_at dksX3_rateCall_11 21 rfl rfl)
theorem dX3_rateCall_279 : decode cX3_rateCall 279 = .ok (.imul, 1) := dk_104 (dk_at dksX3_rateCall_11 22 rfl rfl)
theorem dX3_rateCall_280 : decode cX3_rateCall 280 = .ok (.iastore, 1) := dk_79 (dk_at dksX3_rateCall_11 23 rfl rfl)
theorem dX3_rateCall_281 : decode cX3_rateCall 281 = .ok (.aload 4, 2) := dk_25 4 (dk_at dksX3_rateCall_12 0 rfl rfl)
theorem dX3_rateCall_283 : decode cX3_rateCall 283 = .ok (.getfield 190, 3) := dk_180 0 190 (dk_at dksX3_rateCall_12 2 rfl rfl)
theorem dX3_rateCall_286 : decode cX3_rateCall 286 = .ok (.ifCond .le 23, 3) := dk_158 0 23 (dk_at dksX3_rateCall_12 5 rfl rfl)
theorem dX3_rateCall_289 : decode cX3_rateCall 289 = .ok (.aload_n 3, 1) := dk_45 (dk_at dksX3_rateCall_12 8 rfl rfl)
theorem dX3_rateCall_290 : decode cX3_rateCall 290 = .ok (.iconst 4, 1) := dk_7 (dk_at dksX3_rateCall_12 9 rfl rfl)
theorem dX3_rateCall_291 : decode cX3_rateCall 291 = .ok (.aload_n 3, 1) := dk_45 (dk_at dksX3_rateCall_12 10 rfl rfl)
theorem dX3_rateCall_292 : decode cX3_rateCall 292 = .ok (.iconst 4, 1) := dk_7 (dk_at dksX3_rateCall_12 11 rfl rfl)
theorem dX3_rateCall_293 : decode cX3_rateCall 293 = .ok (.iaload, 1) := dk_46 (dk_at dksX3_rateCall_12 12 rfl rfl)
theorem dX3_rateCall_294 : decode cX3_rateCall 294 = .ok (.bipush 100, 2) := dk_16 100 (dk_at dksX3_rateCall_12 13 rfl rfl)
theorem dX3_rateCall_296 : decode cX3_rateCall 296 = .ok (.aload 4, 2) := dk_25 4 (dk_at dksX3_rateCall_12 15 rfl rfl)
theorem dX3_rateCall_298 : decode cX3_rateCall 298 = .ok (.getfield 190, 3) := dk_180 0 190 (dk_at dksX3_rateCall_12 17 rfl rfl)
theorem dX3_rateCall_301 : decode cX3_rateCall 301 = .ok (.imul, 1) := dk_104 (dk_at dksX3_rateCall_12 20 rfl rfl)
theorem dX3_rateCall_302 : decode cX3_rateCall 302 = .ok (.iload 10, 2) := dk_21 10 (dk_at dksX3_rateCall_12 21 rfl rfl)
theorem dX3_rateCall_304 : decode cX3_rateCall 304 = .ok (.isub, 1) := dk_100 (dk_at dksX3_rateCall_12 23 rfl rfl)
theorem dX3_rateCall_305 : decode cX3_rateCall 305 = .ok (.invokestatic 178, 3) := dk_184 0 178 (dk_at dksX3_rateCall_13 0 rfl rfl)
theorem dX3_rateCall_308 : decode cX3_rateCall 308 = .ok (.iastore, 1) := dk_79 (dk_at dksX3_rateCall_13 3 rfl rfl)
theorem dX3_rateCall_309 : decode cX3_rateCall 309 = .ok (.return_, 1) := dk_177 (dk_at dksX3_rateCall_13 4 rfl rfl)
abbrev cX3_bill : ByteArray := prog_15_method_23_code
def yX3_bill : MethodName := ⟨RX3, "bill", "(LRolloverModel$Book;II)I"⟩
def dkwX3_bill_3 : List UInt8 := [16, 30, 104, 29, 16, 30, 104, 16, 30, 96, 4, 100, 7, 182, 0, 164, 16, 99, 96, 16, 100, 108, 96, 172]
abbrev dktX3_bill_3 : List UInt8 := dkwX3_bill_3 ++ []
def dkwX3_bill_2 : List UInt8 := [182, 0, 51, 192, 0, 86, 180, 0, 210, 54, 5, 21, 5, 42, 28, 29, 182, 0, 213, 96, 43, 28, 29]
abbrev dktX3_bill_2 : List UInt8 := dkwX3_bill_2 ++ dktX3_bill_3
def dkwX3_bill_1 : List UInt8 := [164, 0, 5, 2, 172, 42, 180, 0, 10, 42, 43, 28, 21, 4, 29, 16, 30, 104, 184, 0, 207, 182, 0, 82]
abbrev dktX3_bill_1 : List UInt8 := dkwX3_bill_1 ++ dktX3_bill_2
def dkwX3_bill_0 : List UInt8 := [42, 180, 0, 16, 28, 182, 0, 51, 192, 0, 55, 180, 0, 57, 54, 4, 21, 4, 16, 30, 108, 29]
abbrev dktX3_bill_0 : List UInt8 := dkwX3_bill_0 ++ dktX3_bill_1
theorem dksX3_bill_0 : cX3_bill.data.toList.drop 0 = dktX3_bill_0 := by decide +kernel
theorem dksX3_bill_1 : cX3_bill.data.toList.drop 22 = dktX3_bill_1 := dk_seg dksX3_bill_0 22 rfl rfl
theorem dksX3_bill_2 : cX3_bill.data.toList.drop 46 = dktX3_bill_2 := dk_seg dksX3_bill_1 24 rfl rfl
theorem dksX3_bill_3 : cX3_bill.data.toList.drop 69 = dktX3_bill_3 := dk_seg dksX3_bill_2 23 rfl rfl
theorem dX3_bill_0 : decode cX3_bill 0 = .ok (.aload_n 0, 1) := dk_42 (dk_at dksX3_bill_0 0 rfl rfl)
theorem dX3_bill_1 : decode cX3_bill 1 = .ok (.getfield 16, 3) := dk_180 0 16 (dk_at dksX3_bill_0 1 rfl rfl)
theorem dX3_bill_4 : decode cX3_bill 4 = .ok (.iload_n 2, 1) := dk_28 (dk_at dksX3_bill_0 4 rfl rfl)
theorem dX3_bill_5 : decode cX3_bill 5 = .ok (.invokevirtual 51, 3) := dk_182 0 51 (dk_at dksX3_bill_0 5 rfl rfl)
theorem dX3_bill_8 : decode cX3_bill 8 = .ok (.checkcast 55, 3) := dk_192 0 55 (dk_at dksX3_bill_0 8 rfl rfl)
theorem dX3_bill_11 : decode cX3_bill 11 = .ok (.getfield 57, 3) := dk_180 0 57 (dk_at dksX3_bill_0 11 rfl rfl)
theorem dX3_bill_14 : decode cX3_bill 14 = .ok (.istore 4, 2) := dk_54 4 (dk_at dksX3_bill_0 14 rfl rfl)
theorem dX3_bill_16 : decode cX3_bill 16 = .ok (.iload 4, 2) := dk_21 4 (dk_at dksX3_bill_0 16 rfl rfl)
theorem dX3_bill_18 : decode cX3_bill 18 = .ok (.bipush 30, 2) := dk_16 30 (dk_at dksX3_bill_0 18 rfl rfl)
theorem dX3_bill_20 : decode cX3_bill 20 = .ok (.idiv, 1) := dk_108 (dk_at dksX3_bill_0 20 rfl rfl)
theorem dX3_bill_21 : decode cX3_bill 21 = .ok (.iload_n 3, 1) := dk_29 (dk_at dksX3_bill_0 21 rfl rfl)
theorem dX3_bill_22 : decode cX3_bill 22 = .ok (.if_icmp .le 5, 3) := dk_164 0 5 (dk_at dksX3_bill_1 0 rfl rfl)
theorem dX3_bill_25 : decode cX3_bill 25 = .ok (.iconst (-1), 1) := dk_2 (dk_at dksX3_bill_1 3 rfl rfl)
theorem dX3_bill_26 : decode cX3_bill 26 = .ok (.ireturn, 1) := dk_172 (dk_at dksX3_bill_1 4 rfl rfl)
theorem dX3_bill_27 : decode cX3_bill 27 = .ok (.aload_n 0, 1) := dk_42 (dk_at dksX3_bill_1 5 rfl rfl)
theorem dX3_bill_28 : decode cX3_bill 28 = .ok (.getfield 10, 3) := dk_180 0 10 (dk_at dksX3_bill_1 6 rfl rfl)
theorem dX3_bill_31 : decode cX3_bill 31 = .ok (.aload_n 0, 1) := dk_42 (dk_at dksX3_bill_1 9 rfl rfl)
theorem dX3_bill_32 : decode cX3_bill 32 = .ok (.aload_n 1, 1) := dk_43 (dk_at dksX3_bill_1 10 rfl rfl)
theorem dX3_bill_33 : decode cX3_bill 33 = .ok (.iload_n 2, 1) := dk_28 (dk_at dksX3_bill_1 11 rfl rfl)
theorem dX3_bill_34 : decode cX3_bill 34 = .ok (.iload 4, 2) := dk_21 4 (dk_at dksX3_bill_1 12 rfl rfl)
theorem dX3_bill_36 : decode cX3_bill 36 = .ok (.iload_n 3, 1) := dk_29 (dk_at dksX3_bill_1 14 rfl rfl)
theorem dX3_bill_37 : decode cX3_bill 37 = .ok (.bipush 30, 2) := dk_16 30 (dk_at dksX3_bill_1 15 rfl rfl)
theorem dX3_bill_39 : decode cX3_bill 39 = .ok (.imul, 1) := dk_104 (dk_at dksX3_bill_1 17 rfl rfl)
theorem dX3_bill_40 : decode cX3_bill 40 = .ok (.invokestatic 207, 3) := dk_184 0 207 (dk_at dksX3_bill_1 18 rfl rfl)
theorem dX3_bill_43 : decode cX3_bill 43 = .ok (.invokevirtual 82, 3) := dk_182 0 82 (dk_at dksX3_bill_1 21 rfl rfl)
theorem dX3_bill_46 : decode cX3_bill 46 = .ok (.invokevirtual 51, 3) := dk_182 0 51 (dk_at dksX3_bill_2 0 rfl rfl)
theorem dX3_bill_49 : decode cX3_bill 49 = .ok (.checkcast 86, 3) := dk_192 0 86 (dk_at dksX3_bill_2 3 rfl rfl)
theorem dX3_bill_52 : decode cX3_bill 52 = .ok (.getfield 210, 3) := dk_180 0 210 (dk_at dksX3_bill_2 6 rfl rfl)
theorem dX3_bill_55 : decode cX3_bill 55 = .ok (.istore 5, 2) := dk_54 5 (dk_at dksX3_bill_2 9 rfl rfl)
theorem dX3_bill_57 : decode cX3_bill 57 = .ok (.iload 5, 2) := dk_21 5 (dk_at dksX3_bill_2 11 rfl rfl)
theorem dX3_bill_59 : decode cX3_bill 59 = .ok (.aload_n 0, 1) := dk_42 (dk_at dksX3_bill_2 13 rfl rfl)
theorem dX3_bill_60 : decode cX3_bill 60 = .ok (.iload_n 2, 1) := dk_28 (dk_at dksX3_bill_2 14 rfl rfl)
theorem dX3_bill_61 : decode cX3_bill 61 = .ok (.iload_n 3, 1) := dk_29 (dk_at dksX3_bill_2 15 rfl rfl)
theorem dX3_bill_62 : decode cX3_bill 62 = .ok (.invokevirtual 213, 3) := dk_182 0 213 (dk_at dksX3_bill_2 16 rfl rfl)
theorem dX3_bill_65 : decode cX3_bill 65 = .ok (.iadd, 1) := dk_96 (dk_at dksX3_bill_2 19 rfl rfl)
theorem dX3_bill_66 : decode cX3_bill 66 = .ok (.aload_n 1, 1) := dk_43 (dk_at dksX3_bill_2 20 rfl rfl)
theorem dX3_bill_67 : decode cX3_bill 67 = .ok (.iload_n 2, 1) := dk_28 (dk_at dksX3_bill_2 21 rfl rfl)
theorem dX3_bill_68 : decode cX3_bill 68 = .ok (.iload_n 3, 1) := dk_29 (dk_at dksX3_bill_2 22 rfl rfl)
theorem dX3_bill_69 : decode cX3_bill 69 = .ok (.bipush 30, 2) := dk_16 30 (dk_at dksX3_bill_3 0 rfl rfl)
theorem dX3_bill_71 : decode cX3_bill 71 = .ok (.imul, 1) := dk_104 (dk_at dksX3_bill_3 2 rfl rfl)
theorem dX3_bill_72 : decode cX3_bill 72 = .ok (.iload_n 3, 1) := dk_29 (dk_at dksX3_bill_3 3 rfl rfl)
theorem dX3_bill_73 : decode cX3_bill 73 = .ok (.bipush 30, 2) := dk_16 30 (dk_at dksX3_bill_3 4 rfl rfl)
theorem dX3_bill_75 : decode cX3_bill 75 = .ok (.imul, 1) := dk_104 (dk_at dksX3_bill_3 6 rfl rfl)
theorem dX3_bill_76 : decode cX3_bill 76 = .ok (.bipush 30, 2) := dk_16 30 (dk_at dksX3_bill_3 7 rfl rfl)
theorem dX3_bill_78 : decode cX3_bill 78 = .ok (.iadd, 1) := dk_96 (dk_at dksX3_bill_3 9 rfl rfl)
theorem dX3_bill_79 : decode cX3_bill 79 = .ok (.iconst 1, 1) := dk_4 (dk_at dksX3_bill_3 10 rfl rfl)
theorem dX3_bill_80 : decode cX3_bill 80 = .ok (.isub, 1) := dk_100 (dk_at dksX3_bill_3 11 rfl rfl)
theorem dX3_bill_81 : decode cX3_bill 81 = .ok (.iconst 4, 1) := dk_7 (dk_at dksX3_bill_3 12 rfl rfl)
theorem dX3_bill_82 : decode cX3_bill 82 = .ok (.invokevirtual 164, 3) := dk_182 0 164 (dk_at dksX3_bill_3 13 rfl rfl)
theorem dX3_bill_85 : decode cX3_bill 85 = .ok (.bipush 99, 2) := dk_16 99 (dk_at dksX3_bill_3 16 rfl rfl)
theorem dX3_bill_87 : decode cX3_bill 87 = .ok (.iadd, 1) := dk_96 (dk_at dksX3_bill_3 18 rfl rfl)
theorem dX3_bill_88 : decode cX3_bill 88 = .ok (.bipush 100, 2) := dk_16 100 (dk_at dksX3_bill_3 19 rfl rfl)
theorem dX3_bill_90 : decode cX3_bill 90 = .ok (.idiv, 1) := dk_108 (dk_at dksX3_bill_3 21 rfl rfl)
theorem dX3_bill_91 : decode cX3_bill 91 = .ok (.iadd, 1) := dk_96 (dk_at dksX3_bill_3 22 rfl rfl)
theorem dX3_bill_92 : decode cX3_bill 92 = .ok (.ireturn, 1) := dk_172 (dk_at dksX3_bill_3 23 rfl rfl)
abbrev cX3_addOns : ByteArray := prog_15_method_22_code
def yX3_addOns : MethodName := ⟨RX3, "addOns", "(II)I"⟩
def dkwX3_addOns_3 : List UInt8 := [29, 25, 5, 180, 0, 187, 96, 62, 167, 255, 188, 29, 172]
abbrev dktX3_addOns_3 : List UInt8 := dkwX3_addOns_3 ++ []
def dkwX3_addOns_2 : List UInt8 := [27, 160, 0, 31, 25, 5, 180, 0, 124, 154, 0, 23, 25, 5, 180, 0, 118, 16, 30, 108, 28, 160, 0, 11]
abbrev dktX3_addOns_2 : List UInt8 := dkwX3_addOns_2 ++ dktX3_addOns_3
def dkwX3_addOns_1 : List UInt8 := [185, 0, 203, 1, 0, 192, 0, 73, 58, 5, 25, 5, 180, 0, 136, 5, 160, 0, 40, 25, 5, 180, 0, 142]
abbrev dktX3_addOns_1 : List UInt8 := dkwX3_addOns_1 ++ dktX3_addOns_2
def dkwX3_addOns_0 : List UInt8 := [3, 62, 42, 180, 0, 22, 182, 0, 193, 58, 4, 25, 4, 185, 0, 197, 1, 0, 153, 0, 64, 25, 4]
abbrev dktX3_addOns_0 : List UInt8 := dkwX3_addOns_0 ++ dktX3_addOns_1
theorem dksX3_addOns_0 : cX3_addOns.data.toList.drop 0 = dktX3_addOns_0 := by decide +kernel
theorem dksX3_addOns_1 : cX3_addOns.data.toList.drop 23 = dktX3_addOns_1 := dk_seg dksX3_addOns_0 23 rfl rfl
theorem dksX3_addOns_2 : cX3_addOns.data.toList.drop 47 = dktX3_addOns_2 := dk_seg dksX3_addOns_1 24 rfl rfl
theorem dksX3_addOns_3 : cX3_addOns.data.toList.drop 71 = dktX3_addOns_3 := dk_seg dksX3_addOns_2 24 rfl rfl
theorem dX3_addOns_0 : decode cX3_addOns 0 = .ok (.iconst 0, 1) := dk_3 (dk_at dksX3_addOns_0 0 rfl rfl)
theorem dX3_addOns_1 : decode cX3_addOns 1 = .ok (.istore_n 3, 1) := dk_62 (dk_at dksX3_addOns_0 1 rfl rfl)
theorem dX3_addOns_2 : decode cX3_addOns 2 = .ok (.aload_n 0, 1) := dk_42 (dk_at dksX3_addOns_0 2 rfl rfl)
theorem dX3_addOns_3 : decode cX3_addOns 3 = .ok (.getfield 22, 3) := dk_180 0 22 (dk_at dksX3_addOns_0 3 rfl rfl)
theorem dX3_addOns_6 : decode cX3_addOns 6 = .ok (.invokevirtual 193, 3) := dk_182 0 193 (dk_at dksX3_addOns_0 6 rfl rfl)
theorem dX3_addOns_9 : decode cX3_addOns 9 = .ok (.astore 4, 2) := dk_58 4 (dk_at dksX3_addOns_0 9 rfl rfl)
theorem dX3_addOns_11 : decode cX3_addOns 11 = .ok (.aload 4, 2) := dk_25 4 (dk_at dksX3_addOns_0 11 rfl rfl)
theorem dX3_addOns_13 : decode cX3_addOns 13 = .ok (.invokeinterface 197 1, 5) := by decide +kernel
theorem dX3_addOns_18 : decode cX3_addOns 18 = .ok (.ifCond .eq 64, 3) := dk_153 0 64 (dk_at dksX3_addOns_0 18 rfl rfl)
theorem dX3_addOns_21 : decode cX3_addOns 21 = .ok (.aload 4, 2) := dk_25 4 (dk_at dksX3_addOns_0 21 rfl rfl)
theorem dX3_addOns_23 : decode cX3_addOns 23 = .ok (.invokeinterface 203 1, 5) := by decide +kernel
theorem dX3_addOns_28 : decode cX3_addOns 28 = .ok (.checkcast 73, 3) := dk_192 0 73 (dk_at dksX3_addOns_1 5 rfl rfl)
theorem dX3_addOns_31 : decode cX3_addOns 31 = .ok (.astore 5, 2) := dk_58 5 (dk_at dksX3_addOns_1 8 rfl rfl)
theorem dX3_addOns_33 : decode cX3_addOns 33 = .ok (.aload 5, 2) := dk_25 5 (dk_at dksX3_addOns_1 10 rfl rfl)
theorem dX3_addOns_35 : decode cX3_addOns 35 = .ok (.getfield 136, 3) := dk_180 0 136 (dk_at dksX3_addOns_1 12 rfl rfl)
theorem dX3_addOns_38 : decode cX3_addOns 38 = .ok (.iconst 2, 1) := dk_5 (dk_at dksX3_addOns_1 15 rfl rfl)
theorem dX3_addOns_39 : decode cX3_addOns 39 = .ok (.if_icmp .ne 40, 3) := dk_160 0 40 (dk_at dksX3_addOns_1 16 rfl rfl)
theorem dX3_addOns_42 : decode cX3_addOns 42 = .ok (.aload 5, 2) := dk_25 5 (dk_at dksX3_addOns_1 19 rfl rfl)
theorem dX3_addOns_44 : decode cX3_addOns 44 = .ok (.getfield 142, 3) := dk_180 0 142 (dk_at dksX3_addOns_1 21 rfl rfl)
theorem dX3_addOns_47 : decode cX3_addOns 47 = .ok (.iload_n 1, 1) := dk_27 (dk_at dksX3_addOns_2 0 rfl rfl)
theorem dX3_addOns_48 : decode cX3_addOns 48 = .ok (.if_icmp .ne 31, 3) := dk_160 0 31 (dk_at dksX3_addOns_2 1 rfl rfl)
theorem dX3_addOns_51 : decode cX3_addOns 51 = .ok (.aload 5, 2) := dk_25 5 (dk_at dksX3_addOns_2 4 rfl rfl)
theorem dX3_addOns_53 : decode cX3_addOns 53 = .ok (.getfield 124, 3) := dk_180 0 124 (dk_at dksX3_addOns_2 6 rfl rfl)
theorem dX3_addOns_56 : decode cX3_addOns 56 = .ok (.ifCond .ne 23, 3) := dk_154 0 23 (dk_at dksX3_addOns_2 9 rfl rfl)
theorem dX3_addOns_59 : decode cX3_addOns 59 = .ok (.aload 5, 2) := dk_25 5 (dk_at dksX3_addOns_2 12 rfl rfl)
theorem dX3_addOns_61 : decode cX3_addOns 61 = .ok (.getfield 118, 3) := dk_180 0 118 (dk_at dksX3_addOns_2 14 rfl rfl)
theorem dX3_addOns_64 : decode cX3_addOns 64 = .ok (.bipush 30, 2) := dk_16 30 (dk_at dksX3_addOns_2 17 rfl rfl)
theorem dX3_addOns_66 : decode cX3_addOns 66 = .ok (.idiv, 1) := dk_108 (dk_at dksX3_addOns_2 19 rfl rfl)
theorem dX3_addOns_67 : decode cX3_addOns 67 = .ok (.iload_n 2, 1) := dk_28 (dk_at dksX3_addOns_2 20 rfl rfl)
theorem dX3_addOns_68 : decode cX3_addOns 68 = .ok (.if_icmp .ne 11, 3) := dk_160 0 11 (dk_at dksX3_addOns_2 21 rfl rfl)
theorem dX3_addOns_71 : decode cX3_addOns 71 = .ok (.iload_n 3, 1) := dk_29 (dk_at dksX3_addOns_3 0 rfl rfl)
theorem dX3_addOns_72 : decode cX3_addOns 72 = .ok (.aload 5, 2) := dk_25 5 (dk_at dksX3_addOns_3 1 rfl rfl)
theorem dX3_addOns_74 : decode cX3_addOns 74 = .ok (.getfield 187, 3) := dk_180 0 187 (dk_at dksX3_addOns_3 3 rfl rfl)
theorem dX3_addOns_77 : decode cX3_addOns 77 = .ok (.iadd, 1) := dk_96 (dk_at dksX3_addOns_3 6 rfl rfl)
theorem dX3_addOns_78 : decode cX3_addOns 78 = .ok (.istore_n 3, 1) := dk_62 (dk_at dksX3_addOns_3 7 rfl rfl)
theorem dX3_addOns_79 : decode cX3_addOns 79 = .ok (.goto (-68), 3) := dk_167 255 188 (dk_at dksX3_addOns_3 8 rfl rfl)
theorem dX3_addOns_82 : decode cX3_addOns 82 = .ok (.iload_n 3, 1) := dk_29 (dk_at dksX3_addOns_3 11 rfl rfl)
theorem dX3_addOns_83 : decode cX3_addOns 83 = .ok (.ireturn, 1) := dk_172 (dk_at dksX3_addOns_3 12 rfl rfl)
abbrev cX3_undo : ByteArray := prog_15_method_42_code
def yX3_undo : MethodName := ⟨RX3, "undo", "(I)I"⟩
def dkwX3_undo_3 : List UInt8 := [100, 172]
abbrev dktX3_undo_3 : List UInt8 := dkwX3_undo_3 ++ []
def dkwX3_undo_2 : List UInt8 := [42, 180, 0, 22, 27, 182, 0, 51, 192, 0, 73, 4, 181, 0, 124, 42, 42, 182, 1, 27, 182, 1, 31, 28]
abbrev dktX3_undo_2 : List UInt8 := dkwX3_undo_2 ++ dktX3_undo_3
def dkwX3_undo_1 : List UInt8 := [192, 0, 73, 180, 0, 124, 5, 182, 0, 36, 153, 0, 5, 3, 172, 42, 42, 182, 1, 27, 182, 1, 31, 61]
abbrev dktX3_undo_1 : List UInt8 := dkwX3_undo_1 ++ dktX3_undo_2
def dkwX3_undo_0 : List UInt8 := [42, 42, 27, 182, 1, 24, 4, 182, 0, 219, 154, 0, 25, 42, 42, 180, 0, 22, 27, 182, 0, 51]
abbrev dktX3_undo_0 : List UInt8 := dkwX3_undo_0 ++ dktX3_undo_1
theorem dksX3_undo_0 : cX3_undo.data.toList.drop 0 = dktX3_undo_0 := by decide +kernel
theorem dksX3_undo_1 : cX3_undo.data.toList.drop 22 = dktX3_undo_1 := dk_seg dksX3_undo_0 22 rfl rfl
theorem dksX3_undo_2 : cX3_undo.data.toList.drop 46 = dktX3_undo_2 := dk_seg dksX3_undo_1 24 rfl rfl
theorem dksX3_undo_3 : cX3_undo.data.toList.drop 70 = dktX3_undo_3 := dk_seg dksX3_undo_2 24 rfl rfl
theorem dX3_undo_0 : decode cX3_undo 0 = .ok (.aload_n 0, 1) := dk_42 (dk_at dksX3_undo_0 0 rfl rfl)
theorem dX3_undo_1 : decode cX3_undo 1 = .ok (.aload_n 0, 1) := dk_42 (dk_at dksX3_undo_0 1 rfl rfl)
theorem dX3_undo_2 : decode cX3_undo 2 = .ok (.iload_n 1, 1) := dk_27 (dk_at dksX3_undo_0 2 rfl rfl)
theorem dX3_undo_3 : decode cX3_undo 3 = .ok (.invokevirtual 280, 3) := dk_182 1 24 (dk_at dksX3_undo_0 3 rfl rfl)
theorem dX3_undo_6 : decode cX3_undo 6 = .ok (.iconst 1, 1) := dk_4 (dk_at dksX3_undo_0 6 rfl rfl)
theorem dX3_undo_7 : decode cX3_undo 7 = .ok (.invokevirtual 219, 3) := dk_182 0 219 (dk_at dksX3_undo_0 7 rfl rfl)
theorem dX3_undo_10 : decode cX3_undo 10 = .ok (.ifCond .ne 25, 3) := dk_154 0 25 (dk_at dksX3_undo_0 10 rfl rfl)
theorem dX3_undo_13 : decode cX3_undo 13 = .ok (.aload_n 0, 1) := dk_42 (dk_at dksX3_undo_0 13 rfl rfl)
theorem dX3_undo_14 : decode cX3_undo 14 = .ok (.aload_n 0, 1) := dk_42 (dk_at dksX3_undo_0 14 rfl rfl)
theorem dX3_undo_15 : decode cX3_undo 15 = .ok (.getfield 22, 3) := dk_180 0 22 (dk_at dksX3_undo_0 15 rfl rfl)
theorem dX3_undo_18 : decode cX3_undo 18 = .ok (.iload_n 1, 1) := dk_27 (dk_at dksX3_undo_0 18 rfl rfl)
theorem dX3_undo_19 : decode cX3_undo 19 = .ok (.invokevirtual 51, 3) := dk_182 0 51 (dk_at dksX3_undo_0 19 rfl rfl)
theorem dX3_undo_22 : decode cX3_undo 22 = .ok (.checkcast 73, 3) := dk_192 0 73 (dk_at dksX3_undo_1 0 rfl rfl)
theorem dX3_undo_25 : decode cX3_undo 25 = .ok (.getfield 124, 3) := dk_180 0 124 (dk_at dksX3_undo_1 3 rfl rfl)
theorem dX3_undo_28 : decode cX3_undo 28 = .ok (.iconst 2, 1) := dk_5 (dk_at dksX3_undo_1 6 rfl rfl)
theorem dX3_undo_29 : decode cX3_undo 29 = .ok (.invokevirtual 36, 3) := dk_182 0 36 (dk_at dksX3_undo_1 7 rfl rfl)
theorem dX3_undo_32 : decode cX3_undo 32 = .ok (.ifCond .eq 5, 3) := dk_153 0 5 (dk_at dksX3_undo_1 10 rfl rfl)
theorem dX3_undo_35 : decode cX3_undo 35 = .ok (.iconst 0, 1) := dk_3 (dk_at dksX3_undo_1 13 rfl rfl)
theorem dX3_undo_36 : decode cX3_undo 36 = .ok (.ireturn, 1) := dk_172 (dk_at dksX3_undo_1 14 rfl rfl)
theorem dX3_undo_37 : decode cX3_undo 37 = .ok (.aload_n 0, 1) := dk_42 (dk_at dksX3_undo_1 15 rfl rfl)
theorem dX3_undo_38 : decode cX3_undo 38 = .ok (.aload_n 0, 1) := dk_42 (dk_at dksX3_undo_1 16 rfl rfl)
theorem dX3_undo_39 : decode cX3_undo 39 = .ok (.invokevirtual 283, 3) := dk_182 1 27 (dk_at dksX3_undo_1 17 rfl rfl)
theorem dX3_undo_42 : decode cX3_undo 42 = .ok (.invokevirtual 287, 3) := dk_182 1 31 (dk_at dksX3_undo_1 20 rfl rfl)
theorem dX3_undo_45 : decode cX3_undo 45 = .ok (.istore_n 2, 1) := dk_61 (dk_at dksX3_undo_1 23 rfl rfl)
theorem dX3_undo_46 : decode cX3_undo 46 = .ok (.aload_n 0, 1) := dk_42 (dk_at dksX3_undo_2 0 rfl rfl)
theorem dX3_undo_47 : decode cX3_undo 47 = .ok (.getfield 22, 3) := dk_180 0 22 (dk_at dksX3_undo_2 1 rfl rfl)
theorem dX3_undo_50 : decode cX3_undo 50 = .ok (.iload_n 1, 1) := dk_27 (dk_at dksX3_undo_2 4 rfl rfl)
theorem dX3_undo_51 : decode cX3_undo 51 = .ok (.invokevirtual 51, 3) := dk_182 0 51 (dk_at dksX3_undo_2 5 rfl rfl)
theorem dX3_undo_54 : decode cX3_undo 54 = .ok (.checkcast 73, 3) := dk_192 0 73 (dk_at dksX3_undo_2 8 rfl rfl)
theorem dX3_undo_57 : decode cX3_undo 57 = .ok (.iconst 1, 1) := dk_4 (dk_at dksX3_undo_2 11 rfl rfl)
theorem dX3_undo_58 : decode cX3_undo 58 = .ok (.putfield 124, 3) := dk_181 0 124 (dk_at dksX3_undo_2 12 rfl rfl)
theorem dX3_undo_61 : decode cX3_undo 61 = .ok (.aload_n 0, 1) := dk_42 (dk_at dksX3_undo_2 15 rfl rfl)
theorem dX3_undo_62 : decode cX3_undo 62 = .ok (.aload_n 0, 1) := dk_42 (dk_at dksX3_undo_2 16 rfl rfl)
theorem dX3_undo_63 : decode cX3_undo 63 = .ok (.invokevirtual 283, 3) := dk_182 1 27 (dk_at dksX3_undo_2 17 rfl rfl)
theorem dX3_undo_66 : decode cX3_undo 66 = .ok (.invokevirtual 287, 3) := dk_182 1 31 (dk_at dksX3_undo_2 20 rfl rfl)
theorem dX3_undo_69 : decode cX3_undo 69 = .ok (.iload_n 2, 1) := dk_28 (dk_at dksX3_undo_2 23 rfl rfl)
theorem dX3_undo_70 : decode cX3_undo 70 = .ok (.isub, 1) := dk_100 (dk_at dksX3_undo_3 0 rfl rfl)
theorem dX3_undo_71 : decode cX3_undo 71 = .ok (.ireturn, 1) := dk_172 (dk_at dksX3_undo_3 1 rfl rfl)
abbrev cX3_bills : ByteArray := prog_15_method_24_code
def yX3_bills : MethodName := ⟨RX3, "bills", "(LRolloverModel$Book;)I"⟩
def dkwX3_bills_2 : List UInt8 := [167, 255, 226, 132, 3, 1, 167, 255, 206, 28, 172]
abbrev dktX3_bills_2 : List UInt8 := dkwX3_bills_2 ++ []
def dkwX3_bills_1 : List UInt8 := [16, 30, 108, 163, 0, 24, 28, 3, 42, 43, 29, 21, 4, 182, 0, 216, 184, 0, 207, 96, 61, 132, 4, 1]
abbrev dktX3_bills_1 : List UInt8 := dkwX3_bills_1 ++ dktX3_bills_2
def dkwX3_bills_0 : List UInt8 := [3, 61, 3, 62, 29, 42, 180, 0, 16, 182, 0, 40, 162, 0, 45, 3, 54, 4, 21, 4, 42, 180, 0, 48]
abbrev dktX3_bills_0 : List UInt8 := dkwX3_bills_0 ++ dktX3_bills_1
theorem dksX3_bills_0 : cX3_bills.data.toList.drop 0 = dktX3_bills_0 := by decide +kernel
theorem dksX3_bills_1 : cX3_bills.data.toList.drop 24 = dktX3_bills_1 := dk_seg dksX3_bills_0 24 rfl rfl
theorem dksX3_bills_2 : cX3_bills.data.toList.drop 48 = dktX3_bills_2 := dk_seg dksX3_bills_1 24 rfl rfl
theorem dX3_bills_0 : decode cX3_bills 0 = .ok (.iconst 0, 1) := dk_3 (dk_at dksX3_bills_0 0 rfl rfl)
theorem dX3_bills_1 : decode cX3_bills 1 = .ok (.istore_n 2, 1) := dk_61 (dk_at dksX3_bills_0 1 rfl rfl)
theorem dX3_bills_2 : decode cX3_bills 2 = .ok (.iconst 0, 1) := dk_3 (dk_at dksX3_bills_0 2 rfl rfl)
theorem dX3_bills_3 : decode cX3_bills 3 = .ok (.istore_n 3, 1) := dk_62 (dk_at dksX3_bills_0 3 rfl rfl)
theorem dX3_bills_4 : decode cX3_bills 4 = .ok (.iload_n 3, 1) := dk_29 (dk_at dksX3_bills_0 4 rfl rfl)
theorem dX3_bills_5 : decode cX3_bills 5 = .ok (.aload_n 0, 1) := dk_42 (dk_at dksX3_bills_0 5 rfl rfl)
theorem dX3_bills_6 : decode cX3_bills 6 = .ok (.getfield 16, 3) := dk_180 0 16 (dk_at dksX3_bills_0 6 rfl rfl)
theorem dX3_bills_9 : decode cX3_bills 9 = .ok (.invokevirtual 40, 3) := dk_182 0 40 (dk_at dksX3_bills_0 9 rfl rfl)
theorem dX3_bills_12 : decode cX3_bills 12 = .ok (.if_icmp .ge 45, 3) := dk_162 0 45 (dk_at dksX3_bills_0 12 rfl rfl)
theorem dX3_bills_15 : decode cX3_bills 15 = .ok (.iconst 0, 1) := dk_3 (dk_at dksX3_bills_0 15 rfl rfl)
theorem dX3_bills_16 : decode cX3_bills 16 = .ok (.istore 4, 2) := dk_54 4 (dk_at dksX3_bills_0 16 rfl rfl)
theorem dX3_bills_18 : decode cX3_bills 18 = .ok (.iload 4, 2) := dk_21 4 (dk_at dksX3_bills_0 18 rfl rfl)
theorem dX3_bills_20 : decode cX3_bills 20 = .ok (.aload_n 0, 1) := dk_42 (dk_at dksX3_bills_0 20 rfl rfl)
theorem dX3_bills_21 : decode cX3_bills 21 = .ok (.getfield 48, 3) := dk_180 0 48 (dk_at dksX3_bills_0 21 rfl rfl)
theorem dX3_bills_24 : decode cX3_bills 24 = .ok (.bipush 30, 2) := dk_16 30 (dk_at dksX3_bills_1 0 rfl rfl)
theorem dX3_bills_26 : decode cX3_bills 26 = .ok (.idiv, 1) := dk_108 (dk_at dksX3_bills_1 2 rfl rfl)
theorem dX3_bills_27 : decode cX3_bills 27 = .ok (.if_icmp .gt 24, 3) := dk_163 0 24 (dk_at dksX3_bills_1 3 rfl rfl)
theorem dX3_bills_30 : decode cX3_bills 30 = .ok (.iload_n 2, 1) := dk_28 (dk_at dksX3_bills_1 6 rfl rfl)
theorem dX3_bills_31 : decode cX3_bills 31 = .ok (.iconst 0, 1) := dk_3 (dk_at dksX3_bills_1 7 rfl rfl)
theorem dX3_bills_32 : decode cX3_bills 32 = .ok (.aload_n 0, 1) := dk_42 (dk_at dksX3_bills_1 8 rfl rfl)
theorem dX3_bills_33 : decode cX3_bills 33 = .ok (.aload_n 1, 1) := dk_43 (dk_at dksX3_bills_1 9 rfl rfl)
theorem dX3_bills_34 : decode cX3_bills 34 = .ok (.iload_n 3, 1) := dk_29 (dk_at dksX3_bills_1 10 rfl rfl)
theorem dX3_bills_35 : decode cX3_bills 35 = .ok (.iload 4, 2) := dk_21 4 (dk_at dksX3_bills_1 11 rfl rfl)
theorem dX3_bills_37 : decode cX3_bills 37 = .ok (.invokevirtual 216, 3) := dk_182 0 216 (dk_at dksX3_bills_1 13 rfl rfl)
theorem dX3_bills_40 : decode cX3_bills 40 = .ok (.invokestatic 207, 3) := dk_184 0 207 (dk_at dksX3_bills_1 16 rfl rfl)
theorem dX3_bills_43 : decode cX3_bills 43 = .ok (.iadd, 1) := dk_96 (dk_at dksX3_bills_1 19 rfl rfl)
theorem dX3_bills_44 : decode cX3_bills 44 = .ok (.istore_n 2, 1) := dk_61 (dk_at dksX3_bills_1 20 rfl rfl)
theorem dX3_bills_45 : decode cX3_bills 45 = .ok (.iinc 4 1, 3) := dk_132 4 1 (dk_at dksX3_bills_1 21 rfl rfl)
theorem dX3_bills_48 : decode cX3_bills 48 = .ok (.goto (-30), 3) := dk_167 255 226 (dk_at dksX3_bills_2 0 rfl rfl)
theorem dX3_bills_51 : decode cX3_bills 51 = .ok (.iinc 3 1, 3) := dk_132 3 1 (dk_at dksX3_bills_2 3 rfl rfl)
theorem dX3_bills_54 : decode cX3_bills 54 = .ok (.goto (-50), 3) := dk_167 255 206 (dk_at dksX3_bills_2 6 rfl rfl)
theorem dX3_bills_57 : decode cX3_bills 57 = .ok (.iload_n 2, 1) := dk_28 (dk_at dksX3_bills_2 9 rfl rfl)
theorem dX3_bills_58 : decode cX3_bills 58 = .ok (.ireturn, 1) := dk_172 (dk_at dksX3_bills_2 10 rfl rfl)
abbrev cX3_port : ByteArray := prog_15_method_44_code
def yX3_port : MethodName := ⟨RX3, "port", "(III)I"⟩
def dkwX3_port_5 : List UInt8 := [182, 0, 97, 87, 21, 4, 172]
abbrev dktX3_port_5 : List UInt8 := dkwX3_port_5 ++ []
def dkwX3_port_4 : List UInt8 := [180, 0, 25, 6, 188, 10, 89, 3, 27, 79, 89, 4, 42, 180, 0, 48, 29, 100, 79, 89, 5, 28, 79]
abbrev dktX3_port_4 : List UInt8 := dkwX3_port_4 ++ dktX3_port_5
def dkwX3_port_3 : List UInt8 := [3, 6, 182, 0, 36, 153, 0, 5, 3, 172, 42, 27, 42, 180, 0, 48, 182, 1, 35, 54, 4, 42]
abbrev dktX3_port_3 : List UInt8 := dkwX3_port_3 ++ dktX3_port_4
def dkwX3_port_2 : List UInt8 := [5, 182, 0, 36, 154, 0, 28, 42, 42, 180, 0, 25, 182, 0, 40, 16, 20, 160, 0, 7, 4, 167, 0, 4]
abbrev dktX3_port_2 : List UInt8 := dkwX3_port_2 ++ dktX3_port_3
def dkwX3_port_1 : List UInt8 := [182, 0, 219, 154, 0, 53, 42, 29, 3, 42, 180, 0, 48, 184, 0, 44, 154, 0, 7, 4, 167, 0, 4, 3]
abbrev dktX3_port_1 : List UInt8 := dkwX3_port_1 ++ dktX3_port_2
def dkwX3_port_0 : List UInt8 := [42, 27, 184, 0, 254, 154, 0, 12, 28, 3, 6, 184, 0, 44, 154, 0, 7, 4, 167, 0, 4, 3, 4]
abbrev dktX3_port_0 : List UInt8 := dkwX3_port_0 ++ dktX3_port_1
theorem dksX3_port_0 : cX3_port.data.toList.drop 0 = dktX3_port_0 := by decide +kernel
theorem dksX3_port_1 : cX3_port.data.toList.drop 23 = dktX3_port_1 := dk_seg dksX3_port_0 23 rfl rfl
theorem dksX3_port_2 : cX3_port.data.toList.drop 47 = dktX3_port_2 := dk_seg dksX3_port_1 24 rfl rfl
theorem dksX3_port_3 : cX3_port.data.toList.drop 71 = dktX3_port_3 := dk_seg dksX3_port_2 24 rfl rfl
theorem dksX3_port_4 : cX3_port.data.toList.drop 93 = dktX3_port_4 := dk_seg dksX3_port_3 22 rfl rfl
theorem dksX3_port_5 : cX3_port.data.toList.drop 116 = dktX3_port_5 := dk_seg dksX3_port_4 23 rfl rfl
theorem dX3_port_0 : decode cX3_port 0 = .ok (.aload_n 0, 1) := dk_42 (dk_at dksX3_port_0 0 rfl rfl)
theorem dX3_port_1 : decode cX3_port 1 = .ok (.iload_n 1, 1) := dk_27 (dk_at dksX3_port_0 1 rfl rfl)
theorem dX3_port_2 : decode cX3_port 2 = .ok (.invokestatic 254, 3) := dk_184 0 254 (dk_at dksX3_port_0 2 rfl rfl)
theorem dX3_port_5 : decode cX3_port 5 = .ok (.ifCond .ne 12, 3) := dk_154 0 12 (dk_at dksX3_port_0 5 rfl rfl)
theorem dX3_port_8 : decode cX3_port 8 = .ok (.iload_n 2, 1) := dk_28 (dk_at dksX3_port_0 8 rfl rfl)
theorem dX3_port_9 : decode cX3_port 9 = .ok (.iconst 0, 1) := dk_3 (dk_at dksX3_port_0 9 rfl rfl)
theorem dX3_port_10 : decode cX3_port 10 = .ok (.iconst 3, 1) := dk_6 (dk_at dksX3_port_0 10 rfl rfl)
theorem dX3_port_11 : decode cX3_port 11 = .ok (.invokestatic 44, 3) := dk_184 0 44 (dk_at dksX3_port_0 11 rfl rfl)
theorem dX3_port_14 : decode cX3_port 14 = .ok (.ifCond .ne 7, 3) := dk_154 0 7 (dk_at dksX3_port_0 14 rfl rfl)
theorem dX3_port_17 : decode cX3_port 17 = .ok (.iconst 1, 1) := dk_4 (dk_at dksX3_port_0 17 rfl rfl)
theorem dX3_port_18 : decode cX3_port 18 = .ok (.goto 4, 3) := dk_167 0 4 (dk_at dksX3_port_0 18 rfl rfl)
theorem dX3_port_21 : decode cX3_port 21 = .ok (.iconst 0, 1) := dk_3 (dk_at dksX3_port_0 21 rfl rfl)
theorem dX3_port_22 : decode cX3_port 22 = .ok (.iconst 1, 1) := dk_4 (dk_at dksX3_port_0 22 rfl rfl)
theorem dX3_port_23 : decode cX3_port 23 = .ok (.invokevirtual 219, 3) := dk_182 0 219 (dk_at dksX3_port_1 0 rfl rfl)
theorem dX3_port_26 : decode cX3_port 26 = .ok (.ifCond .ne 53, 3) := dk_154 0 53 (dk_at dksX3_port_1 3 rfl rfl)
theorem dX3_port_29 : decode cX3_port 29 = .ok (.aload_n 0, 1) := dk_42 (dk_at dksX3_port_1 6 rfl rfl)
theorem dX3_port_30 : decode cX3_port 30 = .ok (.iload_n 3, 1) := dk_29 (dk_at dksX3_port_1 7 rfl rfl)
theorem dX3_port_31 : decode cX3_port 31 = .ok (.iconst 0, 1) := dk_3 (dk_at dksX3_port_1 8 rfl rfl)
theorem dX3_port_32 : decode cX3_port 32 = .ok (.aload_n 0, 1) := dk_42 (dk_at dksX3_port_1 9 rfl rfl)
theorem dX3_port_33 : decode cX3_port 33 = .ok (.getfield 48, 3) := dk_180 0 48 (dk_at dksX3_port_1 10 rfl rfl)
theorem dX3_port_36 : decode cX3_port 36 = .ok (.invokestatic 44, 3) := dk_184 0 44 (dk_at dksX3_port_1 13 rfl rfl)
theorem dX3_port_39 : decode cX3_port 39 = .ok (.ifCond .ne 7, 3) := dk_154 0 7 (dk_at dksX3_port_1 16 rfl rfl)
theorem dX3_port_42 : decode cX3_port 42 = .ok (.iconst 1, 1) := dk_4 (dk_at dksX3_port_1 19 rfl rfl)
theorem dX3_port_43 : decode cX3_port 43 = .ok (.goto 4, 3) := dk_167 0 4 (dk_at dksX3_port_1 20 rfl rfl)
theorem dX3_port_46 : decode cX3_port 46 = .ok (.iconst 0, 1) := dk_3 (dk_at dksX3_port_1 23 rfl rfl)
theorem dX3_port_47 : decode cX3_port 47 = .ok (.iconst 2, 1) := dk_5 (dk_at dksX3_port_2 0 rfl rfl)
theorem dX3_port_48 : decode cX3_port 48 = .ok (.invokevirtual 36, 3) := dk_182 0 36 (dk_at dksX3_port_2 1 rfl rfl)
theorem dX3_port_51 : decode cX3_port 51 = .ok (.ifCond .ne 28, 3) := dk_154 0 28 (dk_at dksX3_port_2 4 rfl rfl)
theorem dX3_port_54 : decode cX3_port 54 = .ok (.aload_n 0, 1) := dk_42 (dk_at dksX3_port_2 7 rfl rfl)
theorem dX3_port_55 : decode cX3_port 55 = .ok (.aload_n 0, 1) := dk_42 (dk_at dksX3_port_2 8 rfl rfl)
theorem dX3_port_56 : decode cX3_port 56 = .ok (.getfield 25, 3) := dk_180 0 25 (dk_at dksX3_port_2 9 rfl rfl)
theorem dX3_port_59 : decode cX3_port 59 = .ok (.invokevirtual 40, 3) := dk_182 0 40 (dk_at dksX3_port_2 12 rfl rfl)
theorem dX3_port_62 : decode cX3_port 62 = .ok (.bipush 20, 2) := dk_16 20 (dk_at dksX3_port_2 15 rfl rfl)
theorem dX3_port_64 : decode cX3_port 64 = .ok (.if_icmp .ne 7, 3) := dk_160 0 7 (dk_at dksX3_port_2 17 rfl rfl)
theorem dX3_port_67 : decode cX3_port 67 = .ok (.iconst 1, 1) := dk_4 (dk_at dksX3_port_2 20 rfl rfl)
theorem dX3_port_68 : decode cX3_port 68 = .ok (.goto 4, 3) := dk_167 0 4 (dk_at dksX3_port_2 21 rfl rfl)
theorem dX3_port_71 : decode cX3_port 71 = .ok (.iconst 0, 1) := dk_3 (dk_at dksX3_port_3 0 rfl rfl)
theorem dX3_port_72 : decode cX3_port 72 = .ok (.iconst 3, 1) := dk_6 (dk_at dksX3_port_3 1 rfl rfl)
theorem dX3_port_73 : decode cX3_port 73 = .ok (.invokevirtual 36, 3) := dk_182 0 36 (dk_at dksX3_port_3 2 rfl rfl)
theorem dX3_port_76 : decode cX3_port 76 = .ok (.ifCond .eq 5, 3) := dk_153 0 5 (dk_at dksX3_port_3 5 rfl rfl)
theorem dX3_port_79 : decode cX3_port 79 = .ok (.iconst 0, 1) := dk_3 (dk_at dksX3_port_3 8 rfl rfl)
theorem dX3_port_80 : decode cX3_port 80 = .ok (.ireturn, 1) := dk_172 (dk_at dksX3_port_3 9 rfl rfl)
theorem dX3_port_81 : decode cX3_port 81 = .ok (.aload_n 0, 1) := dk_42 (dk_at dksX3_port_3 10 rfl rfl)
theorem dX3_port_82 : decode cX3_port 82 = .ok (.iload_n 1, 1) := dk_27 (dk_at dksX3_port_3 11 rfl rfl)
theorem dX3_port_83 : decode cX3_port 83 = .ok (.aload_n 0, 1) := dk_42 (dk_at dksX3_port_3 12 rfl rfl)
theorem dX3_port_84 : decode cX3_port 84 = .ok (.getfield 48, 3) := dk_180 0 48 (dk_at dksX3_port_3 13 rfl rfl)
theorem dX3_port_87 : decode cX3_port 87 = .ok (.invokevirtual 291, 3) := dk_182 1 35 (dk_at dksX3_port_3 16 rfl rfl)
theorem dX3_port_90 : decode cX3_port 90 = .ok (.istore 4, 2) := dk_54 4 (dk_at dksX3_port_3 19 rfl rfl)
theorem dX3_port_92 : decode cX3_port 92 = .ok (.aload_n 0, 1) := dk_42 (dk_at dksX3_port_3 21 rfl rfl)
theorem dX3_port_93 : decode cX3_port 93 = .ok (.getfield 25, 3) := dk_180 0 25 (dk_at dksX3_port_4 0 rfl rfl)
theorem dX3_port_96 : decode cX3_port 96 = .ok (.iconst 3, 1) := dk_6 (dk_at dksX3_port_4 3 rfl rfl)
theorem dX3_port_97 : decode cX3_port 97 = .ok (.newarray .int, 2) := dk_188_10 (dk_at dksX3_port_4 4 rfl rfl)
theorem dX3_port_99 : decode cX3_port 99 = .ok (.dup, 1) := dk_89 (dk_at dksX3_port_4 6 rfl rfl)
theorem dX3_port_100 : decode cX3_port 100 = .ok (.iconst 0, 1) := dk_3 (dk_at dksX3_port_4 7 rfl rfl)
theorem dX3_port_101 : decode cX3_port 101 = .ok (.iload_n 1, 1) := dk_27 (dk_at dksX3_port_4 8 rfl rfl)
theorem dX3_port_102 : decode cX3_port 102 = .ok (.iastore, 1) := dk_79 (dk_at dksX3_port_4 9 rfl rfl)
theorem dX3_port_103 : decode cX3_port 103 = .ok (.dup, 1) := dk_89 (dk_at dksX3_port_4 10 rfl rfl)
theorem dX3_port_104 : decode cX3_port 104 = .ok (.iconst 1, 1) := dk_4 (dk_at dksX3_port_4 11 rfl rfl)
theorem dX3_port_105 : decode cX3_port 105 = .ok (.aload_n 0, 1) := dk_42 (dk_at dksX3_port_4 12 rfl rfl)
theorem dX3_port_106 : decode cX3_port 106 = .ok (.getfield 48, 3) := dk_180 0 48 (dk_at dksX3_port_4 13 rfl rfl)
theorem dX3_port_109 : decode cX3_port 109 = .ok (.iload_n 3, 1) := dk_29 (dk_at dksX3_port_4 16 rfl rfl)
theorem dX3_port_110 : decode cX3_port 110 = .ok (.isub, 1) := dk_100 (dk_at dksX3_port_4 17 rfl rfl)
theorem dX3_port_111 : decode cX3_port 111 = .ok (.iastore, 1) := dk_79 (dk_at dksX3_port_4 18 rfl rfl)
theorem dX3_port_112 : decode cX3_port 112 = .ok (.dup, 1) := dk_89 (dk_at dksX3_port_4 19 rfl rfl)
theorem dX3_port_113 : decode cX3_port 113 = .ok (.iconst 2, 1) := dk_5 (dk_at dksX3_port_4 20 rfl rfl)
theorem dX3_port_114 : decode cX3_port 114 = .ok (.iload_n 2, 1) := dk_28 (dk_at dksX3_port_4 21 rfl rfl)
theorem dX3_port_115 : decode cX3_port 115 = .ok (.iastore, 1) := dk_79 (dk_at dksX3_port_4 22 rfl rfl)
theorem dX3_port_116 : decode cX3_port 116 = .ok (.invokevirtual 97, 3) := dk_182 0 97 (dk_at dksX3_port_5 0 rfl rfl)
theorem dX3_port_119 : decode cX3_port 119 = .ok (.pop, 1) := dk_87 (dk_at dksX3_port_5 3 rfl rfl)
theorem dX3_port_120 : decode cX3_port 120 = .ok (.iload 4, 2) := dk_21 4 (dk_at dksX3_port_5 4 rfl rfl)
theorem dX3_port_122 : decode cX3_port 122 = .ok (.ireturn, 1) := dk_172 (dk_at dksX3_port_5 6 rfl rfl)
abbrev cX3_carrierOf : ByteArray := prog_15_method_43_code
def yX3_carrierOf : MethodName := ⟨RX3, "carrierOf", "(II)I"⟩
def dkwX3_carrierOf_0 : List UInt8 := [42, 180, 0, 25, 27, 28, 27, 7, 112, 184, 0, 61, 172]
abbrev dktX3_carrierOf_0 : List UInt8 := dkwX3_carrierOf_0 ++ []
theorem dksX3_carrierOf_0 : cX3_carrierOf.data.toList.drop 0 = dktX3_carrierOf_0 := by decide +kernel
theorem dX3_carrierOf_0 : decode cX3_carrierOf 0 = .ok (.aload_n 0, 1) := dk_42 (dk_at dksX3_carrierOf_0 0 rfl rfl)
theorem dX3_carrierOf_1 : decode cX3_carrierOf 1 = .ok (.getfield 25, 3) := dk_180 0 25 (dk_at dksX3_carrierOf_0 1 rfl rfl)
theorem dX3_carrierOf_4 : decode cX3_carrierOf 4 = .ok (.iload_n 1, 1) := dk_27 (dk_at dksX3_carrierOf_0 4 rfl rfl)
theorem dX3_carrierOf_5 : decode cX3_carrierOf 5 = .ok (.iload_n 2, 1) := dk_28 (dk_at dksX3_carrierOf_0 5 rfl rfl)
theorem dX3_carrierOf_6 : decode cX3_carrierOf 6 = .ok (.iload_n 1, 1) := dk_27 (dk_at dksX3_carrierOf_0 6 rfl rfl)
theorem dX3_carrierOf_7 : decode cX3_carrierOf 7 = .ok (.iconst 4, 1) := dk_7 (dk_at dksX3_carrierOf_0 7 rfl rfl)
theorem dX3_carrierOf_8 : decode cX3_carrierOf 8 = .ok (.irem, 1) := dk_112 (dk_at dksX3_carrierOf_0 8 rfl rfl)
theorem dX3_carrierOf_9 : decode cX3_carrierOf 9 = .ok (.invokestatic 61, 3) := dk_184 0 61 (dk_at dksX3_carrierOf_0 9 rfl rfl)
theorem dX3_carrierOf_12 : decode cX3_carrierOf 12 = .ok (.ireturn, 1) := dk_172 (dk_at dksX3_carrierOf_0 12 rfl rfl)
abbrev cX3_incoming : ByteArray := prog_15_method_46_code
def yX3_incoming : MethodName := ⟨RX3, "incoming", "(II)I"⟩
def dkwX3_incoming_2 : List UInt8 := [42, 180, 0, 28, 27, 92, 46, 28, 96, 79, 42, 27, 182, 1, 41, 172]
abbrev dktX3_incoming_2 : List UInt8 := dkwX3_incoming_2 ++ []
def dkwX3_incoming_1 : List UInt8 := [3, 17, 39, 15, 184, 0, 44, 154, 0, 7, 4, 167, 0, 4, 3, 5, 182, 0, 36, 153, 0, 5, 3, 172]
abbrev dktX3_incoming_1 : List UInt8 := dkwX3_incoming_1 ++ dktX3_incoming_2
def dkwX3_incoming_0 : List UInt8 := [42, 27, 4, 6, 184, 0, 44, 154, 0, 7, 4, 167, 0, 4, 3, 4, 182, 0, 219, 154, 0, 27, 42, 28]
abbrev dktX3_incoming_0 : List UInt8 := dkwX3_incoming_0 ++ dktX3_incoming_1
theorem dksX3_incoming_0 : cX3_incoming.data.toList.drop 0 = dktX3_incoming_0 := by decide +kernel
theorem dksX3_incoming_1 : cX3_incoming.data.toList.drop 24 = dktX3_incoming_1 := dk_seg dksX3_incoming_0 24 rfl rfl
theorem dksX3_incoming_2 : cX3_incoming.data.toList.drop 48 = dktX3_incoming_2 := dk_seg dksX3_incoming_1 24 rfl rfl
theorem dX3_incoming_0 : decode cX3_incoming 0 = .ok (.aload_n 0, 1) := dk_42 (dk_at dksX3_incoming_0 0 rfl rfl)
theorem dX3_incoming_1 : decode cX3_incoming 1 = .ok (.iload_n 1, 1) := dk_27 (dk_at dksX3_incoming_0 1 rfl rfl)
theorem dX3_incoming_2 : decode cX3_incoming 2 = .ok (.iconst 1, 1) := dk_4 (dk_at dksX3_incoming_0 2 rfl rfl)
theorem dX3_incoming_3 : decode cX3_incoming 3 = .ok (.iconst 3, 1) := dk_6 (dk_at dksX3_incoming_0 3 rfl rfl)
theorem dX3_incoming_4 : decode cX3_incoming 4 = .ok (.invokestatic 44, 3) := dk_184 0 44 (dk_at dksX3_incoming_0 4 rfl rfl)
theorem dX3_incoming_7 : decode cX3_incoming 7 = .ok (.ifCond .ne 7, 3) := dk_154 0 7 (dk_at dksX3_incoming_0 7 rfl rfl)
theorem dX3_incoming_10 : decode cX3_incoming 10 = .ok (.iconst 1, 1) := dk_4 (dk_at dksX3_incoming_0 10 rfl rfl)
theorem dX3_incoming_11 : decode cX3_incoming 11 = .ok (.goto 4, 3) := dk_167 0 4 (dk_at dksX3_incoming_0 11 rfl rfl)
theorem dX3_incoming_14 : decode cX3_incoming 14 = .ok (.iconst 0, 1) := dk_3 (dk_at dksX3_incoming_0 14 rfl rfl)
theorem dX3_incoming_15 : decode cX3_incoming 15 = .ok (.iconst 1, 1) := dk_4 (dk_at dksX3_incoming_0 15 rfl rfl)
theorem dX3_incoming_16 : decode cX3_incoming 16 = .ok (.invokevirtual 219, 3) := dk_182 0 219 (dk_at dksX3_incoming_0 16 rfl rfl)
theorem dX3_incoming_19 : decode cX3_incoming 19 = .ok (.ifCond .ne 27, 3) := dk_154 0 27 (dk_at dksX3_incoming_0 19 rfl rfl)
theorem dX3_incoming_22 : decode cX3_incoming 22 = .ok (.aload_n 0, 1) := dk_42 (dk_at dksX3_incoming_0 22 rfl rfl)
theorem dX3_incoming_23 : decode cX3_incoming 23 = .ok (.iload_n 2, 1) := dk_28 (dk_at dksX3_incoming_0 23 rfl rfl)
theorem dX3_incoming_24 : decode cX3_incoming 24 = .ok (.iconst 0, 1) := dk_3 (dk_at dksX3_incoming_1 0 rfl rfl)
theorem dX3_incoming_25 : decode cX3_incoming 25 = .ok (.sipush 9999, 3) := dk_17 39 15 (dk_at dksX3_incoming_1 1 rfl rfl)
theorem dX3_incoming_28 : decode cX3_incoming 28 = .ok (.invokestatic 44, 3) := dk_184 0 44 (dk_at dksX3_incoming_1 4 rfl rfl)
theorem dX3_incoming_31 : decode cX3_incoming 31 = .ok (.ifCond .ne 7, 3) := dk_154 0 7 (dk_at dksX3_incoming_1 7 rfl rfl)
theorem dX3_incoming_34 : decode cX3_incoming 34 = .ok (.iconst 1, 1) := dk_4 (dk_at dksX3_incoming_1 10 rfl rfl)
theorem dX3_incoming_35 : decode cX3_incoming 35 = .ok (.goto 4, 3) := dk_167 0 4 (dk_at dksX3_incoming_1 11 rfl rfl)
theorem dX3_incoming_38 : decode cX3_incoming 38 = .ok (.iconst 0, 1) := dk_3 (dk_at dksX3_incoming_1 14 rfl rfl)
theorem dX3_incoming_39 : decode cX3_incoming 39 = .ok (.iconst 2, 1) := dk_5 (dk_at dksX3_incoming_1 15 rfl rfl)
theorem dX3_incoming_40 : decode cX3_incoming 40 = .ok (.invokevirtual 36, 3) := dk_182 0 36 (dk_at dksX3_incoming_1 16 rfl rfl)
theorem dX3_incoming_43 : decode cX3_incoming 43 = .ok (.ifCond .eq 5, 3) := dk_153 0 5 (dk_at dksX3_incoming_1 19 rfl rfl)
theorem dX3_incoming_46 : decode cX3_incoming 46 = .ok (.iconst 0, 1) := dk_3 (dk_at dksX3_incoming_1 22 rfl rfl)
theorem dX3_incoming_47 : decode cX3_incoming 47 = .ok (.ireturn, 1) := dk_172 (dk_at dksX3_incoming_1 23 rfl rfl)
theorem dX3_incoming_48 : decode cX3_incoming 48 = .ok (.aload_n 0, 1) := dk_42 (dk_at dksX3_incoming_2 0 rfl rfl)
theorem dX3_incoming_49 : decode cX3_incoming 49 = .ok (.getfield 28, 3) := dk_180 0 28 (dk_at dksX3_incoming_2 1 rfl rfl)
theorem dX3_incoming_52 : decode cX3_incoming 52 = .ok (.iload_n 1, 1) := dk_27 (dk_at dksX3_incoming_2 4 rfl rfl)
theorem dX3_incoming_53 : decode cX3_incoming 53 = .ok (.dup2, 1) := dk_92 (dk_at dksX3_incoming_2 5 rfl rfl)
theorem dX3_incoming_54 : decode cX3_incoming 54 = .ok (.iaload, 1) := dk_46 (dk_at dksX3_incoming_2 6 rfl rfl)
theorem dX3_incoming_55 : decode cX3_incoming 55 = .ok (.iload_n 2, 1) := dk_28 (dk_at dksX3_incoming_2 7 rfl rfl)
theorem dX3_incoming_56 : decode cX3_incoming 56 = .ok (.iadd, 1) := dk_96 (dk_at dksX3_incoming_2 8 rfl rfl)
theorem dX3_incoming_57 : decode cX3_incoming 57 = .ok (.iastore, 1) := dk_79 (dk_at dksX3_incoming_2 9 rfl rfl)
theorem dX3_incoming_58 : decode cX3_incoming 58 = .ok (.aload_n 0, 1) := dk_42 (dk_at dksX3_incoming_2 10 rfl rfl)
theorem dX3_incoming_59 : decode cX3_incoming 59 = .ok (.iload_n 1, 1) := dk_27 (dk_at dksX3_incoming_2 11 rfl rfl)
theorem dX3_incoming_60 : decode cX3_incoming 60 = .ok (.invokevirtual 297, 3) := dk_182 1 41 (dk_at dksX3_incoming_2 12 rfl rfl)
theorem dX3_incoming_63 : decode cX3_incoming 63 = .ok (.ireturn, 1) := dk_172 (dk_at dksX3_incoming_2 15 rfl rfl)
abbrev cX3_settled : ByteArray := prog_15_method_45_code
def yX3_settled : MethodName := ⟨RX3, "settled", "(I)I"⟩
def dkwX3_settled_3 : List UInt8 := [180, 0, 145, 16, 59, 96, 16, 60, 108, 96, 61, 167, 255, 191, 28, 172]
abbrev dktX3_settled_3 : List UInt8 := dkwX3_settled_3 ++ []
def dkwX3_settled_2 : List UInt8 := [153, 0, 35, 42, 25, 4, 180, 0, 148, 25, 4, 180, 0, 118, 182, 1, 35, 27, 160, 0, 17, 28, 25, 4]
abbrev dktX3_settled_2 : List UInt8 := dkwX3_settled_2 ++ dktX3_settled_3
def dkwX3_settled_1 : List UInt8 := [153, 0, 62, 45, 185, 0, 203, 1, 0, 192, 0, 73, 58, 4, 25, 4, 25, 4, 180, 0, 142, 182, 1, 38]
abbrev dktX3_settled_1 : List UInt8 := dkwX3_settled_1 ++ dktX3_settled_2
def dkwX3_settled_0 : List UInt8 := [42, 180, 0, 28, 27, 46, 116, 61, 42, 180, 0, 22, 182, 0, 193, 78, 45, 185, 0, 197, 1, 0]
abbrev dktX3_settled_0 : List UInt8 := dkwX3_settled_0 ++ dktX3_settled_1
theorem dksX3_settled_0 : cX3_settled.data.toList.drop 0 = dktX3_settled_0 := by decide +kernel
theorem dksX3_settled_1 : cX3_settled.data.toList.drop 22 = dktX3_settled_1 := dk_seg dksX3_settled_0 22 rfl rfl
theorem dksX3_settled_2 : cX3_settled.data.toList.drop 46 = dktX3_settled_2 := dk_seg dksX3_settled_1 24 rfl rfl
theorem dksX3_settled_3 : cX3_settled.data.toList.drop 70 = dktX3_settled_3 := dk_seg dksX3_settled_2 24 rfl rfl
theorem dX3_settled_0 : decode cX3_settled 0 = .ok (.aload_n 0, 1) := dk_42 (dk_at dksX3_settled_0 0 rfl rfl)
theorem dX3_settled_1 : decode cX3_settled 1 = .ok (.getfield 28, 3) := dk_180 0 28 (dk_at dksX3_settled_0 1 rfl rfl)
theorem dX3_settled_4 : decode cX3_settled 4 = .ok (.iload_n 1, 1) := dk_27 (dk_at dksX3_settled_0 4 rfl rfl)
theorem dX3_settled_5 : decode cX3_settled 5 = .ok (.iaload, 1) := dk_46 (dk_at dksX3_settled_0 5 rfl rfl)
theorem dX3_settled_6 : decode cX3_settled 6 = .ok (.ineg, 1) := dk_116 (dk_at dksX3_settled_0 6 rfl rfl)
theorem dX3_settled_7 : decode cX3_settled 7 = .ok (.istore_n 2, 1) := dk_61 (dk_at dksX3_settled_0 7 rfl rfl)
theorem dX3_settled_8 : decode cX3_settled 8 = .ok (.aload_n 0, 1) := dk_42 (dk_at dksX3_settled_0 8 rfl rfl)
theorem dX3_settled_9 : decode cX3_settled 9 = .ok (.getfield 22, 3) := dk_180 0 22 (dk_at dksX3_settled_0 9 rfl rfl)
theorem dX3_settled_12 : decode cX3_settled 12 = .ok (.invokevirtual 193, 3) := dk_182 0 193 (dk_at dksX3_settled_0 12 rfl rfl)
theorem dX3_settled_15 : decode cX3_settled 15 = .ok (.astore_n 3, 1) := dk_78 (dk_at dksX3_settled_0 15 rfl rfl)
theorem dX3_settled_16 : decode cX3_settled 16 = .ok (.aload_n 3, 1) := dk_45 (dk_at dksX3_settled_0 16 rfl rfl)
theorem dX3_settled_17 : decode cX3_settled 17 = .ok (.invokeinterface 197 1, 5) := by decide +kernel
theorem dX3_settled_22 : decode cX3_settled 22 = .ok (.ifCond .eq 62, 3) := dk_153 0 62 (dk_at dksX3_settled_1 0 rfl rfl)
theorem dX3_settled_25 : decode cX3_settled 25 = .ok (.aload_n 3, 1) := dk_45 (dk_at dksX3_settled_1 3 rfl rfl)
theorem dX3_settled_26 : decode cX3_settled 26 = .ok (.invokeinterface 203 1, 5) := by decide +kernel
theorem dX3_settled_31 : decode cX3_settled 31 = .ok (.checkcast 73, 3) := dk_192 0 73 (dk_at dksX3_settled_1 9 rfl rfl)
theorem dX3_settled_34 : decode cX3_settled 34 = .ok (.astore 4, 2) := dk_58 4 (dk_at dksX3_settled_1 12 rfl rfl)
theorem dX3_settled_36 : decode cX3_settled 36 = .ok (.aload 4, 2) := dk_25 4 (dk_at dksX3_settled_1 14 rfl rfl)
theorem dX3_settled_38 : decode cX3_settled 38 = .ok (.aload 4, 2) := dk_25 4 (dk_at dksX3_settled_1 16 rfl rfl)
theorem dX3_settled_40 : decode cX3_settled 40 = .ok (.getfield 142, 3) := dk_180 0 142 (dk_at dksX3_settled_1 18 rfl rfl)
theorem dX3_settled_43 : decode cX3_settled 43 = .ok (.invokevirtual 294, 3) := dk_182 1 38 (dk_at dksX3_settled_1 21 rfl rfl)
theorem dX3_settled_46 : decode cX3_settled 46 = .ok (.ifCond .eq 35, 3) := dk_153 0 35 (dk_at dksX3_settled_2 0 rfl rfl)
theorem dX3_settled_49 : decode cX3_settled 49 = .ok (.aload_n 0, 1) := dk_42 (dk_at dksX3_settled_2 3 rfl rfl)
theorem dX3_settled_50 : decode cX3_settled 50 = .ok (.aload 4, 2) := dk_25 4 (dk_at dksX3_settled_2 4 rfl rfl)
theorem dX3_settled_52 : decode cX3_settled 52 = .ok (.getfield 148, 3) := dk_180 0 148 (dk_at dksX3_settled_2 6 rfl rfl)
theorem dX3_settled_55 : decode cX3_settled 55 = .ok (.aload 4, 2) := dk_25 4 (dk_at dksX3_settled_2 9 rfl rfl)
theorem dX3_settled_57 : decode cX3_settled 57 = .ok (.getfield 118, 3) := dk_180 0 118 (dk_at dksX3_settled_2 11 rfl rfl)
theorem dX3_settled_60 : decode cX3_settled 60 = .ok (.invokevirtual 291, 3) := dk_182 1 35 (dk_at dksX3_settled_2 14 rfl rfl)
theorem dX3_settled_63 : decode cX3_settled 63 = .ok (.iload_n 1, 1) := dk_27 (dk_at dksX3_settled_2 17 rfl rfl)
theorem dX3_settled_64 : decode cX3_settled 64 = .ok (.if_icmp .ne 17, 3) := dk_160 0 17 (dk_at dksX3_settled_2 18 rfl rfl)
theorem dX3_settled_67 : decode cX3_settled 67 = .ok (.iload_n 2, 1) := dk_28 (dk_at dksX3_settled_2 21 rfl rfl)
theorem dX3_settled_68 : decode cX3_settled 68 = .ok (.aload 4, 2) := dk_25 4 (dk_at dksX3_settled_2 22 rfl rfl)
theorem dX3_settled_70 : decode cX3_settled 70 = .ok (.getfield 145, 3) := dk_180 0 145 (dk_at dksX3_settled_3 0 rfl rfl)
theorem dX3_settled_73 : decode cX3_settled 73 = .ok (.bipush 59, 2) := dk_16 59 (dk_at dksX3_settled_3 3 rfl rfl)
theorem dX3_settled_75 : decode cX3_settled 75 = .ok (.iadd, 1) := dk_96 (dk_at dksX3_settled_3 5 rfl rfl)
theorem dX3_settled_76 : decode cX3_settled 76 = .ok (.bipush 60, 2) := dk_16 60 (dk_at dksX3_settled_3 6 rfl rfl)
theorem dX3_settled_78 : decode cX3_settled 78 = .ok (.idiv, 1) := dk_108 (dk_at dksX3_settled_3 8 rfl rfl)
theorem dX3_settled_79 : decode cX3_settled 79 = .ok (.iadd, 1) := dk_96 (dk_at dksX3_settled_3 9 rfl rfl)
theorem dX3_settled_80 : decode cX3_settled 80 = .ok (.istore_n 2, 1) := dk_61 (dk_at dksX3_settled_3 10 rfl rfl)
theorem dX3_settled_81 : decode cX3_settled 81 = .ok (.goto (-65), 3) := dk_167 255 191 (dk_at dksX3_settled_3 11 rfl rfl)
theorem dX3_settled_84 : decode cX3_settled 84 = .ok (.iload_n 2, 1) := dk_28 (dk_at dksX3_settled_3 14 rfl rfl)
theorem dX3_settled_85 : decode cX3_settled 85 = .ok (.ireturn, 1) := dk_172 (dk_at dksX3_settled_3 15 rfl rfl)
abbrev cX3_ofDay : ByteArray := prog_15_method_48_code
def yX3_ofDay : MethodName := ⟨RX3, "ofDay", "(III)I"⟩
def dkwX3_ofDay_2 : List UInt8 := [3, 167, 0, 18, 42, 42, 28, 2, 2, 1, 182, 0, 132, 27, 28, 29, 182, 1, 44, 172]
abbrev dktX3_ofDay_2 : List UInt8 := dkwX3_ofDay_2 ++ []
def dkwX3_ofDay_1 : List UInt8 := [153, 0, 12, 29, 3, 6, 184, 0, 44, 154, 0, 7, 4, 167, 0, 4, 3, 5, 182, 0, 36, 153, 0, 7]
abbrev dktX3_ofDay_1 : List UInt8 := dkwX3_ofDay_1 ++ dktX3_ofDay_2
def dkwX3_ofDay_0 : List UInt8 := [42, 42, 27, 182, 0, 243, 4, 182, 0, 219, 154, 0, 37, 42, 28, 3, 42, 180, 0, 48, 184, 0, 44]
abbrev dktX3_ofDay_0 : List UInt8 := dkwX3_ofDay_0 ++ dktX3_ofDay_1
theorem dksX3_ofDay_0 : cX3_ofDay.data.toList.drop 0 = dktX3_ofDay_0 := by decide +kernel
theorem dksX3_ofDay_1 : cX3_ofDay.data.toList.drop 23 = dktX3_ofDay_1 := dk_seg dksX3_ofDay_0 23 rfl rfl
theorem dksX3_ofDay_2 : cX3_ofDay.data.toList.drop 47 = dktX3_ofDay_2 := dk_seg dksX3_ofDay_1 24 rfl rfl
theorem dX3_ofDay_0 : decode cX3_ofDay 0 = .ok (.aload_n 0, 1) := dk_42 (dk_at dksX3_ofDay_0 0 rfl rfl)
theorem dX3_ofDay_1 : decode cX3_ofDay 1 = .ok (.aload_n 0, 1) := dk_42 (dk_at dksX3_ofDay_0 1 rfl rfl)
theorem dX3_ofDay_2 : decode cX3_ofDay 2 = .ok (.iload_n 1, 1) := dk_27 (dk_at dksX3_ofDay_0 2 rfl rfl)
theorem dX3_ofDay_3 : decode cX3_ofDay 3 = .ok (.invokevirtual 243, 3) := dk_182 0 243 (dk_at dksX3_ofDay_0 3 rfl rfl)
theorem dX3_ofDay_6 : decode cX3_ofDay 6 = .ok (.iconst 1, 1) := dk_4 (dk_at dksX3_ofDay_0 6 rfl rfl)
theorem dX3_ofDay_7 : decode cX3_ofDay 7 = .ok (.invokevirtual 219, 3) := dk_182 0 219 (dk_at dksX3_ofDay_0 7 rfl rfl)
theorem dX3_ofDay_10 : decode cX3_ofDay 10 = .ok (.ifCond .ne 37, 3) := dk_154 0 37 (dk_at dksX3_ofDay_0 10 rfl rfl)
theorem dX3_ofDay_13 : decode cX3_ofDay 13 = .ok (.aload_n 0, 1) := dk_42 (dk_at dksX3_ofDay_0 13 rfl rfl)
theorem dX3_ofDay_14 : decode cX3_ofDay 14 = .ok (.iload_n 2, 1) := dk_28 (dk_at dksX3_ofDay_0 14 rfl rfl)
theorem dX3_ofDay_15 : decode cX3_ofDay 15 = .ok (.iconst 0, 1) := dk_3 (dk_at dksX3_ofDay_0 15 rfl rfl)
theorem dX3_ofDay_16 : decode cX3_ofDay 16 = .ok (.aload_n 0, 1) := dk_42 (dk_at dksX3_ofDay_0 16 rfl rfl)
theorem dX3_ofDay_17 : decode cX3_ofDay 17 = .ok (.getfield 48, 3) := dk_180 0 48 (dk_at dksX3_ofDay_0 17 rfl rfl)
theorem dX3_ofDay_20 : decode cX3_ofDay 20 = .ok (.invokestatic 44, 3) := dk_184 0 44 (dk_at dksX3_ofDay_0 20 rfl rfl)
theorem dX3_ofDay_23 : decode cX3_ofDay 23 = .ok (.ifCond .eq 12, 3) := dk_153 0 12 (dk_at dksX3_ofDay_1 0 rfl rfl)
theorem dX3_ofDay_26 : decode cX3_ofDay 26 = .ok (.iload_n 3, 1) := dk_29 (dk_at dksX3_ofDay_1 3 rfl rfl)
theorem dX3_ofDay_27 : decode cX3_ofDay 27 = .ok (.iconst 0, 1) := dk_3 (dk_at dksX3_ofDay_1 4 rfl rfl)
theorem dX3_ofDay_28 : decode cX3_ofDay 28 = .ok (.iconst 3, 1) := dk_6 (dk_at dksX3_ofDay_1 5 rfl rfl)
theorem dX3_ofDay_29 : decode cX3_ofDay 29 = .ok (.invokestatic 44, 3) := dk_184 0 44 (dk_at dksX3_ofDay_1 6 rfl rfl)
theorem dX3_ofDay_32 : decode cX3_ofDay 32 = .ok (.ifCond .ne 7, 3) := dk_154 0 7 (dk_at dksX3_ofDay_1 9 rfl rfl)
theorem dX3_ofDay_35 : decode cX3_ofDay 35 = .ok (.iconst 1, 1) := dk_4 (dk_at dksX3_ofDay_1 12 rfl rfl)
theorem dX3_ofDay_36 : decode cX3_ofDay 36 = .ok (.goto 4, 3) := dk_167 0 4 (dk_at dksX3_ofDay_1 13 rfl rfl)
theorem dX3_ofDay_39 : decode cX3_ofDay 39 = .ok (.iconst 0, 1) := dk_3 (dk_at dksX3_ofDay_1 16 rfl rfl)
theorem dX3_ofDay_40 : decode cX3_ofDay 40 = .ok (.iconst 2, 1) := dk_5 (dk_at dksX3_ofDay_1 17 rfl rfl)
theorem dX3_ofDay_41 : decode cX3_ofDay 41 = .ok (.invokevirtual 36, 3) := dk_182 0 36 (dk_at dksX3_ofDay_1 18 rfl rfl)
theorem dX3_ofDay_44 : decode cX3_ofDay 44 = .ok (.ifCond .eq 7, 3) := dk_153 0 7 (dk_at dksX3_ofDay_1 21 rfl rfl)
theorem dX3_ofDay_47 : decode cX3_ofDay 47 = .ok (.iconst 0, 1) := dk_3 (dk_at dksX3_ofDay_2 0 rfl rfl)
theorem dX3_ofDay_48 : decode cX3_ofDay 48 = .ok (.goto 18, 3) := dk_167 0 18 (dk_at dksX3_ofDay_2 1 rfl rfl)
theorem dX3_ofDay_51 : decode cX3_ofDay 51 = .ok (.aload_n 0, 1) := dk_42 (dk_at dksX3_ofDay_2 4 rfl rfl)
theorem dX3_ofDay_52 : decode cX3_ofDay 52 = .ok (.aload_n 0, 1) := dk_42 (dk_at dksX3_ofDay_2 5 rfl rfl)
theorem dX3_ofDay_53 : decode cX3_ofDay 53 = .ok (.iload_n 2, 1) := dk_28 (dk_at dksX3_ofDay_2 6 rfl rfl)
theorem dX3_ofDay_54 : decode cX3_ofDay 54 = .ok (.iconst (-1), 1) := dk_2 (dk_at dksX3_ofDay_2 7 rfl rfl)
theorem dX3_ofDay_55 : decode cX3_ofDay 55 = .ok (.iconst (-1), 1) := dk_2 (dk_at dksX3_ofDay_2 8 rfl rfl)
theorem dX3_ofDay_56 : decode cX3_ofDay 56 = .ok (.aconst_null, 1) := dk_1 (dk_at dksX3_ofDay_2 9 rfl rfl)
theorem dX3_ofDay_57 : decode cX3_ofDay 57 = .ok (.invokevirtual 132, 3) := dk_182 0 132 (dk_at dksX3_ofDay_2 10 rfl rfl)
theorem dX3_ofDay_60 : decode cX3_ofDay 60 = .ok (.iload_n 1, 1) := dk_27 (dk_at dksX3_ofDay_2 13 rfl rfl)
theorem dX3_ofDay_61 : decode cX3_ofDay 61 = .ok (.iload_n 2, 1) := dk_28 (dk_at dksX3_ofDay_2 14 rfl rfl)
theorem dX3_ofDay_62 : decode cX3_ofDay 62 = .ok (.iload_n 3, 1) := dk_29 (dk_at dksX3_ofDay_2 15 rfl rfl)
theorem dX3_ofDay_63 : decode cX3_ofDay 63 = .ok (.invokevirtual 300, 3) := dk_182 1 44 (dk_at dksX3_ofDay_2 16 rfl rfl)
theorem dX3_ofDay_66 : decode cX3_ofDay 66 = .ok (.ireturn, 1) := dk_172 (dk_at dksX3_ofDay_2 19 rfl rfl)
abbrev cX3_dayTold : ByteArray := prog_15_method_47_code
def yX3_dayTold : MethodName := ⟨RX3, "dayTold", "(LRolloverModel$Book;III)I"⟩
def dkwX3_dayTold_6 : List UInt8 := [21, 6, 167, 0, 5, 21, 7, 172]
abbrev dktX3_dayTold_6 : List UInt8 := dkwX3_dayTold_6 ++ []
def dkwX3_dayTold_5 : List UInt8 := [46, 96, 54, 7, 167, 255, 169, 21, 4, 4, 160, 0, 8, 21, 5, 167, 0, 16, 21, 4, 5, 160, 0, 8]
abbrev dktX3_dayTold_5 : List UInt8 := dkwX3_dayTold_5 ++ dktX3_dayTold_6
def dkwX3_dayTold_4 : List UInt8 := [4, 167, 0, 4, 3, 184, 0, 78, 96, 54, 6, 25, 9, 5, 46, 29, 160, 0, 12, 21, 7, 25, 9, 4]
abbrev dktX3_dayTold_4 : List UInt8 := dkwX3_dayTold_4 ++ dktX3_dayTold_5
def dkwX3_dayTold_3 : List UInt8 := [162, 0, 6, 167, 255, 218, 21, 5, 25, 9, 4, 46, 96, 54, 5, 21, 6, 25, 9, 4, 46, 158, 0, 7]
abbrev dktX3_dayTold_3 : List UInt8 := dkwX3_dayTold_3 ++ dktX3_dayTold_4
def dkwX3_dayTold_2 : List UInt8 := [185, 0, 203, 1, 0, 192, 0, 60, 58, 9, 25, 9, 3, 46, 28, 160, 255, 229, 25, 9, 5, 46, 29]
abbrev dktX3_dayTold_2 : List UInt8 := dkwX3_dayTold_2 ++ dktX3_dayTold_3
def dkwX3_dayTold_1 : List UInt8 := [180, 0, 88, 182, 0, 193, 58, 8, 25, 8, 185, 0, 197, 1, 0, 153, 0, 83, 25, 8]
abbrev dktX3_dayTold_1 : List UInt8 := dkwX3_dayTold_1 ++ dktX3_dayTold_2
def dkwX3_dayTold_0 : List UInt8 := [21, 4, 154, 0, 11, 42, 43, 28, 29, 182, 0, 82, 172, 3, 54, 5, 3, 54, 6, 3, 54, 7, 43]
abbrev dktX3_dayTold_0 : List UInt8 := dkwX3_dayTold_0 ++ dktX3_dayTold_1
theorem dksX3_dayTold_0 : cX3_dayTold.data.toList.drop 0 = dktX3_dayTold_0 := by decide +kernel
theorem dksX3_dayTold_1 : cX3_dayTold.data.toList.drop 23 = dktX3_dayTold_1 := dk_seg dksX3_dayTold_0 23 rfl rfl
theorem dksX3_dayTold_2 : cX3_dayTold.data.toList.drop 43 = dktX3_dayTold_2 := dk_seg dksX3_dayTold_1 20 rfl rfl
theorem dksX3_dayTold_3 : cX3_dayTold.data.toList.drop 66 = dktX3_dayTold_3 := dk_seg dksX3_dayTold_2 23 rfl rfl
theorem dksX3_dayTold_4 : cX3_dayTold.data.toList.drop 90 = dktX3_dayTold_4 := dk_seg dksX3_dayTold_3 24 rfl rfl
theorem dksX3_dayTold_5 : cX3_dayTold.data.toList.drop 114 = dktX3_dayTold_5 := dk_seg dksX3_dayTold_4 24 rfl rfl
theorem dksX3_dayTold_6 : cX3_dayTold.data.toList.drop 138 = dktX3_dayTold_6 := dk_seg dksX3_dayTold_5 24 rfl rfl
theorem dX3_dayTold_0 : decode cX3_dayTold 0 = .ok (.iload 4, 2) := dk_21 4 (dk_at dksX3_dayTold_0 0 rfl rfl)
theorem dX3_dayTold_2 : decode cX3_dayTold 2 = .ok (.ifCond .ne 11, 3) := dk_154 0 11 (dk_at dksX3_dayTold_0 2 rfl rfl)
theorem dX3_dayTold_5 : decode cX3_dayTold 5 = .ok (.aload_n 0, 1) := dk_42 (dk_at dksX3_dayTold_0 5 rfl rfl)
theorem dX3_dayTold_6 : decode cX3_dayTold 6 = .ok (.aload_n 1, 1) := dk_43 (dk_at dksX3_dayTold_0 6 rfl rfl)
theorem dX3_dayTold_7 : decode cX3_dayTold 7 = .ok (.iload_n 2, 1) := dk_28 (dk_at dksX3_dayTold_0 7 rfl rfl)
theorem dX3_dayTold_8 : decode cX3_dayTold 8 = .ok (.iload_n 3, 1) := dk_29 (dk_at dksX3_dayTold_0 8 rfl rfl)
theorem dX3_dayTold_9 : decode cX3_dayTold 9 = .ok (.invokevirtual 82, 3) := dk_182 0 82 (dk_at dksX3_dayTold_0 9 rfl rfl)
theorem dX3_dayTold_12 : decode cX3_dayTold 12 = .ok (.ireturn, 1) := dk_172 (dk_at dksX3_dayTold_0 12 rfl rfl)
theorem dX3_dayTold_13 : decode cX3_dayTold 13 = .ok (.iconst 0, 1) := dk_3 (dk_at dksX3_dayTold_0 13 rfl rfl)
theorem dX3_dayTold_14 : decode cX3_dayTold 14 = .ok (.istore 5, 2) := dk_54 5 (dk_at dksX3_dayTold_0 14 rfl rfl)
theorem dX3_dayTold_16 : decode cX3_dayTold 16 = .ok (.iconst 0, 1) := dk_3 (dk_at dksX3_dayTold_0 16 rfl rfl)
theorem dX3_dayTold_17 : decode cX3_dayTold 17 = .ok (.istore 6, 2) := dk_54 6 (dk_at dksX3_dayTold_0 17 rfl rfl)
theorem dX3_dayTold_19 : decode cX3_dayTold 19 = .ok (.iconst 0, 1) := dk_3 (dk_at dksX3_dayTold_0 19 rfl rfl)
theorem dX3_dayTold_20 : decode cX3_dayTold 20 = .ok (.istore 7, 2) := dk_54 7 (dk_at dksX3_dayTold_0 20 rfl rfl)
theorem dX3_dayTold_22 : decode cX3_dayTold 22 = .ok (.aload_n 1, 1) := dk_43 (dk_at dksX3_dayTold_0 22 rfl rfl)
theorem dX3_dayTold_23 : decode cX3_dayTold 23 = .ok (.getfield 88, 3) := dk_180 0 88 (dk_at dksX3_dayTold_1 0 rfl rfl)
theorem dX3_dayTold_26 : decode cX3_dayTold 26 = .ok (.invokevirtual 193, 3) := dk_182 0 193 (dk_at dksX3_dayTold_1 3 rfl rfl)
theorem dX3_dayTold_29 : decode cX3_dayTold 29 = .ok (.astore 8, 2) := dk_58 8 (dk_at dksX3_dayTold_1 6 rfl rfl)
theorem dX3_dayTold_31 : decode cX3_dayTold 31 = .ok (.aload 8, 2) := dk_25 8 (dk_at dksX3_dayTold_1 8 rfl rfl)
theorem dX3_dayTold_33 : decode cX3_dayTold 33 = .ok (.invokeinterface 197 1, 5) := by decide +kernel
theorem dX3_dayTold_38 : decode cX3_dayTold 38 = .ok (.ifCond .eq 83, 3) := dk_153 0 83 (dk_at dksX3_dayTold_1 15 rfl rfl)
theorem dX3_dayTold_41 : decode cX3_dayTold 41 = .ok (.aload 8, 2) := dk_25 8 (dk_at dksX3_dayTold_1 18 rfl rfl)
theorem dX3_dayTold_43 : decode cX3_dayTold 43 = .ok (.invokeinterface 203 1, 5) := by decide +kernel
theorem dX3_dayTold_48 : decode cX3_dayTold 48 = .ok (.checkcast 60, 3) := dk_192 0 60 (dk_at dksX3_dayTold_2 5 rfl rfl)
theorem dX3_dayTold_51 : decode cX3_dayTold 51 = .ok (.astore 9, 2) := dk_58 9 (dk_at dksX3_dayTold_2 8 rfl rfl)
theorem dX3_dayTold_53 : decode cX3_dayTold 53 = .ok (.aload 9, 2) := dk_25 9 (dk_at dksX3_dayTold_2 10 rfl rfl)
theorem dX3_dayTold_55 : decode cX3_dayTold 55 = .ok (.iconst 0, 1) := dk_3 (dk_at dksX3_dayTold_2 12 rfl rfl)
theorem dX3_dayTold_56 : decode cX3_dayTold 56 = .ok (.iaload, 1) := dk_46 (dk_at dksX3_dayTold_2 13 rfl rfl)
theorem dX3_dayTold_57 : decode cX3_dayTold 57 = .ok (.iload_n 2, 1) := dk_28 (dk_at dksX3_dayTold_2 14 rfl rfl)
theorem dX3_dayTold_58 : decode cX3_dayTold 58 = .ok (.if_icmp .ne (-27), 3) := dk_160 255 229 (dk_at dksX3_dayTold_2 15 rfl rfl)
theorem dX3_dayTold_61 : decode cX3_dayTold 61 = .ok (.aload 9, 2) := dk_25 9 (dk_at dksX3_dayTold_2 18 rfl rfl)
theorem dX3_dayTold_63 : decode cX3_dayTold 63 = .ok (.iconst 2, 1) := dk_5 (dk_at dksX3_dayTold_2 20 rfl rfl)
theorem dX3_dayTold_64 : decode cX3_dayTold 64 = .ok (.iaload, 1) := dk_46 (dk_at dksX3_dayTold_2 21 rfl rfl)
theorem dX3_dayTold_65 : decode cX3_dayTold 65 = .ok (.iload_n 3, 1) := dk_29 (dk_at dksX3_dayTold_2 22 rfl rfl)
theorem dX3_dayTold_66 : decode cX3_dayTold 66 = .ok (.if_icmp .ge 6, 3) := dk_162 0 6 (dk_at dksX3_dayTold_3 0 rfl rfl)
theorem dX3_dayTold_69 : decode cX3_dayTold 69 = .ok (.goto (-38), 3) := dk_167 255 218 (dk_at dksX3_dayTold_3 3 rfl rfl)
theorem dX3_dayTold_72 : decode cX3_dayTold 72 = .ok (.iload 5, 2) := dk_21 5 (dk_at dksX3_dayTold_3 6 rfl rfl)
theorem dX3_dayTold_74 : decode cX3_dayTold 74 = .ok (.aload 9, 2) := dk_25 9 (dk_at dksX3_dayTold_3 8 rfl rfl)
theorem dX3_dayTold_76 : decode cX3_dayTold 76 = .ok (.iconst 1, 1) := dk_4 (dk_at dksX3_dayTold_3 10 rfl rfl)
theorem dX3_dayTold_77 : decode cX3_dayTold 77 = .ok (.iaload, 1) := dk_46 (dk_at dksX3_dayTold_3 11 rfl rfl)
theorem dX3_dayTold_78 : decode cX3_dayTold 78 = .ok (.iadd, 1) := dk_96 (dk_at dksX3_dayTold_3 12 rfl rfl)
theorem dX3_dayTold_79 : decode cX3_dayTold 79 = .ok (.istore 5, 2) := dk_54 5 (dk_at dksX3_dayTold_3 13 rfl rfl)
theorem dX3_dayTold_81 : decode cX3_dayTold 81 = .ok (.iload 6, 2) := dk_21 6 (dk_at dksX3_dayTold_3 15 rfl rfl)
theorem dX3_dayTold_83 : decode cX3_dayTold 83 = .ok (.aload 9, 2) := dk_25 9 (dk_at dksX3_dayTold_3 17 rfl rfl)
theorem dX3_dayTold_85 : decode cX3_dayTold 85 = .ok (.iconst 1, 1) := dk_4 (dk_at dksX3_dayTold_3 19 rfl rfl)
theorem dX3_dayTold_86 : decode cX3_dayTold 86 = .ok (.iaload, 1) := dk_46 (dk_at dksX3_dayTold_3 20 rfl rfl)
theorem dX3_dayTold_87 : decode cX3_dayTold 87 = .ok (.ifCond .le 7, 3) := dk_158 0 7 (dk_at dksX3_dayTold_3 21 rfl rfl)
theorem dX3_dayTold_90 : decode cX3_dayTold 90 = .ok (.iconst 1, 1) := dk_4 (dk_at dksX3_dayTold_4 0 rfl rfl)
theorem dX3_dayTold_91 : decode cX3_dayTold 91 = .ok (.goto 4, 3) := dk_167 0 4 (dk_at dksX3_dayTold_4 1 rfl rfl)
theorem dX3_dayTold_94 : decode cX3_dayTold 94 = .ok (.iconst 0, 1) := dk_3 (dk_at dksX3_dayTold_4 4 rfl rfl)
theorem dX3_dayTold_95 : decode cX3_dayTold 95 = .ok (.invokestatic 78, 3) := dk_184 0 78 (dk_at dksX3_dayTold_4 5 rfl rfl)
theorem dX3_dayTold_98 : decode cX3_dayTold 98 = .ok (.iadd, 1) := dk_96 (dk_at dksX3_dayTold_4 8 rfl rfl)
theorem dX3_dayTold_99 : decode cX3_dayTold 99 = .ok (.istore 6, 2) := dk_54 6 (dk_at dksX3_dayTold_4 9 rfl rfl)
theorem dX3_dayTold_101 : decode cX3_dayTold 101 = .ok (.aload 9, 2) := dk_25 9 (dk_at dksX3_dayTold_4 11 rfl rfl)
theorem dX3_dayTold_103 : decode cX3_dayTold 103 = .ok (.iconst 2, 1) := dk_5 (dk_at dksX3_dayTold_4 13 rfl rfl)
theorem dX3_dayTold_104 : decode cX3_dayTold 104 = .ok (.iaload, 1) := dk_46 (dk_at dksX3_dayTold_4 14 rfl rfl)
theorem dX3_dayTold_105 : decode cX3_dayTold 105 = .ok (.iload_n 3, 1) := dk_29 (dk_at dksX3_dayTold_4 15 rfl rfl)
theorem dX3_dayTold_106 : decode cX3_dayTold 106 = .ok (.if_icmp .ne 12, 3) := dk_160 0 12 (dk_at dksX3_dayTold_4 16 rfl rfl)
theorem dX3_dayTold_109 : decode cX3_dayTold 109 = .ok (.iload 7, 2) := dk_21 7 (dk_at dksX3_dayTold_4 19 rfl rfl)
theorem dX3_dayTold_111 : decode cX3_dayTold 111 = .ok (.aload 9, 2) := dk_25 9 (dk_at dksX3_dayTold_4 21 rfl rfl)
theorem dX3_dayTold_113 : decode cX3_dayTold 113 = .ok (.iconst 1, 1) := dk_4 (dk_at dksX3_dayTold_4 23 rfl rfl)
theorem dX3_dayTold_114 : decode cX3_dayTold 114 = .ok (.iaload, 1) := dk_46 (dk_at dksX3_dayTold_5 0 rfl rfl)
theorem dX3_dayTold_115 : decode cX3_dayTold 115 = .ok (.iadd, 1) := dk_96 (dk_at dksX3_dayTold_5 1 rfl rfl)
theorem dX3_dayTold_116 : decode cX3_dayTold 116 = .ok (.istore 7, 2) := dk_54 7 (dk_at dksX3_dayTold_5 2 rfl rfl)
theorem dX3_dayTold_118 : decode cX3_dayTold 118 = .ok (.goto (-87), 3) := dk_167 255 169 (dk_at dksX3_dayTold_5 4 rfl rfl)
theorem dX3_dayTold_121 : decode cX3_dayTold 121 = .ok (.iload 4, 2) := dk_21 4 (dk_at dksX3_dayTold_5 7 rfl rfl)
theorem dX3_dayTold_123 : decode cX3_dayTold 123 = .ok (.iconst 1, 1) := dk_4 (dk_at dksX3_dayTold_5 9 rfl rfl)
theorem dX3_dayTold_124 : decode cX3_dayTold 124 = .ok (.if_icmp .ne 8, 3) := dk_160 0 8 (dk_at dksX3_dayTold_5 10 rfl rfl)
theorem dX3_dayTold_127 : decode cX3_dayTold 127 = .ok (.iload 5, 2) := dk_21 5 (dk_at dksX3_dayTold_5 13 rfl rfl)
theorem dX3_dayTold_129 : decode cX3_dayTold 129 = .ok (.goto 16, 3) := dk_167 0 16 (dk_at dksX3_dayTold_5 15 rfl rfl)
theorem dX3_dayTold_132 : decode cX3_dayTold 132 = .ok (.iload 4, 2) := dk_21 4 (dk_at dksX3_dayTold_5 18 rfl rfl)
theorem dX3_dayTold_134 : decode cX3_dayTold 134 = .ok (.iconst 2, 1) := dk_5 (dk_at dksX3_dayTold_5 20 rfl rfl)
theorem dX3_dayTold_135 : decode cX3_dayTold 135 = .ok (.if_icmp .ne 8, 3) := dk_160 0 8 (dk_at dksX3_dayTold_5 21 rfl rfl)
theorem dX3_dayTold_138 : decode cX3_dayTold 138 = .ok (.iload 6, 2) := dk_21 6 (dk_at dksX3_dayTold_6 0 rfl rfl)
theorem dX3_dayTold_140 : decode cX3_dayTold 140 = .ok (.goto 5, 3) := dk_167 0 5 (dk_at dksX3_dayTold_6 2 rfl rfl)
theorem dX3_dayTold_143 : decode cX3_dayTold 143 = .ok (.iload 7, 2) := dk_21 7 (dk_at dksX3_dayTold_6 5 rfl rfl)
theorem dX3_dayTold_145 : decode cX3_dayTold 145 = .ok (.ireturn, 1) := dk_172 (dk_at dksX3_dayTold_6 7 rfl rfl)
abbrev cX3_ofCycle : ByteArray := prog_15_method_50_code
def yX3_ofCycle : MethodName := ⟨RX3, "ofCycle", "(III)I"⟩
def dkwX3_ofCycle_2 : List UInt8 := [167, 0, 14, 42, 42, 182, 1, 27, 27, 28, 29, 182, 1, 48, 172]
abbrev dktX3_ofCycle_2 : List UInt8 := dkwX3_ofCycle_2 ++ []
def dkwX3_ofCycle_1 : List UInt8 := [29, 3, 16, 7, 184, 0, 44, 154, 0, 7, 4, 167, 0, 4, 3, 5, 182, 0, 36, 153, 0, 7, 3]
abbrev dktX3_ofCycle_1 : List UInt8 := dkwX3_ofCycle_1 ++ dktX3_ofCycle_2
def dkwX3_ofCycle_0 : List UInt8 := [42, 42, 27, 182, 0, 243, 4, 182, 0, 219, 154, 0, 36, 42, 28, 3, 16, 11, 184, 0, 44, 153, 0, 13]
abbrev dktX3_ofCycle_0 : List UInt8 := dkwX3_ofCycle_0 ++ dktX3_ofCycle_1
theorem dksX3_ofCycle_0 : cX3_ofCycle.data.toList.drop 0 = dktX3_ofCycle_0 := by decide +kernel
theorem dksX3_ofCycle_1 : cX3_ofCycle.data.toList.drop 24 = dktX3_ofCycle_1 := dk_seg dksX3_ofCycle_0 24 rfl rfl
theorem dksX3_ofCycle_2 : cX3_ofCycle.data.toList.drop 47 = dktX3_ofCycle_2 := dk_seg dksX3_ofCycle_1 23 rfl rfl
theorem dX3_ofCycle_0 : decode cX3_ofCycle 0 = .ok (.aload_n 0, 1) := dk_42 (dk_at dksX3_ofCycle_0 0 rfl rfl)
theorem dX3_ofCycle_1 : decode cX3_ofCycle 1 = .ok (.aload_n 0, 1) := dk_42 (dk_at dksX3_ofCycle_0 1 rfl rfl)
theorem dX3_ofCycle_2 : decode cX3_ofCycle 2 = .ok (.iload_n 1, 1) := dk_27 (dk_at dksX3_ofCycle_0 2 rfl rfl)
theorem dX3_ofCycle_3 : decode cX3_ofCycle 3 = .ok (.invokevirtual 243, 3) := dk_182 0 243 (dk_at dksX3_ofCycle_0 3 rfl rfl)
theorem dX3_ofCycle_6 : decode cX3_ofCycle 6 = .ok (.iconst 1, 1) := dk_4 (dk_at dksX3_ofCycle_0 6 rfl rfl)
theorem dX3_ofCycle_7 : decode cX3_ofCycle 7 = .ok (.invokevirtual 219, 3) := dk_182 0 219 (dk_at dksX3_ofCycle_0 7 rfl rfl)
theorem dX3_ofCycle_10 : decode cX3_ofCycle 10 = .ok (.ifCond .ne 36, 3) := dk_154 0 36 (dk_at dksX3_ofCycle_0 10 rfl rfl)
theorem dX3_ofCycle_13 : decode cX3_ofCycle 13 = .ok (.aload_n 0, 1) := dk_42 (dk_at dksX3_ofCycle_0 13 rfl rfl)
theorem dX3_ofCycle_14 : decode cX3_ofCycle 14 = .ok (.iload_n 2, 1) := dk_28 (dk_at dksX3_ofCycle_0 14 rfl rfl)
theorem dX3_ofCycle_15 : decode cX3_ofCycle 15 = .ok (.iconst 0, 1) := dk_3 (dk_at dksX3_ofCycle_0 15 rfl rfl)
theorem dX3_ofCycle_16 : decode cX3_ofCycle 16 = .ok (.bipush 11, 2) := dk_16 11 (dk_at dksX3_ofCycle_0 16 rfl rfl)
theorem dX3_ofCycle_18 : decode cX3_ofCycle 18 = .ok (.invokestatic 44, 3) := dk_184 0 44 (dk_at dksX3_ofCycle_0 18 rfl rfl)
theorem dX3_ofCycle_21 : decode cX3_ofCycle 21 = .ok (.ifCond .eq 13, 3) := dk_153 0 13 (dk_at dksX3_ofCycle_0 21 rfl rfl)
theorem dX3_ofCycle_24 : decode cX3_ofCycle 24 = .ok (.iload_n 3, 1) := dk_29 (dk_at dksX3_ofCycle_1 0 rfl rfl)
theorem dX3_ofCycle_25 : decode cX3_ofCycle 25 = .ok (.iconst 0, 1) := dk_3 (dk_at dksX3_ofCycle_1 1 rfl rfl)
theorem dX3_ofCycle_26 : decode cX3_ofCycle 26 = .ok (.bipush 7, 2) := dk_16 7 (dk_at dksX3_ofCycle_1 2 rfl rfl)
theorem dX3_ofCycle_28 : decode cX3_ofCycle 28 = .ok (.invokestatic 44, 3) := dk_184 0 44 (dk_at dksX3_ofCycle_1 4 rfl rfl)
theorem dX3_ofCycle_31 : decode cX3_ofCycle 31 = .ok (.ifCond .ne 7, 3) := dk_154 0 7 (dk_at dksX3_ofCycle_1 7 rfl rfl)
theorem dX3_ofCycle_34 : decode cX3_ofCycle 34 = .ok (.iconst 1, 1) := dk_4 (dk_at dksX3_ofCycle_1 10 rfl rfl)
theorem dX3_ofCycle_35 : decode cX3_ofCycle 35 = .ok (.goto 4, 3) := dk_167 0 4 (dk_at dksX3_ofCycle_1 11 rfl rfl)
theorem dX3_ofCycle_38 : decode cX3_ofCycle 38 = .ok (.iconst 0, 1) := dk_3 (dk_at dksX3_ofCycle_1 14 rfl rfl)
theorem dX3_ofCycle_39 : decode cX3_ofCycle 39 = .ok (.iconst 2, 1) := dk_5 (dk_at dksX3_ofCycle_1 15 rfl rfl)
theorem dX3_ofCycle_40 : decode cX3_ofCycle 40 = .ok (.invokevirtual 36, 3) := dk_182 0 36 (dk_at dksX3_ofCycle_1 16 rfl rfl)
theorem dX3_ofCycle_43 : decode cX3_ofCycle 43 = .ok (.ifCond .eq 7, 3) := dk_153 0 7 (dk_at dksX3_ofCycle_1 19 rfl rfl)
theorem dX3_ofCycle_46 : decode cX3_ofCycle 46 = .ok (.iconst 0, 1) := dk_3 (dk_at dksX3_ofCycle_1 22 rfl rfl)
theorem dX3_ofCycle_47 : decode cX3_ofCycle 47 = .ok (.goto 14, 3) := dk_167 0 14 (dk_at dksX3_ofCycle_2 0 rfl rfl)
theorem dX3_ofCycle_50 : decode cX3_ofCycle 50 = .ok (.aload_n 0, 1) := dk_42 (dk_at dksX3_ofCycle_2 3 rfl rfl)
theorem dX3_ofCycle_51 : decode cX3_ofCycle 51 = .ok (.aload_n 0, 1) := dk_42 (dk_at dksX3_ofCycle_2 4 rfl rfl)
theorem dX3_ofCycle_52 : decode cX3_ofCycle 52 = .ok (.invokevirtual 283, 3) := dk_182 1 27 (dk_at dksX3_ofCycle_2 5 rfl rfl)
theorem dX3_ofCycle_55 : decode cX3_ofCycle 55 = .ok (.iload_n 1, 1) := dk_27 (dk_at dksX3_ofCycle_2 8 rfl rfl)
theorem dX3_ofCycle_56 : decode cX3_ofCycle 56 = .ok (.iload_n 2, 1) := dk_28 (dk_at dksX3_ofCycle_2 9 rfl rfl)
theorem dX3_ofCycle_57 : decode cX3_ofCycle 57 = .ok (.iload_n 3, 1) := dk_29 (dk_at dksX3_ofCycle_2 10 rfl rfl)
theorem dX3_ofCycle_58 : decode cX3_ofCycle 58 = .ok (.invokevirtual 304, 3) := dk_182 1 48 (dk_at dksX3_ofCycle_2 11 rfl rfl)
theorem dX3_ofCycle_61 : decode cX3_ofCycle 61 = .ok (.ireturn, 1) := dk_172 (dk_at dksX3_ofCycle_2 14 rfl rfl)
abbrev cX3_cycleTold : ByteArray := prog_15_method_49_code
def yX3_cycleTold : MethodName := ⟨RX3, "cycleTold", "(LRolloverModel$Book;III)I"⟩
def dkwX3_cycleTold_8 : List UInt8 := [21, 7, 172]
abbrev dktX3_cycleTold_8 : List UInt8 := dkwX3_cycleTold_8 ++ []
def dkwX3_cycleTold_7 : List UInt8 := [180, 0, 118, 16, 30, 108, 29, 160, 0, 7, 4, 167, 0, 4, 3, 184, 0, 78, 96, 54, 7, 167, 255, 200]
abbrev dktX3_cycleTold_7 : List UInt8 := dkwX3_cycleTold_7 ++ dktX3_cycleTold_8
def dkwX3_cycleTold_6 : List UInt8 := [185, 0, 203, 1, 0, 192, 0, 73, 58, 9, 21, 7, 25, 9, 28, 182, 1, 38, 153, 0, 19, 25, 9]
abbrev dktX3_cycleTold_6 : List UInt8 := dkwX3_cycleTold_6 ++ dktX3_cycleTold_7
def dkwX3_cycleTold_5 : List UInt8 := [54, 7, 42, 180, 0, 22, 182, 0, 193, 58, 8, 25, 8, 185, 0, 197, 1, 0, 153, 0, 52, 25, 8]
abbrev dktX3_cycleTold_5 : List UInt8 := dkwX3_cycleTold_5 ++ dktX3_cycleTold_6
def dkwX3_cycleTold_4 : List UInt8 := [5, 182, 0, 164, 172, 43, 28, 21, 5, 21, 6, 8, 182, 0, 164, 172, 42, 28, 29, 182, 0, 213, 172, 3]
abbrev dktX3_cycleTold_4 : List UInt8 := dkwX3_cycleTold_4 ++ dktX3_cycleTold_5
def dkwX3_cycleTold_3 : List UInt8 := [21, 6, 6, 182, 0, 164, 172, 43, 28, 21, 5, 21, 6, 4, 182, 0, 164, 172, 43, 28, 21, 5, 21, 6]
abbrev dktX3_cycleTold_3 : List UInt8 := dkwX3_cycleTold_3 ++ dktX3_cycleTold_4
def dkwX3_cycleTold_2 : List UInt8 := [42, 43, 28, 29, 182, 0, 216, 172, 43, 28, 21, 5, 21, 6, 7, 182, 0, 164, 172, 43, 28, 21, 5]
abbrev dktX3_cycleTold_2 : List UInt8 := dkwX3_cycleTold_2 ++ dktX3_cycleTold_3
def dkwX3_cycleTold_1 : List UInt8 := [170, 0, 0, 0, 0, 0, 117, 0, 0, 0, 0, 0, 0, 0, 7, 0, 0, 0, 47, 0, 0, 0, 55, 0, 0, 0, 66, 0, 0, 0, 77, 0, 0, 0, 88, 0, 0, 0, 117, 0, 0, 0, 99, 0, 0, 0, 110]
abbrev dktX3_cycleTold_1 : List UInt8 := dkwX3_cycleTold_1 ++ dktX3_cycleTold_2
def dkwX3_cycleTold_0 : List UInt8 := [29, 16, 30, 104, 54, 5, 21, 5, 16, 30, 96, 4, 100, 54, 6, 21, 4]
abbrev dktX3_cycleTold_0 : List UInt8 := dkwX3_cycleTold_0 ++ dktX3_cycleTold_1
theorem dksX3_cycleTold_0 : cX3_cycleTold.data.toList.drop 0 = dktX3_cycleTold_0 := by decide +kernel
theorem dksX3_cycleTold_1 : cX3_cycleTold.data.toList.drop 17 = dktX3_cycleTold_1 := dk_seg dksX3_cycleTold_0 17 rfl rfl
theorem dksX3_cycleTold_2 : cX3_cycleTold.data.toList.drop 64 = dktX3_cycleTold_2 := dk_seg dksX3_cycleTold_1 47 rfl rfl
theorem dksX3_cycleTold_3 : cX3_cycleTold.data.toList.drop 87 = dktX3_cycleTold_3 := dk_seg dksX3_cycleTold_2 23 rfl rfl
theorem dksX3_cycleTold_4 : cX3_cycleTold.data.toList.drop 111 = dktX3_cycleTold_4 := dk_seg dksX3_cycleTold_3 24 rfl rfl
theorem dksX3_cycleTold_5 : cX3_cycleTold.data.toList.drop 135 = dktX3_cycleTold_5 := dk_seg dksX3_cycleTold_4 24 rfl rfl
theorem dksX3_cycleTold_6 : cX3_cycleTold.data.toList.drop 158 = dktX3_cycleTold_6 := dk_seg dksX3_cycleTold_5 23 rfl rfl
theorem dksX3_cycleTold_7 : cX3_cycleTold.data.toList.drop 181 = dktX3_cycleTold_7 := dk_seg dksX3_cycleTold_6 23 rfl rfl
theorem dksX3_cycleTold_8 : cX3_cycleTold.data.toList.drop 205 = dktX3_cycleTold_8 := dk_seg dksX3_cycleTold_7 24 rfl rfl
theorem dX3_cycleTold_0 : decode cX3_cycleTold 0 = .ok (.iload_n 3, 1) := dk_29 (dk_at dksX3_cycleTold_0 0 rfl rfl)
theorem dX3_cycleTold_1 : decode cX3_cycleTold 1 = .ok (.bipush 30, 2) := dk_16 30 (dk_at dksX3_cycleTold_0 1 rfl rfl)
theorem dX3_cycleTold_3 : decode cX3_cycleTold 3 = .ok (.imul, 1) := dk_104 (dk_at dksX3_cycleTold_0 3 rfl rfl)
theorem dX3_cycleTold_4 : decode cX3_cycleTold 4 = .ok (.istore 5, 2) := dk_54 5 (dk_at dksX3_cycleTold_0 4 rfl rfl)
theorem dX3_cycleTold_6 : decode cX3_cycleTold 6 = .ok (.iload 5, 2) := dk_21 5 (dk_at dksX3_cycleTold_0 6 rfl rfl)
theorem dX3_cycleTold_8 : decode cX3_cycleTold 8 = .ok (.bipush 30, 2) := dk_16 30 (dk_at dksX3_cycleTold_0 8 rfl rfl)
theorem dX3_cycleTold_10 : decode cX3_cycleTold 10 = .ok (.iadd, 1) := dk_96 (dk_at dksX3_cycleTold_0 10 rfl rfl)
theorem dX3_cycleTold_11 : decode cX3_cycleTold 11 = .ok (.iconst 1, 1) := dk_4 (dk_at dksX3_cycleTold_0 11 rfl rfl)
theorem dX3_cycleTold_12 : decode cX3_cycleTold 12 = .ok (.isub, 1) := dk_100 (dk_at dksX3_cycleTold_0 12 rfl rfl)
theorem dX3_cycleTold_13 : decode cX3_cycleTold 13 = .ok (.istore 6, 2) := dk_54 6 (dk_at dksX3_cycleTold_0 13 rfl rfl)
theorem dX3_cycleTold_15 : decode cX3_cycleTold 15 = .ok (.iload 4, 2) := dk_21 4 (dk_at dksX3_cycleTold_0 15 rfl rfl)
theorem dX3_cycleTold_17 : decode cX3_cycleTold 17 = .ok (.tableswitch 117 0 7 #[47, 55, 66, 77, 88, 117, 99, 110], 47) := by decide +kernel
theorem dX3_cycleTold_64 : decode cX3_cycleTold 64 = .ok (.aload_n 0, 1) := dk_42 (dk_at dksX3_cycleTold_2 0 rfl rfl)
theorem dX3_cycleTold_65 : decode cX3_cycleTold 65 = .ok (.aload_n 1, 1) := dk_43 (dk_at dksX3_cycleTold_2 1 rfl rfl)
theorem dX3_cycleTold_66 : decode cX3_cycleTold 66 = .ok (.iload_n 2, 1) := dk_28 (dk_at dksX3_cycleTold_2 2 rfl rfl)
theorem dX3_cycleTold_67 : decode cX3_cycleTold 67 = .ok (.iload_n 3, 1) := dk_29 (dk_at dksX3_cycleTold_2 3 rfl rfl)
theorem dX3_cycleTold_68 : decode cX3_cycleTold 68 = .ok (.invokevirtual 216, 3) := dk_182 0 216 (dk_at dksX3_cycleTold_2 4 rfl rfl)
theorem dX3_cycleTold_71 : decode cX3_cycleTold 71 = .ok (.ireturn, 1) := dk_172 (dk_at dksX3_cycleTold_2 7 rfl rfl)
theorem dX3_cycleTold_72 : decode cX3_cycleTold 72 = .ok (.aload_n 1, 1) := dk_43 (dk_at dksX3_cycleTold_2 8 rfl rfl)
theorem dX3_cycleTold_73 : decode cX3_cycleTold 73 = .ok (.iload_n 2, 1) := dk_28 (dk_at dksX3_cycleTold_2 9 rfl rfl)
theorem dX3_cycleTold_74 : decode cX3_cycleTold 74 = .ok (.iload 5, 2) := dk_21 5 (dk_at dksX3_cycleTold_2 10 rfl rfl)
theorem dX3_cycleTold_76 : decode cX3_cycleTold 76 = .ok (.iload 6, 2) := dk_21 6 (dk_at dksX3_cycleTold_2 12 rfl rfl)
theorem dX3_cycleTold_78 : decode cX3_cycleTold 78 = .ok (.iconst 4, 1) := dk_7 (dk_at dksX3_cycleTold_2 14 rfl rfl)
theorem dX3_cycleTold_79 : decode cX3_cycleTold 79 = .ok (.invokevirtual 164, 3) := dk_182 0 164 (dk_at dksX3_cycleTold_2 15 rfl rfl)
theorem dX3_cycleTold_82 : decode cX3_cycleTold 82 = .ok (.ireturn, 1) := dk_172 (dk_at dksX3_cycleTold_2 18 rfl rfl)
theorem dX3_cycleTold_83 : decode cX3_cycleTold 83 = .ok (.aload_n 1, 1) := dk_43 (dk_at dksX3_cycleTold_2 19 rfl rfl)
theorem dX3_cycleTold_84 : decode cX3_cycleTold 84 = .ok (.iload_n 2, 1) := dk_28 (dk_at dksX3_cycleTold_2 20 rfl rfl)
theorem dX3_cycleTold_85 : decode cX3_cycleTold 85 = .ok (.iload 5, 2) := dk_21 5 (dk_at dksX3_cycleTold_2 21 rfl rfl)
theorem dX3_cycleTold_87 : decode cX3_cycleTold 87 = .ok (.iload 6, 2) := dk_21 6 (dk_at dksX3_cycleTold_3 0 rfl rfl)
theorem dX3_cycleTold_89 : decode cX3_cycleTold 89 = .ok (.iconst 3, 1) := dk_6 (dk_at dksX3_cycleTold_3 2 rfl rfl)
theorem dX3_cycleTold_90 : decode cX3_cycleTold 90 = .ok (.invokevirtual 164, 3) := dk_182 0 164 (dk_at dksX3_cycleTold_3 3 rfl rfl)
theorem dX3_cycleTold_93 : decode cX3_cycleTold 93 = .ok (.ireturn, 1) := dk_172 (dk_at dksX3_cycleTold_3 6 rfl rfl)
theorem dX3_cycleTold_94 : decode cX3_cycleTold 94 = .ok (.aload_n 1, 1) := dk_43 (dk_at dksX3_cycleTold_3 7 rfl rfl)
theorem dX3_cycleTold_95 : decode cX3_cycleTold 95 = .ok (.iload_n 2, 1) := dk_28 (dk_at dksX3_cycleTold_3 8 rfl rfl)
theorem dX3_cycleTold_96 : decode cX3_cycleTold 96 = .ok (.iload 5, 2) := dk_21 5 (dk_at dksX3_cycleTold_3 9 rfl rfl)
theorem dX3_cycleTold_98 : decode cX3_cycleTold 98 = .ok (.iload 6, 2) := dk_21 6 (dk_at dksX3_cycleTold_3 11 rfl rfl)
theorem dX3_cycleTold_100 : decode cX3_cycleTold 100 = .ok (.iconst 1, 1) := dk_4 (dk_at dksX3_cycleTold_3 13 rfl rfl)
theorem dX3_cycleTold_101 : decode cX3_cycleTold 101 = .ok (.invokevirtual 164, 3) := dk_182 0 164 (dk_at dksX3_cycleTold_3 14 rfl rfl)
theorem dX3_cycleTold_104 : decode cX3_cycleTold 104 = .ok (.ireturn, 1) := dk_172 (dk_at dksX3_cycleTold_3 17 rfl rfl)
theorem dX3_cycleTold_105 : decode cX3_cycleTold 105 = .ok (.aload_n 1, 1) := dk_43 (dk_at dksX3_cycleTold_3 18 rfl rfl)
theorem dX3_cycleTold_106 : decode cX3_cycleTold 106 = .ok (.iload_n 2, 1) := dk_28 (dk_at dksX3_cycleTold_3 19 rfl rfl)
theorem dX3_cycleTold_107 : decode cX3_cycleTold 107 = .ok (.iload 5, 2) := dk_21 5 (dk_at dksX3_cycleTold_3 20 rfl rfl)
theorem dX3_cycleTold_109 : decode cX3_cycleTold 109 = .ok (.iload 6, 2) := dk_21 6 (dk_at dksX3_cycleTold_3 22 rfl rfl)
theorem dX3_cycleTold_111 : decode cX3_cycleTold 111 = .ok (.iconst 2, 1) := dk_5 (dk_at dksX3_cycleTold_4 0 rfl rfl)
theorem dX3_cycleTold_112 : decode cX3_cycleTold 112 = .ok (.invokevirtual 164, 3) := dk_182 0 164 (dk_at dksX3_cycleTold_4 1 rfl rfl)
theorem dX3_cycleTold_115 : decode cX3_cycleTold 115 = .ok (.ireturn, 1) := dk_172 (dk_at dksX3_cycleTold_4 4 rfl rfl)
theorem dX3_cycleTold_116 : decode cX3_cycleTold 116 = .ok (.aload_n 1, 1) := dk_43 (dk_at dksX3_cycleTold_4 5 rfl rfl)
theorem dX3_cycleTold_117 : decode cX3_cycleTold 117 = .ok (.iload_n 2, 1) := dk_28 (dk_at dksX3_cycleTold_4 6 rfl rfl)
theorem dX3_cycleTold_118 : decode cX3_cycleTold 118 = .ok (.iload 5, 2) := dk_21 5 (dk_at dksX3_cycleTold_4 7 rfl rfl)
theorem dX3_cycleTold_120 : decode cX3_cycleTold 120 = .ok (.iload 6, 2) := dk_21 6 (dk_at dksX3_cycleTold_4 9 rfl rfl)
theorem dX3_cycleTold_122 : decode cX3_cycleTold 122 = .ok (.iconst 5, 1) := dk_8 (dk_at dksX3_cycleTold_4 11 rfl rfl)
theorem dX3_cycleTold_123 : decode cX3_cycleTold 123 = .ok (.invokevirtual 164, 3) := dk_182 0 164 (dk_at dksX3_cycleTold_4 12 rfl rfl)
theorem dX3_cycleTold_126 : decode cX3_cycleTold 126 = .ok (.ireturn, 1) := dk_172 (dk_at dksX3_cycleTold_4 15 rfl rfl)
theorem dX3_cycleTold_127 : decode cX3_cycleTold 127 = .ok (.aload_n 0, 1) := dk_42 (dk_at dksX3_cycleTold_4 16 rfl rfl)
theorem dX3_cycleTold_128 : decode cX3_cycleTold 128 = .ok (.iload_n 2, 1) := dk_28 (dk_at dksX3_cycleTold_4 17 rfl rfl)
theorem dX3_cycleTold_129 : decode cX3_cycleTold 129 = .ok (.iload_n 3, 1) := dk_29 (dk_at dksX3_cycleTold_4 18 rfl rfl)
theorem dX3_cycleTold_130 : decode cX3_cycleTold 130 = .ok (.invokevirtual 213, 3) := dk_182 0 213 (dk_at dksX3_cycleTold_4 19 rfl rfl)
theorem dX3_cycleTold_133 : decode cX3_cycleTold 133 = .ok (.ireturn, 1) := dk_172 (dk_at dksX3_cycleTold_4 22 rfl rfl)
theorem dX3_cycleTold_134 : decode cX3_cycleTold 134 = .ok (.iconst 0, 1) := dk_3 (dk_at dksX3_cycleTold_4 23 rfl rfl)
theorem dX3_cycleTold_135 : decode cX3_cycleTold 135 = .ok (.istore 7, 2) := dk_54 7 (dk_at dksX3_cycleTold_5 0 rfl rfl)
theorem dX3_cycleTold_137 : decode cX3_cycleTold 137 = .ok (.aload_n 0, 1) := dk_42 (dk_at dksX3_cycleTold_5 2 rfl rfl)
theorem dX3_cycleTold_138 : decode cX3_cycleTold 138 = .ok (.getfield 22, 3) := dk_180 0 22 (dk_at dksX3_cycleTold_5 3 rfl rfl)
theorem dX3_cycleTold_141 : decode cX3_cycleTold 141 = .ok (.invokevirtual 193, 3) := dk_182 0 193 (dk_at dksX3_cycleTold_5 6 rfl rfl)
theorem dX3_cycleTold_144 : decode cX3_cycleTold 144 = .ok (.astore 8, 2) := dk_58 8 (dk_at dksX3_cycleTold_5 9 rfl rfl)
theorem dX3_cycleTold_146 : decode cX3_cycleTold 146 = .ok (.aload 8, 2) := dk_25 8 (dk_at dksX3_cycleTold_5 11 rfl rfl)
theorem dX3_cycleTold_148 : decode cX3_cycleTold 148 = .ok (.invokeinterface 197 1, 5) := by decide +kernel
theorem dX3_cycleTold_153 : decode cX3_cycleTold 153 = .ok (.ifCond .eq 52, 3) := dk_153 0 52 (dk_at dksX3_cycleTold_5 18 rfl rfl)
theorem dX3_cycleTold_156 : decode cX3_cycleTold 156 = .ok (.aload 8, 2) := dk_25 8 (dk_at dksX3_cycleTold_5 21 rfl rfl)
theorem dX3_cycleTold_158 : decode cX3_cycleTold 158 = .ok (.invokeinterface 203 1, 5) := by decide +kernel
theorem dX3_cycleTold_163 : decode cX3_cycleTold 163 = .ok (.checkcast 73, 3) := dk_192 0 73 (dk_at dksX3_cycleTold_6 5 rfl rfl)
theorem dX3_cycleTold_166 : decode cX3_cycleTold 166 = .ok (.astore 9, 2) := dk_58 9 (dk_at dksX3_cycleTold_6 8 rfl rfl)
theorem dX3_cycleTold_168 : decode cX3_cycleTold 168 = .ok (.iload 7, 2) := dk_21 7 (dk_at dksX3_cycleTold_6 10 rfl rfl)
theorem dX3_cycleTold_170 : decode cX3_cycleTold 170 = .ok (.aload 9, 2) := dk_25 9 (dk_at dksX3_cycleTold_6 12 rfl rfl)
theorem dX3_cycleTold_172 : decode cX3_cycleTold 172 = .ok (.iload_n 2, 1) := dk_28 (dk_at dksX3_cycleTold_6 14 rfl rfl)
theorem dX3_cycleTold_173 : decode cX3_cycleTold 173 = .ok (.invokevirtual 294, 3) := dk_182 1 38 (dk_at dksX3_cycleTold_6 15 rfl rfl)
theorem dX3_cycleTold_176 : decode cX3_cycleTold 176 = .ok (.ifCond .eq 19, 3) := dk_153 0 19 (dk_at dksX3_cycleTold_6 18 rfl rfl)
theorem dX3_cycleTold_179 : decode cX3_cycleTold 179 = .ok (.aload 9, 2) := dk_25 9 (dk_at dksX3_cycleTold_6 21 rfl rfl)
theorem dX3_cycleTold_181 : decode cX3_cycleTold 181 = .ok (.getfield 118, 3) := dk_180 0 118 (dk_at dksX3_cycleTold_7 0 rfl rfl)
theorem dX3_cycleTold_184 : decode cX3_cycleTold 184 = .ok (.bipush 30, 2) := dk_16 30 (dk_at dksX3_cycleTold_7 3 rfl rfl)
theorem dX3_cycleTold_186 : decode cX3_cycleTold 186 = .ok (.idiv, 1) := dk_108 (dk_at dksX3_cycleTold_7 5 rfl rfl)
theorem dX3_cycleTold_187 : decode cX3_cycleTold 187 = .ok (.iload_n 3, 1) := dk_29 (dk_at dksX3_cycleTold_7 6 rfl rfl)
theorem dX3_cycleTold_188 : decode cX3_cycleTold 188 = .ok (.if_icmp .ne 7, 3) := dk_160 0 7 (dk_at dksX3_cycleTold_7 7 rfl rfl)
theorem dX3_cycleTold_191 : decode cX3_cycleTold 191 = .ok (.iconst 1, 1) := dk_4 (dk_at dksX3_cycleTold_7 10 rfl rfl)
theorem dX3_cycleTold_192 : decode cX3_cycleTold 192 = .ok (.goto 4, 3) := dk_167 0 4 (dk_at dksX3_cycleTold_7 11 rfl rfl)
theorem dX3_cycleTold_195 : decode cX3_cycleTold 195 = .ok (.iconst 0, 1) := dk_3 (dk_at dksX3_cycleTold_7 14 rfl rfl)
theorem dX3_cycleTold_196 : decode cX3_cycleTold 196 = .ok (.invokestatic 78, 3) := dk_184 0 78 (dk_at dksX3_cycleTold_7 15 rfl rfl)
theorem dX3_cycleTold_199 : decode cX3_cycleTold 199 = .ok (.iadd, 1) := dk_96 (dk_at dksX3_cycleTold_7 18 rfl rfl)
theorem dX3_cycleTold_200 : decode cX3_cycleTold 200 = .ok (.istore 7, 2) := dk_54 7 (dk_at dksX3_cycleTold_7 19 rfl rfl)
theorem dX3_cycleTold_202 : decode cX3_cycleTold 202 = .ok (.goto (-56), 3) := dk_167 255 200 (dk_at dksX3_cycleTold_7 21 rfl rfl)
theorem dX3_cycleTold_205 : decode cX3_cycleTold 205 = .ok (.iload 7, 2) := dk_21 7 (dk_at dksX3_cycleTold_8 0 rfl rfl)
theorem dX3_cycleTold_207 : decode cX3_cycleTold 207 = .ok (.ireturn, 1) := dk_172 (dk_at dksX3_cycleTold_8 2 rfl rfl)
abbrev cX3_ofTicket : ByteArray := prog_15_method_52_code
def yX3_ofTicket : MethodName := ⟨RX3, "ofTicket", "(II)I"⟩
def dkwX3_ofTicket_2 : List UInt8 := [182, 1, 51, 172]
abbrev dktX3_ofTicket_2 : List UInt8 := dkwX3_ofTicket_2 ++ []
def dkwX3_ofTicket_1 : List UInt8 := [4, 167, 0, 4, 3, 5, 182, 0, 36, 153, 0, 7, 3, 167, 0, 13, 42, 42, 182, 1, 27, 27, 28]
abbrev dktX3_ofTicket_1 : List UInt8 := dkwX3_ofTicket_1 ++ dktX3_ofTicket_2
def dkwX3_ofTicket_0 : List UInt8 := [42, 42, 27, 182, 1, 24, 4, 182, 0, 219, 154, 0, 26, 42, 28, 3, 16, 10, 184, 0, 44, 154, 0, 7]
abbrev dktX3_ofTicket_0 : List UInt8 := dkwX3_ofTicket_0 ++ dktX3_ofTicket_1
theorem dksX3_ofTicket_0 : cX3_ofTicket.data.toList.drop 0 = dktX3_ofTicket_0 := by decide +kernel
theorem dksX3_ofTicket_1 : cX3_ofTicket.data.toList.drop 24 = dktX3_ofTicket_1 := dk_seg dksX3_ofTicket_0 24 rfl rfl
theorem dksX3_ofTicket_2 : cX3_ofTicket.data.toList.drop 47 = dktX3_ofTicket_2 := dk_seg dksX3_ofTicket_1 23 rfl rfl
theorem dX3_ofTicket_0 : decode cX3_ofTicket 0 = .ok (.aload_n 0, 1) := dk_42 (dk_at dksX3_ofTicket_0 0 rfl rfl)
theorem dX3_ofTicket_1 : decode cX3_ofTicket 1 = .ok (.aload_n 0, 1) := dk_42 (dk_at dksX3_ofTicket_0 1 rfl rfl)
theorem dX3_ofTicket_2 : decode cX3_ofTicket 2 = .ok (.iload_n 1, 1) := dk_27 (dk_at dksX3_ofTicket_0 2 rfl rfl)
theorem dX3_ofTicket_3 : decode cX3_ofTicket 3 = .ok (.invokevirtual 280, 3) := dk_182 1 24 (dk_at dksX3_ofTicket_0 3 rfl rfl)
theorem dX3_ofTicket_6 : decode cX3_ofTicket 6 = .ok (.iconst 1, 1) := dk_4 (dk_at dksX3_ofTicket_0 6 rfl rfl)
theorem dX3_ofTicket_7 : decode cX3_ofTicket 7 = .ok (.invokevirtual 219, 3) := dk_182 0 219 (dk_at dksX3_ofTicket_0 7 rfl rfl)
theorem dX3_ofTicket_10 : decode cX3_ofTicket 10 = .ok (.ifCond .ne 26, 3) := dk_154 0 26 (dk_at dksX3_ofTicket_0 10 rfl rfl)
theorem dX3_ofTicket_13 : decode cX3_ofTicket 13 = .ok (.aload_n 0, 1) := dk_42 (dk_at dksX3_ofTicket_0 13 rfl rfl)
theorem dX3_ofTicket_14 : decode cX3_ofTicket 14 = .ok (.iload_n 2, 1) := dk_28 (dk_at dksX3_ofTicket_0 14 rfl rfl)
theorem dX3_ofTicket_15 : decode cX3_ofTicket 15 = .ok (.iconst 0, 1) := dk_3 (dk_at dksX3_ofTicket_0 15 rfl rfl)
theorem dX3_ofTicket_16 : decode cX3_ofTicket 16 = .ok (.bipush 10, 2) := dk_16 10 (dk_at dksX3_ofTicket_0 16 rfl rfl)
theorem dX3_ofTicket_18 : decode cX3_ofTicket 18 = .ok (.invokestatic 44, 3) := dk_184 0 44 (dk_at dksX3_ofTicket_0 18 rfl rfl)
theorem dX3_ofTicket_21 : decode cX3_ofTicket 21 = .ok (.ifCond .ne 7, 3) := dk_154 0 7 (dk_at dksX3_ofTicket_0 21 rfl rfl)
theorem dX3_ofTicket_24 : decode cX3_ofTicket 24 = .ok (.iconst 1, 1) := dk_4 (dk_at dksX3_ofTicket_1 0 rfl rfl)
theorem dX3_ofTicket_25 : decode cX3_ofTicket 25 = .ok (.goto 4, 3) := dk_167 0 4 (dk_at dksX3_ofTicket_1 1 rfl rfl)
theorem dX3_ofTicket_28 : decode cX3_ofTicket 28 = .ok (.iconst 0, 1) := dk_3 (dk_at dksX3_ofTicket_1 4 rfl rfl)
theorem dX3_ofTicket_29 : decode cX3_ofTicket 29 = .ok (.iconst 2, 1) := dk_5 (dk_at dksX3_ofTicket_1 5 rfl rfl)
theorem dX3_ofTicket_30 : decode cX3_ofTicket 30 = .ok (.invokevirtual 36, 3) := dk_182 0 36 (dk_at dksX3_ofTicket_1 6 rfl rfl)
theorem dX3_ofTicket_33 : decode cX3_ofTicket 33 = .ok (.ifCond .eq 7, 3) := dk_153 0 7 (dk_at dksX3_ofTicket_1 9 rfl rfl)
theorem dX3_ofTicket_36 : decode cX3_ofTicket 36 = .ok (.iconst 0, 1) := dk_3 (dk_at dksX3_ofTicket_1 12 rfl rfl)
theorem dX3_ofTicket_37 : decode cX3_ofTicket 37 = .ok (.goto 13, 3) := dk_167 0 13 (dk_at dksX3_ofTicket_1 13 rfl rfl)
theorem dX3_ofTicket_40 : decode cX3_ofTicket 40 = .ok (.aload_n 0, 1) := dk_42 (dk_at dksX3_ofTicket_1 16 rfl rfl)
theorem dX3_ofTicket_41 : decode cX3_ofTicket 41 = .ok (.aload_n 0, 1) := dk_42 (dk_at dksX3_ofTicket_1 17 rfl rfl)
theorem dX3_ofTicket_42 : decode cX3_ofTicket 42 = .ok (.invokevirtual 283, 3) := dk_182 1 27 (dk_at dksX3_ofTicket_1 18 rfl rfl)
theorem dX3_ofTicket_45 : decode cX3_ofTicket 45 = .ok (.iload_n 1, 1) := dk_27 (dk_at dksX3_ofTicket_1 21 rfl rfl)
theorem dX3_ofTicket_46 : decode cX3_ofTicket 46 = .ok (.iload_n 2, 1) := dk_28 (dk_at dksX3_ofTicket_1 22 rfl rfl)
theorem dX3_ofTicket_47 : decode cX3_ofTicket 47 = .ok (.invokevirtual 307, 3) := dk_182 1 51 (dk_at dksX3_ofTicket_2 0 rfl rfl)
theorem dX3_ofTicket_50 : decode cX3_ofTicket 50 = .ok (.ireturn, 1) := dk_172 (dk_at dksX3_ofTicket_2 3 rfl rfl)
abbrev cX3_ticketTold : ByteArray := prog_15_method_51_code
def yX3_ticketTold : MethodName := ⟨RX3, "ticketTold", "(LRolloverModel$Book;II)I"⟩
def dkwX3_ticketTold_5 : List UInt8 := [184, 0, 114, 79, 58, 6, 25, 6, 29, 46, 172]
abbrev dktX3_ticketTold_5 : List UInt8 := dkwX3_ticketTold_5 ++ []
def dkwX3_ticketTold_4 : List UInt8 := [16, 8, 25, 5, 5, 46, 79, 89, 16, 9, 25, 5, 7, 46, 79, 89, 16, 10, 42, 180, 0, 22, 28]
abbrev dktX3_ticketTold_4 : List UInt8 := dkwX3_ticketTold_4 ++ dktX3_ticketTold_5
def dkwX3_ticketTold_3 : List UInt8 := [180, 0, 124, 184, 0, 78, 79, 89, 16, 6, 25, 5, 3, 46, 79, 89, 16, 7, 25, 5, 4, 46, 79, 89]
abbrev dktX3_ticketTold_3 : List UInt8 := dkwX3_ticketTold_3 ++ dktX3_ticketTold_4
def dkwX3_ticketTold_2 : List UInt8 := [180, 0, 118, 79, 89, 6, 25, 4, 180, 0, 161, 79, 89, 7, 25, 4, 180, 0, 145, 79, 89, 8, 25, 4]
abbrev dktX3_ticketTold_2 : List UInt8 := dkwX3_ticketTold_2 ++ dktX3_ticketTold_3
def dkwX3_ticketTold_1 : List UInt8 := [188, 10, 89, 3, 25, 4, 180, 0, 136, 79, 89, 4, 25, 4, 180, 0, 142, 79, 89, 5, 25, 4]
abbrev dktX3_ticketTold_1 : List UInt8 := dkwX3_ticketTold_1 ++ dktX3_ticketTold_2
def dkwX3_ticketTold_0 : List UInt8 := [42, 180, 0, 22, 28, 182, 0, 51, 192, 0, 73, 58, 4, 43, 180, 0, 111, 28, 50, 58, 5, 16, 11]
abbrev dktX3_ticketTold_0 : List UInt8 := dkwX3_ticketTold_0 ++ dktX3_ticketTold_1
theorem dksX3_ticketTold_0 : cX3_ticketTold.data.toList.drop 0 = dktX3_ticketTold_0 := by decide +kernel
theorem dksX3_ticketTold_1 : cX3_ticketTold.data.toList.drop 23 = dktX3_ticketTold_1 := dk_seg dksX3_ticketTold_0 23 rfl rfl
theorem dksX3_ticketTold_2 : cX3_ticketTold.data.toList.drop 45 = dktX3_ticketTold_2 := dk_seg dksX3_ticketTold_1 22 rfl rfl
theorem dksX3_ticketTold_3 : cX3_ticketTold.data.toList.drop 69 = dktX3_ticketTold_3 := dk_seg dksX3_ticketTold_2 24 rfl rfl
theorem dksX3_ticketTold_4 : cX3_ticketTold.data.toList.drop 93 = dktX3_ticketTold_4 := dk_seg dksX3_ticketTold_3 24 rfl rfl
theorem dksX3_ticketTold_5 : cX3_ticketTold.data.toList.drop 116 = dktX3_ticketTold_5 := dk_seg dksX3_ticketTold_4 23 rfl rfl
theorem dX3_ticketTold_0 : decode cX3_ticketTold 0 = .ok (.aload_n 0, 1) := dk_42 (dk_at dksX3_ticketTold_0 0 rfl rfl)
theorem dX3_ticketTold_1 : decode cX3_ticketTold 1 = .ok (.getfield 22, 3) := dk_180 0 22 (dk_at dksX3_ticketTold_0 1 rfl rfl)
theorem dX3_ticketTold_4 : decode cX3_ticketTold 4 = .ok (.iload_n 2, 1) := dk_28 (dk_at dksX3_ticketTold_0 4 rfl rfl)
theorem dX3_ticketTold_5 : decode cX3_ticketTold 5 = .ok (.invokevirtual 51, 3) := dk_182 0 51 (dk_at dksX3_ticketTold_0 5 rfl rfl)
theorem dX3_ticketTold_8 : decode cX3_ticketTold 8 = .ok (.checkcast 73, 3) := dk_192 0 73 (dk_at dksX3_ticketTold_0 8 rfl rfl)
theorem dX3_ticketTold_11 : decode cX3_ticketTold 11 = .ok (.astore 4, 2) := dk_58 4 (dk_at dksX3_ticketTold_0 11 rfl rfl)
theorem dX3_ticketTold_13 : decode cX3_ticketTold 13 = .ok (.aload_n 1, 1) := dk_43 (dk_at dksX3_ticketTold_0 13 rfl rfl)
theorem dX3_ticketTold_14 : decode cX3_ticketTold 14 = .ok (.getfield 111, 3) := dk_180 0 111 (dk_at dksX3_ticketTold_0 14 rfl rfl)
theorem dX3_ticketTold_17 : decode cX3_ticketTold 17 = .ok (.iload_n 2, 1) := dk_28 (dk_at dksX3_ticketTold_0 17 rfl rfl)
theorem dX3_ticketTold_18 : decode cX3_ticketTold 18 = .ok (.aaload, 1) := dk_50 (dk_at dksX3_ticketTold_0 18 rfl rfl)
theorem dX3_ticketTold_19 : decode cX3_ticketTold 19 = .ok (.astore 5, 2) := dk_58 5 (dk_at dksX3_ticketTold_0 19 rfl rfl)
theorem dX3_ticketTold_21 : decode cX3_ticketTold 21 = .ok (.bipush 11, 2) := dk_16 11 (dk_at dksX3_ticketTold_0 21 rfl rfl)
theorem dX3_ticketTold_23 : decode cX3_ticketTold 23 = .ok (.newarray .int, 2) := dk_188_10 (dk_at dksX3_ticketTold_1 0 rfl rfl)
theorem dX3_ticketTold_25 : decode cX3_ticketTold 25 = .ok (.dup, 1) := dk_89 (dk_at dksX3_ticketTold_1 2 rfl rfl)
theorem dX3_ticketTold_26 : decode cX3_ticketTold 26 = .ok (.iconst 0, 1) := dk_3 (dk_at dksX3_ticketTold_1 3 rfl rfl)
theorem dX3_ticketTold_27 : decode cX3_ticketTold 27 = .ok (.aload 4, 2) := dk_25 4 (dk_at dksX3_ticketTold_1 4 rfl rfl)
theorem dX3_ticketTold_29 : decode cX3_ticketTold 29 = .ok (.getfield 136, 3) := dk_180 0 136 (dk_at dksX3_ticketTold_1 6 rfl rfl)
theorem dX3_ticketTold_32 : decode cX3_ticketTold 32 = .ok (.iastore, 1) := dk_79 (dk_at dksX3_ticketTold_1 9 rfl rfl)
theorem dX3_ticketTold_33 : decode cX3_ticketTold 33 = .ok (.dup, 1) := dk_89 (dk_at dksX3_ticketTold_1 10 rfl rfl)
theorem dX3_ticketTold_34 : decode cX3_ticketTold 34 = .ok (.iconst 1, 1) := dk_4 (dk_at dksX3_ticketTold_1 11 rfl rfl)
theorem dX3_ticketTold_35 : decode cX3_ticketTold 35 = .ok (.aload 4, 2) := dk_25 4 (dk_at dksX3_ticketTold_1 12 rfl rfl)
theorem dX3_ticketTold_37 : decode cX3_ticketTold 37 = .ok (.getfield 142, 3) := dk_180 0 142 (dk_at dksX3_ticketTold_1 14 rfl rfl)
theorem dX3_ticketTold_40 : decode cX3_ticketTold 40 = .ok (.iastore, 1) := dk_79 (dk_at dksX3_ticketTold_1 17 rfl rfl)
theorem dX3_ticketTold_41 : decode cX3_ticketTold 41 = .ok (.dup, 1) := dk_89 (dk_at dksX3_ticketTold_1 18 rfl rfl)
theorem dX3_ticketTold_42 : decode cX3_ticketTold 42 = .ok (.iconst 2, 1) := dk_5 (dk_at dksX3_ticketTold_1 19 rfl rfl)
theorem dX3_ticketTold_43 : decode cX3_ticketTold 43 = .ok (.aload 4, 2) := dk_25 4 (dk_at dksX3_ticketTold_1 20 rfl rfl)
theorem dX3_ticketTold_45 : decode cX3_ticketTold 45 = .ok (.getfield 118, 3) := dk_180 0 118 (dk_at dksX3_ticketTold_2 0 rfl rfl)
theorem dX3_ticketTold_48 : decode cX3_ticketTold 48 = .ok (.iastore, 1) := dk_79 (dk_at dksX3_ticketTold_2 3 rfl rfl)
theorem dX3_ticketTold_49 : decode cX3_ticketTold 49 = .ok (.dup, 1) := dk_89 (dk_at dksX3_ticketTold_2 4 rfl rfl)
theorem dX3_ticketTold_50 : decode cX3_ticketTold 50 = .ok (.iconst 3, 1) := dk_6 (dk_at dksX3_ticketTold_2 5 rfl rfl)
theorem dX3_ticketTold_51 : decode cX3_ticketTold 51 = .ok (.aload 4, 2) := dk_25 4 (dk_at dksX3_ticketTold_2 6 rfl rfl)
theorem dX3_ticketTold_53 : decode cX3_ticketTold 53 = .ok (.getfield 161, 3) := dk_180 0 161 (dk_at dksX3_ticketTold_2 8 rfl rfl)
theorem dX3_ticketTold_56 : decode cX3_ticketTold 56 = .ok (.iastore, 1) := dk_79 (dk_at dksX3_ticketTold_2 11 rfl rfl)
theorem dX3_ticketTold_57 : decode cX3_ticketTold 57 = .ok (.dup, 1) := dk_89 (dk_at dksX3_ticketTold_2 12 rfl rfl)
theorem dX3_ticketTold_58 : decode cX3_ticketTold 58 = .ok (.iconst 4, 1) := dk_7 (dk_at dksX3_ticketTold_2 13 rfl rfl)
theorem dX3_ticketTold_59 : decode cX3_ticketTold 59 = .ok (.aload 4, 2) := dk_25 4 (dk_at dksX3_ticketTold_2 14 rfl rfl)
theorem dX3_ticketTold_61 : decode cX3_ticketTold 61 = .ok (.getfield 145, 3) := dk_180 0 145 (dk_at dksX3_ticketTold_2 16 rfl rfl)
theorem dX3_ticketTold_64 : decode cX3_ticketTold 64 = .ok (.iastore, 1) := dk_79 (dk_at dksX3_ticketTold_2 19 rfl rfl)
theorem dX3_ticketTold_65 : decode cX3_ticketTold 65 = .ok (.dup, 1) := dk_89 (dk_at dksX3_ticketTold_2 20 rfl rfl)
theorem dX3_ticketTold_66 : decode cX3_ticketTold 66 = .ok (.iconst 5, 1) := dk_8 (dk_at dksX3_ticketTold_2 21 rfl rfl)
theorem dX3_ticketTold_67 : decode cX3_ticketTold 67 = .ok (.aload 4, 2) := dk_25 4 (dk_at dksX3_ticketTold_2 22 rfl rfl)
theorem dX3_ticketTold_69 : decode cX3_ticketTold 69 = .ok (.getfield 124, 3) := dk_180 0 124 (dk_at dksX3_ticketTold_3 0 rfl rfl)
theorem dX3_ticketTold_72 : decode cX3_ticketTold 72 = .ok (.invokestatic 78, 3) := dk_184 0 78 (dk_at dksX3_ticketTold_3 3 rfl rfl)
theorem dX3_ticketTold_75 : decode cX3_ticketTold 75 = .ok (.iastore, 1) := dk_79 (dk_at dksX3_ticketTold_3 6 rfl rfl)
theorem dX3_ticketTold_76 : decode cX3_ticketTold 76 = .ok (.dup, 1) := dk_89 (dk_at dksX3_ticketTold_3 7 rfl rfl)
theorem dX3_ticketTold_77 : decode cX3_ticketTold 77 = .ok (.bipush 6, 2) := dk_16 6 (dk_at dksX3_ticketTold_3 8 rfl rfl)
theorem dX3_ticketTold_79 : decode cX3_ticketTold 79 = .ok (.aload 5, 2) := dk_25 5 (dk_at dksX3_ticketTold_3 10 rfl rfl)
theorem dX3_ticketTold_81 : decode cX3_ticketTold 81 = .ok (.iconst 0, 1) := dk_3 (dk_at dksX3_ticketTold_3 12 rfl rfl)
theorem dX3_ticketTold_82 : decode cX3_ticketTold 82 = .ok (.iaload, 1) := dk_46 (dk_at dksX3_ticketTold_3 13 rfl rfl)
theorem dX3_ticketTold_83 : decode cX3_ticketTold 83 = .ok (.iastore, 1) := dk_79 (dk_at dksX3_ticketTold_3 14 rfl rfl)
theorem dX3_ticketTold_84 : decode cX3_ticketTold 84 = .ok (.dup, 1) := dk_89 (dk_at dksX3_ticketTold_3 15 rfl rfl)
theorem dX3_ticketTold_85 : decode cX3_ticketTold 85 = .ok (.bipush 7, 2) := dk_16 7 (dk_at dksX3_ticketTold_3 16 rfl rfl)
theorem dX3_ticketTold_87 : decode cX3_ticketTold 87 = .ok (.aload 5, 2) := dk_25 5 (dk_at dksX3_ticketTold_3 18 rfl rfl)
theorem dX3_ticketTold_89 : decode cX3_ticketTold 89 = .ok (.iconst 1, 1) := dk_4 (dk_at dksX3_ticketTold_3 20 rfl rfl)
theorem dX3_ticketTold_90 : decode cX3_ticketTold 90 = .ok (.iaload, 1) := dk_46 (dk_at dksX3_ticketTold_3 21 rfl rfl)
theorem dX3_ticketTold_91 : decode cX3_ticketTold 91 = .ok (.iastore, 1) := dk_79 (dk_at dksX3_ticketTold_3 22 rfl rfl)
theorem dX3_ticketTold_92 : decode cX3_ticketTold 92 = .ok (.dup, 1) := dk_89 (dk_at dksX3_ticketTold_3 23 rfl rfl)
theorem dX3_ticketTold_93 : decode cX3_ticketTold 93 = .ok (.bipush 8, 2) := dk_16 8 (dk_at dksX3_ticketTold_4 0 rfl rfl)
theorem dX3_ticketTold_95 : decode cX3_ticketTold 95 = .ok (.aload 5, 2) := dk_25 5 (dk_at dksX3_ticketTold_4 2 rfl rfl)
theorem dX3_ticketTold_97 : decode cX3_ticketTold 97 = .ok (.iconst 2, 1) := dk_5 (dk_at dksX3_ticketTold_4 4 rfl rfl)
theorem dX3_ticketTold_98 : decode cX3_ticketTold 98 = .ok (.iaload, 1) := dk_46 (dk_at dksX3_ticketTold_4 5 rfl rfl)
theorem dX3_ticketTold_99 : decode cX3_ticketTold 99 = .ok (.iastore, 1) := dk_79 (dk_at dksX3_ticketTold_4 6 rfl rfl)
theorem dX3_ticketTold_100 : decode cX3_ticketTold 100 = .ok (.dup, 1) := dk_89 (dk_at dksX3_ticketTold_4 7 rfl rfl)
theorem dX3_ticketTold_101 : decode cX3_ticketTold 101 = .ok (.bipush 9, 2) := dk_16 9 (dk_at dksX3_ticketTold_4 8 rfl rfl)
theorem dX3_ticketTold_103 : decode cX3_ticketTold 103 = .ok (.aload 5, 2) := dk_25 5 (dk_at dksX3_ticketTold_4 10 rfl rfl)
theorem dX3_ticketTold_105 : decode cX3_ticketTold 105 = .ok (.iconst 4, 1) := dk_7 (dk_at dksX3_ticketTold_4 12 rfl rfl)
theorem dX3_ticketTold_106 : decode cX3_ticketTold 106 = .ok (.iaload, 1) := dk_46 (dk_at dksX3_ticketTold_4 13 rfl rfl)
theorem dX3_ticketTold_107 : decode cX3_ticketTold 107 = .ok (.iastore, 1) := dk_79 (dk_at dksX3_ticketTold_4 14 rfl rfl)
theorem dX3_ticketTold_108 : decode cX3_ticketTold 108 = .ok (.dup, 1) := dk_89 (dk_at dksX3_ticketTold_4 15 rfl rfl)
theorem dX3_ticketTold_109 : decode cX3_ticketTold 109 = .ok (.bipush 10, 2) := dk_16 10 (dk_at dksX3_ticketTold_4 16 rfl rfl)
theorem dX3_ticketTold_111 : decode cX3_ticketTold 111 = .ok (.aload_n 0, 1) := dk_42 (dk_at dksX3_ticketTold_4 18 rfl rfl)
theorem dX3_ticketTold_112 : decode cX3_ticketTold 112 = .ok (.getfield 22, 3) := dk_180 0 22 (dk_at dksX3_ticketTold_4 19 rfl rfl)
theorem dX3_ticketTold_115 : decode cX3_ticketTold 115 = .ok (.iload_n 2, 1) := dk_28 (dk_at dksX3_ticketTold_4 22 rfl rfl)
theorem dX3_ticketTold_116 : decode cX3_ticketTold 116 = .ok (.invokestatic 114, 3) := dk_184 0 114 (dk_at dksX3_ticketTold_5 0 rfl rfl)
theorem dX3_ticketTold_119 : decode cX3_ticketTold 119 = .ok (.iastore, 1) := dk_79 (dk_at dksX3_ticketTold_5 3 rfl rfl)
theorem dX3_ticketTold_120 : decode cX3_ticketTold 120 = .ok (.astore 6, 2) := dk_58 6 (dk_at dksX3_ticketTold_5 4 rfl rfl)
theorem dX3_ticketTold_122 : decode cX3_ticketTold 122 = .ok (.aload 6, 2) := dk_25 6 (dk_at dksX3_ticketTold_5 6 rfl rfl)
theorem dX3_ticketTold_124 : decode cX3_ticketTold 124 = .ok (.iload_n 3, 1) := dk_29 (dk_at dksX3_ticketTold_5 8 rfl rfl)
theorem dX3_ticketTold_125 : decode cX3_ticketTold 125 = .ok (.iaload, 1) := dk_46 (dk_at dksX3_ticketTold_5 9 rfl rfl)
theorem dX3_ticketTold_126 : decode cX3_ticketTold 126 = .ok (.ireturn, 1) := dk_172 (dk_at dksX3_ticketTold_5 10 rfl rfl)
abbrev cX3_carrier : ByteArray := prog_15_method_53_code
def yX3_carrier : MethodName := ⟨RX3, "carrier", "(II)I"⟩
def dkwX3_carrier_2 : List UInt8 := [182, 1, 35, 172]
abbrev dktX3_carrier_2 : List UInt8 := dkwX3_carrier_2 ++ []
def dkwX3_carrier_1 : List UInt8 := [154, 0, 7, 4, 167, 0, 4, 3, 5, 182, 0, 36, 153, 0, 7, 3, 167, 0, 9, 42, 27, 28]
abbrev dktX3_carrier_1 : List UInt8 := dkwX3_carrier_1 ++ dktX3_carrier_2
def dkwX3_carrier_0 : List UInt8 := [42, 27, 184, 0, 254, 4, 182, 0, 219, 154, 0, 28, 42, 28, 3, 42, 180, 0, 48, 184, 0, 44]
abbrev dktX3_carrier_0 : List UInt8 := dkwX3_carrier_0 ++ dktX3_carrier_1
theorem dksX3_carrier_0 : cX3_carrier.data.toList.drop 0 = dktX3_carrier_0 := by decide +kernel
theorem dksX3_carrier_1 : cX3_carrier.data.toList.drop 22 = dktX3_carrier_1 := dk_seg dksX3_carrier_0 22 rfl rfl
theorem dksX3_carrier_2 : cX3_carrier.data.toList.drop 44 = dktX3_carrier_2 := dk_seg dksX3_carrier_1 22 rfl rfl
theorem dX3_carrier_0 : decode cX3_carrier 0 = .ok (.aload_n 0, 1) := dk_42 (dk_at dksX3_carrier_0 0 rfl rfl)
theorem dX3_carrier_1 : decode cX3_carrier 1 = .ok (.iload_n 1, 1) := dk_27 (dk_at dksX3_carrier_0 1 rfl rfl)
theorem dX3_carrier_2 : decode cX3_carrier 2 = .ok (.invokestatic 254, 3) := dk_184 0 254 (dk_at dksX3_carrier_0 2 rfl rfl)
theorem dX3_carrier_5 : decode cX3_carrier 5 = .ok (.iconst 1, 1) := dk_4 (dk_at dksX3_carrier_0 5 rfl rfl)
theorem dX3_carrier_6 : decode cX3_carrier 6 = .ok (.invokevirtual 219, 3) := dk_182 0 219 (dk_at dksX3_carrier_0 6 rfl rfl)
theorem dX3_carrier_9 : decode cX3_carrier 9 = .ok (.ifCond .ne 28, 3) := dk_154 0 28 (dk_at dksX3_carrier_0 9 rfl rfl)
theorem dX3_carrier_12 : decode cX3_carrier 12 = .ok (.aload_n 0, 1) := dk_42 (dk_at dksX3_carrier_0 12 rfl rfl)
theorem dX3_carrier_13 : decode cX3_carrier 13 = .ok (.iload_n 2, 1) := dk_28 (dk_at dksX3_carrier_0 13 rfl rfl)
theorem dX3_carrier_14 : decode cX3_carrier 14 = .ok (.iconst 0, 1) := dk_3 (dk_at dksX3_carrier_0 14 rfl rfl)
theorem dX3_carrier_15 : decode cX3_carrier 15 = .ok (.aload_n 0, 1) := dk_42 (dk_at dksX3_carrier_0 15 rfl rfl)
theorem dX3_carrier_16 : decode cX3_carrier 16 = .ok (.getfield 48, 3) := dk_180 0 48 (dk_at dksX3_carrier_0 16 rfl rfl)
theorem dX3_carrier_19 : decode cX3_carrier 19 = .ok (.invokestatic 44, 3) := dk_184 0 44 (dk_at dksX3_carrier_0 19 rfl rfl)
theorem dX3_carrier_22 : decode cX3_carrier 22 = .ok (.ifCond .ne 7, 3) := dk_154 0 7 (dk_at dksX3_carrier_1 0 rfl rfl)
theorem dX3_carrier_25 : decode cX3_carrier 25 = .ok (.iconst 1, 1) := dk_4 (dk_at dksX3_carrier_1 3 rfl rfl)
theorem dX3_carrier_26 : decode cX3_carrier 26 = .ok (.goto 4, 3) := dk_167 0 4 (dk_at dksX3_carrier_1 4 rfl rfl)
theorem dX3_carrier_29 : decode cX3_carrier 29 = .ok (.iconst 0, 1) := dk_3 (dk_at dksX3_carrier_1 7 rfl rfl)
theorem dX3_carrier_30 : decode cX3_carrier 30 = .ok (.iconst 2, 1) := dk_5 (dk_at dksX3_carrier_1 8 rfl rfl)
theorem dX3_carrier_31 : decode cX3_carrier 31 = .ok (.invokevirtual 36, 3) := dk_182 0 36 (dk_at dksX3_carrier_1 9 rfl rfl)
theorem dX3_carrier_34 : decode cX3_carrier 34 = .ok (.ifCond .eq 7, 3) := dk_153 0 7 (dk_at dksX3_carrier_1 12 rfl rfl)
theorem dX3_carrier_37 : decode cX3_carrier 37 = .ok (.iconst 0, 1) := dk_3 (dk_at dksX3_carrier_1 15 rfl rfl)
theorem dX3_carrier_38 : decode cX3_carrier 38 = .ok (.goto 9, 3) := dk_167 0 9 (dk_at dksX3_carrier_1 16 rfl rfl)
theorem dX3_carrier_41 : decode cX3_carrier 41 = .ok (.aload_n 0, 1) := dk_42 (dk_at dksX3_carrier_1 19 rfl rfl)
theorem dX3_carrier_42 : decode cX3_carrier 42 = .ok (.iload_n 1, 1) := dk_27 (dk_at dksX3_carrier_1 20 rfl rfl)
theorem dX3_carrier_43 : decode cX3_carrier 43 = .ok (.iload_n 2, 1) := dk_28 (dk_at dksX3_carrier_1 21 rfl rfl)
theorem dX3_carrier_44 : decode cX3_carrier 44 = .ok (.invokevirtual 291, 3) := dk_182 1 35 (dk_at dksX3_carrier_2 0 rfl rfl)
theorem dX3_carrier_47 : decode cX3_carrier 47 = .ok (.ireturn, 1) := dk_172 (dk_at dksX3_carrier_2 3 rfl rfl)
abbrev cX3_settlement : ByteArray := prog_15_method_54_code
def yX3_settlement : MethodName := ⟨RX3, "settlement", "(I)I"⟩
def dkwX3_settlement_1 : List UInt8 := [167, 0, 8, 42, 27, 182, 1, 41, 172]
abbrev dktX3_settlement_1 : List UInt8 := dkwX3_settlement_1 ++ []
def dkwX3_settlement_0 : List UInt8 := [42, 27, 4, 6, 184, 0, 44, 154, 0, 7, 4, 167, 0, 4, 3, 4, 182, 0, 219, 153, 0, 7, 3]
abbrev dktX3_settlement_0 : List UInt8 := dkwX3_settlement_0 ++ dktX3_settlement_1
theorem dksX3_settlement_0 : cX3_settlement.data.toList.drop 0 = dktX3_settlement_0 := by decide +kernel
theorem dksX3_settlement_1 : cX3_settlement.data.toList.drop 23 = dktX3_settlement_1 := dk_seg dksX3_settlement_0 23 rfl rfl
theorem dX3_settlement_0 : decode cX3_settlement 0 = .ok (.aload_n 0, 1) := dk_42 (dk_at dksX3_settlement_0 0 rfl rfl)
theorem dX3_settlement_1 : decode cX3_settlement 1 = .ok (.iload_n 1, 1) := dk_27 (dk_at dksX3_settlement_0 1 rfl rfl)
theorem dX3_settlement_2 : decode cX3_settlement 2 = .ok (.iconst 1, 1) := dk_4 (dk_at dksX3_settlement_0 2 rfl rfl)
theorem dX3_settlement_3 : decode cX3_settlement 3 = .ok (.iconst 3, 1) := dk_6 (dk_at dksX3_settlement_0 3 rfl rfl)
theorem dX3_settlement_4 : decode cX3_settlement 4 = .ok (.invokestatic 44, 3) := dk_184 0 44 (dk_at dksX3_settlement_0 4 rfl rfl)
theorem dX3_settlement_7 : decode cX3_settlement 7 = .ok (.ifCond .ne 7, 3) := dk_154 0 7 (dk_at dksX3_settlement_0 7 rfl rfl)
theorem dX3_settlement_10 : decode cX3_settlement 10 = .ok (.iconst 1, 1) := dk_4 (dk_at dksX3_settlement_0 10 rfl rfl)
theorem dX3_settlement_11 : decode cX3_settlement 11 = .ok (.goto 4, 3) := dk_167 0 4 (dk_at dksX3_settlement_0 11 rfl rfl)
theorem dX3_settlement_14 : decode cX3_settlement 14 = .ok (.iconst 0, 1) := dk_3 (dk_at dksX3_settlement_0 14 rfl rfl)
theorem dX3_settlement_15 : decode cX3_settlement 15 = .ok (.iconst 1, 1) := dk_4 (dk_at dksX3_settlement_0 15 rfl rfl)
theorem dX3_settlement_16 : decode cX3_settlement 16 = .ok (.invokevirtual 219, 3) := dk_182 0 219 (dk_at dksX3_settlement_0 16 rfl rfl)
theorem dX3_settlement_19 : decode cX3_settlement 19 = .ok (.ifCond .eq 7, 3) := dk_153 0 7 (dk_at dksX3_settlement_0 19 rfl rfl)
theorem dX3_settlement_22 : decode cX3_settlement 22 = .ok (.iconst 0, 1) := dk_3 (dk_at dksX3_settlement_0 22 rfl rfl)
theorem dX3_settlement_23 : decode cX3_settlement 23 = .ok (.goto 8, 3) := dk_167 0 8 (dk_at dksX3_settlement_1 0 rfl rfl)
theorem dX3_settlement_26 : decode cX3_settlement 26 = .ok (.aload_n 0, 1) := dk_42 (dk_at dksX3_settlement_1 3 rfl rfl)
theorem dX3_settlement_27 : decode cX3_settlement 27 = .ok (.iload_n 1, 1) := dk_27 (dk_at dksX3_settlement_1 4 rfl rfl)
theorem dX3_settlement_28 : decode cX3_settlement 28 = .ok (.invokevirtual 297, 3) := dk_182 1 41 (dk_at dksX3_settlement_1 5 rfl rfl)
theorem dX3_settlement_31 : decode cX3_settlement 31 = .ok (.ireturn, 1) := dk_172 (dk_at dksX3_settlement_1 8 rfl rfl)
abbrev cX3_suspect : ByteArray := prog_15_method_58_code
def yX3_suspect : MethodName := ⟨RX3, "suspect", "(I)I"⟩
def dkwX3_suspect_0 : List UInt8 := [42, 42, 27, 182, 0, 243, 4, 182, 0, 219, 153, 0, 7, 3, 167, 0, 8, 42, 27, 182, 1, 60, 172]
abbrev dktX3_suspect_0 : List UInt8 := dkwX3_suspect_0 ++ []
theorem dksX3_suspect_0 : cX3_suspect.data.toList.drop 0 = dktX3_suspect_0 := by decide +kernel
theorem dX3_suspect_0 : decode cX3_suspect 0 = .ok (.aload_n 0, 1) := dk_42 (dk_at dksX3_suspect_0 0 rfl rfl)
theorem dX3_suspect_1 : decode cX3_suspect 1 = .ok (.aload_n 0, 1) := dk_42 (dk_at dksX3_suspect_0 1 rfl rfl)
theorem dX3_suspect_2 : decode cX3_suspect 2 = .ok (.iload_n 1, 1) := dk_27 (dk_at dksX3_suspect_0 2 rfl rfl)
theorem dX3_suspect_3 : decode cX3_suspect 3 = .ok (.invokevirtual 243, 3) := dk_182 0 243 (dk_at dksX3_suspect_0 3 rfl rfl)
theorem dX3_suspect_6 : decode cX3_suspect 6 = .ok (.iconst 1, 1) := dk_4 (dk_at dksX3_suspect_0 6 rfl rfl)
theorem dX3_suspect_7 : decode cX3_suspect 7 = .ok (.invokevirtual 219, 3) := dk_182 0 219 (dk_at dksX3_suspect_0 7 rfl rfl)
theorem dX3_suspect_10 : decode cX3_suspect 10 = .ok (.ifCond .eq 7, 3) := dk_153 0 7 (dk_at dksX3_suspect_0 10 rfl rfl)
theorem dX3_suspect_13 : decode cX3_suspect 13 = .ok (.iconst 0, 1) := dk_3 (dk_at dksX3_suspect_0 13 rfl rfl)
theorem dX3_suspect_14 : decode cX3_suspect 14 = .ok (.goto 8, 3) := dk_167 0 8 (dk_at dksX3_suspect_0 14 rfl rfl)
theorem dX3_suspect_17 : decode cX3_suspect 17 = .ok (.aload_n 0, 1) := dk_42 (dk_at dksX3_suspect_0 17 rfl rfl)
theorem dX3_suspect_18 : decode cX3_suspect 18 = .ok (.iload_n 1, 1) := dk_27 (dk_at dksX3_suspect_0 18 rfl rfl)
theorem dX3_suspect_19 : decode cX3_suspect 19 = .ok (.invokevirtual 316, 3) := dk_182 1 60 (dk_at dksX3_suspect_0 19 rfl rfl)
theorem dX3_suspect_22 : decode cX3_suspect 22 = .ok (.ireturn, 1) := dk_172 (dk_at dksX3_suspect_0 22 rfl rfl)
abbrev cX3_suspectOf : ByteArray := prog_15_method_57_code
def yX3_suspectOf : MethodName := ⟨RX3, "suspectOf", "(I)I"⟩
def dkwX3_suspectOf_3 : List UInt8 := [182, 1, 57, 126, 184, 0, 247, 6, 161, 0, 7, 28, 7, 128, 61, 132, 3, 1, 167, 255, 213, 28, 172]
abbrev dktX3_suspectOf_3 : List UInt8 := dkwX3_suspectOf_3 ++ []
def dkwX3_suspectOf_2 : List UInt8 := [180, 0, 16, 182, 0, 40, 162, 0, 38, 29, 27, 159, 0, 27, 42, 27, 2, 182, 1, 57, 42, 29, 2]
abbrev dktX3_suspectOf_2 : List UInt8 := dkwX3_suspectOf_2 ++ dktX3_suspectOf_3
def dkwX3_suspectOf_1 : List UInt8 := [182, 1, 57, 184, 0, 247, 8, 161, 0, 7, 28, 5, 128, 61, 132, 3, 1, 167, 255, 228, 3, 62, 29, 42]
abbrev dktX3_suspectOf_1 : List UInt8 := dkwX3_suspectOf_1 ++ dktX3_suspectOf_2
def dkwX3_suspectOf_0 : List UInt8 := [42, 27, 182, 1, 54, 184, 0, 78, 61, 3, 62, 29, 42, 180, 0, 48, 163, 0, 26, 42, 27, 29]
abbrev dktX3_suspectOf_0 : List UInt8 := dkwX3_suspectOf_0 ++ dktX3_suspectOf_1
theorem dksX3_suspectOf_0 : cX3_suspectOf.data.toList.drop 0 = dktX3_suspectOf_0 := by decide +kernel
theorem dksX3_suspectOf_1 : cX3_suspectOf.data.toList.drop 22 = dktX3_suspectOf_1 := dk_seg dksX3_suspectOf_0 22 rfl rfl
theorem dksX3_suspectOf_2 : cX3_suspectOf.data.toList.drop 46 = dktX3_suspectOf_2 := dk_seg dksX3_suspectOf_1 24 rfl rfl
theorem dksX3_suspectOf_3 : cX3_suspectOf.data.toList.drop 69 = dktX3_suspectOf_3 := dk_seg dksX3_suspectOf_2 23 rfl rfl
theorem dX3_suspectOf_0 : decode cX3_suspectOf 0 = .ok (.aload_n 0, 1) := dk_42 (dk_at dksX3_suspectOf_0 0 rfl rfl)
theorem dX3_suspectOf_1 : decode cX3_suspectOf 1 = .ok (.iload_n 1, 1) := dk_27 (dk_at dksX3_suspectOf_0 1 rfl rfl)
theorem dX3_suspectOf_2 : decode cX3_suspectOf 2 = .ok (.invokevirtual 310, 3) := dk_182 1 54 (dk_at dksX3_suspectOf_0 2 rfl rfl)
theorem dX3_suspectOf_5 : decode cX3_suspectOf 5 = .ok (.invokestatic 78, 3) := dk_184 0 78 (dk_at dksX3_suspectOf_0 5 rfl rfl)
theorem dX3_suspectOf_8 : decode cX3_suspectOf 8 = .ok (.istore_n 2, 1) := dk_61 (dk_at dksX3_suspectOf_0 8 rfl rfl)
theorem dX3_suspectOf_9 : decode cX3_suspectOf 9 = .ok (.iconst 0, 1) := dk_3 (dk_at dksX3_suspectOf_0 9 rfl rfl)
theorem dX3_suspectOf_10 : decode cX3_suspectOf 10 = .ok (.istore_n 3, 1) := dk_62 (dk_at dksX3_suspectOf_0 10 rfl rfl)
theorem dX3_suspectOf_11 : decode cX3_suspectOf 11 = .ok (.iload_n 3, 1) := dk_29 (dk_at dksX3_suspectOf_0 11 rfl rfl)
theorem dX3_suspectOf_12 : decode cX3_suspectOf 12 = .ok (.aload_n 0, 1) := dk_42 (dk_at dksX3_suspectOf_0 12 rfl rfl)
theorem dX3_suspectOf_13 : decode cX3_suspectOf 13 = .ok (.getfield 48, 3) := dk_180 0 48 (dk_at dksX3_suspectOf_0 13 rfl rfl)
theorem dX3_suspectOf_16 : decode cX3_suspectOf 16 = .ok (.if_icmp .gt 26, 3) := dk_163 0 26 (dk_at dksX3_suspectOf_0 16 rfl rfl)
theorem dX3_suspectOf_19 : decode cX3_suspectOf 19 = .ok (.aload_n 0, 1) := dk_42 (dk_at dksX3_suspectOf_0 19 rfl rfl)
theorem dX3_suspectOf_20 : decode cX3_suspectOf 20 = .ok (.iload_n 1, 1) := dk_27 (dk_at dksX3_suspectOf_0 20 rfl rfl)
theorem dX3_suspectOf_21 : decode cX3_suspectOf 21 = .ok (.iload_n 3, 1) := dk_29 (dk_at dksX3_suspectOf_0 21 rfl rfl)
theorem dX3_suspectOf_22 : decode cX3_suspectOf 22 = .ok (.invokevirtual 313, 3) := dk_182 1 57 (dk_at dksX3_suspectOf_1 0 rfl rfl)
theorem dX3_suspectOf_25 : decode cX3_suspectOf 25 = .ok (.invokestatic 247, 3) := dk_184 0 247 (dk_at dksX3_suspectOf_1 3 rfl rfl)
theorem dX3_suspectOf_28 : decode cX3_suspectOf 28 = .ok (.iconst 5, 1) := dk_8 (dk_at dksX3_suspectOf_1 6 rfl rfl)
theorem dX3_suspectOf_29 : decode cX3_suspectOf 29 = .ok (.if_icmp .lt 7, 3) := dk_161 0 7 (dk_at dksX3_suspectOf_1 7 rfl rfl)
theorem dX3_suspectOf_32 : decode cX3_suspectOf 32 = .ok (.iload_n 2, 1) := dk_28 (dk_at dksX3_suspectOf_1 10 rfl rfl)
theorem dX3_suspectOf_33 : decode cX3_suspectOf 33 = .ok (.iconst 2, 1) := dk_5 (dk_at dksX3_suspectOf_1 11 rfl rfl)
theorem dX3_suspectOf_34 : decode cX3_suspectOf 34 = .ok (.ior, 1) := dk_128 (dk_at dksX3_suspectOf_1 12 rfl rfl)
theorem dX3_suspectOf_35 : decode cX3_suspectOf 35 = .ok (.istore_n 2, 1) := dk_61 (dk_at dksX3_suspectOf_1 13 rfl rfl)
theorem dX3_suspectOf_36 : decode cX3_suspectOf 36 = .ok (.iinc 3 1, 3) := dk_132 3 1 (dk_at dksX3_suspectOf_1 14 rfl rfl)
theorem dX3_suspectOf_39 : decode cX3_suspectOf 39 = .ok (.goto (-28), 3) := dk_167 255 228 (dk_at dksX3_suspectOf_1 17 rfl rfl)
theorem dX3_suspectOf_42 : decode cX3_suspectOf 42 = .ok (.iconst 0, 1) := dk_3 (dk_at dksX3_suspectOf_1 20 rfl rfl)
theorem dX3_suspectOf_43 : decode cX3_suspectOf 43 = .ok (.istore_n 3, 1) := dk_62 (dk_at dksX3_suspectOf_1 21 rfl rfl)
theorem dX3_suspectOf_44 : decode cX3_suspectOf 44 = .ok (.iload_n 3, 1) := dk_29 (dk_at dksX3_suspectOf_1 22 rfl rfl)
theorem dX3_suspectOf_45 : decode cX3_suspectOf 45 = .ok (.aload_n 0, 1) := dk_42 (dk_at dksX3_suspectOf_1 23 rfl rfl)
theorem dX3_suspectOf_46 : decode cX3_suspectOf 46 = .ok (.getfield 16, 3) := dk_180 0 16 (dk_at dksX3_suspectOf_2 0 rfl rfl)
theorem dX3_suspectOf_49 : decode cX3_suspectOf 49 = .ok (.invokevirtual 40, 3) := dk_182 0 40 (dk_at dksX3_suspectOf_2 3 rfl rfl)
theorem dX3_suspectOf_52 : decode cX3_suspectOf 52 = .ok (.if_icmp .ge 38, 3) := dk_162 0 38 (dk_at dksX3_suspectOf_2 6 rfl rfl)
theorem dX3_suspectOf_55 : decode cX3_suspectOf 55 = .ok (.iload_n 3, 1) := dk_29 (dk_at dksX3_suspectOf_2 9 rfl rfl)
theorem dX3_suspectOf_56 : decode cX3_suspectOf 56 = .ok (.iload_n 1, 1) := dk_27 (dk_at dksX3_suspectOf_2 10 rfl rfl)
theorem dX3_suspectOf_57 : decode cX3_suspectOf 57 = .ok (.if_icmp .eq 27, 3) := dk_159 0 27 (dk_at dksX3_suspectOf_2 11 rfl rfl)
theorem dX3_suspectOf_60 : decode cX3_suspectOf 60 = .ok (.aload_n 0, 1) := dk_42 (dk_at dksX3_suspectOf_2 14 rfl rfl)
theorem dX3_suspectOf_61 : decode cX3_suspectOf 61 = .ok (.iload_n 1, 1) := dk_27 (dk_at dksX3_suspectOf_2 15 rfl rfl)
theorem dX3_suspectOf_62 : decode cX3_suspectOf 62 = .ok (.iconst (-1), 1) := dk_2 (dk_at dksX3_suspectOf_2 16 rfl rfl)
theorem dX3_suspectOf_63 : decode cX3_suspectOf 63 = .ok (.invokevirtual 313, 3) := dk_182 1 57 (dk_at dksX3_suspectOf_2 17 rfl rfl)
theorem dX3_suspectOf_66 : decode cX3_suspectOf 66 = .ok (.aload_n 0, 1) := dk_42 (dk_at dksX3_suspectOf_2 20 rfl rfl)
theorem dX3_suspectOf_67 : decode cX3_suspectOf 67 = .ok (.iload_n 3, 1) := dk_29 (dk_at dksX3_suspectOf_2 21 rfl rfl)
theorem dX3_suspectOf_68 : decode cX3_suspectOf 68 = .ok (.iconst (-1), 1) := dk_2 (dk_at dksX3_suspectOf_2 22 rfl rfl)
theorem dX3_suspectOf_69 : decode cX3_suspectOf 69 = .ok (.invokevirtual 313, 3) := dk_182 1 57 (dk_at dksX3_suspectOf_3 0 rfl rfl)
theorem dX3_suspectOf_72 : decode cX3_suspectOf 72 = .ok (.iand, 1) := dk_126 (dk_at dksX3_suspectOf_3 3 rfl rfl)
theorem dX3_suspectOf_73 : decode cX3_suspectOf 73 = .ok (.invokestatic 247, 3) := dk_184 0 247 (dk_at dksX3_suspectOf_3 4 rfl rfl)
theorem dX3_suspectOf_76 : decode cX3_suspectOf 76 = .ok (.iconst 3, 1) := dk_6 (dk_at dksX3_suspectOf_3 7 rfl rfl)
theorem dX3_suspectOf_77 : decode cX3_suspectOf 77 = .ok (.if_icmp .lt 7, 3) := dk_161 0 7 (dk_at dksX3_suspectOf_3 8 rfl rfl)
theorem dX3_suspectOf_80 : decode cX3_suspectOf 80 = .ok (.iload_n 2, 1) := dk_28 (dk_at dksX3_suspectOf_3 11 rfl rfl)
theorem dX3_suspectOf_81 : decode cX3_suspectOf 81 = .ok (.iconst 4, 1) := dk_7 (dk_at dksX3_suspectOf_3 12 rfl rfl)
theorem dX3_suspectOf_82 : decode cX3_suspectOf 82 = .ok (.ior, 1) := dk_128 (dk_at dksX3_suspectOf_3 13 rfl rfl)
theorem dX3_suspectOf_83 : decode cX3_suspectOf 83 = .ok (.istore_n 2, 1) := dk_61 (dk_at dksX3_suspectOf_3 14 rfl rfl)
theorem dX3_suspectOf_84 : decode cX3_suspectOf 84 = .ok (.iinc 3 1, 3) := dk_132 3 1 (dk_at dksX3_suspectOf_3 15 rfl rfl)
theorem dX3_suspectOf_87 : decode cX3_suspectOf 87 = .ok (.goto (-43), 3) := dk_167 255 213 (dk_at dksX3_suspectOf_3 18 rfl rfl)
theorem dX3_suspectOf_90 : decode cX3_suspectOf 90 = .ok (.iload_n 2, 1) := dk_28 (dk_at dksX3_suspectOf_3 21 rfl rfl)
theorem dX3_suspectOf_91 : decode cX3_suspectOf 91 = .ok (.ireturn, 1) := dk_172 (dk_at dksX3_suspectOf_3 22 rfl rfl)
abbrev cX3_isOverlapped : ByteArray := prog_15_method_56_code
def yX3_isOverlapped : MethodName := ⟨RX3, "isOverlapped", "(I)Z"⟩
def dkwX3_isOverlapped_4 : List UInt8 := [100, 184, 0, 44, 153, 0, 5, 4, 172, 132, 3, 1, 167, 255, 166, 132, 2, 1, 167, 255, 147, 3, 172]
abbrev dktX3_isOverlapped_4 : List UInt8 := dkwX3_isOverlapped_4 ++ []
def dkwX3_isOverlapped_3 : List UInt8 := [182, 1, 38, 153, 0, 30, 25, 5, 182, 0, 75, 25, 4, 182, 0, 75, 100, 3, 25, 4, 180, 0, 145, 4]
abbrev dktX3_isOverlapped_3 : List UInt8 := dkwX3_isOverlapped_3 ++ dktX3_isOverlapped_4
def dkwX3_isOverlapped_2 : List UInt8 := [192, 0, 73, 58, 5, 28, 29, 159, 0, 48, 25, 4, 27, 182, 1, 38, 153, 0, 39, 25, 5, 27]
abbrev dktX3_isOverlapped_2 : List UInt8 := dkwX3_isOverlapped_2 ++ dktX3_isOverlapped_3
def dkwX3_isOverlapped_1 : List UInt8 := [162, 0, 85, 42, 180, 0, 22, 28, 182, 0, 51, 192, 0, 73, 58, 4, 42, 180, 0, 22, 29, 182, 0, 51]
abbrev dktX3_isOverlapped_1 : List UInt8 := dkwX3_isOverlapped_1 ++ dktX3_isOverlapped_2
def dkwX3_isOverlapped_0 : List UInt8 := [3, 61, 28, 42, 180, 0, 22, 182, 0, 40, 162, 0, 104, 3, 62, 29, 42, 180, 0, 22, 182, 0, 40]
abbrev dktX3_isOverlapped_0 : List UInt8 := dkwX3_isOverlapped_0 ++ dktX3_isOverlapped_1
theorem dksX3_isOverlapped_0 : cX3_isOverlapped.data.toList.drop 0 = dktX3_isOverlapped_0 := by decide +kernel
theorem dksX3_isOverlapped_1 : cX3_isOverlapped.data.toList.drop 23 = dktX3_isOverlapped_1 := dk_seg dksX3_isOverlapped_0 23 rfl rfl
theorem dksX3_isOverlapped_2 : cX3_isOverlapped.data.toList.drop 47 = dktX3_isOverlapped_2 := dk_seg dksX3_isOverlapped_1 24 rfl rfl
theorem dksX3_isOverlapped_3 : cX3_isOverlapped.data.toList.drop 69 = dktX3_isOverlapped_3 := dk_seg dksX3_isOverlapped_2 22 rfl rfl
theorem dksX3_isOverlapped_4 : cX3_isOverlapped.data.toList.drop 93 = dktX3_isOverlapped_4 := dk_seg dksX3_isOverlapped_3 24 rfl rfl
theorem dX3_isOverlapped_0 : decode cX3_isOverlapped 0 = .ok (.iconst 0, 1) := dk_3 (dk_at dksX3_isOverlapped_0 0 rfl rfl)
theorem dX3_isOverlapped_1 : decode cX3_isOverlapped 1 = .ok (.istore_n 2, 1) := dk_61 (dk_at dksX3_isOverlapped_0 1 rfl rfl)
theorem dX3_isOverlapped_2 : decode cX3_isOverlapped 2 = .ok (.iload_n 2, 1) := dk_28 (dk_at dksX3_isOverlapped_0 2 rfl rfl)
theorem dX3_isOverlapped_3 : decode cX3_isOverlapped 3 = .ok (.aload_n 0, 1) := dk_42 (dk_at dksX3_isOverlapped_0 3 rfl rfl)
theorem dX3_isOverlapped_4 : decode cX3_isOverlapped 4 = .ok (.getfield 22, 3) := dk_180 0 22 (dk_at dksX3_isOverlapped_0 4 rfl rfl)
theorem dX3_isOverlapped_7 : decode cX3_isOverlapped 7 = .ok (.invokevirtual 40, 3) := dk_182 0 40 (dk_at dksX3_isOverlapped_0 7 rfl rfl)
theorem dX3_isOverlapped_10 : decode cX3_isOverlapped 10 = .ok (.if_icmp .ge 104, 3) := dk_162 0 104 (dk_at dksX3_isOverlapped_0 10 rfl rfl)
theorem dX3_isOverlapped_13 : decode cX3_isOverlapped 13 = .ok (.iconst 0, 1) := dk_3 (dk_at dksX3_isOverlapped_0 13 rfl rfl)
theorem dX3_isOverlapped_14 : decode cX3_isOverlapped 14 = .ok (.istore_n 3, 1) := dk_62 (dk_at dksX3_isOverlapped_0 14 rfl rfl)
theorem dX3_isOverlapped_15 : decode cX3_isOverlapped 15 = .ok (.iload_n 3, 1) := dk_29 (dk_at dksX3_isOverlapped_0 15 rfl rfl)
theorem dX3_isOverlapped_16 : decode cX3_isOverlapped 16 = .ok (.aload_n 0, 1) := dk_42 (dk_at dksX3_isOverlapped_0 16 rfl rfl)
theorem dX3_isOverlapped_17 : decode cX3_isOverlapped 17 = .ok (.getfield 22, 3) := dk_180 0 22 (dk_at dksX3_isOverlapped_0 17 rfl rfl)
theorem dX3_isOverlapped_20 : decode cX3_isOverlapped 20 = .ok (.invokevirtual 40, 3) := dk_182 0 40 (dk_at dksX3_isOverlapped_0 20 rfl rfl)
theorem dX3_isOverlapped_23 : decode cX3_isOverlapped 23 = .ok (.if_icmp .ge 85, 3) := dk_162 0 85 (dk_at dksX3_isOverlapped_1 0 rfl rfl)
theorem dX3_isOverlapped_26 : decode cX3_isOverlapped 26 = .ok (.aload_n 0, 1) := dk_42 (dk_at dksX3_isOverlapped_1 3 rfl rfl)
theorem dX3_isOverlapped_27 : decode cX3_isOverlapped 27 = .ok (.getfield 22, 3) := dk_180 0 22 (dk_at dksX3_isOverlapped_1 4 rfl rfl)
theorem dX3_isOverlapped_30 : decode cX3_isOverlapped 30 = .ok (.iload_n 2, 1) := dk_28 (dk_at dksX3_isOverlapped_1 7 rfl rfl)
theorem dX3_isOverlapped_31 : decode cX3_isOverlapped 31 = .ok (.invokevirtual 51, 3) := dk_182 0 51 (dk_at dksX3_isOverlapped_1 8 rfl rfl)
theorem dX3_isOverlapped_34 : decode cX3_isOverlapped 34 = .ok (.checkcast 73, 3) := dk_192 0 73 (dk_at dksX3_isOverlapped_1 11 rfl rfl)
theorem dX3_isOverlapped_37 : decode cX3_isOverlapped 37 = .ok (.astore 4, 2) := dk_58 4 (dk_at dksX3_isOverlapped_1 14 rfl rfl)
theorem dX3_isOverlapped_39 : decode cX3_isOverlapped 39 = .ok (.aload_n 0, 1) := dk_42 (dk_at dksX3_isOverlapped_1 16 rfl rfl)
theorem dX3_isOverlapped_40 : decode cX3_isOverlapped 40 = .ok (.getfield 22, 3) := dk_180 0 22 (dk_at dksX3_isOverlapped_1 17 rfl rfl)
theorem dX3_isOverlapped_43 : decode cX3_isOverlapped 43 = .ok (.iload_n 3, 1) := dk_29 (dk_at dksX3_isOverlapped_1 20 rfl rfl)
theorem dX3_isOverlapped_44 : decode cX3_isOverlapped 44 = .ok (.invokevirtual 51, 3) := dk_182 0 51 (dk_at dksX3_isOverlapped_1 21 rfl rfl)
theorem dX3_isOverlapped_47 : decode cX3_isOverlapped 47 = .ok (.checkcast 73, 3) := dk_192 0 73 (dk_at dksX3_isOverlapped_2 0 rfl rfl)
theorem dX3_isOverlapped_50 : decode cX3_isOverlapped 50 = .ok (.astore 5, 2) := dk_58 5 (dk_at dksX3_isOverlapped_2 3 rfl rfl)
theorem dX3_isOverlapped_52 : decode cX3_isOverlapped 52 = .ok (.iload_n 2, 1) := dk_28 (dk_at dksX3_isOverlapped_2 5 rfl rfl)
theorem dX3_isOverlapped_53 : decode cX3_isOverlapped 53 = .ok (.iload_n 3, 1) := dk_29 (dk_at dksX3_isOverlapped_2 6 rfl rfl)
theorem dX3_isOverlapped_54 : decode cX3_isOverlapped 54 = .ok (.if_icmp .eq 48, 3) := dk_159 0 48 (dk_at dksX3_isOverlapped_2 7 rfl rfl)
theorem dX3_isOverlapped_57 : decode cX3_isOverlapped 57 = .ok (.aload 4, 2) := dk_25 4 (dk_at dksX3_isOverlapped_2 10 rfl rfl)
theorem dX3_isOverlapped_59 : decode cX3_isOverlapped 59 = .ok (.iload_n 1, 1) := dk_27 (dk_at dksX3_isOverlapped_2 12 rfl rfl)
theorem dX3_isOverlapped_60 : decode cX3_isOverlapped 60 = .ok (.invokevirtual 294, 3) := dk_182 1 38 (dk_at dksX3_isOverlapped_2 13 rfl rfl)
theorem dX3_isOverlapped_63 : decode cX3_isOverlapped 63 = .ok (.ifCond .eq 39, 3) := dk_153 0 39 (dk_at dksX3_isOverlapped_2 16 rfl rfl)
theorem dX3_isOverlapped_66 : decode cX3_isOverlapped 66 = .ok (.aload 5, 2) := dk_25 5 (dk_at dksX3_isOverlapped_2 19 rfl rfl)
theorem dX3_isOverlapped_68 : decode cX3_isOverlapped 68 = .ok (.iload_n 1, 1) := dk_27 (dk_at dksX3_isOverlapped_2 21 rfl rfl)
theorem dX3_isOverlapped_69 : decode cX3_isOverlapped 69 = .ok (.invokevirtual 294, 3) := dk_182 1 38 (dk_at dksX3_isOverlapped_3 0 rfl rfl)
theorem dX3_isOverlapped_72 : decode cX3_isOverlapped 72 = .ok (.ifCond .eq 30, 3) := dk_153 0 30 (dk_at dksX3_isOverlapped_3 3 rfl rfl)
theorem dX3_isOverlapped_75 : decode cX3_isOverlapped 75 = .ok (.aload 5, 2) := dk_25 5 (dk_at dksX3_isOverlapped_3 6 rfl rfl)
theorem dX3_isOverlapped_77 : decode cX3_isOverlapped 77 = .ok (.invokevirtual 75, 3) := dk_182 0 75 (dk_at dksX3_isOverlapped_3 8 rfl rfl)
theorem dX3_isOverlapped_80 : decode cX3_isOverlapped 80 = .ok (.aload 4, 2) := dk_25 4 (dk_at dksX3_isOverlapped_3 11 rfl rfl)
theorem dX3_isOverlapped_82 : decode cX3_isOverlapped 82 = .ok (.invokevirtual 75, 3) := dk_182 0 75 (dk_at dksX3_isOverlapped_3 13 rfl rfl)
theorem dX3_isOverlapped_85 : decode cX3_isOverlapped 85 = .ok (.isub, 1) := dk_100 (dk_at dksX3_isOverlapped_3 16 rfl rfl)
theorem dX3_isOverlapped_86 : decode cX3_isOverlapped 86 = .ok (.iconst 0, 1) := dk_3 (dk_at dksX3_isOverlapped_3 17 rfl rfl)
theorem dX3_isOverlapped_87 : decode cX3_isOverlapped 87 = .ok (.aload 4, 2) := dk_25 4 (dk_at dksX3_isOverlapped_3 18 rfl rfl)
theorem dX3_isOverlapped_89 : decode cX3_isOverlapped 89 = .ok (.getfield 145, 3) := dk_180 0 145 (dk_at dksX3_isOverlapped_3 20 rfl rfl)
theorem dX3_isOverlapped_92 : decode cX3_isOverlapped 92 = .ok (.iconst 1, 1) := dk_4 (dk_at dksX3_isOverlapped_3 23 rfl rfl)
theorem dX3_isOverlapped_93 : decode cX3_isOverlapped 93 = .ok (.isub, 1) := dk_100 (dk_at dksX3_isOverlapped_4 0 rfl rfl)
theorem dX3_isOverlapped_94 : decode cX3_isOverlapped 94 = .ok (.invokestatic 44, 3) := dk_184 0 44 (dk_at dksX3_isOverlapped_4 1 rfl rfl)
theorem dX3_isOverlapped_97 : decode cX3_isOverlapped 97 = .ok (.ifCond .eq 5, 3) := dk_153 0 5 (dk_at dksX3_isOverlapped_4 4 rfl rfl)
theorem dX3_isOverlapped_100 : decode cX3_isOverlapped 100 = .ok (.iconst 1, 1) := dk_4 (dk_at dksX3_isOverlapped_4 7 rfl rfl)
theorem dX3_isOverlapped_101 : decode cX3_isOverlapped 101 = .ok (.ireturn, 1) := dk_172 (dk_at dksX3_isOverlapped_4 8 rfl rfl)
theorem dX3_isOverlapped_102 : decode cX3_isOverlapped 102 = .ok (.iinc 3 1, 3) := dk_132 3 1 (dk_at dksX3_isOverlapped_4 9 rfl rfl)
theorem dX3_isOverlapped_105 : decode cX3_isOverlapped 105 = .ok (.goto (-90), 3) := dk_167 255 166 (dk_at dksX3_isOverlapped_4 12 rfl rfl)
theorem dX3_isOverlapped_108 : decode cX3_isOverlapped 108 = .ok (.iinc 2 1, 3) := dk_132 2 1 (dk_at dksX3_isOverlapped_4 15 rfl rfl)
theorem dX3_isOverlapped_111 : decode cX3_isOverlapped 111 = .ok (.goto (-109), 3) := dk_167 255 147 (dk_at dksX3_isOverlapped_4 18 rfl rfl)
theorem dX3_isOverlapped_114 : decode cX3_isOverlapped 114 = .ok (.iconst 0, 1) := dk_3 (dk_at dksX3_isOverlapped_4 21 rfl rfl)
theorem dX3_isOverlapped_115 : decode cX3_isOverlapped 115 = .ok (.ireturn, 1) := dk_172 (dk_at dksX3_isOverlapped_4 22 rfl rfl)
abbrev cX3_called : ByteArray := prog_15_method_55_code
def yX3_called : MethodName := ⟨RX3, "called", "(II)I"⟩
def dkwX3_called_2 : List UInt8 := [25, 5, 180, 0, 118, 28, 160, 0, 13, 29, 4, 25, 5, 180, 0, 148, 120, 128, 62, 167, 255, 201, 29, 172]
abbrev dktX3_called_2 : List UInt8 := dkwX3_called_2 ++ []
def dkwX3_called_1 : List UInt8 := [185, 0, 203, 1, 0, 192, 0, 73, 58, 5, 25, 5, 27, 182, 1, 38, 153, 0, 27, 28, 2, 159, 0, 12]
abbrev dktX3_called_1 : List UInt8 := dkwX3_called_1 ++ dktX3_called_2
def dkwX3_called_0 : List UInt8 := [3, 62, 42, 180, 0, 22, 182, 0, 193, 58, 4, 25, 4, 185, 0, 197, 1, 0, 153, 0, 51, 25, 4]
abbrev dktX3_called_0 : List UInt8 := dkwX3_called_0 ++ dktX3_called_1
theorem dksX3_called_0 : cX3_called.data.toList.drop 0 = dktX3_called_0 := by decide +kernel
theorem dksX3_called_1 : cX3_called.data.toList.drop 23 = dktX3_called_1 := dk_seg dksX3_called_0 23 rfl rfl
theorem dksX3_called_2 : cX3_called.data.toList.drop 47 = dktX3_called_2 := dk_seg dksX3_called_1 24 rfl rfl
theorem dX3_called_0 : decode cX3_called 0 = .ok (.iconst 0, 1) := dk_3 (dk_at dksX3_called_0 0 rfl rfl)
theorem dX3_called_1 : decode cX3_called 1 = .ok (.istore_n 3, 1) := dk_62 (dk_at dksX3_called_0 1 rfl rfl)
theorem dX3_called_2 : decode cX3_called 2 = .ok (.aload_n 0, 1) := dk_42 (dk_at dksX3_called_0 2 rfl rfl)
theorem dX3_called_3 : decode cX3_called 3 = .ok (.getfield 22, 3) := dk_180 0 22 (dk_at dksX3_called_0 3 rfl rfl)
theorem dX3_called_6 : decode cX3_called 6 = .ok (.invokevirtual 193, 3) := dk_182 0 193 (dk_at dksX3_called_0 6 rfl rfl)
theorem dX3_called_9 : decode cX3_called 9 = .ok (.astore 4, 2) := dk_58 4 (dk_at dksX3_called_0 9 rfl rfl)
theorem dX3_called_11 : decode cX3_called 11 = .ok (.aload 4, 2) := dk_25 4 (dk_at dksX3_called_0 11 rfl rfl)
theorem dX3_called_13 : decode cX3_called 13 = .ok (.invokeinterface 197 1, 5) := by decide +kernel
theorem dX3_called_18 : decode cX3_called 18 = .ok (.ifCond .eq 51, 3) := dk_153 0 51 (dk_at dksX3_called_0 18 rfl rfl)
theorem dX3_called_21 : decode cX3_called 21 = .ok (.aload 4, 2) := dk_25 4 (dk_at dksX3_called_0 21 rfl rfl)
theorem dX3_called_23 : decode cX3_called 23 = .ok (.invokeinterface 203 1, 5) := by decide +kernel
theorem dX3_called_28 : decode cX3_called 28 = .ok (.checkcast 73, 3) := dk_192 0 73 (dk_at dksX3_called_1 5 rfl rfl)
theorem dX3_called_31 : decode cX3_called 31 = .ok (.astore 5, 2) := dk_58 5 (dk_at dksX3_called_1 8 rfl rfl)
theorem dX3_called_33 : decode cX3_called 33 = .ok (.aload 5, 2) := dk_25 5 (dk_at dksX3_called_1 10 rfl rfl)
theorem dX3_called_35 : decode cX3_called 35 = .ok (.iload_n 1, 1) := dk_27 (dk_at dksX3_called_1 12 rfl rfl)
theorem dX3_called_36 : decode cX3_called 36 = .ok (.invokevirtual 294, 3) := dk_182 1 38 (dk_at dksX3_called_1 13 rfl rfl)
theorem dX3_called_39 : decode cX3_called 39 = .ok (.ifCond .eq 27, 3) := dk_153 0 27 (dk_at dksX3_called_1 16 rfl rfl)
theorem dX3_called_42 : decode cX3_called 42 = .ok (.iload_n 2, 1) := dk_28 (dk_at dksX3_called_1 19 rfl rfl)
theorem dX3_called_43 : decode cX3_called 43 = .ok (.iconst (-1), 1) := dk_2 (dk_at dksX3_called_1 20 rfl rfl)
theorem dX3_called_44 : decode cX3_called 44 = .ok (.if_icmp .eq 12, 3) := dk_159 0 12 (dk_at dksX3_called_1 21 rfl rfl)
theorem dX3_called_47 : decode cX3_called 47 = .ok (.aload 5, 2) := dk_25 5 (dk_at dksX3_called_2 0 rfl rfl)
theorem dX3_called_49 : decode cX3_called 49 = .ok (.getfield 118, 3) := dk_180 0 118 (dk_at dksX3_called_2 2 rfl rfl)
theorem dX3_called_52 : decode cX3_called 52 = .ok (.iload_n 2, 1) := dk_28 (dk_at dksX3_called_2 5 rfl rfl)
theorem dX3_called_53 : decode cX3_called 53 = .ok (.if_icmp .ne 13, 3) := dk_160 0 13 (dk_at dksX3_called_2 6 rfl rfl)
theorem dX3_called_56 : decode cX3_called 56 = .ok (.iload_n 3, 1) := dk_29 (dk_at dksX3_called_2 9 rfl rfl)
theorem dX3_called_57 : decode cX3_called 57 = .ok (.iconst 1, 1) := dk_4 (dk_at dksX3_called_2 10 rfl rfl)
theorem dX3_called_58 : decode cX3_called 58 = .ok (.aload 5, 2) := dk_25 5 (dk_at dksX3_called_2 11 rfl rfl)
theorem dX3_called_60 : decode cX3_called 60 = .ok (.getfield 148, 3) := dk_180 0 148 (dk_at dksX3_called_2 13 rfl rfl)
theorem dX3_called_63 : decode cX3_called 63 = .ok (.ishl, 1) := dk_120 (dk_at dksX3_called_2 16 rfl rfl)
theorem dX3_called_64 : decode cX3_called 64 = .ok (.ior, 1) := dk_128 (dk_at dksX3_called_2 17 rfl rfl)
theorem dX3_called_65 : decode cX3_called 65 = .ok (.istore_n 3, 1) := dk_62 (dk_at dksX3_called_2 18 rfl rfl)
theorem dX3_called_66 : decode cX3_called 66 = .ok (.goto (-55), 3) := dk_167 255 201 (dk_at dksX3_called_2 19 rfl rfl)
theorem dX3_called_69 : decode cX3_called 69 = .ok (.iload_n 3, 1) := dk_29 (dk_at dksX3_called_2 22 rfl rfl)
theorem dX3_called_70 : decode cX3_called 70 = .ok (.ireturn, 1) := dk_172 (dk_at dksX3_called_2 23 rfl rfl)
abbrev cX3_house : ByteArray := prog_15_method_60_code
def yX3_house : MethodName := ⟨RX3, "house", "(I)I"⟩
def dkwX3_house_1 : List UInt8 := [167, 0, 12, 42, 42, 182, 1, 27, 27, 182, 1, 63, 172]
abbrev dktX3_house_1 : List UInt8 := dkwX3_house_1 ++ []
def dkwX3_house_0 : List UInt8 := [42, 27, 3, 16, 9, 184, 0, 44, 154, 0, 7, 4, 167, 0, 4, 3, 4, 182, 0, 219, 153, 0, 7, 3]
abbrev dktX3_house_0 : List UInt8 := dkwX3_house_0 ++ dktX3_house_1
theorem dksX3_house_0 : cX3_house.data.toList.drop 0 = dktX3_house_0 := by decide +kernel
theorem dksX3_house_1 : cX3_house.data.toList.drop 24 = dktX3_house_1 := dk_seg dksX3_house_0 24 rfl rfl
theorem dX3_house_0 : decode cX3_house 0 = .ok (.aload_n 0, 1) := dk_42 (dk_at dksX3_house_0 0 rfl rfl)
theorem dX3_house_1 : decode cX3_house 1 = .ok (.iload_n 1, 1) := dk_27 (dk_at dksX3_house_0 1 rfl rfl)
theorem dX3_house_2 : decode cX3_house 2 = .ok (.iconst 0, 1) := dk_3 (dk_at dksX3_house_0 2 rfl rfl)
theorem dX3_house_3 : decode cX3_house 3 = .ok (.bipush 9, 2) := dk_16 9 (dk_at dksX3_house_0 3 rfl rfl)
theorem dX3_house_5 : decode cX3_house 5 = .ok (.invokestatic 44, 3) := dk_184 0 44 (dk_at dksX3_house_0 5 rfl rfl)
theorem dX3_house_8 : decode cX3_house 8 = .ok (.ifCond .ne 7, 3) := dk_154 0 7 (dk_at dksX3_house_0 8 rfl rfl)
theorem dX3_house_11 : decode cX3_house 11 = .ok (.iconst 1, 1) := dk_4 (dk_at dksX3_house_0 11 rfl rfl)
theorem dX3_house_12 : decode cX3_house 12 = .ok (.goto 4, 3) := dk_167 0 4 (dk_at dksX3_house_0 12 rfl rfl)
theorem dX3_house_15 : decode cX3_house 15 = .ok (.iconst 0, 1) := dk_3 (dk_at dksX3_house_0 15 rfl rfl)
theorem dX3_house_16 : decode cX3_house 16 = .ok (.iconst 1, 1) := dk_4 (dk_at dksX3_house_0 16 rfl rfl)
theorem dX3_house_17 : decode cX3_house 17 = .ok (.invokevirtual 219, 3) := dk_182 0 219 (dk_at dksX3_house_0 17 rfl rfl)
theorem dX3_house_20 : decode cX3_house 20 = .ok (.ifCond .eq 7, 3) := dk_153 0 7 (dk_at dksX3_house_0 20 rfl rfl)
theorem dX3_house_23 : decode cX3_house 23 = .ok (.iconst 0, 1) := dk_3 (dk_at dksX3_house_0 23 rfl rfl)
theorem dX3_house_24 : decode cX3_house 24 = .ok (.goto 12, 3) := dk_167 0 12 (dk_at dksX3_house_1 0 rfl rfl)
theorem dX3_house_27 : decode cX3_house 27 = .ok (.aload_n 0, 1) := dk_42 (dk_at dksX3_house_1 3 rfl rfl)
theorem dX3_house_28 : decode cX3_house 28 = .ok (.aload_n 0, 1) := dk_42 (dk_at dksX3_house_1 4 rfl rfl)
theorem dX3_house_29 : decode cX3_house 29 = .ok (.invokevirtual 283, 3) := dk_182 1 27 (dk_at dksX3_house_1 5 rfl rfl)
theorem dX3_house_32 : decode cX3_house 32 = .ok (.iload_n 1, 1) := dk_27 (dk_at dksX3_house_1 8 rfl rfl)
theorem dX3_house_33 : decode cX3_house 33 = .ok (.invokevirtual 319, 3) := dk_182 1 63 (dk_at dksX3_house_1 9 rfl rfl)
theorem dX3_house_36 : decode cX3_house 36 = .ok (.ireturn, 1) := dk_172 (dk_at dksX3_house_1 12 rfl rfl)
abbrev cX3_houseTold : ByteArray := prog_15_method_59_code
def yX3_houseTold : MethodName := ⟨RX3, "houseTold", "(LRolloverModel$Book;I)I"⟩
def dkwX3_houseTold_9 : List UInt8 := [25, 5, 28, 46, 172]
abbrev dktX3_houseTold_9 : List UInt8 := dkwX3_houseTold_9 ++ []
def dkwX3_houseTold_8 : List UInt8 := [182, 1, 41, 42, 5, 182, 1, 41, 96, 42, 6, 182, 1, 41, 96, 79, 89, 16, 9, 21, 4, 79, 58, 5]
abbrev dktX3_houseTold_8 : List UInt8 := dkwX3_houseTold_8 ++ dktX3_houseTold_9
def dkwX3_houseTold_7 : List UInt8 := [182, 1, 31, 167, 0, 4, 3, 79, 89, 16, 7, 42, 180, 0, 25, 182, 0, 40, 79, 89, 16, 8, 42, 4]
abbrev dktX3_houseTold_7 : List UInt8 := dkwX3_houseTold_7 ++ dktX3_houseTold_8
def dkwX3_houseTold_6 : List UInt8 := [89, 7, 29, 79, 89, 8, 42, 180, 1, 18, 79, 89, 16, 6, 28, 16, 6, 160, 0, 11, 42, 43]
abbrev dktX3_houseTold_6 : List UInt8 := dkwX3_houseTold_6 ++ dktX3_houseTold_7
def dkwX3_houseTold_5 : List UInt8 := [182, 0, 40, 79, 89, 5, 42, 180, 0, 16, 182, 0, 40, 79, 89, 6, 42, 180, 0, 22, 182, 0, 40, 79]
abbrev dktX3_houseTold_5 : List UInt8 := dkwX3_houseTold_5 ++ dktX3_houseTold_6
def dkwX3_houseTold_4 : List UInt8 := [132, 5, 1, 167, 255, 219, 16, 10, 188, 10, 89, 3, 42, 180, 0, 48, 79, 89, 4, 42, 180, 0, 10]
abbrev dktX3_houseTold_4 : List UInt8 := dkwX3_houseTold_4 ++ dktX3_houseTold_5
def dkwX3_houseTold_3 : List UInt8 := [21, 4, 42, 21, 5, 182, 1, 60, 158, 0, 7, 4, 167, 0, 4, 3, 184, 0, 78, 96, 54, 4]
abbrev dktX3_houseTold_3 : List UInt8 := dkwX3_houseTold_3 ++ dktX3_houseTold_4
def dkwX3_houseTold_2 : List UInt8 := [167, 255, 223, 28, 16, 9, 160, 0, 46, 3, 54, 5, 21, 5, 42, 180, 0, 16, 182, 0, 40, 162, 0, 31]
abbrev dktX3_houseTold_2 : List UInt8 := dkwX3_houseTold_2 ++ dktX3_houseTold_3
def dkwX3_houseTold_1 : List UInt8 := [25, 5, 185, 0, 203, 1, 0, 192, 0, 73, 58, 6, 29, 25, 6, 180, 0, 124, 184, 0, 78, 96, 62]
abbrev dktX3_houseTold_1 : List UInt8 := dkwX3_houseTold_1 ++ dktX3_houseTold_2
def dkwX3_houseTold_0 : List UInt8 := [3, 62, 3, 54, 4, 42, 180, 0, 22, 182, 0, 193, 58, 5, 25, 5, 185, 0, 197, 1, 0, 153, 0, 29]
abbrev dktX3_houseTold_0 : List UInt8 := dkwX3_houseTold_0 ++ dktX3_houseTold_1
theorem dksX3_houseTold_0 : cX3_houseTold.data.toList.drop 0 = dktX3_houseTold_0 := by decide +kernel
theorem dksX3_houseTold_1 : cX3_houseTold.data.toList.drop 24 = dktX3_houseTold_1 := dk_seg dksX3_houseTold_0 24 rfl rfl
theorem dksX3_houseTold_2 : cX3_houseTold.data.toList.drop 47 = dktX3_houseTold_2 := dk_seg dksX3_houseTold_1 23 rfl rfl
theorem dksX3_houseTold_3 : cX3_houseTold.data.toList.drop 71 = dktX3_houseTold_3 := dk_seg dksX3_houseTold_2 24 rfl rfl
theorem dksX3_houseTold_4 : cX3_houseTold.data.toList.drop 93 = dktX3_houseTold_4 := dk_seg dksX3_houseTold_3 22 rfl rfl
theorem dksX3_houseTold_5 : cX3_houseTold.data.toList.drop 116 = dktX3_houseTold_5 := dk_seg dksX3_houseTold_4 23 rfl rfl
theorem dksX3_houseTold_6 : cX3_houseTold.data.toList.drop 140 = dktX3_houseTold_6 := dk_seg dksX3_houseTold_5 24 rfl rfl
theorem dksX3_houseTold_7 : cX3_houseTold.data.toList.drop 162 = dktX3_houseTold_7 := dk_seg dksX3_houseTold_6 22 rfl rfl
theorem dksX3_houseTold_8 : cX3_houseTold.data.toList.drop 186 = dktX3_houseTold_8 := dk_seg dksX3_houseTold_7 24 rfl rfl
theorem dksX3_houseTold_9 : cX3_houseTold.data.toList.drop 210 = dktX3_houseTold_9 := dk_seg dksX3_houseTold_8 24 rfl rfl
theorem dX3_houseTold_0 : decode cX3_houseTold 0 = .ok (.iconst 0, 1) := dk_3 (dk_at dksX3_houseTold_0 0 rfl rfl)
theorem dX3_houseTold_1 : decode cX3_houseTold 1 = .ok (.istore_n 3, 1) := dk_62 (dk_at dksX3_houseTold_0 1 rfl rfl)
theorem dX3_houseTold_2 : decode cX3_houseTold 2 = .ok (.iconst 0, 1) := dk_3 (dk_at dksX3_houseTold_0 2 rfl rfl)
theorem dX3_houseTold_3 : decode cX3_houseTold 3 = .ok (.istore 4, 2) := dk_54 4 (dk_at dksX3_houseTold_0 3 rfl rfl)
theorem dX3_houseTold_5 : decode cX3_houseTold 5 = .ok (.aload_n 0, 1) := dk_42 (dk_at dksX3_houseTold_0 5 rfl rfl)
theorem dX3_houseTold_6 : decode cX3_houseTold 6 = .ok (.getfield 22, 3) := dk_180 0 22 (dk_at dksX3_houseTold_0 6 rfl rfl)
theorem dX3_houseTold_9 : decode cX3_houseTold 9 = .ok (.invokevirtual 193, 3) := dk_182 0 193 (dk_at dksX3_houseTold_0 9 rfl rfl)
theorem dX3_houseTold_12 : decode cX3_houseTold 12 = .ok (.astore 5, 2) := dk_58 5 (dk_at dksX3_houseTold_0 12 rfl rfl)
theorem dX3_houseTold_14 : decode cX3_houseTold 14 = .ok (.aload 5, 2) := dk_25 5 (dk_at dksX3_houseTold_0 14 rfl rfl)
theorem dX3_houseTold_16 : decode cX3_houseTold 16 = .ok (.invokeinterface 197 1, 5) := by decide +kernel
theorem dX3_houseTold_21 : decode cX3_houseTold 21 = .ok (.ifCond .eq 29, 3) := dk_153 0 29 (dk_at dksX3_houseTold_0 21 rfl rfl)
theorem dX3_houseTold_24 : decode cX3_houseTold 24 = .ok (.aload 5, 2) := dk_25 5 (dk_at dksX3_houseTold_1 0 rfl rfl)
theorem dX3_houseTold_26 : decode cX3_houseTold 26 = .ok (.invokeinterface 203 1, 5) := by decide +kernel
theorem dX3_houseTold_31 : decode cX3_houseTold 31 = .ok (.checkcast 73, 3) := dk_192 0 73 (dk_at dksX3_houseTold_1 7 rfl rfl)
theorem dX3_houseTold_34 : decode cX3_houseTold 34 = .ok (.astore 6, 2) := dk_58 6 (dk_at dksX3_houseTold_1 10 rfl rfl)
theorem dX3_houseTold_36 : decode cX3_houseTold 36 = .ok (.iload_n 3, 1) := dk_29 (dk_at dksX3_houseTold_1 12 rfl rfl)
theorem dX3_houseTold_37 : decode cX3_houseTold 37 = .ok (.aload 6, 2) := dk_25 6 (dk_at dksX3_houseTold_1 13 rfl rfl)
theorem dX3_houseTold_39 : decode cX3_houseTold 39 = .ok (.getfield 124, 3) := dk_180 0 124 (dk_at dksX3_houseTold_1 15 rfl rfl)
theorem dX3_houseTold_42 : decode cX3_houseTold 42 = .ok (.invokestatic 78, 3) := dk_184 0 78 (dk_at dksX3_houseTold_1 18 rfl rfl)
theorem dX3_houseTold_45 : decode cX3_houseTold 45 = .ok (.iadd, 1) := dk_96 (dk_at dksX3_houseTold_1 21 rfl rfl)
theorem dX3_houseTold_46 : decode cX3_houseTold 46 = .ok (.istore_n 3, 1) := dk_62 (dk_at dksX3_houseTold_1 22 rfl rfl)
theorem dX3_houseTold_47 : decode cX3_houseTold 47 = .ok (.goto (-33), 3) := dk_167 255 223 (dk_at dksX3_houseTold_2 0 rfl rfl)
theorem dX3_houseTold_50 : decode cX3_houseTold 50 = .ok (.iload_n 2, 1) := dk_28 (dk_at dksX3_houseTold_2 3 rfl rfl)
theorem dX3_houseTold_51 : decode cX3_houseTold 51 = .ok (.bipush 9, 2) := dk_16 9 (dk_at dksX3_houseTold_2 4 rfl rfl)
theorem dX3_houseTold_53 : decode cX3_houseTold 53 = .ok (.if_icmp .ne 46, 3) := dk_160 0 46 (dk_at dksX3_houseTold_2 6 rfl rfl)
theorem dX3_houseTold_56 : decode cX3_houseTold 56 = .ok (.iconst 0, 1) := dk_3 (dk_at dksX3_houseTold_2 9 rfl rfl)
theorem dX3_houseTold_57 : decode cX3_houseTold 57 = .ok (.istore 5, 2) := dk_54 5 (dk_at dksX3_houseTold_2 10 rfl rfl)
theorem dX3_houseTold_59 : decode cX3_houseTold 59 = .ok (.iload 5, 2) := dk_21 5 (dk_at dksX3_houseTold_2 12 rfl rfl)
theorem dX3_houseTold_61 : decode cX3_houseTold 61 = .ok (.aload_n 0, 1) := dk_42 (dk_at dksX3_houseTold_2 14 rfl rfl)
theorem dX3_houseTold_62 : decode cX3_houseTold 62 = .ok (.getfield 16, 3) := dk_180 0 16 (dk_at dksX3_houseTold_2 15 rfl rfl)
theorem dX3_houseTold_65 : decode cX3_houseTold 65 = .ok (.invokevirtual 40, 3) := dk_182 0 40 (dk_at dksX3_houseTold_2 18 rfl rfl)
theorem dX3_houseTold_68 : decode cX3_houseTold 68 = .ok (.if_icmp .ge 31, 3) := dk_162 0 31 (dk_at dksX3_houseTold_2 21 rfl rfl)
theorem dX3_houseTold_71 : decode cX3_houseTold 71 = .ok (.iload 4, 2) := dk_21 4 (dk_at dksX3_houseTold_3 0 rfl rfl)
theorem dX3_houseTold_73 : decode cX3_houseTold 73 = .ok (.aload_n 0, 1) := dk_42 (dk_at dksX3_houseTold_3 2 rfl rfl)
theorem dX3_houseTold_74 : decode cX3_houseTold 74 = .ok (.iload 5, 2) := dk_21 5 (dk_at dksX3_houseTold_3 3 rfl rfl)
theorem dX3_houseTold_76 : decode cX3_houseTold 76 = .ok (.invokevirtual 316, 3) := dk_182 1 60 (dk_at dksX3_houseTold_3 5 rfl rfl)
theorem dX3_houseTold_79 : decode cX3_houseTold 79 = .ok (.ifCond .le 7, 3) := dk_158 0 7 (dk_at dksX3_houseTold_3 8 rfl rfl)
theorem dX3_houseTold_82 : decode cX3_houseTold 82 = .ok (.iconst 1, 1) := dk_4 (dk_at dksX3_houseTold_3 11 rfl rfl)
theorem dX3_houseTold_83 : decode cX3_houseTold 83 = .ok (.goto 4, 3) := dk_167 0 4 (dk_at dksX3_houseTold_3 12 rfl rfl)
theorem dX3_houseTold_86 : decode cX3_houseTold 86 = .ok (.iconst 0, 1) := dk_3 (dk_at dksX3_houseTold_3 15 rfl rfl)
theorem dX3_houseTold_87 : decode cX3_houseTold 87 = .ok (.invokestatic 78, 3) := dk_184 0 78 (dk_at dksX3_houseTold_3 16 rfl rfl)
theorem dX3_houseTold_90 : decode cX3_houseTold 90 = .ok (.iadd, 1) := dk_96 (dk_at dksX3_houseTold_3 19 rfl rfl)
theorem dX3_houseTold_91 : decode cX3_houseTold 91 = .ok (.istore 4, 2) := dk_54 4 (dk_at dksX3_houseTold_3 20 rfl rfl)
theorem dX3_houseTold_93 : decode cX3_houseTold 93 = .ok (.iinc 5 1, 3) := dk_132 5 1 (dk_at dksX3_houseTold_4 0 rfl rfl)
theorem dX3_houseTold_96 : decode cX3_houseTold 96 = .ok (.goto (-37), 3) := dk_167 255 219 (dk_at dksX3_houseTold_4 3 rfl rfl)
theorem dX3_houseTold_99 : decode cX3_houseTold 99 = .ok (.bipush 10, 2) := dk_16 10 (dk_at dksX3_houseTold_4 6 rfl rfl)
theorem dX3_houseTold_101 : decode cX3_houseTold 101 = .ok (.newarray .int, 2) := dk_188_10 (dk_at dksX3_houseTold_4 8 rfl rfl)
theorem dX3_houseTold_103 : decode cX3_houseTold 103 = .ok (.dup, 1) := dk_89 (dk_at dksX3_houseTold_4 10 rfl rfl)
theorem dX3_houseTold_104 : decode cX3_houseTold 104 = .ok (.iconst 0, 1) := dk_3 (dk_at dksX3_houseTold_4 11 rfl rfl)
theorem dX3_houseTold_105 : decode cX3_houseTold 105 = .ok (.aload_n 0, 1) := dk_42 (dk_at dksX3_houseTold_4 12 rfl rfl)
theorem dX3_houseTold_106 : decode cX3_houseTold 106 = .ok (.getfield 48, 3) := dk_180 0 48 (dk_at dksX3_houseTold_4 13 rfl rfl)
theorem dX3_houseTold_109 : decode cX3_houseTold 109 = .ok (.iastore, 1) := dk_79 (dk_at dksX3_houseTold_4 16 rfl rfl)
theorem dX3_houseTold_110 : decode cX3_houseTold 110 = .ok (.dup, 1) := dk_89 (dk_at dksX3_houseTold_4 17 rfl rfl)
theorem dX3_houseTold_111 : decode cX3_houseTold 111 = .ok (.iconst 1, 1) := dk_4 (dk_at dksX3_houseTold_4 18 rfl rfl)
theorem dX3_houseTold_112 : decode cX3_houseTold 112 = .ok (.aload_n 0, 1) := dk_42 (dk_at dksX3_houseTold_4 19 rfl rfl)
theorem dX3_houseTold_113 : decode cX3_houseTold 113 = .ok (.getfield 10, 3) := dk_180 0 10 (dk_at dksX3_houseTold_4 20 rfl rfl)
theorem dX3_houseTold_116 : decode cX3_houseTold 116 = .ok (.invokevirtual 40, 3) := dk_182 0 40 (dk_at dksX3_houseTold_5 0 rfl rfl)
theorem dX3_houseTold_119 : decode cX3_houseTold 119 = .ok (.iastore, 1) := dk_79 (dk_at dksX3_houseTold_5 3 rfl rfl)
theorem dX3_houseTold_120 : decode cX3_houseTold 120 = .ok (.dup, 1) := dk_89 (dk_at dksX3_houseTold_5 4 rfl rfl)
theorem dX3_houseTold_121 : decode cX3_houseTold 121 = .ok (.iconst 2, 1) := dk_5 (dk_at dksX3_houseTold_5 5 rfl rfl)
theorem dX3_houseTold_122 : decode cX3_houseTold 122 = .ok (.aload_n 0, 1) := dk_42 (dk_at dksX3_houseTold_5 6 rfl rfl)
theorem dX3_houseTold_123 : decode cX3_houseTold 123 = .ok (.getfield 16, 3) := dk_180 0 16 (dk_at dksX3_houseTold_5 7 rfl rfl)
theorem dX3_houseTold_126 : decode cX3_houseTold 126 = .ok (.invokevirtual 40, 3) := dk_182 0 40 (dk_at dksX3_houseTold_5 10 rfl rfl)
theorem dX3_houseTold_129 : decode cX3_houseTold 129 = .ok (.iastore, 1) := dk_79 (dk_at dksX3_houseTold_5 13 rfl rfl)
theorem dX3_houseTold_130 : decode cX3_houseTold 130 = .ok (.dup, 1) := dk_89 (dk_at dksX3_houseTold_5 14 rfl rfl)
theorem dX3_houseTold_131 : decode cX3_houseTold 131 = .ok (.iconst 3, 1) := dk_6 (dk_at dksX3_houseTold_5 15 rfl rfl)
theorem dX3_houseTold_132 : decode cX3_houseTold 132 = .ok (.aload_n 0, 1) := dk_42 (dk_at dksX3_houseTold_5 16 rfl rfl)
theorem dX3_houseTold_133 : decode cX3_houseTold 133 = .ok (.getfield 22, 3) := dk_180 0 22 (dk_at dksX3_houseTold_5 17 rfl rfl)
theorem dX3_houseTold_136 : decode cX3_houseTold 136 = .ok (.invokevirtual 40, 3) := dk_182 0 40 (dk_at dksX3_houseTold_5 20 rfl rfl)
theorem dX3_houseTold_139 : decode cX3_houseTold 139 = .ok (.iastore, 1) := dk_79 (dk_at dksX3_houseTold_5 23 rfl rfl)
theorem dX3_houseTold_140 : decode cX3_houseTold 140 = .ok (.dup, 1) := dk_89 (dk_at dksX3_houseTold_6 0 rfl rfl)
theorem dX3_houseTold_141 : decode cX3_houseTold 141 = .ok (.iconst 4, 1) := dk_7 (dk_at dksX3_houseTold_6 1 rfl rfl)
theorem dX3_houseTold_142 : decode cX3_houseTold 142 = .ok (.iload_n 3, 1) := dk_29 (dk_at dksX3_houseTold_6 2 rfl rfl)
theorem dX3_houseTold_143 : decode cX3_houseTold 143 = .ok (.iastore, 1) := dk_79 (dk_at dksX3_houseTold_6 3 rfl rfl)
theorem dX3_houseTold_144 : decode cX3_houseTold 144 = .ok (.dup, 1) := dk_89 (dk_at dksX3_houseTold_6 4 rfl rfl)
theorem dX3_houseTold_145 : decode cX3_houseTold 145 = .ok (.iconst 5, 1) := dk_8 (dk_at dksX3_houseTold_6 5 rfl rfl)
theorem dX3_houseTold_146 : decode cX3_houseTold 146 = .ok (.aload_n 0, 1) := dk_42 (dk_at dksX3_houseTold_6 6 rfl rfl)
theorem dX3_houseTold_147 : decode cX3_houseTold 147 = .ok (.getfield 274, 3) := dk_180 1 18 (dk_at dksX3_houseTold_6 7 rfl rfl)
theorem dX3_houseTold_150 : decode cX3_houseTold 150 = .ok (.iastore, 1) := dk_79 (dk_at dksX3_houseTold_6 10 rfl rfl)
theorem dX3_houseTold_151 : decode cX3_houseTold 151 = .ok (.dup, 1) := dk_89 (dk_at dksX3_houseTold_6 11 rfl rfl)
theorem dX3_houseTold_152 : decode cX3_houseTold 152 = .ok (.bipush 6, 2) := dk_16 6 (dk_at dksX3_houseTold_6 12 rfl rfl)
theorem dX3_houseTold_154 : decode cX3_houseTold 154 = .ok (.iload_n 2, 1) := dk_28 (dk_at dksX3_houseTold_6 14 rfl rfl)
theorem dX3_houseTold_155 : decode cX3_houseTold 155 = .ok (.bipush 6, 2) := dk_16 6 (dk_at dksX3_houseTold_6 15 rfl rfl)
theorem dX3_houseTold_157 : decode cX3_houseTold 157 = .ok (.if_icmp .ne 11, 3) := dk_160 0 11 (dk_at dksX3_houseTold_6 17 rfl rfl)
theorem dX3_houseTold_160 : decode cX3_houseTold 160 = .ok (.aload_n 0, 1) := dk_42 (dk_at dksX3_houseTold_6 20 rfl rfl)
theorem dX3_houseTold_161 : decode cX3_houseTold 161 = .ok (.aload_n 1, 1) := dk_43 (dk_at dksX3_houseTold_6 21 rfl rfl)
theorem dX3_houseTold_162 : decode cX3_houseTold 162 = .ok (.invokevirtual 287, 3) := dk_182 1 31 (dk_at dksX3_houseTold_7 0 rfl rfl)
theorem dX3_houseTold_165 : decode cX3_houseTold 165 = .ok (.goto 4, 3) := dk_167 0 4 (dk_at dksX3_houseTold_7 3 rfl rfl)
theorem dX3_houseTold_168 : decode cX3_houseTold 168 = .ok (.iconst 0, 1) := dk_3 (dk_at dksX3_houseTold_7 6 rfl rfl)
theorem dX3_houseTold_169 : decode cX3_houseTold 169 = .ok (.iastore, 1) := dk_79 (dk_at dksX3_houseTold_7 7 rfl rfl)
theorem dX3_houseTold_170 : decode cX3_houseTold 170 = .ok (.dup, 1) := dk_89 (dk_at dksX3_houseTold_7 8 rfl rfl)
theorem dX3_houseTold_171 : decode cX3_houseTold 171 = .ok (.bipush 7, 2) := dk_16 7 (dk_at dksX3_houseTold_7 9 rfl rfl)
theorem dX3_houseTold_173 : decode cX3_houseTold 173 = .ok (.aload_n 0, 1) := dk_42 (dk_at dksX3_houseTold_7 11 rfl rfl)
theorem dX3_houseTold_174 : decode cX3_houseTold 174 = .ok (.getfield 25, 3) := dk_180 0 25 (dk_at dksX3_houseTold_7 12 rfl rfl)
theorem dX3_houseTold_177 : decode cX3_houseTold 177 = .ok (.invokevirtual 40, 3) := dk_182 0 40 (dk_at dksX3_houseTold_7 15 rfl rfl)
theorem dX3_houseTold_180 : decode cX3_houseTold 180 = .ok (.iastore, 1) := dk_79 (dk_at dksX3_houseTold_7 18 rfl rfl)
theorem dX3_houseTold_181 : decode cX3_houseTold 181 = .ok (.dup, 1) := dk_89 (dk_at dksX3_houseTold_7 19 rfl rfl)
theorem dX3_houseTold_182 : decode cX3_houseTold 182 = .ok (.bipush 8, 2) := dk_16 8 (dk_at dksX3_houseTold_7 20 rfl rfl)
theorem dX3_houseTold_184 : decode cX3_houseTold 184 = .ok (.aload_n 0, 1) := dk_42 (dk_at dksX3_houseTold_7 22 rfl rfl)
theorem dX3_houseTold_185 : decode cX3_houseTold 185 = .ok (.iconst 1, 1) := dk_4 (dk_at dksX3_houseTold_7 23 rfl rfl)
theorem dX3_houseTold_186 : decode cX3_houseTold 186 = .ok (.invokevirtual 297, 3) := dk_182 1 41 (dk_at dksX3_houseTold_8 0 rfl rfl)
theorem dX3_houseTold_189 : decode cX3_houseTold 189 = .ok (.aload_n 0, 1) := dk_42 (dk_at dksX3_houseTold_8 3 rfl rfl)
theorem dX3_houseTold_190 : decode cX3_houseTold 190 = .ok (.iconst 2, 1) := dk_5 (dk_at dksX3_houseTold_8 4 rfl rfl)
theorem dX3_houseTold_191 : decode cX3_houseTold 191 = .ok (.invokevirtual 297, 3) := dk_182 1 41 (dk_at dksX3_houseTold_8 5 rfl rfl)
theorem dX3_houseTold_194 : decode cX3_houseTold 194 = .ok (.iadd, 1) := dk_96 (dk_at dksX3_houseTold_8 8 rfl rfl)
theorem dX3_houseTold_195 : decode cX3_houseTold 195 = .ok (.aload_n 0, 1) := dk_42 (dk_at dksX3_houseTold_8 9 rfl rfl)
theorem dX3_houseTold_196 : decode cX3_houseTold 196 = .ok (.iconst 3, 1) := dk_6 (dk_at dksX3_houseTold_8 10 rfl rfl)
theorem dX3_houseTold_197 : decode cX3_houseTold 197 = .ok (.invokevirtual 297, 3) := dk_182 1 41 (dk_at dksX3_houseTold_8 11 rfl rfl)
theorem dX3_houseTold_200 : decode cX3_houseTold 200 = .ok (.iadd, 1) := dk_96 (dk_at dksX3_houseTold_8 14 rfl rfl)
theorem dX3_houseTold_201 : decode cX3_houseTold 201 = .ok (.iastore, 1) := dk_79 (dk_at dksX3_houseTold_8 15 rfl rfl)
theorem dX3_houseTold_202 : decode cX3_houseTold 202 = .ok (.dup, 1) := dk_89 (dk_at dksX3_houseTold_8 16 rfl rfl)
theorem dX3_houseTold_203 : decode cX3_houseTold 203 = .ok (.bipush 9, 2) := dk_16 9 (dk_at dksX3_houseTold_8 17 rfl rfl)
theorem dX3_houseTold_205 : decode cX3_houseTold 205 = .ok (.iload 4, 2) := dk_21 4 (dk_at dksX3_houseTold_8 19 rfl rfl)
theorem dX3_houseTold_207 : decode cX3_houseTold 207 = .ok (.iastore, 1) := dk_79 (dk_at dksX3_houseTold_8 21 rfl rfl)
theorem dX3_houseTold_208 : decode cX3_houseTold 208 = .ok (.astore 5, 2) := dk_58 5 (dk_at dksX3_houseTold_8 22 rfl rfl)
theorem dX3_houseTold_210 : decode cX3_houseTold 210 = .ok (.aload 5, 2) := dk_25 5 (dk_at dksX3_houseTold_9 0 rfl rfl)
theorem dX3_houseTold_212 : decode cX3_houseTold 212 = .ok (.iload_n 2, 1) := dk_28 (dk_at dksX3_houseTold_9 2 rfl rfl)
theorem dX3_houseTold_213 : decode cX3_houseTold 213 = .ok (.iaload, 1) := dk_46 (dk_at dksX3_houseTold_9 3 rfl rfl)
theorem dX3_houseTold_214 : decode cX3_houseTold 214 = .ok (.ireturn, 1) := dk_172 (dk_at dksX3_houseTold_9 4 rfl rfl)
abbrev cX3_line : ByteArray := prog_15_method_61_code
def yX3_line : MethodName := ⟨RX3, "line", "(I)Ljava/lang/String;"⟩
def dkwX3_line_12 : List UInt8 := [19, 1, 97, 182, 1, 78, 182, 1, 89, 167, 0, 5, 25, 4, 176]
abbrev dktX3_line_12 : List UInt8 := dkwX3_line_12 ++ []
def dkwX3_line_11 : List UInt8 := [182, 1, 89, 58, 4, 44, 180, 0, 124, 153, 0, 27, 187, 1, 69, 89, 183, 1, 71, 25, 4, 182, 1, 78]
abbrev dktX3_line_11 : List UInt8 := dkwX3_line_11 ++ dktX3_line_12
def dkwX3_line_10 : List UInt8 := [25, 4, 182, 1, 78, 44, 180, 0, 124, 153, 0, 7, 3, 167, 0, 7, 44, 180, 0, 145, 182, 1, 82]
abbrev dktX3_line_10 : List UInt8 := dkwX3_line_10 ++ dktX3_line_11
def dkwX3_line_9 : List UInt8 := [46, 182, 1, 82, 182, 1, 89, 58, 4, 44, 180, 0, 136, 5, 160, 0, 38, 187, 1, 69, 89, 183, 1, 71]
abbrev dktX3_line_9 : List UInt8 := dkwX3_line_9 ++ dktX3_line_10
def dkwX3_line_8 : List UInt8 := [58, 4, 44, 180, 0, 136, 4, 160, 0, 26, 187, 1, 69, 89, 183, 1, 71, 25, 4, 182, 1, 78, 45, 4]
abbrev dktX3_line_8 : List UInt8 := dkwX3_line_8 ++ dktX3_line_9
def dkwX3_line_7 : List UInt8 := [182, 1, 82, 19, 1, 95, 182, 1, 78, 45, 6, 46, 182, 1, 82, 182, 1, 89, 182, 1, 78, 182, 1, 89]
abbrev dktX3_line_7 : List UInt8 := dkwX3_line_7 ++ dktX3_line_8
def dkwX3_line_6 : List UInt8 := [187, 1, 69, 89, 183, 1, 71, 45, 4, 46, 182, 1, 82, 19, 1, 95, 182, 1, 78, 45, 5, 46]
abbrev dktX3_line_6 : List UInt8 := dkwX3_line_6 ++ dktX3_line_7
def dkwX3_line_5 : List UInt8 := [89, 183, 1, 71, 25, 4, 182, 1, 78, 45, 8, 46, 4, 160, 0, 9, 19, 1, 93, 167, 0, 43]
abbrev dktX3_line_5 : List UInt8 := dkwX3_line_5 ++ dktX3_line_6
def dkwX3_line_4 : List UInt8 := [182, 1, 82, 19, 1, 87, 182, 1, 78, 182, 1, 89, 58, 4, 44, 180, 0, 136, 154, 0, 76, 187, 1, 69]
abbrev dktX3_line_4 : List UInt8 := dkwX3_line_4 ++ dktX3_line_5
def dkwX3_line_3 : List UInt8 := [167, 0, 6, 19, 1, 76, 182, 1, 78, 27, 182, 1, 82, 19, 1, 85, 182, 1, 78, 44, 180, 0, 118]
abbrev dktX3_line_3 : List UInt8 := dkwX3_line_3 ++ dktX3_line_4
def dkwX3_line_2 : List UInt8 := [44, 180, 0, 136, 154, 0, 9, 19, 1, 72, 167, 0, 20, 44, 180, 0, 136, 4, 160, 0, 9, 19, 1, 74]
abbrev dktX3_line_2 : List UInt8 := dkwX3_line_2 ++ dktX3_line_3
def dkwX3_line_1 : List UInt8 := [182, 0, 51, 192, 0, 73, 77, 42, 182, 1, 27, 180, 0, 111, 27, 50, 78, 187, 1, 69, 89, 183, 1, 71]
abbrev dktX3_line_1 : List UInt8 := dkwX3_line_1 ++ dktX3_line_2
def dkwX3_line_0 : List UInt8 := [42, 42, 27, 182, 1, 24, 4, 182, 0, 219, 153, 0, 7, 19, 1, 67, 176, 42, 180, 0, 22, 27]
abbrev dktX3_line_0 : List UInt8 := dkwX3_line_0 ++ dktX3_line_1
theorem dksX3_line_0 : cX3_line.data.toList.drop 0 = dktX3_line_0 := by decide +kernel
theorem dksX3_line_1 : cX3_line.data.toList.drop 22 = dktX3_line_1 := dk_seg dksX3_line_0 22 rfl rfl
theorem dksX3_line_2 : cX3_line.data.toList.drop 46 = dktX3_line_2 := dk_seg dksX3_line_1 24 rfl rfl
theorem dksX3_line_3 : cX3_line.data.toList.drop 70 = dktX3_line_3 := dk_seg dksX3_line_2 24 rfl rfl
theorem dksX3_line_4 : cX3_line.data.toList.drop 93 = dktX3_line_4 := dk_seg dksX3_line_3 23 rfl rfl
theorem dksX3_line_5 : cX3_line.data.toList.drop 117 = dktX3_line_5 := dk_seg dksX3_line_4 24 rfl rfl
theorem dksX3_line_6 : cX3_line.data.toList.drop 139 = dktX3_line_6 := dk_seg dksX3_line_5 22 rfl rfl
theorem dksX3_line_7 : cX3_line.data.toList.drop 161 = dktX3_line_7 := dk_seg dksX3_line_6 22 rfl rfl
theorem dksX3_line_8 : cX3_line.data.toList.drop 185 = dktX3_line_8 := dk_seg dksX3_line_7 24 rfl rfl
theorem dksX3_line_9 : cX3_line.data.toList.drop 209 = dktX3_line_9 := dk_seg dksX3_line_8 24 rfl rfl
theorem dksX3_line_10 : cX3_line.data.toList.drop 233 = dktX3_line_10 := dk_seg dksX3_line_9 24 rfl rfl
theorem dksX3_line_11 : cX3_line.data.toList.drop 256 = dktX3_line_11 := dk_seg dksX3_line_10 23 rfl rfl
theorem dksX3_line_12 : cX3_line.data.toList.drop 280 = dktX3_line_12 := dk_seg dksX3_line_11 24 rfl rfl
theorem dX3_line_0 : decode cX3_line 0 = .ok (.aload_n 0, 1) := dk_42 (dk_at dksX3_line_0 0 rfl rfl)
theorem dX3_line_1 : decode cX3_line 1 = .ok (.aload_n 0, 1) := dk_42 (dk_at dksX3_line_0 1 rfl rfl)
theorem dX3_line_2 : decode cX3_line 2 = .ok (.iload_n 1, 1) := dk_27 (dk_at dksX3_line_0 2 rfl rfl)
theorem dX3_line_3 : decode cX3_line 3 = .ok (.invokevirtual 280, 3) := dk_182 1 24 (dk_at dksX3_line_0 3 rfl rfl)
theorem dX3_line_6 : decode cX3_line 6 = .ok (.iconst 1, 1) := dk_4 (dk_at dksX3_line_0 6 rfl rfl)
theorem dX3_line_7 : decode cX3_line 7 = .ok (.invokevirtual 219, 3) := dk_182 0 219 (dk_at dksX3_line_0 7 rfl rfl)
theorem dX3_line_10 : decode cX3_line 10 = .ok (.ifCond .eq 7, 3) := dk_153 0 7 (dk_at dksX3_line_0 10 rfl rfl)
theorem dX3_line_13 : decode cX3_line 13 = .ok (.ldc_w 323, 3) := dk_19 1 67 (dk_at dksX3_line_0 13 rfl rfl)
theorem dX3_line_16 : decode cX3_line 16 = .ok (.areturn, 1) := dk_176 (dk_at dksX3_line_0 16 rfl rfl)
theorem dX3_line_17 : decode cX3_line 17 = .ok (.aload_n 0, 1) := dk_42 (dk_at dksX3_line_0 17 rfl rfl)
theorem dX3_line_18 : decode cX3_line 18 = .ok (.getfield 22, 3) := dk_180 0 22 (dk_at dksX3_line_0 18 rfl rfl)
theorem dX3_line_21 : decode cX3_line 21 = .ok (.iload_n 1, 1) := dk_27 (dk_at dksX3_line_0 21 rfl rfl)
theorem dX3_line_22 : decode cX3_line 22 = .ok (.invokevirtual 51, 3) := dk_182 0 51 (dk_at dksX3_line_1 0 rfl rfl)
theorem dX3_line_25 : decode cX3_line 25 = .ok (.checkcast 73, 3) := dk_192 0 73 (dk_at dksX3_line_1 3 rfl rfl)
theorem dX3_line_28 : decode cX3_line 28 = .ok (.astore_n 2, 1) := dk_77 (dk_at dksX3_line_1 6 rfl rfl)
theorem dX3_line_29 : decode cX3_line 29 = .ok (.aload_n 0, 1) := dk_42 (dk_at dksX3_line_1 7 rfl rfl)
theorem dX3_line_30 : decode cX3_line 30 = .ok (.invokevirtual 283, 3) := dk_182 1 27 (dk_at dksX3_line_1 8 rfl rfl)
theorem dX3_line_33 : decode cX3_line 33 = .ok (.getfield 111, 3) := dk_180 0 111 (dk_at dksX3_line_1 11 rfl rfl)
theorem dX3_line_36 : decode cX3_line 36 = .ok (.iload_n 1, 1) := dk_27 (dk_at dksX3_line_1 14 rfl rfl)
theorem dX3_line_37 : decode cX3_line 37 = .ok (.aaload, 1) := dk_50 (dk_at dksX3_line_1 15 rfl rfl)
theorem dX3_line_38 : decode cX3_line 38 = .ok (.astore_n 3, 1) := dk_78 (dk_at dksX3_line_1 16 rfl rfl)
theorem dX3_line_39 : decode cX3_line 39 = .ok (.new 325, 3) := dk_187 1 69 (dk_at dksX3_line_1 17 rfl rfl)
theorem dX3_line_42 : decode cX3_line 42 = .ok (.dup, 1) := dk_89 (dk_at dksX3_line_1 20 rfl rfl)
theorem dX3_line_43 : decode cX3_line 43 = .ok (.invokespecial 327, 3) := dk_183 1 71 (dk_at dksX3_line_1 21 rfl rfl)
theorem dX3_line_46 : decode cX3_line 46 = .ok (.aload_n 2, 1) := dk_44 (dk_at dksX3_line_2 0 rfl rfl)
theorem dX3_line_47 : decode cX3_line 47 = .ok (.getfield 136, 3) := dk_180 0 136 (dk_at dksX3_line_2 1 rfl rfl)
theorem dX3_line_50 : decode cX3_line 50 = .ok (.ifCond .ne 9, 3) := dk_154 0 9 (dk_at dksX3_line_2 4 rfl rfl)
theorem dX3_line_53 : decode cX3_line 53 = .ok (.ldc_w 328, 3) := dk_19 1 72 (dk_at dksX3_line_2 7 rfl rfl)
theorem dX3_line_56 : decode cX3_line 56 = .ok (.goto 20, 3) := dk_167 0 20 (dk_at dksX3_line_2 10 rfl rfl)
theorem dX3_line_59 : decode cX3_line 59 = .ok (.aload_n 2, 1) := dk_44 (dk_at dksX3_line_2 13 rfl rfl)
theorem dX3_line_60 : decode cX3_line 60 = .ok (.getfield 136, 3) := dk_180 0 136 (dk_at dksX3_line_2 14 rfl rfl)
theorem dX3_line_63 : decode cX3_line 63 = .ok (.iconst 1, 1) := dk_4 (dk_at dksX3_line_2 17 rfl rfl)
theorem dX3_line_64 : decode cX3_line 64 = .ok (.if_icmp .ne 9, 3) := dk_160 0 9 (dk_at dksX3_line_2 18 rfl rfl)
theorem dX3_line_67 : decode cX3_line 67 = .ok (.ldc_w 330, 3) := dk_19 1 74 (dk_at dksX3_line_2 21 rfl rfl)
theorem dX3_line_70 : decode cX3_line 70 = .ok (.goto 6, 3) := dk_167 0 6 (dk_at dksX3_line_3 0 rfl rfl)
theorem dX3_line_73 : decode cX3_line 73 = .ok (.ldc_w 332, 3) := dk_19 1 76 (dk_at dksX3_line_3 3 rfl rfl)
theorem dX3_line_76 : decode cX3_line 76 = .ok (.invokevirtual 334, 3) := dk_182 1 78 (dk_at dksX3_line_3 6 rfl rfl)
theorem dX3_line_79 : decode cX3_line 79 = .ok (.iload_n 1, 1) := dk_27 (dk_at dksX3_line_3 9 rfl rfl)
theorem dX3_line_80 : decode cX3_line 80 = .ok (.invokevirtual 338, 3) := dk_182 1 82 (dk_at dksX3_line_3 10 rfl rfl)
theorem dX3_line_83 : decode cX3_line 83 = .ok (.ldc_w 341, 3) := dk_19 1 85 (dk_at dksX3_line_3 13 rfl rfl)
theorem dX3_line_86 : decode cX3_line 86 = .ok (.invokevirtual 334, 3) := dk_182 1 78 (dk_at dksX3_line_3 16 rfl rfl)
theorem dX3_line_89 : decode cX3_line 89 = .ok (.aload_n 2, 1) := dk_44 (dk_at dksX3_line_3 19 rfl rfl)
theorem dX3_line_90 : decode cX3_line 90 = .ok (.getfield 118, 3) := dk_180 0 118 (dk_at dksX3_line_3 20 rfl rfl)
theorem dX3_line_93 : decode cX3_line 93 = .ok (.invokevirtual 338, 3) := dk_182 1 82 (dk_at dksX3_line_4 0 rfl rfl)
theorem dX3_line_96 : decode cX3_line 96 = .ok (.ldc_w 343, 3) := dk_19 1 87 (dk_at dksX3_line_4 3 rfl rfl)
theorem dX3_line_99 : decode cX3_line 99 = .ok (.invokevirtual 334, 3) := dk_182 1 78 (dk_at dksX3_line_4 6 rfl rfl)
theorem dX3_line_102 : decode cX3_line 102 = .ok (.invokevirtual 345, 3) := dk_182 1 89 (dk_at dksX3_line_4 9 rfl rfl)
theorem dX3_line_105 : decode cX3_line 105 = .ok (.astore 4, 2) := dk_58 4 (dk_at dksX3_line_4 12 rfl rfl)
theorem dX3_line_107 : decode cX3_line 107 = .ok (.aload_n 2, 1) := dk_44 (dk_at dksX3_line_4 14 rfl rfl)
theorem dX3_line_108 : decode cX3_line 108 = .ok (.getfield 136, 3) := dk_180 0 136 (dk_at dksX3_line_4 15 rfl rfl)
theorem dX3_line_111 : decode cX3_line 111 = .ok (.ifCond .ne 76, 3) := dk_154 0 76 (dk_at dksX3_line_4 18 rfl rfl)
theorem dX3_line_114 : decode cX3_line 114 = .ok (.new 325, 3) := dk_187 1 69 (dk_at dksX3_line_4 21 rfl rfl)
theorem dX3_line_117 : decode cX3_line 117 = .ok (.dup, 1) := dk_89 (dk_at dksX3_line_5 0 rfl rfl)
theorem dX3_line_118 : decode cX3_line 118 = .ok (.invokespecial 327, 3) := dk_183 1 71 (dk_at dksX3_line_5 1 rfl rfl)
theorem dX3_line_121 : decode cX3_line 121 = .ok (.aload 4, 2) := dk_25 4 (dk_at dksX3_line_5 4 rfl rfl)
theorem dX3_line_123 : decode cX3_line 123 = .ok (.invokevirtual 334, 3) := dk_182 1 78 (dk_at dksX3_line_5 6 rfl rfl)
theorem dX3_line_126 : decode cX3_line 126 = .ok (.aload_n 3, 1) := dk_45 (dk_at dksX3_line_5 9 rfl rfl)
theorem dX3_line_127 : decode cX3_line 127 = .ok (.iconst 5, 1) := dk_8 (dk_at dksX3_line_5 10 rfl rfl)
theorem dX3_line_128 : decode cX3_line 128 = .ok (.iaload, 1) := dk_46 (dk_at dksX3_line_5 11 rfl rfl)
theorem dX3_line_129 : decode cX3_line 129 = .ok (.iconst 1, 1) := dk_4 (dk_at dksX3_line_5 12 rfl rfl)
theorem dX3_line_130 : decode cX3_line 130 = .ok (.if_icmp .ne 9, 3) := dk_160 0 9 (dk_at dksX3_line_5 13 rfl rfl)
theorem dX3_line_133 : decode cX3_line 133 = .ok (.ldc_w 349, 3) := dk_19 1 93 (dk_at dksX3_line_5 16 rfl rfl)
theorem dX3_line_136 : decode cX3_line 136 = .ok (.goto 43, 3) := dk_167 0 43 (dk_at dksX3_line_5 19 rfl rfl)
theorem dX3_line_139 : decode cX3_line 139 = .ok (.new 325, 3) := dk_187 1 69 (dk_at dksX3_line_6 0 rfl rfl)
theorem dX3_line_142 : decode cX3_line 142 = .ok (.dup, 1) := dk_89 (dk_at dksX3_line_6 3 rfl rfl)
theorem dX3_line_143 : decode cX3_line 143 = .ok (.invokespecial 327, 3) := dk_183 1 71 (dk_at dksX3_line_6 4 rfl rfl)
theorem dX3_line_146 : decode cX3_line 146 = .ok (.aload_n 3, 1) := dk_45 (dk_at dksX3_line_6 7 rfl rfl)
theorem dX3_line_147 : decode cX3_line 147 = .ok (.iconst 1, 1) := dk_4 (dk_at dksX3_line_6 8 rfl rfl)
theorem dX3_line_148 : decode cX3_line 148 = .ok (.iaload, 1) := dk_46 (dk_at dksX3_line_6 9 rfl rfl)
theorem dX3_line_149 : decode cX3_line 149 = .ok (.invokevirtual 338, 3) := dk_182 1 82 (dk_at dksX3_line_6 10 rfl rfl)
theorem dX3_line_152 : decode cX3_line 152 = .ok (.ldc_w 351, 3) := dk_19 1 95 (dk_at dksX3_line_6 13 rfl rfl)
theorem dX3_line_155 : decode cX3_line 155 = .ok (.invokevirtual 334, 3) := dk_182 1 78 (dk_at dksX3_line_6 16 rfl rfl)
theorem dX3_line_158 : decode cX3_line 158 = .ok (.aload_n 3, 1) := dk_45 (dk_at dksX3_line_6 19 rfl rfl)
theorem dX3_line_159 : decode cX3_line 159 = .ok (.iconst 2, 1) := dk_5 (dk_at dksX3_line_6 20 rfl rfl)
theorem dX3_line_160 : decode cX3_line 160 = .ok (.iaload, 1) := dk_46 (dk_at dksX3_line_6 21 rfl rfl)
theorem dX3_line_161 : decode cX3_line 161 = .ok (.invokevirtual 338, 3) := dk_182 1 82 (dk_at dksX3_line_7 0 rfl rfl)
theorem dX3_line_164 : decode cX3_line 164 = .ok (.ldc_w 351, 3) := dk_19 1 95 (dk_at dksX3_line_7 3 rfl rfl)
theorem dX3_line_167 : decode cX3_line 167 = .ok (.invokevirtual 334, 3) := dk_182 1 78 (dk_at dksX3_line_7 6 rfl rfl)
theorem dX3_line_170 : decode cX3_line 170 = .ok (.aload_n 3, 1) := dk_45 (dk_at dksX3_line_7 9 rfl rfl)
theorem dX3_line_171 : decode cX3_line 171 = .ok (.iconst 3, 1) := dk_6 (dk_at dksX3_line_7 10 rfl rfl)
theorem dX3_line_172 : decode cX3_line 172 = .ok (.iaload, 1) := dk_46 (dk_at dksX3_line_7 11 rfl rfl)
theorem dX3_line_173 : decode cX3_line 173 = .ok (.invokevirtual 338, 3) := dk_182 1 82 (dk_at dksX3_line_7 12 rfl rfl)
theorem dX3_line_176 : decode cX3_line 176 = .ok (.invokevirtual 345, 3) := dk_182 1 89 (dk_at dksX3_line_7 15 rfl rfl)
theorem dX3_line_179 : decode cX3_line 179 = .ok (.invokevirtual 334, 3) := dk_182 1 78 (dk_at dksX3_line_7 18 rfl rfl)
theorem dX3_line_182 : decode cX3_line 182 = .ok (.invokevirtual 345, 3) := dk_182 1 89 (dk_at dksX3_line_7 21 rfl rfl)
theorem dX3_line_185 : decode cX3_line 185 = .ok (.astore 4, 2) := dk_58 4 (dk_at dksX3_line_8 0 rfl rfl)
theorem dX3_line_187 : decode cX3_line 187 = .ok (.aload_n 2, 1) := dk_44 (dk_at dksX3_line_8 2 rfl rfl)
theorem dX3_line_188 : decode cX3_line 188 = .ok (.getfield 136, 3) := dk_180 0 136 (dk_at dksX3_line_8 3 rfl rfl)
theorem dX3_line_191 : decode cX3_line 191 = .ok (.iconst 1, 1) := dk_4 (dk_at dksX3_line_8 6 rfl rfl)
theorem dX3_line_192 : decode cX3_line 192 = .ok (.if_icmp .ne 26, 3) := dk_160 0 26 (dk_at dksX3_line_8 7 rfl rfl)
theorem dX3_line_195 : decode cX3_line 195 = .ok (.new 325, 3) := dk_187 1 69 (dk_at dksX3_line_8 10 rfl rfl)
theorem dX3_line_198 : decode cX3_line 198 = .ok (.dup, 1) := dk_89 (dk_at dksX3_line_8 13 rfl rfl)
theorem dX3_line_199 : decode cX3_line 199 = .ok (.invokespecial 327, 3) := dk_183 1 71 (dk_at dksX3_line_8 14 rfl rfl)
theorem dX3_line_202 : decode cX3_line 202 = .ok (.aload 4, 2) := dk_25 4 (dk_at dksX3_line_8 17 rfl rfl)
theorem dX3_line_204 : decode cX3_line 204 = .ok (.invokevirtual 334, 3) := dk_182 1 78 (dk_at dksX3_line_8 19 rfl rfl)
theorem dX3_line_207 : decode cX3_line 207 = .ok (.aload_n 3, 1) := dk_45 (dk_at dksX3_line_8 22 rfl rfl)
theorem dX3_line_208 : decode cX3_line 208 = .ok (.iconst 1, 1) := dk_4 (dk_at dksX3_line_8 23 rfl rfl)
theorem dX3_line_209 : decode cX3_line 209 = .ok (.iaload, 1) := dk_46 (dk_at dksX3_line_9 0 rfl rfl)
theorem dX3_line_210 : decode cX3_line 210 = .ok (.invokevirtual 338, 3) := dk_182 1 82 (dk_at dksX3_line_9 1 rfl rfl)
theorem dX3_line_213 : decode cX3_line 213 = .ok (.invokevirtual 345, 3) := dk_182 1 89 (dk_at dksX3_line_9 4 rfl rfl)
theorem dX3_line_216 : decode cX3_line 216 = .ok (.astore 4, 2) := dk_58 4 (dk_at dksX3_line_9 7 rfl rfl)
theorem dX3_line_218 : decode cX3_line 218 = .ok (.aload_n 2, 1) := dk_44 (dk_at dksX3_line_9 9 rfl rfl)
theorem dX3_line_219 : decode cX3_line 219 = .ok (.getfield 136, 3) := dk_180 0 136 (dk_at dksX3_line_9 10 rfl rfl)
theorem dX3_line_222 : decode cX3_line 222 = .ok (.iconst 2, 1) := dk_5 (dk_at dksX3_line_9 13 rfl rfl)
theorem dX3_line_223 : decode cX3_line 223 = .ok (.if_icmp .ne 38, 3) := dk_160 0 38 (dk_at dksX3_line_9 14 rfl rfl)
theorem dX3_line_226 : decode cX3_line 226 = .ok (.new 325, 3) := dk_187 1 69 (dk_at dksX3_line_9 17 rfl rfl)
theorem dX3_line_229 : decode cX3_line 229 = .ok (.dup, 1) := dk_89 (dk_at dksX3_line_9 20 rfl rfl)
theorem dX3_line_230 : decode cX3_line 230 = .ok (.invokespecial 327, 3) := dk_183 1 71 (dk_at dksX3_line_9 21 rfl rfl)
theorem dX3_line_233 : decode cX3_line 233 = .ok (.aload 4, 2) := dk_25 4 (dk_at dksX3_line_10 0 rfl rfl)
theorem dX3_line_235 : decode cX3_line 235 = .ok (.invokevirtual 334, 3) := dk_182 1 78 (dk_at dksX3_line_10 2 rfl rfl)
theorem dX3_line_238 : decode cX3_line 238 = .ok (.aload_n 2, 1) := dk_44 (dk_at dksX3_line_10 5 rfl rfl)
theorem dX3_line_239 : decode cX3_line 239 = .ok (.getfield 124, 3) := dk_180 0 124 (dk_at dksX3_line_10 6 rfl rfl)
theorem dX3_line_242 : decode cX3_line 242 = .ok (.ifCond .eq 7, 3) := dk_153 0 7 (dk_at dksX3_line_10 9 rfl rfl)
theorem dX3_line_245 : decode cX3_line 245 = .ok (.iconst 0, 1) := dk_3 (dk_at dksX3_line_10 12 rfl rfl)
theorem dX3_line_246 : decode cX3_line 246 = .ok (.goto 7, 3) := dk_167 0 7 (dk_at dksX3_line_10 13 rfl rfl)
theorem dX3_line_249 : decode cX3_line 249 = .ok (.aload_n 2, 1) := dk_44 (dk_at dksX3_line_10 16 rfl rfl)
theorem dX3_line_250 : decode cX3_line 250 = .ok (.getfield 145, 3) := dk_180 0 145 (dk_at dksX3_line_10 17 rfl rfl)
theorem dX3_line_253 : decode cX3_line 253 = .ok (.invokevirtual 338, 3) := dk_182 1 82 (dk_at dksX3_line_10 20 rfl rfl)
theorem dX3_line_256 : decode cX3_line 256 = .ok (.invokevirtual 345, 3) := dk_182 1 89 (dk_at dksX3_line_11 0 rfl rfl)
theorem dX3_line_259 : decode cX3_line 259 = .ok (.astore 4, 2) := dk_58 4 (dk_at dksX3_line_11 3 rfl rfl)
theorem dX3_line_261 : decode cX3_line 261 = .ok (.aload_n 2, 1) := dk_44 (dk_at dksX3_line_11 5 rfl rfl)
theorem dX3_line_262 : decode cX3_line 262 = .ok (.getfield 124, 3) := dk_180 0 124 (dk_at dksX3_line_11 6 rfl rfl)
theorem dX3_line_265 : decode cX3_line 265 = .ok (.ifCond .eq 27, 3) := dk_153 0 27 (dk_at dksX3_line_11 9 rfl rfl)
theorem dX3_line_268 : decode cX3_line 268 = .ok (.new 325, 3) := dk_187 1 69 (dk_at dksX3_line_11 12 rfl rfl)
theorem dX3_line_271 : decode cX3_line 271 = .ok (.dup, 1) := dk_89 (dk_at dksX3_line_11 15 rfl rfl)
theorem dX3_line_272 : decode cX3_line 272 = .ok (.invokespecial 327, 3) := dk_183 1 71 (dk_at dksX3_line_11 16 rfl rfl)
theorem dX3_line_275 : decode cX3_line 275 = .ok (.aload 4, 2) := dk_25 4 (dk_at dksX3_line_11 19 rfl rfl)
theorem dX3_line_277 : decode cX3_line 277 = .ok (.invokevirtual 334, 3) := dk_182 1 78 (dk_at dksX3_line_11 21 rfl rfl)
theorem dX3_line_280 : decode cX3_line 280 = .ok (.ldc_w 353, 3) := dk_19 1 97 (dk_at dksX3_line_12 0 rfl rfl)
theorem dX3_line_283 : decode cX3_line 283 = .ok (.invokevirtual 334, 3) := dk_182 1 78 (dk_at dksX3_line_12 3 rfl rfl)
theorem dX3_line_286 : decode cX3_line 286 = .ok (.invokevirtual 345, 3) := dk_182 1 89 (dk_at dksX3_line_12 6 rfl rfl)
theorem dX3_line_289 : decode cX3_line 289 = .ok (.goto 5, 3) := dk_167 0 5 (dk_at dksX3_line_12 9 rfl rfl)
theorem dX3_line_292 : decode cX3_line 292 = .ok (.aload 4, 2) := dk_25 4 (dk_at dksX3_line_12 12 rfl rfl)
theorem dX3_line_294 : decode cX3_line 294 = .ok (.areturn, 1) := dk_176 (dk_at dksX3_line_12 14 rfl rfl)
abbrev cX3_best : ByteArray := prog_15_method_62_code
def yX3_best : MethodName := ⟨RX3, "best", "(IIZ)I"⟩
def dkwX3_best_5 : List UInt8 := [29, 153, 0, 8, 21, 5, 167, 0, 5, 21, 4, 172]
abbrev dktX3_best_5 : List UInt8 := dkwX3_best_5 ++ []
def dkwX3_best_4 : List UInt8 := [21, 7, 21, 5, 164, 0, 6, 167, 0, 11, 21, 6, 54, 4, 21, 7, 54, 5, 132, 6, 255, 167, 255, 196]
abbrev dktX3_best_4 : List UInt8 := dkwX3_best_4 ++ dktX3_best_5
def dkwX3_best_3 : List UInt8 := [182, 0, 132, 27, 28, 182, 0, 216, 54, 7, 21, 7, 2, 160, 0, 5, 2, 172, 21, 4, 2, 159, 0, 13]
abbrev dktX3_best_3 : List UInt8 := dkwX3_best_3 ++ dktX3_best_4
def dkwX3_best_2 : List UInt8 := [182, 0, 40, 4, 100, 54, 6, 21, 6, 155, 0, 61, 42, 42, 42, 180, 0, 48, 27, 21, 6, 1]
abbrev dktX3_best_2 : List UInt8 := dkwX3_best_2 ++ dktX3_best_3
def dkwX3_best_1 : List UInt8 := [4, 167, 0, 4, 3, 5, 182, 0, 36, 153, 0, 5, 3, 172, 2, 54, 4, 2, 54, 5, 42, 180, 0, 10]
abbrev dktX3_best_1 : List UInt8 := dkwX3_best_1 ++ dktX3_best_2
def dkwX3_best_0 : List UInt8 := [42, 42, 27, 182, 0, 243, 4, 182, 0, 219, 154, 0, 26, 42, 28, 3, 16, 11, 184, 0, 44, 154, 0, 7]
abbrev dktX3_best_0 : List UInt8 := dkwX3_best_0 ++ dktX3_best_1
theorem dksX3_best_0 : cX3_best.data.toList.drop 0 = dktX3_best_0 := by decide +kernel
theorem dksX3_best_1 : cX3_best.data.toList.drop 24 = dktX3_best_1 := dk_seg dksX3_best_0 24 rfl rfl
theorem dksX3_best_2 : cX3_best.data.toList.drop 48 = dktX3_best_2 := dk_seg dksX3_best_1 24 rfl rfl
theorem dksX3_best_3 : cX3_best.data.toList.drop 70 = dktX3_best_3 := dk_seg dksX3_best_2 22 rfl rfl
theorem dksX3_best_4 : cX3_best.data.toList.drop 94 = dktX3_best_4 := dk_seg dksX3_best_3 24 rfl rfl
theorem dksX3_best_5 : cX3_best.data.toList.drop 118 = dktX3_best_5 := dk_seg dksX3_best_4 24 rfl rfl
theorem dX3_best_0 : decode cX3_best 0 = .ok (.aload_n 0, 1) := dk_42 (dk_at dksX3_best_0 0 rfl rfl)
theorem dX3_best_1 : decode cX3_best 1 = .ok (.aload_n 0, 1) := dk_42 (dk_at dksX3_best_0 1 rfl rfl)
theorem dX3_best_2 : decode cX3_best 2 = .ok (.iload_n 1, 1) := dk_27 (dk_at dksX3_best_0 2 rfl rfl)
theorem dX3_best_3 : decode cX3_best 3 = .ok (.invokevirtual 243, 3) := dk_182 0 243 (dk_at dksX3_best_0 3 rfl rfl)
theorem dX3_best_6 : decode cX3_best 6 = .ok (.iconst 1, 1) := dk_4 (dk_at dksX3_best_0 6 rfl rfl)
theorem dX3_best_7 : decode cX3_best 7 = .ok (.invokevirtual 219, 3) := dk_182 0 219 (dk_at dksX3_best_0 7 rfl rfl)
theorem dX3_best_10 : decode cX3_best 10 = .ok (.ifCond .ne 26, 3) := dk_154 0 26 (dk_at dksX3_best_0 10 rfl rfl)
theorem dX3_best_13 : decode cX3_best 13 = .ok (.aload_n 0, 1) := dk_42 (dk_at dksX3_best_0 13 rfl rfl)
theorem dX3_best_14 : decode cX3_best 14 = .ok (.iload_n 2, 1) := dk_28 (dk_at dksX3_best_0 14 rfl rfl)
theorem dX3_best_15 : decode cX3_best 15 = .ok (.iconst 0, 1) := dk_3 (dk_at dksX3_best_0 15 rfl rfl)
theorem dX3_best_16 : decode cX3_best 16 = .ok (.bipush 11, 2) := dk_16 11 (dk_at dksX3_best_0 16 rfl rfl)
theorem dX3_best_18 : decode cX3_best 18 = .ok (.invokestatic 44, 3) := dk_184 0 44 (dk_at dksX3_best_0 18 rfl rfl)
theorem dX3_best_21 : decode cX3_best 21 = .ok (.ifCond .ne 7, 3) := dk_154 0 7 (dk_at dksX3_best_0 21 rfl rfl)
theorem dX3_best_24 : decode cX3_best 24 = .ok (.iconst 1, 1) := dk_4 (dk_at dksX3_best_1 0 rfl rfl)
theorem dX3_best_25 : decode cX3_best 25 = .ok (.goto 4, 3) := dk_167 0 4 (dk_at dksX3_best_1 1 rfl rfl)
theorem dX3_best_28 : decode cX3_best 28 = .ok (.iconst 0, 1) := dk_3 (dk_at dksX3_best_1 4 rfl rfl)
theorem dX3_best_29 : decode cX3_best 29 = .ok (.iconst 2, 1) := dk_5 (dk_at dksX3_best_1 5 rfl rfl)
theorem dX3_best_30 : decode cX3_best 30 = .ok (.invokevirtual 36, 3) := dk_182 0 36 (dk_at dksX3_best_1 6 rfl rfl)
theorem dX3_best_33 : decode cX3_best 33 = .ok (.ifCond .eq 5, 3) := dk_153 0 5 (dk_at dksX3_best_1 9 rfl rfl)
theorem dX3_best_36 : decode cX3_best 36 = .ok (.iconst 0, 1) := dk_3 (dk_at dksX3_best_1 12 rfl rfl)
theorem dX3_best_37 : decode cX3_best 37 = .ok (.ireturn, 1) := dk_172 (dk_at dksX3_best_1 13 rfl rfl)
theorem dX3_best_38 : decode cX3_best 38 = .ok (.iconst (-1), 1) := dk_2 (dk_at dksX3_best_1 14 rfl rfl)
theorem dX3_best_39 : decode cX3_best 39 = .ok (.istore 4, 2) := dk_54 4 (dk_at dksX3_best_1 15 rfl rfl)
theorem dX3_best_41 : decode cX3_best 41 = .ok (.iconst (-1), 1) := dk_2 (dk_at dksX3_best_1 17 rfl rfl)
theorem dX3_best_42 : decode cX3_best 42 = .ok (.istore 5, 2) := dk_54 5 (dk_at dksX3_best_1 18 rfl rfl)
theorem dX3_best_44 : decode cX3_best 44 = .ok (.aload_n 0, 1) := dk_42 (dk_at dksX3_best_1 20 rfl rfl)
theorem dX3_best_45 : decode cX3_best 45 = .ok (.getfield 10, 3) := dk_180 0 10 (dk_at dksX3_best_1 21 rfl rfl)
theorem dX3_best_48 : decode cX3_best 48 = .ok (.invokevirtual 40, 3) := dk_182 0 40 (dk_at dksX3_best_2 0 rfl rfl)
theorem dX3_best_51 : decode cX3_best 51 = .ok (.iconst 1, 1) := dk_4 (dk_at dksX3_best_2 3 rfl rfl)
theorem dX3_best_52 : decode cX3_best 52 = .ok (.isub, 1) := dk_100 (dk_at dksX3_best_2 4 rfl rfl)
theorem dX3_best_53 : decode cX3_best 53 = .ok (.istore 6, 2) := dk_54 6 (dk_at dksX3_best_2 5 rfl rfl)
theorem dX3_best_55 : decode cX3_best 55 = .ok (.iload 6, 2) := dk_21 6 (dk_at dksX3_best_2 7 rfl rfl)
theorem dX3_best_57 : decode cX3_best 57 = .ok (.ifCond .lt 61, 3) := dk_155 0 61 (dk_at dksX3_best_2 9 rfl rfl)
theorem dX3_best_60 : decode cX3_best 60 = .ok (.aload_n 0, 1) := dk_42 (dk_at dksX3_best_2 12 rfl rfl)
theorem dX3_best_61 : decode cX3_best 61 = .ok (.aload_n 0, 1) := dk_42 (dk_at dksX3_best_2 13 rfl rfl)
theorem dX3_best_62 : decode cX3_best 62 = .ok (.aload_n 0, 1) := dk_42 (dk_at dksX3_best_2 14 rfl rfl)
theorem dX3_best_63 : decode cX3_best 63 = .ok (.getfield 48, 3) := dk_180 0 48 (dk_at dksX3_best_2 15 rfl rfl)
theorem dX3_best_66 : decode cX3_best 66 = .ok (.iload_n 1, 1) := dk_27 (dk_at dksX3_best_2 18 rfl rfl)
theorem dX3_best_67 : decode cX3_best 67 = .ok (.iload 6, 2) := dk_21 6 (dk_at dksX3_best_2 19 rfl rfl)
theorem dX3_best_69 : decode cX3_best 69 = .ok (.aconst_null, 1) := dk_1 (dk_at dksX3_best_2 21 rfl rfl)
theorem dX3_best_70 : decode cX3_best 70 = .ok (.invokevirtual 132, 3) := dk_182 0 132 (dk_at dksX3_best_3 0 rfl rfl)
theorem dX3_best_73 : decode cX3_best 73 = .ok (.iload_n 1, 1) := dk_27 (dk_at dksX3_best_3 3 rfl rfl)
theorem dX3_best_74 : decode cX3_best 74 = .ok (.iload_n 2, 1) := dk_28 (dk_at dksX3_best_3 4 rfl rfl)
theorem dX3_best_75 : decode cX3_best 75 = .ok (.invokevirtual 216, 3) := dk_182 0 216 (dk_at dksX3_best_3 5 rfl rfl)
theorem dX3_best_78 : decode cX3_best 78 = .ok (.istore 7, 2) := dk_54 7 (dk_at dksX3_best_3 8 rfl rfl)
theorem dX3_best_80 : decode cX3_best 80 = .ok (.iload 7, 2) := dk_21 7 (dk_at dksX3_best_3 10 rfl rfl)
theorem dX3_best_82 : decode cX3_best 82 = .ok (.iconst (-1), 1) := dk_2 (dk_at dksX3_best_3 12 rfl rfl)
theorem dX3_best_83 : decode cX3_best 83 = .ok (.if_icmp .ne 5, 3) := dk_160 0 5 (dk_at dksX3_best_3 13 rfl rfl)
theorem dX3_best_86 : decode cX3_best 86 = .ok (.iconst (-1), 1) := dk_2 (dk_at dksX3_best_3 16 rfl rfl)
theorem dX3_best_87 : decode cX3_best 87 = .ok (.ireturn, 1) := dk_172 (dk_at dksX3_best_3 17 rfl rfl)
theorem dX3_best_88 : decode cX3_best 88 = .ok (.iload 4, 2) := dk_21 4 (dk_at dksX3_best_3 18 rfl rfl)
theorem dX3_best_90 : decode cX3_best 90 = .ok (.iconst (-1), 1) := dk_2 (dk_at dksX3_best_3 20 rfl rfl)
theorem dX3_best_91 : decode cX3_best 91 = .ok (.if_icmp .eq 13, 3) := dk_159 0 13 (dk_at dksX3_best_3 21 rfl rfl)
theorem dX3_best_94 : decode cX3_best 94 = .ok (.iload 7, 2) := dk_21 7 (dk_at dksX3_best_4 0 rfl rfl)
theorem dX3_best_96 : decode cX3_best 96 = .ok (.iload 5, 2) := dk_21 5 (dk_at dksX3_best_4 2 rfl rfl)
theorem dX3_best_98 : decode cX3_best 98 = .ok (.if_icmp .le 6, 3) := dk_164 0 6 (dk_at dksX3_best_4 4 rfl rfl)
theorem dX3_best_101 : decode cX3_best 101 = .ok (.goto 11, 3) := dk_167 0 11 (dk_at dksX3_best_4 7 rfl rfl)
theorem dX3_best_104 : decode cX3_best 104 = .ok (.iload 6, 2) := dk_21 6 (dk_at dksX3_best_4 10 rfl rfl)
theorem dX3_best_106 : decode cX3_best 106 = .ok (.istore 4, 2) := dk_54 4 (dk_at dksX3_best_4 12 rfl rfl)
theorem dX3_best_108 : decode cX3_best 108 = .ok (.iload 7, 2) := dk_21 7 (dk_at dksX3_best_4 14 rfl rfl)
theorem dX3_best_110 : decode cX3_best 110 = .ok (.istore 5, 2) := dk_54 5 (dk_at dksX3_best_4 16 rfl rfl)
theorem dX3_best_112 : decode cX3_best 112 = .ok (.iinc 6 (-1), 3) := dk_132 6 255 (dk_at dksX3_best_4 18 rfl rfl)
theorem dX3_best_115 : decode cX3_best 115 = .ok (.goto (-60), 3) := dk_167 255 196 (dk_at dksX3_best_4 21 rfl rfl)
theorem dX3_best_118 : decode cX3_best 118 = .ok (.iload_n 3, 1) := dk_29 (dk_at dksX3_best_5 0 rfl rfl)
theorem dX3_best_119 : decode cX3_best 119 = .ok (.ifCond .eq 8, 3) := dk_153 0 8 (dk_at dksX3_best_5 1 rfl rfl)
theorem dX3_best_122 : decode cX3_best 122 = .ok (.iload 5, 2) := dk_21 5 (dk_at dksX3_best_5 4 rfl rfl)
theorem dX3_best_124 : decode cX3_best 124 = .ok (.goto 5, 3) := dk_167 0 5 (dk_at dksX3_best_5 6 rfl rfl)
theorem dX3_best_127 : decode cX3_best 127 = .ok (.iload 4, 2) := dk_21 4 (dk_at dksX3_best_5 9 rfl rfl)
theorem dX3_best_129 : decode cX3_best 129 = .ok (.ireturn, 1) := dk_172 (dk_at dksX3_best_5 11 rfl rfl)
abbrev cX3_wouldCost : ByteArray := prog_15_method_63_code
def yX3_wouldCost : MethodName := ⟨RX3, "wouldCost", "(IIIII)I"⟩
def dkwX3_wouldCost_4 : List UInt8 := [58, 6, 25, 6, 180, 0, 111, 42, 180, 0, 22, 182, 0, 40, 50, 7, 46, 172]
abbrev dktX3_wouldCost_4 : List UInt8 := dkwX3_wouldCost_4 ++ []
def dkwX3_wouldCost_3 : List UInt8 := [180, 0, 48, 2, 2, 42, 3, 27, 42, 180, 0, 48, 28, 21, 5, 29, 21, 4, 182, 1, 14, 182, 0, 132]
abbrev dktX3_wouldCost_3 : List UInt8 := dkwX3_wouldCost_3 ++ dktX3_wouldCost_4
def dkwX3_wouldCost_2 : List UInt8 := [21, 5, 184, 1, 8, 153, 0, 7, 4, 167, 0, 4, 3, 5, 182, 0, 36, 153, 0, 5, 3, 172, 42, 42]
abbrev dktX3_wouldCost_2 : List UInt8 := dkwX3_wouldCost_2 ++ dktX3_wouldCost_3
def dkwX3_wouldCost_1 : List UInt8 := [182, 0, 219, 154, 0, 41, 42, 28, 184, 1, 5, 154, 0, 21, 21, 4, 3, 6, 184, 0, 44, 153, 0, 11]
abbrev dktX3_wouldCost_1 : List UInt8 := dkwX3_wouldCost_1 ++ dktX3_wouldCost_2
def dkwX3_wouldCost_0 : List UInt8 := [42, 42, 27, 182, 0, 243, 154, 0, 10, 29, 184, 0, 254, 153, 0, 7, 4, 167, 0, 4, 3, 4]
abbrev dktX3_wouldCost_0 : List UInt8 := dkwX3_wouldCost_0 ++ dktX3_wouldCost_1
theorem dksX3_wouldCost_0 : cX3_wouldCost.data.toList.drop 0 = dktX3_wouldCost_0 := by decide +kernel
theorem dksX3_wouldCost_1 : cX3_wouldCost.data.toList.drop 22 = dktX3_wouldCost_1 := dk_seg dksX3_wouldCost_0 22 rfl rfl
theorem dksX3_wouldCost_2 : cX3_wouldCost.data.toList.drop 46 = dktX3_wouldCost_2 := dk_seg dksX3_wouldCost_1 24 rfl rfl
theorem dksX3_wouldCost_3 : cX3_wouldCost.data.toList.drop 70 = dktX3_wouldCost_3 := dk_seg dksX3_wouldCost_2 24 rfl rfl
theorem dksX3_wouldCost_4 : cX3_wouldCost.data.toList.drop 94 = dktX3_wouldCost_4 := dk_seg dksX3_wouldCost_3 24 rfl rfl
theorem dX3_wouldCost_0 : decode cX3_wouldCost 0 = .ok (.aload_n 0, 1) := dk_42 (dk_at dksX3_wouldCost_0 0 rfl rfl)
theorem dX3_wouldCost_1 : decode cX3_wouldCost 1 = .ok (.aload_n 0, 1) := dk_42 (dk_at dksX3_wouldCost_0 1 rfl rfl)
theorem dX3_wouldCost_2 : decode cX3_wouldCost 2 = .ok (.iload_n 1, 1) := dk_27 (dk_at dksX3_wouldCost_0 2 rfl rfl)
theorem dX3_wouldCost_3 : decode cX3_wouldCost 3 = .ok (.invokevirtual 243, 3) := dk_182 0 243 (dk_at dksX3_wouldCost_0 3 rfl rfl)
theorem dX3_wouldCost_6 : decode cX3_wouldCost 6 = .ok (.ifCond .ne 10, 3) := dk_154 0 10 (dk_at dksX3_wouldCost_0 6 rfl rfl)
theorem dX3_wouldCost_9 : decode cX3_wouldCost 9 = .ok (.iload_n 3, 1) := dk_29 (dk_at dksX3_wouldCost_0 9 rfl rfl)
theorem dX3_wouldCost_10 : decode cX3_wouldCost 10 = .ok (.invokestatic 254, 3) := dk_184 0 254 (dk_at dksX3_wouldCost_0 10 rfl rfl)
theorem dX3_wouldCost_13 : decode cX3_wouldCost 13 = .ok (.ifCond .eq 7, 3) := dk_153 0 7 (dk_at dksX3_wouldCost_0 13 rfl rfl)
theorem dX3_wouldCost_16 : decode cX3_wouldCost 16 = .ok (.iconst 1, 1) := dk_4 (dk_at dksX3_wouldCost_0 16 rfl rfl)
theorem dX3_wouldCost_17 : decode cX3_wouldCost 17 = .ok (.goto 4, 3) := dk_167 0 4 (dk_at dksX3_wouldCost_0 17 rfl rfl)
theorem dX3_wouldCost_20 : decode cX3_wouldCost 20 = .ok (.iconst 0, 1) := dk_3 (dk_at dksX3_wouldCost_0 20 rfl rfl)
theorem dX3_wouldCost_21 : decode cX3_wouldCost 21 = .ok (.iconst 1, 1) := dk_4 (dk_at dksX3_wouldCost_0 21 rfl rfl)
theorem dX3_wouldCost_22 : decode cX3_wouldCost 22 = .ok (.invokevirtual 219, 3) := dk_182 0 219 (dk_at dksX3_wouldCost_1 0 rfl rfl)
theorem dX3_wouldCost_25 : decode cX3_wouldCost 25 = .ok (.ifCond .ne 41, 3) := dk_154 0 41 (dk_at dksX3_wouldCost_1 3 rfl rfl)
theorem dX3_wouldCost_28 : decode cX3_wouldCost 28 = .ok (.aload_n 0, 1) := dk_42 (dk_at dksX3_wouldCost_1 6 rfl rfl)
theorem dX3_wouldCost_29 : decode cX3_wouldCost 29 = .ok (.iload_n 2, 1) := dk_28 (dk_at dksX3_wouldCost_1 7 rfl rfl)
theorem dX3_wouldCost_30 : decode cX3_wouldCost 30 = .ok (.invokestatic 261, 3) := dk_184 1 5 (dk_at dksX3_wouldCost_1 8 rfl rfl)
theorem dX3_wouldCost_33 : decode cX3_wouldCost 33 = .ok (.ifCond .ne 21, 3) := dk_154 0 21 (dk_at dksX3_wouldCost_1 11 rfl rfl)
theorem dX3_wouldCost_36 : decode cX3_wouldCost 36 = .ok (.iload 4, 2) := dk_21 4 (dk_at dksX3_wouldCost_1 14 rfl rfl)
theorem dX3_wouldCost_38 : decode cX3_wouldCost 38 = .ok (.iconst 0, 1) := dk_3 (dk_at dksX3_wouldCost_1 16 rfl rfl)
theorem dX3_wouldCost_39 : decode cX3_wouldCost 39 = .ok (.iconst 3, 1) := dk_6 (dk_at dksX3_wouldCost_1 17 rfl rfl)
theorem dX3_wouldCost_40 : decode cX3_wouldCost 40 = .ok (.invokestatic 44, 3) := dk_184 0 44 (dk_at dksX3_wouldCost_1 18 rfl rfl)
theorem dX3_wouldCost_43 : decode cX3_wouldCost 43 = .ok (.ifCond .eq 11, 3) := dk_153 0 11 (dk_at dksX3_wouldCost_1 21 rfl rfl)
theorem dX3_wouldCost_46 : decode cX3_wouldCost 46 = .ok (.iload 5, 2) := dk_21 5 (dk_at dksX3_wouldCost_2 0 rfl rfl)
theorem dX3_wouldCost_48 : decode cX3_wouldCost 48 = .ok (.invokestatic 264, 3) := dk_184 1 8 (dk_at dksX3_wouldCost_2 2 rfl rfl)
theorem dX3_wouldCost_51 : decode cX3_wouldCost 51 = .ok (.ifCond .eq 7, 3) := dk_153 0 7 (dk_at dksX3_wouldCost_2 5 rfl rfl)
theorem dX3_wouldCost_54 : decode cX3_wouldCost 54 = .ok (.iconst 1, 1) := dk_4 (dk_at dksX3_wouldCost_2 8 rfl rfl)
theorem dX3_wouldCost_55 : decode cX3_wouldCost 55 = .ok (.goto 4, 3) := dk_167 0 4 (dk_at dksX3_wouldCost_2 9 rfl rfl)
theorem dX3_wouldCost_58 : decode cX3_wouldCost 58 = .ok (.iconst 0, 1) := dk_3 (dk_at dksX3_wouldCost_2 12 rfl rfl)
theorem dX3_wouldCost_59 : decode cX3_wouldCost 59 = .ok (.iconst 2, 1) := dk_5 (dk_at dksX3_wouldCost_2 13 rfl rfl)
theorem dX3_wouldCost_60 : decode cX3_wouldCost 60 = .ok (.invokevirtual 36, 3) := dk_182 0 36 (dk_at dksX3_wouldCost_2 14 rfl rfl)
theorem dX3_wouldCost_63 : decode cX3_wouldCost 63 = .ok (.ifCond .eq 5, 3) := dk_153 0 5 (dk_at dksX3_wouldCost_2 17 rfl rfl)
theorem dX3_wouldCost_66 : decode cX3_wouldCost 66 = .ok (.iconst 0, 1) := dk_3 (dk_at dksX3_wouldCost_2 20 rfl rfl)
theorem dX3_wouldCost_67 : decode cX3_wouldCost 67 = .ok (.ireturn, 1) := dk_172 (dk_at dksX3_wouldCost_2 21 rfl rfl)
theorem dX3_wouldCost_68 : decode cX3_wouldCost 68 = .ok (.aload_n 0, 1) := dk_42 (dk_at dksX3_wouldCost_2 22 rfl rfl)
theorem dX3_wouldCost_69 : decode cX3_wouldCost 69 = .ok (.aload_n 0, 1) := dk_42 (dk_at dksX3_wouldCost_2 23 rfl rfl)
theorem dX3_wouldCost_70 : decode cX3_wouldCost 70 = .ok (.getfield 48, 3) := dk_180 0 48 (dk_at dksX3_wouldCost_3 0 rfl rfl)
theorem dX3_wouldCost_73 : decode cX3_wouldCost 73 = .ok (.iconst (-1), 1) := dk_2 (dk_at dksX3_wouldCost_3 3 rfl rfl)
theorem dX3_wouldCost_74 : decode cX3_wouldCost 74 = .ok (.iconst (-1), 1) := dk_2 (dk_at dksX3_wouldCost_3 4 rfl rfl)
theorem dX3_wouldCost_75 : decode cX3_wouldCost 75 = .ok (.aload_n 0, 1) := dk_42 (dk_at dksX3_wouldCost_3 5 rfl rfl)
theorem dX3_wouldCost_76 : decode cX3_wouldCost 76 = .ok (.iconst 0, 1) := dk_3 (dk_at dksX3_wouldCost_3 6 rfl rfl)
theorem dX3_wouldCost_77 : decode cX3_wouldCost 77 = .ok (.iload_n 1, 1) := dk_27 (dk_at dksX3_wouldCost_3 7 rfl rfl)
theorem dX3_wouldCost_78 : decode cX3_wouldCost 78 = .ok (.aload_n 0, 1) := dk_42 (dk_at dksX3_wouldCost_3 8 rfl rfl)
theorem dX3_wouldCost_79 : decode cX3_wouldCost 79 = .ok (.getfield 48, 3) := dk_180 0 48 (dk_at dksX3_wouldCost_3 9 rfl rfl)
theorem dX3_wouldCost_82 : decode cX3_wouldCost 82 = .ok (.iload_n 2, 1) := dk_28 (dk_at dksX3_wouldCost_3 12 rfl rfl)
theorem dX3_wouldCost_83 : decode cX3_wouldCost 83 = .ok (.iload 5, 2) := dk_21 5 (dk_at dksX3_wouldCost_3 13 rfl rfl)
theorem dX3_wouldCost_85 : decode cX3_wouldCost 85 = .ok (.iload_n 3, 1) := dk_29 (dk_at dksX3_wouldCost_3 15 rfl rfl)
theorem dX3_wouldCost_86 : decode cX3_wouldCost 86 = .ok (.iload 4, 2) := dk_21 4 (dk_at dksX3_wouldCost_3 16 rfl rfl)
theorem dX3_wouldCost_88 : decode cX3_wouldCost 88 = .ok (.invokevirtual 270, 3) := dk_182 1 14 (dk_at dksX3_wouldCost_3 18 rfl rfl)
theorem dX3_wouldCost_91 : decode cX3_wouldCost 91 = .ok (.invokevirtual 132, 3) := dk_182 0 132 (dk_at dksX3_wouldCost_3 21 rfl rfl)
theorem dX3_wouldCost_94 : decode cX3_wouldCost 94 = .ok (.astore 6, 2) := dk_58 6 (dk_at dksX3_wouldCost_4 0 rfl rfl)
theorem dX3_wouldCost_96 : decode cX3_wouldCost 96 = .ok (.aload 6, 2) := dk_25 6 (dk_at dksX3_wouldCost_4 2 rfl rfl)
theorem dX3_wouldCost_98 : decode cX3_wouldCost 98 = .ok (.getfield 111, 3) := dk_180 0 111 (dk_at dksX3_wouldCost_4 4 rfl rfl)
theorem dX3_wouldCost_101 : decode cX3_wouldCost 101 = .ok (.aload_n 0, 1) := dk_42 (dk_at dksX3_wouldCost_4 7 rfl rfl)
theorem dX3_wouldCost_102 : decode cX3_wouldCost 102 = .ok (.getfield 22, 3) := dk_180 0 22 (dk_at dksX3_wouldCost_4 8 rfl rfl)
theorem dX3_wouldCost_105 : decode cX3_wouldCost 105 = .ok (.invokevirtual 40, 3) := dk_182 0 40 (dk_at dksX3_wouldCost_4 11 rfl rfl)
theorem dX3_wouldCost_108 : decode cX3_wouldCost 108 = .ok (.aaload, 1) := dk_50 (dk_at dksX3_wouldCost_4 14 rfl rfl)
theorem dX3_wouldCost_109 : decode cX3_wouldCost 109 = .ok (.iconst 4, 1) := dk_7 (dk_at dksX3_wouldCost_4 15 rfl rfl)
theorem dX3_wouldCost_110 : decode cX3_wouldCost 110 = .ok (.iaload, 1) := dk_46 (dk_at dksX3_wouldCost_4 16 rfl rfl)
theorem dX3_wouldCost_111 : decode cX3_wouldCost 111 = .ok (.ireturn, 1) := dk_172 (dk_at dksX3_wouldCost_4 17 rfl rfl)
abbrev cX3_isSound : ByteArray := prog_15_method_66_code
def yX3_isSound : MethodName := ⟨RX3, "isSound", "()Z"⟩
def dkwX3_isSound_0 : List UInt8 := [42, 3, 181, 0, 32, 42, 42, 182, 1, 27, 182, 1, 103, 172]
abbrev dktX3_isSound_0 : List UInt8 := dkwX3_isSound_0 ++ []
theorem dksX3_isSound_0 : cX3_isSound.data.toList.drop 0 = dktX3_isSound_0 := by decide +kernel
theorem dX3_isSound_0 : decode cX3_isSound 0 = .ok (.aload_n 0, 1) := dk_42 (dk_at dksX3_isSound_0 0 rfl rfl)
theorem dX3_isSound_1 : decode cX3_isSound 1 = .ok (.iconst 0, 1) := dk_3 (dk_at dksX3_isSound_0 1 rfl rfl)
theorem dX3_isSound_2 : decode cX3_isSound 2 = .ok (.putfield 32, 3) := dk_181 0 32 (dk_at dksX3_isSound_0 2 rfl rfl)
theorem dX3_isSound_5 : decode cX3_isSound 5 = .ok (.aload_n 0, 1) := dk_42 (dk_at dksX3_isSound_0 5 rfl rfl)
theorem dX3_isSound_6 : decode cX3_isSound 6 = .ok (.aload_n 0, 1) := dk_42 (dk_at dksX3_isSound_0 6 rfl rfl)
theorem dX3_isSound_7 : decode cX3_isSound 7 = .ok (.invokevirtual 283, 3) := dk_182 1 27 (dk_at dksX3_isSound_0 7 rfl rfl)
theorem dX3_isSound_10 : decode cX3_isSound 10 = .ok (.invokevirtual 359, 3) := dk_182 1 103 (dk_at dksX3_isSound_0 10 rfl rfl)
theorem dX3_isSound_13 : decode cX3_isSound 13 = .ok (.ireturn, 1) := dk_172 (dk_at dksX3_isSound_0 13 rfl rfl)
abbrev cX3_isWhole : ByteArray := prog_15_method_65_code
def yX3_isWhole : MethodName := ⟨RX3, "isWhole", "(LRolloverModel$Book;)Z"⟩
def dkwX3_isWhole_5 : List UInt8 := [164, 0, 5, 3, 172, 132, 4, 1, 167, 255, 223, 132, 2, 1, 167, 255, 170, 42, 43, 182, 1, 99, 172]
abbrev dktX3_isWhole_5 : List UInt8 := dkwX3_isWhole_5 ++ []
def dkwX3_isWhole_4 : List UInt8 := [180, 0, 48, 16, 30, 108, 163, 0, 27, 42, 43, 28, 21, 4, 7, 182, 1, 48, 45, 180, 0, 175]
abbrev dktX3_isWhole_4 : List UInt8 := dkwX3_isWhole_4 ++ dktX3_isWhole_5
def dkwX3_isWhole_3 : List UInt8 := [160, 0, 6, 167, 0, 52, 42, 28, 182, 0, 250, 153, 0, 5, 3, 172, 3, 54, 4, 21, 4, 42]
abbrev dktX3_isWhole_3 : List UInt8 := dkwX3_isWhole_3 ++ dktX3_isWhole_4
def dkwX3_isWhole_2 : List UInt8 := [182, 0, 40, 162, 0, 81, 42, 180, 0, 16, 28, 182, 0, 51, 192, 0, 55, 78, 45, 180, 0, 172, 2]
abbrev dktX3_isWhole_2 : List UInt8 := dkwX3_isWhole_2 ++ dktX3_isWhole_3
def dkwX3_isWhole_1 : List UInt8 := [192, 0, 60, 78, 45, 4, 46, 156, 0, 5, 3, 172, 167, 255, 229, 3, 61, 28, 42, 180, 0, 16]
abbrev dktX3_isWhole_1 : List UInt8 := dkwX3_isWhole_1 ++ dktX3_isWhole_2
def dkwX3_isWhole_0 : List UInt8 := [43, 180, 0, 88, 182, 0, 193, 77, 44, 185, 0, 197, 1, 0, 153, 0, 24, 44, 185, 0, 203, 1, 0]
abbrev dktX3_isWhole_0 : List UInt8 := dkwX3_isWhole_0 ++ dktX3_isWhole_1
theorem dksX3_isWhole_0 : cX3_isWhole.data.toList.drop 0 = dktX3_isWhole_0 := by decide +kernel
theorem dksX3_isWhole_1 : cX3_isWhole.data.toList.drop 23 = dktX3_isWhole_1 := dk_seg dksX3_isWhole_0 23 rfl rfl
theorem dksX3_isWhole_2 : cX3_isWhole.data.toList.drop 45 = dktX3_isWhole_2 := dk_seg dksX3_isWhole_1 22 rfl rfl
theorem dksX3_isWhole_3 : cX3_isWhole.data.toList.drop 68 = dktX3_isWhole_3 := dk_seg dksX3_isWhole_2 23 rfl rfl
theorem dksX3_isWhole_4 : cX3_isWhole.data.toList.drop 90 = dktX3_isWhole_4 := dk_seg dksX3_isWhole_3 22 rfl rfl
theorem dksX3_isWhole_5 : cX3_isWhole.data.toList.drop 112 = dktX3_isWhole_5 := dk_seg dksX3_isWhole_4 22 rfl rfl
theorem dX3_isWhole_0 : decode cX3_isWhole 0 = .ok (.aload_n 1, 1) := dk_43 (dk_at dksX3_isWhole_0 0 rfl rfl)
theorem dX3_isWhole_1 : decode cX3_isWhole 1 = .ok (.getfield 88, 3) := dk_180 0 88 (dk_at dksX3_isWhole_0 1 rfl rfl)
theorem dX3_isWhole_4 : decode cX3_isWhole 4 = .ok (.invokevirtual 193, 3) := dk_182 0 193 (dk_at dksX3_isWhole_0 4 rfl rfl)
theorem dX3_isWhole_7 : decode cX3_isWhole 7 = .ok (.astore_n 2, 1) := dk_77 (dk_at dksX3_isWhole_0 7 rfl rfl)
theorem dX3_isWhole_8 : decode cX3_isWhole 8 = .ok (.aload_n 2, 1) := dk_44 (dk_at dksX3_isWhole_0 8 rfl rfl)
theorem dX3_isWhole_9 : decode cX3_isWhole 9 = .ok (.invokeinterface 197 1, 5) := by decide +kernel
theorem dX3_isWhole_14 : decode cX3_isWhole 14 = .ok (.ifCond .eq 24, 3) := dk_153 0 24 (dk_at dksX3_isWhole_0 14 rfl rfl)
theorem dX3_isWhole_17 : decode cX3_isWhole 17 = .ok (.aload_n 2, 1) := dk_44 (dk_at dksX3_isWhole_0 17 rfl rfl)
theorem dX3_isWhole_18 : decode cX3_isWhole 18 = .ok (.invokeinterface 203 1, 5) := by decide +kernel
theorem dX3_isWhole_23 : decode cX3_isWhole 23 = .ok (.checkcast 60, 3) := dk_192 0 60 (dk_at dksX3_isWhole_1 0 rfl rfl)
theorem dX3_isWhole_26 : decode cX3_isWhole 26 = .ok (.astore_n 3, 1) := dk_78 (dk_at dksX3_isWhole_1 3 rfl rfl)
theorem dX3_isWhole_27 : decode cX3_isWhole 27 = .ok (.aload_n 3, 1) := dk_45 (dk_at dksX3_isWhole_1 4 rfl rfl)
theorem dX3_isWhole_28 : decode cX3_isWhole 28 = .ok (.iconst 1, 1) := dk_4 (dk_at dksX3_isWhole_1 5 rfl rfl)
theorem dX3_isWhole_29 : decode cX3_isWhole 29 = .ok (.iaload, 1) := dk_46 (dk_at dksX3_isWhole_1 6 rfl rfl)
theorem dX3_isWhole_30 : decode cX3_isWhole 30 = .ok (.ifCond .ge 5, 3) := dk_156 0 5 (dk_at dksX3_isWhole_1 7 rfl rfl)
theorem dX3_isWhole_33 : decode cX3_isWhole 33 = .ok (.iconst 0, 1) := dk_3 (dk_at dksX3_isWhole_1 10 rfl rfl)
theorem dX3_isWhole_34 : decode cX3_isWhole 34 = .ok (.ireturn, 1) := dk_172 (dk_at dksX3_isWhole_1 11 rfl rfl)
theorem dX3_isWhole_35 : decode cX3_isWhole 35 = .ok (.goto (-27), 3) := dk_167 255 229 (dk_at dksX3_isWhole_1 12 rfl rfl)
theorem dX3_isWhole_38 : decode cX3_isWhole 38 = .ok (.iconst 0, 1) := dk_3 (dk_at dksX3_isWhole_1 15 rfl rfl)
theorem dX3_isWhole_39 : decode cX3_isWhole 39 = .ok (.istore_n 2, 1) := dk_61 (dk_at dksX3_isWhole_1 16 rfl rfl)
theorem dX3_isWhole_40 : decode cX3_isWhole 40 = .ok (.iload_n 2, 1) := dk_28 (dk_at dksX3_isWhole_1 17 rfl rfl)
theorem dX3_isWhole_41 : decode cX3_isWhole 41 = .ok (.aload_n 0, 1) := dk_42 (dk_at dksX3_isWhole_1 18 rfl rfl)
theorem dX3_isWhole_42 : decode cX3_isWhole 42 = .ok (.getfield 16, 3) := dk_180 0 16 (dk_at dksX3_isWhole_1 19 rfl rfl)
theorem dX3_isWhole_45 : decode cX3_isWhole 45 = .ok (.invokevirtual 40, 3) := dk_182 0 40 (dk_at dksX3_isWhole_2 0 rfl rfl)
theorem dX3_isWhole_48 : decode cX3_isWhole 48 = .ok (.if_icmp .ge 81, 3) := dk_162 0 81 (dk_at dksX3_isWhole_2 3 rfl rfl)
theorem dX3_isWhole_51 : decode cX3_isWhole 51 = .ok (.aload_n 0, 1) := dk_42 (dk_at dksX3_isWhole_2 6 rfl rfl)
theorem dX3_isWhole_52 : decode cX3_isWhole 52 = .ok (.getfield 16, 3) := dk_180 0 16 (dk_at dksX3_isWhole_2 7 rfl rfl)
theorem dX3_isWhole_55 : decode cX3_isWhole 55 = .ok (.iload_n 2, 1) := dk_28 (dk_at dksX3_isWhole_2 10 rfl rfl)
theorem dX3_isWhole_56 : decode cX3_isWhole 56 = .ok (.invokevirtual 51, 3) := dk_182 0 51 (dk_at dksX3_isWhole_2 11 rfl rfl)
theorem dX3_isWhole_59 : decode cX3_isWhole 59 = .ok (.checkcast 55, 3) := dk_192 0 55 (dk_at dksX3_isWhole_2 14 rfl rfl)
theorem dX3_isWhole_62 : decode cX3_isWhole 62 = .ok (.astore_n 3, 1) := dk_78 (dk_at dksX3_isWhole_2 17 rfl rfl)
theorem dX3_isWhole_63 : decode cX3_isWhole 63 = .ok (.aload_n 3, 1) := dk_45 (dk_at dksX3_isWhole_2 18 rfl rfl)
theorem dX3_isWhole_64 : decode cX3_isWhole 64 = .ok (.getfield 172, 3) := dk_180 0 172 (dk_at dksX3_isWhole_2 19 rfl rfl)
theorem dX3_isWhole_67 : decode cX3_isWhole 67 = .ok (.iconst (-1), 1) := dk_2 (dk_at dksX3_isWhole_2 22 rfl rfl)
theorem dX3_isWhole_68 : decode cX3_isWhole 68 = .ok (.if_icmp .ne 6, 3) := dk_160 0 6 (dk_at dksX3_isWhole_3 0 rfl rfl)
theorem dX3_isWhole_71 : decode cX3_isWhole 71 = .ok (.goto 52, 3) := dk_167 0 52 (dk_at dksX3_isWhole_3 3 rfl rfl)
theorem dX3_isWhole_74 : decode cX3_isWhole 74 = .ok (.aload_n 0, 1) := dk_42 (dk_at dksX3_isWhole_3 6 rfl rfl)
theorem dX3_isWhole_75 : decode cX3_isWhole 75 = .ok (.iload_n 2, 1) := dk_28 (dk_at dksX3_isWhole_3 7 rfl rfl)
theorem dX3_isWhole_76 : decode cX3_isWhole 76 = .ok (.invokevirtual 250, 3) := dk_182 0 250 (dk_at dksX3_isWhole_3 8 rfl rfl)
theorem dX3_isWhole_79 : decode cX3_isWhole 79 = .ok (.ifCond .eq 5, 3) := dk_153 0 5 (dk_at dksX3_isWhole_3 11 rfl rfl)
theorem dX3_isWhole_82 : decode cX3_isWhole 82 = .ok (.iconst 0, 1) := dk_3 (dk_at dksX3_isWhole_3 14 rfl rfl)
theorem dX3_isWhole_83 : decode cX3_isWhole 83 = .ok (.ireturn, 1) := dk_172 (dk_at dksX3_isWhole_3 15 rfl rfl)
theorem dX3_isWhole_84 : decode cX3_isWhole 84 = .ok (.iconst 0, 1) := dk_3 (dk_at dksX3_isWhole_3 16 rfl rfl)
theorem dX3_isWhole_85 : decode cX3_isWhole 85 = .ok (.istore 4, 2) := dk_54 4 (dk_at dksX3_isWhole_3 17 rfl rfl)
theorem dX3_isWhole_87 : decode cX3_isWhole 87 = .ok (.iload 4, 2) := dk_21 4 (dk_at dksX3_isWhole_3 19 rfl rfl)
theorem dX3_isWhole_89 : decode cX3_isWhole 89 = .ok (.aload_n 0, 1) := dk_42 (dk_at dksX3_isWhole_3 21 rfl rfl)
theorem dX3_isWhole_90 : decode cX3_isWhole 90 = .ok (.getfield 48, 3) := dk_180 0 48 (dk_at dksX3_isWhole_4 0 rfl rfl)
theorem dX3_isWhole_93 : decode cX3_isWhole 93 = .ok (.bipush 30, 2) := dk_16 30 (dk_at dksX3_isWhole_4 3 rfl rfl)
theorem dX3_isWhole_95 : decode cX3_isWhole 95 = .ok (.idiv, 1) := dk_108 (dk_at dksX3_isWhole_4 5 rfl rfl)
theorem dX3_isWhole_96 : decode cX3_isWhole 96 = .ok (.if_icmp .gt 27, 3) := dk_163 0 27 (dk_at dksX3_isWhole_4 6 rfl rfl)
theorem dX3_isWhole_99 : decode cX3_isWhole 99 = .ok (.aload_n 0, 1) := dk_42 (dk_at dksX3_isWhole_4 9 rfl rfl)
theorem dX3_isWhole_100 : decode cX3_isWhole 100 = .ok (.aload_n 1, 1) := dk_43 (dk_at dksX3_isWhole_4 10 rfl rfl)
theorem dX3_isWhole_101 : decode cX3_isWhole 101 = .ok (.iload_n 2, 1) := dk_28 (dk_at dksX3_isWhole_4 11 rfl rfl)
theorem dX3_isWhole_102 : decode cX3_isWhole 102 = .ok (.iload 4, 2) := dk_21 4 (dk_at dksX3_isWhole_4 12 rfl rfl)
theorem dX3_isWhole_104 : decode cX3_isWhole 104 = .ok (.iconst 4, 1) := dk_7 (dk_at dksX3_isWhole_4 14 rfl rfl)
theorem dX3_isWhole_105 : decode cX3_isWhole 105 = .ok (.invokevirtual 304, 3) := dk_182 1 48 (dk_at dksX3_isWhole_4 15 rfl rfl)
theorem dX3_isWhole_108 : decode cX3_isWhole 108 = .ok (.aload_n 3, 1) := dk_45 (dk_at dksX3_isWhole_4 18 rfl rfl)
theorem dX3_isWhole_109 : decode cX3_isWhole 109 = .ok (.getfield 175, 3) := dk_180 0 175 (dk_at dksX3_isWhole_4 19 rfl rfl)
theorem dX3_isWhole_112 : decode cX3_isWhole 112 = .ok (.if_icmp .le 5, 3) := dk_164 0 5 (dk_at dksX3_isWhole_5 0 rfl rfl)
theorem dX3_isWhole_115 : decode cX3_isWhole 115 = .ok (.iconst 0, 1) := dk_3 (dk_at dksX3_isWhole_5 3 rfl rfl)
theorem dX3_isWhole_116 : decode cX3_isWhole 116 = .ok (.ireturn, 1) := dk_172 (dk_at dksX3_isWhole_5 4 rfl rfl)
theorem dX3_isWhole_117 : decode cX3_isWhole 117 = .ok (.iinc 4 1, 3) := dk_132 4 1 (dk_at dksX3_isWhole_5 5 rfl rfl)
theorem dX3_isWhole_120 : decode cX3_isWhole 120 = .ok (.goto (-33), 3) := dk_167 255 223 (dk_at dksX3_isWhole_5 8 rfl rfl)
theorem dX3_isWhole_123 : decode cX3_isWhole 123 = .ok (.iinc 2 1, 3) := dk_132 2 1 (dk_at dksX3_isWhole_5 11 rfl rfl)
theorem dX3_isWhole_126 : decode cX3_isWhole 126 = .ok (.goto (-86), 3) := dk_167 255 170 (dk_at dksX3_isWhole_5 14 rfl rfl)
theorem dX3_isWhole_129 : decode cX3_isWhole 129 = .ok (.aload_n 0, 1) := dk_42 (dk_at dksX3_isWhole_5 17 rfl rfl)
theorem dX3_isWhole_130 : decode cX3_isWhole 130 = .ok (.aload_n 1, 1) := dk_43 (dk_at dksX3_isWhole_5 18 rfl rfl)
theorem dX3_isWhole_131 : decode cX3_isWhole 131 = .ok (.invokevirtual 355, 3) := dk_182 1 99 (dk_at dksX3_isWhole_5 19 rfl rfl)
theorem dX3_isWhole_134 : decode cX3_isWhole 134 = .ok (.ireturn, 1) := dk_172 (dk_at dksX3_isWhole_5 22 rfl rfl)
abbrev cX3_areCallsWhole : ByteArray := prog_15_method_64_code
def yX3_areCallsWhole : MethodName := ⟨RX3, "areCallsWhole", "(LRolloverModel$Book;)Z"⟩
def dkwX3_areCallsWhole_6 : List UInt8 := [172]
abbrev dktX3_areCallsWhole_6 : List UInt8 := dkwX3_areCallsWhole_6 ++ []
def dkwX3_areCallsWhole_5 : List UInt8 := [180, 0, 118, 7, 182, 0, 164, 16, 100, 21, 5, 104, 164, 0, 5, 3, 172, 132, 2, 1, 167, 255, 119, 4]
abbrev dktX3_areCallsWhole_5 : List UInt8 := dkwX3_areCallsWhole_5 ++ dktX3_areCallsWhole_6
def dkwX3_areCallsWhole_4 : List UInt8 := [25, 4, 6, 46, 96, 160, 0, 33, 21, 5, 158, 0, 30, 43, 45, 180, 0, 142, 45, 180, 0, 118, 45]
abbrev dktX3_areCallsWhole_4 : List UInt8 := dkwX3_areCallsWhole_4 ++ dktX3_areCallsWhole_5
def dkwX3_areCallsWhole_3 : List UInt8 := [182, 0, 51, 192, 0, 86, 180, 0, 190, 54, 5, 25, 4, 3, 46, 25, 4, 4, 46, 25, 4, 5, 46, 96]
abbrev dktX3_areCallsWhole_3 : List UInt8 := dkwX3_areCallsWhole_3 ++ dktX3_areCallsWhole_4
def dkwX3_areCallsWhole_2 : List UInt8 := [4, 160, 0, 6, 167, 0, 84, 42, 180, 0, 10, 42, 43, 45, 180, 0, 142, 45, 180, 0, 118, 182, 0, 82]
abbrev dktX3_areCallsWhole_2 : List UInt8 := dkwX3_areCallsWhole_2 ++ dktX3_areCallsWhole_3
def dkwX3_areCallsWhole_1 : List UInt8 := [78, 43, 180, 0, 111, 28, 50, 58, 4, 45, 45, 180, 0, 142, 182, 1, 38, 153, 0, 95, 25, 4, 8, 46]
abbrev dktX3_areCallsWhole_1 : List UInt8 := dkwX3_areCallsWhole_1 ++ dktX3_areCallsWhole_2
def dkwX3_areCallsWhole_0 : List UInt8 := [3, 61, 28, 42, 180, 0, 22, 182, 0, 40, 162, 0, 132, 42, 180, 0, 22, 28, 182, 0, 51, 192, 0, 73]
abbrev dktX3_areCallsWhole_0 : List UInt8 := dkwX3_areCallsWhole_0 ++ dktX3_areCallsWhole_1
theorem dksX3_areCallsWhole_0 : cX3_areCallsWhole.data.toList.drop 0 = dktX3_areCallsWhole_0 := by decide +kernel
theorem dksX3_areCallsWhole_1 : cX3_areCallsWhole.data.toList.drop 24 = dktX3_areCallsWhole_1 := dk_seg dksX3_areCallsWhole_0 24 rfl rfl
theorem dksX3_areCallsWhole_2 : cX3_areCallsWhole.data.toList.drop 48 = dktX3_areCallsWhole_2 := dk_seg dksX3_areCallsWhole_1 24 rfl rfl
theorem dksX3_areCallsWhole_3 : cX3_areCallsWhole.data.toList.drop 72 = dktX3_areCallsWhole_3 := dk_seg dksX3_areCallsWhole_2 24 rfl rfl
theorem dksX3_areCallsWhole_4 : cX3_areCallsWhole.data.toList.drop 96 = dktX3_areCallsWhole_4 := dk_seg dksX3_areCallsWhole_3 24 rfl rfl
theorem dksX3_areCallsWhole_5 : cX3_areCallsWhole.data.toList.drop 119 = dktX3_areCallsWhole_5 := dk_seg dksX3_areCallsWhole_4 23 rfl rfl
theorem dksX3_areCallsWhole_6 : cX3_areCallsWhole.data.toList.drop 143 = dktX3_areCallsWhole_6 := dk_seg dksX3_areCallsWhole_5 24 rfl rfl
theorem dX3_areCallsWhole_0 : decode cX3_areCallsWhole 0 = .ok (.iconst 0, 1) := dk_3 (dk_at dksX3_areCallsWhole_0 0 rfl rfl)
theorem dX3_areCallsWhole_1 : decode cX3_areCallsWhole 1 = .ok (.istore_n 2, 1) := dk_61 (dk_at dksX3_areCallsWhole_0 1 rfl rfl)
theorem dX3_areCallsWhole_2 : decode cX3_areCallsWhole 2 = .ok (.iload_n 2, 1) := dk_28 (dk_at dksX3_areCallsWhole_0 2 rfl rfl)
theorem dX3_areCallsWhole_3 : decode cX3_areCallsWhole 3 = .ok (.aload_n 0, 1) := dk_42 (dk_at dksX3_areCallsWhole_0 3 rfl rfl)
theorem dX3_areCallsWhole_4 : decode cX3_areCallsWhole 4 = .ok (.getfield 22, 3) := dk_180 0 22 (dk_at dksX3_areCallsWhole_0 4 rfl rfl)
theorem dX3_areCallsWhole_7 : decode cX3_areCallsWhole 7 = .ok (.invokevirtual 40, 3) := dk_182 0 40 (dk_at dksX3_areCallsWhole_0 7 rfl rfl)
theorem dX3_areCallsWhole_10 : decode cX3_areCallsWhole 10 = .ok (.if_icmp .ge 132, 3) := dk_162 0 132 (dk_at dksX3_areCallsWhole_0 10 rfl rfl)
theorem dX3_areCallsWhole_13 : decode cX3_areCallsWhole 13 = .ok (.aload_n 0, 1) := dk_42 (dk_at dksX3_areCallsWhole_0 13 rfl rfl)
theorem dX3_areCallsWhole_14 : decode cX3_areCallsWhole 14 = .ok (.getfield 22, 3) := dk_180 0 22 (dk_at dksX3_areCallsWhole_0 14 rfl rfl)
theorem dX3_areCallsWhole_17 : decode cX3_areCallsWhole 17 = .ok (.iload_n 2, 1) := dk_28 (dk_at dksX3_areCallsWhole_0 17 rfl rfl)
theorem dX3_areCallsWhole_18 : decode cX3_areCallsWhole 18 = .ok (.invokevirtual 51, 3) := dk_182 0 51 (dk_at dksX3_areCallsWhole_0 18 rfl rfl)
theorem dX3_areCallsWhole_21 : decode cX3_areCallsWhole 21 = .ok (.checkcast 73, 3) := dk_192 0 73 (dk_at dksX3_areCallsWhole_0 21 rfl rfl)
theorem dX3_areCallsWhole_24 : decode cX3_areCallsWhole 24 = .ok (.astore_n 3, 1) := dk_78 (dk_at dksX3_areCallsWhole_1 0 rfl rfl)
theorem dX3_areCallsWhole_25 : decode cX3_areCallsWhole 25 = .ok (.aload_n 1, 1) := dk_43 (dk_at dksX3_areCallsWhole_1 1 rfl rfl)
theorem dX3_areCallsWhole_26 : decode cX3_areCallsWhole 26 = .ok (.getfield 111, 3) := dk_180 0 111 (dk_at dksX3_areCallsWhole_1 2 rfl rfl)
theorem dX3_areCallsWhole_29 : decode cX3_areCallsWhole 29 = .ok (.iload_n 2, 1) := dk_28 (dk_at dksX3_areCallsWhole_1 5 rfl rfl)
theorem dX3_areCallsWhole_30 : decode cX3_areCallsWhole 30 = .ok (.aaload, 1) := dk_50 (dk_at dksX3_areCallsWhole_1 6 rfl rfl)
theorem dX3_areCallsWhole_31 : decode cX3_areCallsWhole 31 = .ok (.astore 4, 2) := dk_58 4 (dk_at dksX3_areCallsWhole_1 7 rfl rfl)
theorem dX3_areCallsWhole_33 : decode cX3_areCallsWhole 33 = .ok (.aload_n 3, 1) := dk_45 (dk_at dksX3_areCallsWhole_1 9 rfl rfl)
theorem dX3_areCallsWhole_34 : decode cX3_areCallsWhole 34 = .ok (.aload_n 3, 1) := dk_45 (dk_at dksX3_areCallsWhole_1 10 rfl rfl)
theorem dX3_areCallsWhole_35 : decode cX3_areCallsWhole 35 = .ok (.getfield 142, 3) := dk_180 0 142 (dk_at dksX3_areCallsWhole_1 11 rfl rfl)
theorem dX3_areCallsWhole_38 : decode cX3_areCallsWhole 38 = .ok (.invokevirtual 294, 3) := dk_182 1 38 (dk_at dksX3_areCallsWhole_1 14 rfl rfl)
theorem dX3_areCallsWhole_41 : decode cX3_areCallsWhole 41 = .ok (.ifCond .eq 95, 3) := dk_153 0 95 (dk_at dksX3_areCallsWhole_1 17 rfl rfl)
theorem dX3_areCallsWhole_44 : decode cX3_areCallsWhole 44 = .ok (.aload 4, 2) := dk_25 4 (dk_at dksX3_areCallsWhole_1 20 rfl rfl)
theorem dX3_areCallsWhole_46 : decode cX3_areCallsWhole 46 = .ok (.iconst 5, 1) := dk_8 (dk_at dksX3_areCallsWhole_1 22 rfl rfl)
theorem dX3_areCallsWhole_47 : decode cX3_areCallsWhole 47 = .ok (.iaload, 1) := dk_46 (dk_at dksX3_areCallsWhole_1 23 rfl rfl)
theorem dX3_areCallsWhole_48 : decode cX3_areCallsWhole 48 = .ok (.iconst 1, 1) := dk_4 (dk_at dksX3_areCallsWhole_2 0 rfl rfl)
theorem dX3_areCallsWhole_49 : decode cX3_areCallsWhole 49 = .ok (.if_icmp .ne 6, 3) := dk_160 0 6 (dk_at dksX3_areCallsWhole_2 1 rfl rfl)
theorem dX3_areCallsWhole_52 : decode cX3_areCallsWhole 52 = .ok (.goto 84, 3) := dk_167 0 84 (dk_at dksX3_areCallsWhole_2 4 rfl rfl)
theorem dX3_areCallsWhole_55 : decode cX3_areCallsWhole 55 = .ok (.aload_n 0, 1) := dk_42 (dk_at dksX3_areCallsWhole_2 7 rfl rfl)
theorem dX3_areCallsWhole_56 : decode cX3_areCallsWhole 56 = .ok (.getfield 10, 3) := dk_180 0 10 (dk_at dksX3_areCallsWhole_2 8 rfl rfl)
theorem dX3_areCallsWhole_59 : decode cX3_areCallsWhole 59 = .ok (.aload_n 0, 1) := dk_42 (dk_at dksX3_areCallsWhole_2 11 rfl rfl)
theorem dX3_areCallsWhole_60 : decode cX3_areCallsWhole 60 = .ok (.aload_n 1, 1) := dk_43 (dk_at dksX3_areCallsWhole_2 12 rfl rfl)
theorem dX3_areCallsWhole_61 : decode cX3_areCallsWhole 61 = .ok (.aload_n 3, 1) := dk_45 (dk_at dksX3_areCallsWhole_2 13 rfl rfl)
theorem dX3_areCallsWhole_62 : decode cX3_areCallsWhole 62 = .ok (.getfield 142, 3) := dk_180 0 142 (dk_at dksX3_areCallsWhole_2 14 rfl rfl)
theorem dX3_areCallsWhole_65 : decode cX3_areCallsWhole 65 = .ok (.aload_n 3, 1) := dk_45 (dk_at dksX3_areCallsWhole_2 17 rfl rfl)
theorem dX3_areCallsWhole_66 : decode cX3_areCallsWhole 66 = .ok (.getfield 118, 3) := dk_180 0 118 (dk_at dksX3_areCallsWhole_2 18 rfl rfl)
theorem dX3_areCallsWhole_69 : decode cX3_areCallsWhole 69 = .ok (.invokevirtual 82, 3) := dk_182 0 82 (dk_at dksX3_areCallsWhole_2 21 rfl rfl)
theorem dX3_areCallsWhole_72 : decode cX3_areCallsWhole 72 = .ok (.invokevirtual 51, 3) := dk_182 0 51 (dk_at dksX3_areCallsWhole_3 0 rfl rfl)
theorem dX3_areCallsWhole_75 : decode cX3_areCallsWhole 75 = .ok (.checkcast 86, 3) := dk_192 0 86 (dk_at dksX3_areCallsWhole_3 3 rfl rfl)
theorem dX3_areCallsWhole_78 : decode cX3_areCallsWhole 78 = .ok (.getfield 190, 3) := dk_180 0 190 (dk_at dksX3_areCallsWhole_3 6 rfl rfl)
theorem dX3_areCallsWhole_81 : decode cX3_areCallsWhole 81 = .ok (.istore 5, 2) := dk_54 5 (dk_at dksX3_areCallsWhole_3 9 rfl rfl)
theorem dX3_areCallsWhole_83 : decode cX3_areCallsWhole 83 = .ok (.aload 4, 2) := dk_25 4 (dk_at dksX3_areCallsWhole_3 11 rfl rfl)
theorem dX3_areCallsWhole_85 : decode cX3_areCallsWhole 85 = .ok (.iconst 0, 1) := dk_3 (dk_at dksX3_areCallsWhole_3 13 rfl rfl)
theorem dX3_areCallsWhole_86 : decode cX3_areCallsWhole 86 = .ok (.iaload, 1) := dk_46 (dk_at dksX3_areCallsWhole_3 14 rfl rfl)
theorem dX3_areCallsWhole_87 : decode cX3_areCallsWhole 87 = .ok (.aload 4, 2) := dk_25 4 (dk_at dksX3_areCallsWhole_3 15 rfl rfl)
theorem dX3_areCallsWhole_89 : decode cX3_areCallsWhole 89 = .ok (.iconst 1, 1) := dk_4 (dk_at dksX3_areCallsWhole_3 17 rfl rfl)
theorem dX3_areCallsWhole_90 : decode cX3_areCallsWhole 90 = .ok (.iaload, 1) := dk_46 (dk_at dksX3_areCallsWhole_3 18 rfl rfl)
theorem dX3_areCallsWhole_91 : decode cX3_areCallsWhole 91 = .ok (.aload 4, 2) := dk_25 4 (dk_at dksX3_areCallsWhole_3 19 rfl rfl)
theorem dX3_areCallsWhole_93 : decode cX3_areCallsWhole 93 = .ok (.iconst 2, 1) := dk_5 (dk_at dksX3_areCallsWhole_3 21 rfl rfl)
theorem dX3_areCallsWhole_94 : decode cX3_areCallsWhole 94 = .ok (.iaload, 1) := dk_46 (dk_at dksX3_areCallsWhole_3 22 rfl rfl)
theorem dX3_areCallsWhole_95 : decode cX3_areCallsWhole 95 = .ok (.iadd, 1) := dk_96 (dk_at dksX3_areCallsWhole_3 23 rfl rfl)
theorem dX3_areCallsWhole_96 : decode cX3_areCallsWhole 96 = .ok (.aload 4, 2) := dk_25 4 (dk_at dksX3_areCallsWhole_4 0 rfl rfl)
theorem dX3_areCallsWhole_98 : decode cX3_areCallsWhole 98 = .ok (.iconst 3, 1) := dk_6 (dk_at dksX3_areCallsWhole_4 2 rfl rfl)
theorem dX3_areCallsWhole_99 : decode cX3_areCallsWhole 99 = .ok (.iaload, 1) := dk_46 (dk_at dksX3_areCallsWhole_4 3 rfl rfl)
theorem dX3_areCallsWhole_100 : decode cX3_areCallsWhole 100 = .ok (.iadd, 1) := dk_96 (dk_at dksX3_areCallsWhole_4 4 rfl rfl)
theorem dX3_areCallsWhole_101 : decode cX3_areCallsWhole 101 = .ok (.if_icmp .ne 33, 3) := dk_160 0 33 (dk_at dksX3_areCallsWhole_4 5 rfl rfl)
theorem dX3_areCallsWhole_104 : decode cX3_areCallsWhole 104 = .ok (.iload 5, 2) := dk_21 5 (dk_at dksX3_areCallsWhole_4 8 rfl rfl)
theorem dX3_areCallsWhole_106 : decode cX3_areCallsWhole 106 = .ok (.ifCond .le 30, 3) := dk_158 0 30 (dk_at dksX3_areCallsWhole_4 10 rfl rfl)
theorem dX3_areCallsWhole_109 : decode cX3_areCallsWhole 109 = .ok (.aload_n 1, 1) := dk_43 (dk_at dksX3_areCallsWhole_4 13 rfl rfl)
theorem dX3_areCallsWhole_110 : decode cX3_areCallsWhole 110 = .ok (.aload_n 3, 1) := dk_45 (dk_at dksX3_areCallsWhole_4 14 rfl rfl)
theorem dX3_areCallsWhole_111 : decode cX3_areCallsWhole 111 = .ok (.getfield 142, 3) := dk_180 0 142 (dk_at dksX3_areCallsWhole_4 15 rfl rfl)
theorem dX3_areCallsWhole_114 : decode cX3_areCallsWhole 114 = .ok (.aload_n 3, 1) := dk_45 (dk_at dksX3_areCallsWhole_4 18 rfl rfl)
theorem dX3_areCallsWhole_115 : decode cX3_areCallsWhole 115 = .ok (.getfield 118, 3) := dk_180 0 118 (dk_at dksX3_areCallsWhole_4 19 rfl rfl)
theorem dX3_areCallsWhole_118 : decode cX3_areCallsWhole 118 = .ok (.aload_n 3, 1) := dk_45 (dk_at dksX3_areCallsWhole_4 22 rfl rfl)
theorem dX3_areCallsWhole_119 : decode cX3_areCallsWhole 119 = .ok (.getfield 118, 3) := dk_180 0 118 (dk_at dksX3_areCallsWhole_5 0 rfl rfl)
theorem dX3_areCallsWhole_122 : decode cX3_areCallsWhole 122 = .ok (.iconst 4, 1) := dk_7 (dk_at dksX3_areCallsWhole_5 3 rfl rfl)
theorem dX3_areCallsWhole_123 : decode cX3_areCallsWhole 123 = .ok (.invokevirtual 164, 3) := dk_182 0 164 (dk_at dksX3_areCallsWhole_5 4 rfl rfl)
theorem dX3_areCallsWhole_126 : decode cX3_areCallsWhole 126 = .ok (.bipush 100, 2) := dk_16 100 (dk_at dksX3_areCallsWhole_5 7 rfl rfl)
theorem dX3_areCallsWhole_128 : decode cX3_areCallsWhole 128 = .ok (.iload 5, 2) := dk_21 5 (dk_at dksX3_areCallsWhole_5 9 rfl rfl)
theorem dX3_areCallsWhole_130 : decode cX3_areCallsWhole 130 = .ok (.imul, 1) := dk_104 (dk_at dksX3_areCallsWhole_5 11 rfl rfl)
theorem dX3_areCallsWhole_131 : decode cX3_areCallsWhole 131 = .ok (.if_icmp .le 5, 3) := dk_164 0 5 (dk_at dksX3_areCallsWhole_5 12 rfl rfl)
theorem dX3_areCallsWhole_134 : decode cX3_areCallsWhole 134 = .ok (.iconst 0, 1) := dk_3 (dk_at dksX3_areCallsWhole_5 15 rfl rfl)
theorem dX3_areCallsWhole_135 : decode cX3_areCallsWhole 135 = .ok (.ireturn, 1) := dk_172 (dk_at dksX3_areCallsWhole_5 16 rfl rfl)
theorem dX3_areCallsWhole_136 : decode cX3_areCallsWhole 136 = .ok (.iinc 2 1, 3) := dk_132 2 1 (dk_at dksX3_areCallsWhole_5 17 rfl rfl)
theorem dX3_areCallsWhole_139 : decode cX3_areCallsWhole 139 = .ok (.goto (-137), 3) := dk_167 255 119 (dk_at dksX3_areCallsWhole_5 20 rfl rfl)
theorem dX3_areCallsWhole_142 : decode cX3_areCallsWhole 142 = .ok (.iconst 1, 1) := dk_4 (dk_at dksX3_areCallsWhole_5 23 rfl rfl)
theorem dX3_areCallsWhole_143 : decode cX3_areCallsWhole 143 = .ok (.ireturn, 1) := dk_172 (dk_at dksX3_areCallsWhole_6 0 rfl rfl)
abbrev cX3_digest : ByteArray := prog_15_method_68_code
def yX3_digest : MethodName := ⟨RX3, "digest", "()J"⟩
def dkwX3_digest_11 : List UInt8 := [31, 42, 45, 182, 1, 103, 184, 0, 78, 133, 184, 1, 110, 173]
abbrev dktX3_digest_11 : List UInt8 := dkwX3_digest_11 ++ []
def dkwX3_digest_10 : List UInt8 := [21, 4, 7, 162, 0, 21, 31, 42, 21, 4, 182, 1, 41, 133, 184, 1, 110, 64, 132, 4, 1, 167, 255, 235]
abbrev dktX3_digest_10 : List UInt8 := dkwX3_digest_10 ++ dktX3_digest_11
def dkwX3_digest_9 : List UInt8 := [42, 21, 4, 42, 180, 0, 48, 182, 1, 35, 133, 184, 1, 110, 64, 132, 4, 1, 167, 255, 230, 4, 54, 4]
abbrev dktX3_digest_9 : List UInt8 := dkwX3_digest_9 ++ dktX3_digest_10
def dkwX3_digest_8 : List UInt8 := [64, 132, 5, 1, 167, 255, 231, 132, 4, 1, 167, 255, 210, 3, 54, 4, 21, 4, 16, 16, 162, 0, 25, 31]
abbrev dktX3_digest_8 : List UInt8 := dkwX3_digest_8 ++ dktX3_digest_9
def dkwX3_digest_7 : List UInt8 := [8, 54, 5, 21, 5, 16, 10, 163, 0, 24, 31, 42, 45, 21, 4, 21, 5, 182, 1, 51, 133, 184, 1, 110]
abbrev dktX3_digest_7 : List UInt8 := dkwX3_digest_7 ++ dktX3_digest_8
def dkwX3_digest_6 : List UInt8 := [167, 255, 208, 132, 4, 1, 167, 255, 153, 3, 54, 4, 21, 4, 42, 180, 0, 22, 182, 0, 40, 162, 0, 40]
abbrev dktX3_digest_6 : List UInt8 := dkwX3_digest_6 ++ dktX3_digest_7
def dkwX3_digest_5 : List UInt8 := [45, 21, 4, 21, 5, 21, 6, 182, 1, 48, 133, 184, 1, 110, 64, 132, 6, 1, 167, 255, 229, 132, 5, 1]
abbrev dktX3_digest_5 : List UInt8 := dkwX3_digest_5 ++ dktX3_digest_6
def dkwX3_digest_4 : List UInt8 := [21, 5, 42, 180, 0, 48, 16, 30, 108, 163, 0, 42, 3, 54, 6, 21, 6, 16, 8, 162, 0, 26, 31, 42]
abbrev dktX3_digest_4 : List UInt8 := dkwX3_digest_4 ++ dktX3_digest_5
def dkwX3_digest_3 : List UInt8 := [42, 180, 0, 48, 21, 5, 182, 1, 44, 133, 184, 1, 110, 64, 132, 5, 1, 167, 255, 228, 3, 54, 5]
abbrev dktX3_digest_3 : List UInt8 := dkwX3_digest_3 ++ dktX3_digest_4
def dkwX3_digest_2 : List UInt8 := [42, 180, 0, 16, 182, 0, 40, 162, 0, 97, 3, 54, 5, 21, 5, 7, 162, 0, 28, 31, 42, 45, 21, 4]
abbrev dktX3_digest_2 : List UInt8 := dkwX3_digest_2 ++ dktX3_digest_3
def dkwX3_digest_1 : List UInt8 := [31, 42, 45, 21, 4, 182, 1, 63, 133, 184, 1, 110, 64, 132, 4, 1, 167, 255, 233, 3, 54, 4, 21, 4]
abbrev dktX3_digest_1 : List UInt8 := dkwX3_digest_1 ++ dktX3_digest_2
def dkwX3_digest_0 : List UInt8 := [42, 3, 181, 0, 32, 20, 1, 108, 64, 42, 182, 1, 27, 78, 3, 54, 4, 21, 4, 16, 10, 162, 0, 22]
abbrev dktX3_digest_0 : List UInt8 := dkwX3_digest_0 ++ dktX3_digest_1
theorem dksX3_digest_0 : cX3_digest.data.toList.drop 0 = dktX3_digest_0 := by decide +kernel
theorem dksX3_digest_1 : cX3_digest.data.toList.drop 24 = dktX3_digest_1 := dk_seg dksX3_digest_0 24 rfl rfl
theorem dksX3_digest_2 : cX3_digest.data.toList.drop 48 = dktX3_digest_2 := dk_seg dksX3_digest_1 24 rfl rfl
theorem dksX3_digest_3 : cX3_digest.data.toList.drop 72 = dktX3_digest_3 := dk_seg dksX3_digest_2 24 rfl rfl
theorem dksX3_digest_4 : cX3_digest.data.toList.drop 95 = dktX3_digest_4 := dk_seg dksX3_digest_3 23 rfl rfl
theorem dksX3_digest_5 : cX3_digest.data.toList.drop 119 = dktX3_digest_5 := dk_seg dksX3_digest_4 24 rfl rfl
theorem dksX3_digest_6 : cX3_digest.data.toList.drop 143 = dktX3_digest_6 := dk_seg dksX3_digest_5 24 rfl rfl
theorem dksX3_digest_7 : cX3_digest.data.toList.drop 167 = dktX3_digest_7 := dk_seg dksX3_digest_6 24 rfl rfl
theorem dksX3_digest_8 : cX3_digest.data.toList.drop 191 = dktX3_digest_8 := dk_seg dksX3_digest_7 24 rfl rfl
theorem dksX3_digest_9 : cX3_digest.data.toList.drop 215 = dktX3_digest_9 := dk_seg dksX3_digest_8 24 rfl rfl
theorem dksX3_digest_10 : cX3_digest.data.toList.drop 239 = dktX3_digest_10 := dk_seg dksX3_digest_9 24 rfl rfl
theorem dksX3_digest_11 : cX3_digest.data.toList.drop 263 = dktX3_digest_11 := dk_seg dksX3_digest_10 24 rfl rfl
theorem dX3_digest_0 : decode cX3_digest 0 = .ok (.aload_n 0, 1) := dk_42 (dk_at dksX3_digest_0 0 rfl rfl)
theorem dX3_digest_1 : decode cX3_digest 1 = .ok (.iconst 0, 1) := dk_3 (dk_at dksX3_digest_0 1 rfl rfl)
theorem dX3_digest_2 : decode cX3_digest 2 = .ok (.putfield 32, 3) := dk_181 0 32 (dk_at dksX3_digest_0 2 rfl rfl)
theorem dX3_digest_5 : decode cX3_digest 5 = .ok (.ldc2_w 364, 3) := dk_20 1 108 (dk_at dksX3_digest_0 5 rfl rfl)
theorem dX3_digest_8 : decode cX3_digest 8 = .ok (.lstore_n 1, 1) := dk_64 (dk_at dksX3_digest_0 8 rfl rfl)
theorem dX3_digest_9 : decode cX3_digest 9 = .ok (.aload_n 0, 1) := dk_42 (dk_at dksX3_digest_0 9 rfl rfl)
theorem dX3_digest_10 : decode cX3_digest 10 = .ok (.invokevirtual 283, 3) := dk_182 1 27 (dk_at dksX3_digest_0 10 rfl rfl)
theorem dX3_digest_13 : decode cX3_digest 13 = .ok (.astore_n 3, 1) := dk_78 (dk_at dksX3_digest_0 13 rfl rfl)
theorem dX3_digest_14 : decode cX3_digest 14 = .ok (.iconst 0, 1) := dk_3 (dk_at dksX3_digest_0 14 rfl rfl)
theorem dX3_digest_15 : decode cX3_digest 15 = .ok (.istore 4, 2) := dk_54 4 (dk_at dksX3_digest_0 15 rfl rfl)
theorem dX3_digest_17 : decode cX3_digest 17 = .ok (.iload 4, 2) := dk_21 4 (dk_at dksX3_digest_0 17 rfl rfl)
theorem dX3_digest_19 : decode cX3_digest 19 = .ok (.bipush 10, 2) := dk_16 10 (dk_at dksX3_digest_0 19 rfl rfl)
theorem dX3_digest_21 : decode cX3_digest 21 = .ok (.if_icmp .ge 22, 3) := dk_162 0 22 (dk_at dksX3_digest_0 21 rfl rfl)
theorem dX3_digest_24 : decode cX3_digest 24 = .ok (.lload_n 1, 1) := dk_31 (dk_at dksX3_digest_1 0 rfl rfl)
theorem dX3_digest_25 : decode cX3_digest 25 = .ok (.aload_n 0, 1) := dk_42 (dk_at dksX3_digest_1 1 rfl rfl)
theorem dX3_digest_26 : decode cX3_digest 26 = .ok (.aload_n 3, 1) := dk_45 (dk_at dksX3_digest_1 2 rfl rfl)
theorem dX3_digest_27 : decode cX3_digest 27 = .ok (.iload 4, 2) := dk_21 4 (dk_at dksX3_digest_1 3 rfl rfl)
theorem dX3_digest_29 : decode cX3_digest 29 = .ok (.invokevirtual 319, 3) := dk_182 1 63 (dk_at dksX3_digest_1 5 rfl rfl)
theorem dX3_digest_32 : decode cX3_digest 32 = .ok (.i2l, 1) := dk_133 (dk_at dksX3_digest_1 8 rfl rfl)
theorem dX3_digest_33 : decode cX3_digest 33 = .ok (.invokestatic 366, 3) := dk_184 1 110 (dk_at dksX3_digest_1 9 rfl rfl)
theorem dX3_digest_36 : decode cX3_digest 36 = .ok (.lstore_n 1, 1) := dk_64 (dk_at dksX3_digest_1 12 rfl rfl)
theorem dX3_digest_37 : decode cX3_digest 37 = .ok (.iinc 4 1, 3) := dk_132 4 1 (dk_at dksX3_digest_1 13 rfl rfl)
theorem dX3_digest_40 : decode cX3_digest 40 = .ok (.goto (-23), 3) := dk_167 255 233 (dk_at dksX3_digest_1 16 rfl rfl)
theorem dX3_digest_43 : decode cX3_digest 43 = .ok (.iconst 0, 1) := dk_3 (dk_at dksX3_digest_1 19 rfl rfl)
theorem dX3_digest_44 : decode cX3_digest 44 = .ok (.istore 4, 2) := dk_54 4 (dk_at dksX3_digest_1 20 rfl rfl)
theorem dX3_digest_46 : decode cX3_digest 46 = .ok (.iload 4, 2) := dk_21 4 (dk_at dksX3_digest_1 22 rfl rfl)
theorem dX3_digest_48 : decode cX3_digest 48 = .ok (.aload_n 0, 1) := dk_42 (dk_at dksX3_digest_2 0 rfl rfl)
theorem dX3_digest_49 : decode cX3_digest 49 = .ok (.getfield 16, 3) := dk_180 0 16 (dk_at dksX3_digest_2 1 rfl rfl)
theorem dX3_digest_52 : decode cX3_digest 52 = .ok (.invokevirtual 40, 3) := dk_182 0 40 (dk_at dksX3_digest_2 4 rfl rfl)
theorem dX3_digest_55 : decode cX3_digest 55 = .ok (.if_icmp .ge 97, 3) := dk_162 0 97 (dk_at dksX3_digest_2 7 rfl rfl)
theorem dX3_digest_58 : decode cX3_digest 58 = .ok (.iconst 0, 1) := dk_3 (dk_at dksX3_digest_2 10 rfl rfl)
theorem dX3_digest_59 : decode cX3_digest 59 = .ok (.istore 5, 2) := dk_54 5 (dk_at dksX3_digest_2 11 rfl rfl)
theorem dX3_digest_61 : decode cX3_digest 61 = .ok (.iload 5, 2) := dk_21 5 (dk_at dksX3_digest_2 13 rfl rfl)
theorem dX3_digest_63 : decode cX3_digest 63 = .ok (.iconst 4, 1) := dk_7 (dk_at dksX3_digest_2 15 rfl rfl)
theorem dX3_digest_64 : decode cX3_digest 64 = .ok (.if_icmp .ge 28, 3) := dk_162 0 28 (dk_at dksX3_digest_2 16 rfl rfl)
theorem dX3_digest_67 : decode cX3_digest 67 = .ok (.lload_n 1, 1) := dk_31 (dk_at dksX3_digest_2 19 rfl rfl)
theorem dX3_digest_68 : decode cX3_digest 68 = .ok (.aload_n 0, 1) := dk_42 (dk_at dksX3_digest_2 20 rfl rfl)
theorem dX3_digest_69 : decode cX3_digest 69 = .ok (.aload_n 3, 1) := dk_45 (dk_at dksX3_digest_2 21 rfl rfl)
theorem dX3_digest_70 : decode cX3_digest 70 = .ok (.iload 4, 2) := dk_21 4 (dk_at dksX3_digest_2 22 rfl rfl)
theorem dX3_digest_72 : decode cX3_digest 72 = .ok (.aload_n 0, 1) := dk_42 (dk_at dksX3_digest_3 0 rfl rfl)
theorem dX3_digest_73 : decode cX3_digest 73 = .ok (.getfield 48, 3) := dk_180 0 48 (dk_at dksX3_digest_3 1 rfl rfl)
theorem dX3_digest_76 : decode cX3_digest 76 = .ok (.iload 5, 2) := dk_21 5 (dk_at dksX3_digest_3 4 rfl rfl)
theorem dX3_digest_78 : decode cX3_digest 78 = .ok (.invokevirtual 300, 3) := dk_182 1 44 (dk_at dksX3_digest_3 6 rfl rfl)
theorem dX3_digest_81 : decode cX3_digest 81 = .ok (.i2l, 1) := dk_133 (dk_at dksX3_digest_3 9 rfl rfl)
theorem dX3_digest_82 : decode cX3_digest 82 = .ok (.invokestatic 366, 3) := dk_184 1 110 (dk_at dksX3_digest_3 10 rfl rfl)
theorem dX3_digest_85 : decode cX3_digest 85 = .ok (.lstore_n 1, 1) := dk_64 (dk_at dksX3_digest_3 13 rfl rfl)
theorem dX3_digest_86 : decode cX3_digest 86 = .ok (.iinc 5 1, 3) := dk_132 5 1 (dk_at dksX3_digest_3 14 rfl rfl)
theorem dX3_digest_89 : decode cX3_digest 89 = .ok (.goto (-28), 3) := dk_167 255 228 (dk_at dksX3_digest_3 17 rfl rfl)
theorem dX3_digest_92 : decode cX3_digest 92 = .ok (.iconst 0, 1) := dk_3 (dk_at dksX3_digest_3 20 rfl rfl)
theorem dX3_digest_93 : decode cX3_digest 93 = .ok (.istore 5, 2) := dk_54 5 (dk_at dksX3_digest_3 21 rfl rfl)
theorem dX3_digest_95 : decode cX3_digest 95 = .ok (.iload 5, 2) := dk_21 5 (dk_at dksX3_digest_4 0 rfl rfl)
theorem dX3_digest_97 : decode cX3_digest 97 = .ok (.aload_n 0, 1) := dk_42 (dk_at dksX3_digest_4 2 rfl rfl)
theorem dX3_digest_98 : decode cX3_digest 98 = .ok (.getfield 48, 3) := dk_180 0 48 (dk_at dksX3_digest_4 3 rfl rfl)
theorem dX3_digest_101 : decode cX3_digest 101 = .ok (.bipush 30, 2) := dk_16 30 (dk_at dksX3_digest_4 6 rfl rfl)
theorem dX3_digest_103 : decode cX3_digest 103 = .ok (.idiv, 1) := dk_108 (dk_at dksX3_digest_4 8 rfl rfl)
theorem dX3_digest_104 : decode cX3_digest 104 = .ok (.if_icmp .gt 42, 3) := dk_163 0 42 (dk_at dksX3_digest_4 9 rfl rfl)
theorem dX3_digest_107 : decode cX3_digest 107 = .ok (.iconst 0, 1) := dk_3 (dk_at dksX3_digest_4 12 rfl rfl)
theorem dX3_digest_108 : decode cX3_digest 108 = .ok (.istore 6, 2) := dk_54 6 (dk_at dksX3_digest_4 13 rfl rfl)
theorem dX3_digest_110 : decode cX3_digest 110 = .ok (.iload 6, 2) := dk_21 6 (dk_at dksX3_digest_4 15 rfl rfl)
theorem dX3_digest_112 : decode cX3_digest 112 = .ok (.bipush 8, 2) := dk_16 8 (dk_at dksX3_digest_4 17 rfl rfl)
theorem dX3_digest_114 : decode cX3_digest 114 = .ok (.if_icmp .ge 26, 3) := dk_162 0 26 (dk_at dksX3_digest_4 19 rfl rfl)
theorem dX3_digest_117 : decode cX3_digest 117 = .ok (.lload_n 1, 1) := dk_31 (dk_at dksX3_digest_4 22 rfl rfl)
theorem dX3_digest_118 : decode cX3_digest 118 = .ok (.aload_n 0, 1) := dk_42 (dk_at dksX3_digest_4 23 rfl rfl)
theorem dX3_digest_119 : decode cX3_digest 119 = .ok (.aload_n 3, 1) := dk_45 (dk_at dksX3_digest_5 0 rfl rfl)
theorem dX3_digest_120 : decode cX3_digest 120 = .ok (.iload 4, 2) := dk_21 4 (dk_at dksX3_digest_5 1 rfl rfl)
theorem dX3_digest_122 : decode cX3_digest 122 = .ok (.iload 5, 2) := dk_21 5 (dk_at dksX3_digest_5 3 rfl rfl)
theorem dX3_digest_124 : decode cX3_digest 124 = .ok (.iload 6, 2) := dk_21 6 (dk_at dksX3_digest_5 5 rfl rfl)
theorem dX3_digest_126 : decode cX3_digest 126 = .ok (.invokevirtual 304, 3) := dk_182 1 48 (dk_at dksX3_digest_5 7 rfl rfl)
theorem dX3_digest_129 : decode cX3_digest 129 = .ok (.i2l, 1) := dk_133 (dk_at dksX3_digest_5 10 rfl rfl)
theorem dX3_digest_130 : decode cX3_digest 130 = .ok (.invokestatic 366, 3) := dk_184 1 110 (dk_at dksX3_digest_5 11 rfl rfl)
theorem dX3_digest_133 : decode cX3_digest 133 = .ok (.lstore_n 1, 1) := dk_64 (dk_at dksX3_digest_5 14 rfl rfl)
theorem dX3_digest_134 : decode cX3_digest 134 = .ok (.iinc 6 1, 3) := dk_132 6 1 (dk_at dksX3_digest_5 15 rfl rfl)
theorem dX3_digest_137 : decode cX3_digest 137 = .ok (.goto (-27), 3) := dk_167 255 229 (dk_at dksX3_digest_5 18 rfl rfl)
theorem dX3_digest_140 : decode cX3_digest 140 = .ok (.iinc 5 1, 3) := dk_132 5 1 (dk_at dksX3_digest_5 21 rfl rfl)
theorem dX3_digest_143 : decode cX3_digest 143 = .ok (.goto (-48), 3) := dk_167 255 208 (dk_at dksX3_digest_6 0 rfl rfl)
theorem dX3_digest_146 : decode cX3_digest 146 = .ok (.iinc 4 1, 3) := dk_132 4 1 (dk_at dksX3_digest_6 3 rfl rfl)
theorem dX3_digest_149 : decode cX3_digest 149 = .ok (.goto (-103), 3) := dk_167 255 153 (dk_at dksX3_digest_6 6 rfl rfl)
theorem dX3_digest_152 : decode cX3_digest 152 = .ok (.iconst 0, 1) := dk_3 (dk_at dksX3_digest_6 9 rfl rfl)
theorem dX3_digest_153 : decode cX3_digest 153 = .ok (.istore 4, 2) := dk_54 4 (dk_at dksX3_digest_6 10 rfl rfl)
theorem dX3_digest_155 : decode cX3_digest 155 = .ok (.iload 4, 2) := dk_21 4 (dk_at dksX3_digest_6 12 rfl rfl)
theorem dX3_digest_157 : decode cX3_digest 157 = .ok (.aload_n 0, 1) := dk_42 (dk_at dksX3_digest_6 14 rfl rfl)
theorem dX3_digest_158 : decode cX3_digest 158 = .ok (.getfield 22, 3) := dk_180 0 22 (dk_at dksX3_digest_6 15 rfl rfl)
theorem dX3_digest_161 : decode cX3_digest 161 = .ok (.invokevirtual 40, 3) := dk_182 0 40 (dk_at dksX3_digest_6 18 rfl rfl)
theorem dX3_digest_164 : decode cX3_digest 164 = .ok (.if_icmp .ge 40, 3) := dk_162 0 40 (dk_at dksX3_digest_6 21 rfl rfl)
theorem dX3_digest_167 : decode cX3_digest 167 = .ok (.iconst 5, 1) := dk_8 (dk_at dksX3_digest_7 0 rfl rfl)
theorem dX3_digest_168 : decode cX3_digest 168 = .ok (.istore 5, 2) := dk_54 5 (dk_at dksX3_digest_7 1 rfl rfl)
theorem dX3_digest_170 : decode cX3_digest 170 = .ok (.iload 5, 2) := dk_21 5 (dk_at dksX3_digest_7 3 rfl rfl)
theorem dX3_digest_172 : decode cX3_digest 172 = .ok (.bipush 10, 2) := dk_16 10 (dk_at dksX3_digest_7 5 rfl rfl)
theorem dX3_digest_174 : decode cX3_digest 174 = .ok (.if_icmp .gt 24, 3) := dk_163 0 24 (dk_at dksX3_digest_7 7 rfl rfl)
theorem dX3_digest_177 : decode cX3_digest 177 = .ok (.lload_n 1, 1) := dk_31 (dk_at dksX3_digest_7 10 rfl rfl)
theorem dX3_digest_178 : decode cX3_digest 178 = .ok (.aload_n 0, 1) := dk_42 (dk_at dksX3_digest_7 11 rfl rfl)
theorem dX3_digest_179 : decode cX3_digest 179 = .ok (.aload_n 3, 1) := dk_45 (dk_at dksX3_digest_7 12 rfl rfl)
theorem dX3_digest_180 : decode cX3_digest 180 = .ok (.iload 4, 2) := dk_21 4 (dk_at dksX3_digest_7 13 rfl rfl)
theorem dX3_digest_182 : decode cX3_digest 182 = .ok (.iload 5, 2) := dk_21 5 (dk_at dksX3_digest_7 15 rfl rfl)
theorem dX3_digest_184 : decode cX3_digest 184 = .ok (.invokevirtual 307, 3) := dk_182 1 51 (dk_at dksX3_digest_7 17 rfl rfl)
theorem dX3_digest_187 : decode cX3_digest 187 = .ok (.i2l, 1) := dk_133 (dk_at dksX3_digest_7 20 rfl rfl)
theorem dX3_digest_188 : decode cX3_digest 188 = .ok (.invokestatic 366, 3) := dk_184 1 110 (dk_at dksX3_digest_7 21 rfl rfl)
theorem dX3_digest_191 : decode cX3_digest 191 = .ok (.lstore_n 1, 1) := dk_64 (dk_at dksX3_digest_8 0 rfl rfl)
theorem dX3_digest_192 : decode cX3_digest 192 = .ok (.iinc 5 1, 3) := dk_132 5 1 (dk_at dksX3_digest_8 1 rfl rfl)
theorem dX3_digest_195 : decode cX3_digest 195 = .ok (.goto (-25), 3) := dk_167 255 231 (dk_at dksX3_digest_8 4 rfl rfl)
theorem dX3_digest_198 : decode cX3_digest 198 = .ok (.iinc 4 1, 3) := dk_132 4 1 (dk_at dksX3_digest_8 7 rfl rfl)
theorem dX3_digest_201 : decode cX3_digest 201 = .ok (.goto (-46), 3) := dk_167 255 210 (dk_at dksX3_digest_8 10 rfl rfl)
theorem dX3_digest_204 : decode cX3_digest 204 = .ok (.iconst 0, 1) := dk_3 (dk_at dksX3_digest_8 13 rfl rfl)
theorem dX3_digest_205 : decode cX3_digest 205 = .ok (.istore 4, 2) := dk_54 4 (dk_at dksX3_digest_8 14 rfl rfl)
theorem dX3_digest_207 : decode cX3_digest 207 = .ok (.iload 4, 2) := dk_21 4 (dk_at dksX3_digest_8 16 rfl rfl)
theorem dX3_digest_209 : decode cX3_digest 209 = .ok (.bipush 16, 2) := dk_16 16 (dk_at dksX3_digest_8 18 rfl rfl)
theorem dX3_digest_211 : decode cX3_digest 211 = .ok (.if_icmp .ge 25, 3) := dk_162 0 25 (dk_at dksX3_digest_8 20 rfl rfl)
theorem dX3_digest_214 : decode cX3_digest 214 = .ok (.lload_n 1, 1) := dk_31 (dk_at dksX3_digest_8 23 rfl rfl)
theorem dX3_digest_215 : decode cX3_digest 215 = .ok (.aload_n 0, 1) := dk_42 (dk_at dksX3_digest_9 0 rfl rfl)
theorem dX3_digest_216 : decode cX3_digest 216 = .ok (.iload 4, 2) := dk_21 4 (dk_at dksX3_digest_9 1 rfl rfl)
theorem dX3_digest_218 : decode cX3_digest 218 = .ok (.aload_n 0, 1) := dk_42 (dk_at dksX3_digest_9 3 rfl rfl)
theorem dX3_digest_219 : decode cX3_digest 219 = .ok (.getfield 48, 3) := dk_180 0 48 (dk_at dksX3_digest_9 4 rfl rfl)
theorem dX3_digest_222 : decode cX3_digest 222 = .ok (.invokevirtual 291, 3) := dk_182 1 35 (dk_at dksX3_digest_9 7 rfl rfl)
theorem dX3_digest_225 : decode cX3_digest 225 = .ok (.i2l, 1) := dk_133 (dk_at dksX3_digest_9 10 rfl rfl)
theorem dX3_digest_226 : decode cX3_digest 226 = .ok (.invokestatic 366, 3) := dk_184 1 110 (dk_at dksX3_digest_9 11 rfl rfl)
theorem dX3_digest_229 : decode cX3_digest 229 = .ok (.lstore_n 1, 1) := dk_64 (dk_at dksX3_digest_9 14 rfl rfl)
theorem dX3_digest_230 : decode cX3_digest 230 = .ok (.iinc 4 1, 3) := dk_132 4 1 (dk_at dksX3_digest_9 15 rfl rfl)
theorem dX3_digest_233 : decode cX3_digest 233 = .ok (.goto (-26), 3) := dk_167 255 230 (dk_at dksX3_digest_9 18 rfl rfl)
theorem dX3_digest_236 : decode cX3_digest 236 = .ok (.iconst 1, 1) := dk_4 (dk_at dksX3_digest_9 21 rfl rfl)
theorem dX3_digest_237 : decode cX3_digest 237 = .ok (.istore 4, 2) := dk_54 4 (dk_at dksX3_digest_9 22 rfl rfl)
theorem dX3_digest_239 : decode cX3_digest 239 = .ok (.iload 4, 2) := dk_21 4 (dk_at dksX3_digest_10 0 rfl rfl)
theorem dX3_digest_241 : decode cX3_digest 241 = .ok (.iconst 4, 1) := dk_7 (dk_at dksX3_digest_10 2 rfl rfl)
theorem dX3_digest_242 : decode cX3_digest 242 = .ok (.if_icmp .ge 21, 3) := dk_162 0 21 (dk_at dksX3_digest_10 3 rfl rfl)
theorem dX3_digest_245 : decode cX3_digest 245 = .ok (.lload_n 1, 1) := dk_31 (dk_at dksX3_digest_10 6 rfl rfl)
theorem dX3_digest_246 : decode cX3_digest 246 = .ok (.aload_n 0, 1) := dk_42 (dk_at dksX3_digest_10 7 rfl rfl)
theorem dX3_digest_247 : decode cX3_digest 247 = .ok (.iload 4, 2) := dk_21 4 (dk_at dksX3_digest_10 8 rfl rfl)
theorem dX3_digest_249 : decode cX3_digest 249 = .ok (.invokevirtual 297, 3) := dk_182 1 41 (dk_at dksX3_digest_10 10 rfl rfl)
theorem dX3_digest_252 : decode cX3_digest 252 = .ok (.i2l, 1) := dk_133 (dk_at dksX3_digest_10 13 rfl rfl)
theorem dX3_digest_253 : decode cX3_digest 253 = .ok (.invokestatic 366, 3) := dk_184 1 110 (dk_at dksX3_digest_10 14 rfl rfl)
theorem dX3_digest_256 : decode cX3_digest 256 = .ok (.lstore_n 1, 1) := dk_64 (dk_at dksX3_digest_10 17 rfl rfl)
theorem dX3_digest_257 : decode cX3_digest 257 = .ok (.iinc 4 1, 3) := dk_132 4 1 (dk_at dksX3_digest_10 18 rfl rfl)
theorem dX3_digest_260 : decode cX3_digest 260 = .ok (.goto (-21), 3) := dk_167 255 235 (dk_at dksX3_digest_10 21 rfl rfl)
theorem dX3_digest_263 : decode cX3_digest 263 = .ok (.lload_n 1, 1) := dk_31 (dk_at dksX3_digest_11 0 rfl rfl)
theorem dX3_digest_264 : decode cX3_digest 264 = .ok (.aload_n 0, 1) := dk_42 (dk_at dksX3_digest_11 1 rfl rfl)
theorem dX3_digest_265 : decode cX3_digest 265 = .ok (.aload_n 3, 1) := dk_45 (dk_at dksX3_digest_11 2 rfl rfl)
theorem dX3_digest_266 : decode cX3_digest 266 = .ok (.invokevirtual 359, 3) := dk_182 1 103 (dk_at dksX3_digest_11 3 rfl rfl)
theorem dX3_digest_269 : decode cX3_digest 269 = .ok (.invokestatic 78, 3) := dk_184 0 78 (dk_at dksX3_digest_11 6 rfl rfl)
theorem dX3_digest_272 : decode cX3_digest 272 = .ok (.i2l, 1) := dk_133 (dk_at dksX3_digest_11 9 rfl rfl)
theorem dX3_digest_273 : decode cX3_digest 273 = .ok (.invokestatic 366, 3) := dk_184 1 110 (dk_at dksX3_digest_11 10 rfl rfl)
theorem dX3_digest_276 : decode cX3_digest 276 = .ok (.lreturn, 1) := dk_173 (dk_at dksX3_digest_11 13 rfl rfl)
abbrev cX3_add_2 : ByteArray := prog_15_method_67_code
def yX3_add_2 : MethodName := ⟨RX3, "add", "(JJ)J"⟩
def dkwX3_add_2_0 : List UInt8 := [30, 20, 1, 106, 105, 32, 97, 173]
abbrev dktX3_add_2_0 : List UInt8 := dkwX3_add_2_0 ++ []
theorem dksX3_add_2_0 : cX3_add_2.data.toList.drop 0 = dktX3_add_2_0 := by decide +kernel
theorem dX3_add_2_0 : decode cX3_add_2 0 = .ok (.lload_n 0, 1) := dk_30 (dk_at dksX3_add_2_0 0 rfl rfl)
theorem dX3_add_2_1 : decode cX3_add_2 1 = .ok (.ldc2_w 362, 3) := dk_20 1 106 (dk_at dksX3_add_2_0 1 rfl rfl)
theorem dX3_add_2_4 : decode cX3_add_2 4 = .ok (.lmul, 1) := dk_105 (dk_at dksX3_add_2_0 4 rfl rfl)
theorem dX3_add_2_5 : decode cX3_add_2 5 = .ok (.lload_n 2, 1) := dk_32 (dk_at dksX3_add_2_0 5 rfl rfl)
theorem dX3_add_2_6 : decode cX3_add_2 6 = .ok (.ladd, 1) := dk_97 (dk_at dksX3_add_2_0 6 rfl rfl)
theorem dX3_add_2_7 : decode cX3_add_2 7 = .ok (.lreturn, 1) := dk_173 (dk_at dksX3_add_2_0 7 rfl rfl)
theorem q82 : (Jvm.Cond.initialized "RolloverModel") ∈ lw_all := lw_g (lw_at lw_m1 13 rfl) rfl
theorem q243 : (Jvm.Cond.selects "RolloverModel" ({ cls := "java/lang/Object", name := "getClass", desc := "()Ljava/lang/Class;" } : Jvm.MethodName) ({ cls := "java/lang/Object", name := "getClass", desc := "()Ljava/lang/Class;" } : Jvm.MethodName)) ∈ lw_all := lw_g (lw_at lw_m1 174 rfl) rfl
theorem q1533 : (Jvm.Cond.instantiable "RolloverModel" (9 : Nat)) ∈ lw_all := lw_g (lw_at lw_m7 24 rfl) rfl
theorem q1535 : (Jvm.Cond.instanceMethod ({ cls := "RolloverModel", name := "<init>", desc := "()V" } : Jvm.MethodName)) ∈ lw_all := lw_g (lw_at lw_m7 26 rfl) rfl
theorem q1536 : (Jvm.Cond.code ({ cls := "RolloverModel", name := "<init>", desc := "()V" } : Jvm.MethodName) prog_15_method_1_code (1 : Nat) (Option.none : Option Jvm.ClassFile.FieldType)) ∈ lw_all := lw_g (lw_at lw_m7 27 rfl) rfl
theorem q1537 : (Jvm.Cond.methodLink "RolloverModel" (1 : Nat) ({ cls := "java/lang/Object", name := "<init>", desc := "()V" } : Jvm.MethodName)) ∈ lw_all := lw_g (lw_at lw_m7 28 rfl) rfl
theorem q1538 : (Jvm.Cond.classLink "RolloverModel" (7 : Nat) "java/util/ArrayList") ∈ lw_all := lw_g (lw_at lw_m7 29 rfl) rfl
theorem q1539 : (Jvm.Cond.methodLink "RolloverModel" (9 : Nat) ({ cls := "java/util/ArrayList", name := "<init>", desc := "()V" } : Jvm.MethodName)) ∈ lw_all := lw_g (lw_at lw_m7 30 rfl) rfl
theorem q1540 : (Jvm.Cond.fieldLink "RolloverModel" (32 : Nat) "RolloverModel" "thrown" "I") ∈ lw_all := lw_g (lw_at lw_m7 31 rfl) rfl
theorem q1541 : (Jvm.Cond.fieldLink "RolloverModel" (48 : Nat) "RolloverModel" "today" "I") ∈ lw_all := lw_g (lw_at lw_m7 32 rfl) rfl
theorem q1542 : (Jvm.Cond.fieldLink "RolloverModel" (274 : Nat) "RolloverModel" "doubled" "I") ∈ lw_all := lw_g (lw_at lw_m7 33 rfl) rfl
theorem q1543 : (Jvm.Cond.fieldLink "RolloverModel" (10 : Nat) "RolloverModel" "plans" "Ljava/util/ArrayList;") ∈ lw_all := lw_g (lw_at lw_m7 34 rfl) rfl
theorem q1544 : (Jvm.Cond.fieldLink "RolloverModel" (16 : Nat) "RolloverModel" "customers" "Ljava/util/ArrayList;") ∈ lw_all := lw_g (lw_at lw_m7 35 rfl) rfl
theorem q1545 : (Jvm.Cond.fieldLink "RolloverModel" (19 : Nat) "RolloverModel" "changes" "Ljava/util/ArrayList;") ∈ lw_all := lw_g (lw_at lw_m7 36 rfl) rfl
theorem q1546 : (Jvm.Cond.fieldLink "RolloverModel" (22 : Nat) "RolloverModel" "tickets" "Ljava/util/ArrayList;") ∈ lw_all := lw_g (lw_at lw_m7 37 rfl) rfl
theorem q1547 : (Jvm.Cond.fieldLink "RolloverModel" (25 : Nat) "RolloverModel" "portings" "Ljava/util/ArrayList;") ∈ lw_all := lw_g (lw_at lw_m7 38 rfl) rfl
theorem q1548 : (Jvm.Cond.fieldLink "RolloverModel" (28 : Nat) "RolloverModel" "incoming" "[I") ∈ lw_all := lw_g (lw_at lw_m7 39 rfl) rfl
theorem q1549 : (Jvm.Cond.lays "RolloverModel" "RolloverModel" "thrown" "I") ∈ lw_all := lw_g (lw_at lw_m7 40 rfl) rfl
theorem q1550 : (Jvm.Cond.soleField "RolloverModel" "thrown") ∈ lw_all := lw_g (lw_at lw_m7 41 rfl) rfl
theorem q1551 : (Jvm.Cond.lays "RolloverModel" "RolloverModel" "today" "I") ∈ lw_all := lw_g (lw_at lw_m7 42 rfl) rfl
theorem q1552 : (Jvm.Cond.soleField "RolloverModel" "today") ∈ lw_all := lw_g (lw_at lw_m7 43 rfl) rfl
theorem q1553 : (Jvm.Cond.lays "RolloverModel" "RolloverModel" "doubled" "I") ∈ lw_all := lw_g (lw_at lw_m7 44 rfl) rfl
theorem q1554 : (Jvm.Cond.soleField "RolloverModel" "doubled") ∈ lw_all := lw_g (lw_at lw_m7 45 rfl) rfl
theorem q1555 : (Jvm.Cond.laysFinal "RolloverModel" "RolloverModel" "plans" "Ljava/util/ArrayList;") ∈ lw_all := lw_g (lw_at lw_m7 46 rfl) rfl
theorem q1556 : (Jvm.Cond.soleField "RolloverModel" "plans") ∈ lw_all := lw_g (lw_at lw_m7 47 rfl) rfl
theorem q1557 : (Jvm.Cond.laysFinal "RolloverModel" "RolloverModel" "customers" "Ljava/util/ArrayList;") ∈ lw_all := lw_g (lw_at lw_m7 48 rfl) rfl
theorem q1558 : (Jvm.Cond.soleField "RolloverModel" "customers") ∈ lw_all := lw_g (lw_at lw_m7 49 rfl) rfl
theorem q1559 : (Jvm.Cond.laysFinal "RolloverModel" "RolloverModel" "changes" "Ljava/util/ArrayList;") ∈ lw_all := lw_g (lw_at lw_m7 50 rfl) rfl
theorem q1560 : (Jvm.Cond.soleField "RolloverModel" "changes") ∈ lw_all := lw_g (lw_at lw_m7 51 rfl) rfl
theorem q1561 : (Jvm.Cond.laysFinal "RolloverModel" "RolloverModel" "tickets" "Ljava/util/ArrayList;") ∈ lw_all := lw_g (lw_at lw_m7 52 rfl) rfl
theorem q1562 : (Jvm.Cond.soleField "RolloverModel" "tickets") ∈ lw_all := lw_g (lw_at lw_m7 53 rfl) rfl
theorem q1563 : (Jvm.Cond.laysFinal "RolloverModel" "RolloverModel" "portings" "Ljava/util/ArrayList;") ∈ lw_all := lw_g (lw_at lw_m7 54 rfl) rfl
theorem q1564 : (Jvm.Cond.soleField "RolloverModel" "portings") ∈ lw_all := lw_g (lw_at lw_m7 55 rfl) rfl
theorem q1565 : (Jvm.Cond.laysFinal "RolloverModel" "RolloverModel" "incoming" "[I") ∈ lw_all := lw_g (lw_at lw_m7 56 rfl) rfl
theorem q1566 : (Jvm.Cond.soleField "RolloverModel" "incoming") ∈ lw_all := lw_g (lw_at lw_m7 57 rfl) rfl
theorem q1567 : (Jvm.Cond.superclass "RolloverModel" "java/lang/Object") ∈ lw_all := lw_g (lw_at lw_m7 58 rfl) rfl
theorem q1569 : (Jvm.Cond.instanceMethod ({ cls := "RolloverModel", name := "thrown", desc := "()I" } : Jvm.MethodName)) ∈ lw_all := lw_g (lw_at lw_m7 60 rfl) rfl
theorem q1570 : (Jvm.Cond.selects "RolloverModel" ({ cls := "RolloverModel", name := "thrown", desc := "()I" } : Jvm.MethodName) ({ cls := "RolloverModel", name := "thrown", desc := "()I" } : Jvm.MethodName)) ∈ lw_all := lw_g (lw_at lw_m7 61 rfl) rfl
theorem q1571 : (Jvm.Cond.code ({ cls := "RolloverModel", name := "thrown", desc := "()I" } : Jvm.MethodName) prog_15_method_4_code (1 : Nat) (Option.some Jvm.ClassFile.FieldType.int)) ∈ lw_all := lw_g (lw_at lw_m7 62 rfl) rfl
theorem q1573 : (Jvm.Cond.instanceMethod ({ cls := "RolloverModel", name := "plan", desc := "(III)I" } : Jvm.MethodName)) ∈ lw_all := lw_g (lw_at lw_m7 64 rfl) rfl
theorem q1574 : (Jvm.Cond.selects "RolloverModel" ({ cls := "RolloverModel", name := "plan", desc := "(III)I" } : Jvm.MethodName) ({ cls := "RolloverModel", name := "plan", desc := "(III)I" } : Jvm.MethodName)) ∈ lw_all := lw_g (lw_at lw_m7 65 rfl) rfl
theorem q1575 : (Jvm.Cond.code ({ cls := "RolloverModel", name := "plan", desc := "(III)I" } : Jvm.MethodName) prog_15_method_25_code (5 : Nat) (Option.some Jvm.ClassFile.FieldType.int)) ∈ lw_all := lw_g (lw_at lw_m7 66 rfl) rfl
theorem q1576 : (Jvm.Cond.methodLink "RolloverModel" (44 : Nat) ({ cls := "RolloverModel", name := "isIn", desc := "(III)Z" } : Jvm.MethodName)) ∈ lw_all := lw_g (lw_at lw_m7 67 rfl) rfl
theorem q1577 : (Jvm.Cond.static ({ cls := "RolloverModel", name := "isIn", desc := "(III)Z" } : Jvm.MethodName)) ∈ lw_all := lw_g (lw_at lw_m7 68 rfl) rfl
theorem q1578 : (Jvm.Cond.code ({ cls := "RolloverModel", name := "isIn", desc := "(III)Z" } : Jvm.MethodName) prog_15_method_2_code (3 : Nat) (Option.some Jvm.ClassFile.FieldType.boolean)) ∈ lw_all := lw_g (lw_at lw_m7 69 rfl) rfl
theorem q1579 : (Jvm.Cond.methodLink "RolloverModel" (219 : Nat) ({ cls := "RolloverModel", name := "start", desc := "(ZI)Z" } : Jvm.MethodName)) ∈ lw_all := lw_g (lw_at lw_m7 70 rfl) rfl
theorem q1580 : (Jvm.Cond.privateMethod ({ cls := "RolloverModel", name := "start", desc := "(ZI)Z" } : Jvm.MethodName)) ∈ lw_tbl := lw_at lw_m7 71 rfl
theorem q1581 : (Jvm.Cond.instanceMethod ({ cls := "RolloverModel", name := "start", desc := "(ZI)Z" } : Jvm.MethodName)) ∈ lw_all := lw_g (lw_at lw_m7 72 rfl) rfl
theorem q1582 : (Jvm.Cond.code ({ cls := "RolloverModel", name := "start", desc := "(ZI)Z" } : Jvm.MethodName) prog_15_method_6_code (3 : Nat) (Option.some Jvm.ClassFile.FieldType.boolean)) ∈ lw_all := lw_g (lw_at lw_m7 73 rfl) rfl
theorem q1583 : (Jvm.Cond.methodLink "RolloverModel" (36 : Nat) ({ cls := "RolloverModel", name := "refuse", desc := "(ZI)Z" } : Jvm.MethodName)) ∈ lw_all := lw_g (lw_at lw_m7 74 rfl) rfl
theorem q1584 : (Jvm.Cond.privateMethod ({ cls := "RolloverModel", name := "refuse", desc := "(ZI)Z" } : Jvm.MethodName)) ∈ lw_tbl := lw_at lw_m7 75 rfl
theorem q1585 : (Jvm.Cond.instanceMethod ({ cls := "RolloverModel", name := "refuse", desc := "(ZI)Z" } : Jvm.MethodName)) ∈ lw_all := lw_g (lw_at lw_m7 76 rfl) rfl
theorem q1586 : (Jvm.Cond.code ({ cls := "RolloverModel", name := "refuse", desc := "(ZI)Z" } : Jvm.MethodName) prog_15_method_5_code (3 : Nat) (Option.some Jvm.ClassFile.FieldType.boolean)) ∈ lw_all := lw_g (lw_at lw_m7 77 rfl) rfl
theorem q1587 : (Jvm.Cond.methodLink "RolloverModel" (40 : Nat) ({ cls := "java/util/ArrayList", name := "size", desc := "()I" } : Jvm.MethodName)) ∈ lw_all := lw_g (lw_at lw_m7 78 rfl) rfl
theorem q1588 : (Jvm.Cond.classLink "RolloverModel" (86 : Nat) "RolloverModel$Plan") ∈ lw_all := lw_g (lw_at lw_m7 79 rfl) rfl
theorem q1590 : (Jvm.Cond.methodLinkNest "RolloverModel" (222 : Nat) ({ cls := "RolloverModel$Plan", name := "<init>", desc := "()V" } : Jvm.MethodName) "RolloverModel") ∈ lw_tbl := lw_at lw_m7 81 rfl
theorem q1594 : (Jvm.Cond.fieldLink "RolloverModel" (210 : Nat) "RolloverModel$Plan" "fee" "I") ∈ lw_all := lw_g (lw_at lw_m7 85 rfl) rfl
theorem q1595 : (Jvm.Cond.fieldLink "RolloverModel" (91 : Nat) "RolloverModel$Plan" "grant" "I") ∈ lw_all := lw_g (lw_at lw_m7 86 rfl) rfl
theorem q1597 : (Jvm.Cond.fieldLink "RolloverModel" (223 : Nat) "RolloverModel$Plan" "price" "I") ∈ lw_all := lw_g (lw_at lw_m7 88 rfl) rfl
theorem q1598 : (Jvm.Cond.fieldLink "RolloverModel" (94 : Nat) "RolloverModel$Plan" "keep" "I") ∈ lw_all := lw_g (lw_at lw_m7 89 rfl) rfl
theorem q1600 : (Jvm.Cond.fieldLink "RolloverModel" (236 : Nat) "RolloverModel$Plan" "first" "I") ∈ lw_all := lw_g (lw_at lw_m7 91 rfl) rfl
theorem q1602 : (Jvm.Cond.fieldLink "RolloverModel" (233 : Nat) "RolloverModel$Plan" "unit" "I") ∈ lw_all := lw_g (lw_at lw_m7 93 rfl) rfl
theorem q1603 : (Jvm.Cond.fieldLink "RolloverModel" (158 : Nat) "RolloverModel$Plan" "isNight" "Z") ∈ lw_all := lw_g (lw_at lw_m7 94 rfl) rfl
theorem q1605 : (Jvm.Cond.fieldLink "RolloverModel" (239 : Nat) "RolloverModel$Plan" "step" "I") ∈ lw_all := lw_g (lw_at lw_m7 96 rfl) rfl
theorem q1607 : (Jvm.Cond.fieldLink "RolloverModel" (226 : Nat) "RolloverModel$Plan" "later" "I") ∈ lw_all := lw_g (lw_at lw_m7 98 rfl) rfl
theorem q1608 : (Jvm.Cond.fieldLink "RolloverModel" (190 : Nat) "RolloverModel$Plan" "cap" "I") ∈ lw_all := lw_g (lw_at lw_m7 99 rfl) rfl
theorem q1630 : (Jvm.Cond.methodLink "RolloverModel" (97 : Nat) ({ cls := "java/util/ArrayList", name := "add", desc := "(Ljava/lang/Object;)Z" } : Jvm.MethodName)) ∈ lw_all := lw_g (lw_at lw_m7 121 rfl) rfl
theorem q1632 : (Jvm.Cond.instanceMethod ({ cls := "RolloverModel", name := "units", desc := "(IIIIZ)I" } : Jvm.MethodName)) ∈ lw_all := lw_g (lw_at lw_m7 123 rfl) rfl
theorem q1633 : (Jvm.Cond.selects "RolloverModel" ({ cls := "RolloverModel", name := "units", desc := "(IIIIZ)I" } : Jvm.MethodName) ({ cls := "RolloverModel", name := "units", desc := "(IIIIZ)I" } : Jvm.MethodName)) ∈ lw_all := lw_g (lw_at lw_m7 124 rfl) rfl
theorem q1634 : (Jvm.Cond.code ({ cls := "RolloverModel", name := "units", desc := "(IIIIZ)I" } : Jvm.MethodName) prog_15_method_26_code (8 : Nat) (Option.some Jvm.ClassFile.FieldType.int)) ∈ lw_all := lw_g (lw_at lw_m7 125 rfl) rfl
theorem q1635 : (Jvm.Cond.methodLink "RolloverModel" (229 : Nat) ({ cls := "RolloverModel", name := "isNoPlan", desc := "(I)Z" } : Jvm.MethodName)) ∈ lw_all := lw_g (lw_at lw_m7 126 rfl) rfl
theorem q1636 : (Jvm.Cond.privateMethod ({ cls := "RolloverModel", name := "isNoPlan", desc := "(I)Z" } : Jvm.MethodName)) ∈ lw_tbl := lw_at lw_m7 127 rfl
theorem q1637 : (Jvm.Cond.instanceMethod ({ cls := "RolloverModel", name := "isNoPlan", desc := "(I)Z" } : Jvm.MethodName)) ∈ lw_all := lw_g (lw_at lw_m7 128 rfl) rfl
theorem q1638 : (Jvm.Cond.code ({ cls := "RolloverModel", name := "isNoPlan", desc := "(I)Z" } : Jvm.MethodName) prog_15_method_7_code (2 : Nat) (Option.some Jvm.ClassFile.FieldType.boolean)) ∈ lw_all := lw_g (lw_at lw_m7 129 rfl) rfl
theorem q1639 : (Jvm.Cond.methodLink "RolloverModel" (51 : Nat) ({ cls := "java/util/ArrayList", name := "get", desc := "(I)Ljava/lang/Object;" } : Jvm.MethodName)) ∈ lw_all := lw_g (lw_at lw_m7 130 rfl) rfl
theorem q1641 : (Jvm.Cond.instanceMethod ({ cls := "RolloverModel", name := "steps", desc := "(IIII)I" } : Jvm.MethodName)) ∈ lw_all := lw_g (lw_at lw_m7 132 rfl) rfl
theorem q1642 : (Jvm.Cond.selects "RolloverModel" ({ cls := "RolloverModel", name := "steps", desc := "(IIII)I" } : Jvm.MethodName) ({ cls := "RolloverModel", name := "steps", desc := "(IIII)I" } : Jvm.MethodName)) ∈ lw_all := lw_g (lw_at lw_m7 133 rfl) rfl
theorem q1643 : (Jvm.Cond.code ({ cls := "RolloverModel", name := "steps", desc := "(IIII)I" } : Jvm.MethodName) prog_15_method_27_code (7 : Nat) (Option.some Jvm.ClassFile.FieldType.int)) ∈ lw_all := lw_g (lw_at lw_m7 134 rfl) rfl
theorem q1645 : (Jvm.Cond.instanceMethod ({ cls := "RolloverModel", name := "join", desc := "(II)I" } : Jvm.MethodName)) ∈ lw_all := lw_g (lw_at lw_m7 136 rfl) rfl
theorem q1646 : (Jvm.Cond.selects "RolloverModel" ({ cls := "RolloverModel", name := "join", desc := "(II)I" } : Jvm.MethodName) ({ cls := "RolloverModel", name := "join", desc := "(II)I" } : Jvm.MethodName)) ∈ lw_all := lw_g (lw_at lw_m7 137 rfl) rfl
theorem q1647 : (Jvm.Cond.code ({ cls := "RolloverModel", name := "join", desc := "(II)I" } : Jvm.MethodName) prog_15_method_28_code (4 : Nat) (Option.some Jvm.ClassFile.FieldType.int)) ∈ lw_all := lw_g (lw_at lw_m7 138 rfl) rfl
theorem q1648 : (Jvm.Cond.classLink "RolloverModel" (55 : Nat) "RolloverModel$Customer") ∈ lw_all := lw_g (lw_at lw_m7 139 rfl) rfl
theorem q1650 : (Jvm.Cond.methodLinkNest "RolloverModel" (242 : Nat) ({ cls := "RolloverModel$Customer", name := "<init>", desc := "()V" } : Jvm.MethodName) "RolloverModel") ∈ lw_tbl := lw_at lw_m7 141 rfl
theorem q1654 : (Jvm.Cond.fieldLink "RolloverModel" (57 : Nat) "RolloverModel$Customer" "joined" "I") ∈ lw_all := lw_g (lw_at lw_m7 145 rfl) rfl
theorem q1655 : (Jvm.Cond.fieldLink "RolloverModel" (155 : Nat) "RolloverModel$Customer" "circle" "I") ∈ lw_all := lw_g (lw_at lw_m7 146 rfl) rfl
theorem q1657 : (Jvm.Cond.fieldLink "RolloverModel" (172 : Nat) "RolloverModel$Customer" "parent" "I") ∈ lw_all := lw_g (lw_at lw_m7 148 rfl) rfl
theorem q1658 : (Jvm.Cond.fieldLink "RolloverModel" (175 : Nat) "RolloverModel$Customer" "limit" "I") ∈ lw_all := lw_g (lw_at lw_m7 149 rfl) rfl
theorem q1669 : (Jvm.Cond.instanceMethod ({ cls := "RolloverModel", name := "change", desc := "(II)I" } : Jvm.MethodName)) ∈ lw_all := lw_g (lw_at lw_m7 160 rfl) rfl
theorem q1670 : (Jvm.Cond.selects "RolloverModel" ({ cls := "RolloverModel", name := "change", desc := "(II)I" } : Jvm.MethodName) ({ cls := "RolloverModel", name := "change", desc := "(II)I" } : Jvm.MethodName)) ∈ lw_all := lw_g (lw_at lw_m7 161 rfl) rfl
theorem q1671 : (Jvm.Cond.code ({ cls := "RolloverModel", name := "change", desc := "(II)I" } : Jvm.MethodName) prog_15_method_29_code (4 : Nat) (Option.some Jvm.ClassFile.FieldType.int)) ∈ lw_all := lw_g (lw_at lw_m7 162 rfl) rfl
theorem q1672 : (Jvm.Cond.methodLink "RolloverModel" (243 : Nat) ({ cls := "RolloverModel", name := "isNoCustomer", desc := "(I)Z" } : Jvm.MethodName)) ∈ lw_all := lw_g (lw_at lw_m7 163 rfl) rfl
theorem q1673 : (Jvm.Cond.privateMethod ({ cls := "RolloverModel", name := "isNoCustomer", desc := "(I)Z" } : Jvm.MethodName)) ∈ lw_tbl := lw_at lw_m7 164 rfl
theorem q1674 : (Jvm.Cond.instanceMethod ({ cls := "RolloverModel", name := "isNoCustomer", desc := "(I)Z" } : Jvm.MethodName)) ∈ lw_all := lw_g (lw_at lw_m7 165 rfl) rfl
theorem q1675 : (Jvm.Cond.code ({ cls := "RolloverModel", name := "isNoCustomer", desc := "(I)Z" } : Jvm.MethodName) prog_15_method_8_code (2 : Nat) (Option.some Jvm.ClassFile.FieldType.boolean)) ∈ lw_all := lw_g (lw_at lw_m7 166 rfl) rfl
theorem q1676 : (Jvm.Cond.methodLink "RolloverModel" (61 : Nat) ({ cls := "RolloverModel", name := "latest", desc := "(Ljava/util/ArrayList;III)I" } : Jvm.MethodName)) ∈ lw_all := lw_g (lw_at lw_m7 167 rfl) rfl
theorem q1677 : (Jvm.Cond.static ({ cls := "RolloverModel", name := "latest", desc := "(Ljava/util/ArrayList;III)I" } : Jvm.MethodName)) ∈ lw_all := lw_g (lw_at lw_m7 168 rfl) rfl
theorem q1678 : (Jvm.Cond.code ({ cls := "RolloverModel", name := "latest", desc := "(Ljava/util/ArrayList;III)I" } : Jvm.MethodName) prog_15_method_14_code (5 : Nat) (Option.some Jvm.ClassFile.FieldType.int)) ∈ lw_all := lw_g (lw_at lw_m7 169 rfl) rfl
theorem q1679 : (Jvm.Cond.classLink "RolloverModel" (60 : Nat) "[I") ∈ lw_all := lw_g (lw_at lw_m7 170 rfl) rfl
theorem q1681 : (Jvm.Cond.instanceMethod ({ cls := "RolloverModel", name := "circle", desc := "(II)I" } : Jvm.MethodName)) ∈ lw_all := lw_g (lw_at lw_m7 172 rfl) rfl
theorem q1682 : (Jvm.Cond.selects "RolloverModel" ({ cls := "RolloverModel", name := "circle", desc := "(II)I" } : Jvm.MethodName) ({ cls := "RolloverModel", name := "circle", desc := "(II)I" } : Jvm.MethodName)) ∈ lw_all := lw_g (lw_at lw_m7 173 rfl) rfl
theorem q1683 : (Jvm.Cond.code ({ cls := "RolloverModel", name := "circle", desc := "(II)I" } : Jvm.MethodName) prog_15_method_31_code (3 : Nat) (Option.some Jvm.ClassFile.FieldType.int)) ∈ lw_all := lw_g (lw_at lw_m7 174 rfl) rfl
theorem q1684 : (Jvm.Cond.constant "RolloverModel" (246 : Nat) (65535 : Int32)) ∈ lw_all := lw_g (lw_at lw_m7 175 rfl) rfl
theorem q1685 : (Jvm.Cond.methodLink "RolloverModel" (247 : Nat) ({ cls := "RolloverModel", name := "many", desc := "(I)I" } : Jvm.MethodName)) ∈ lw_all := lw_g (lw_at lw_m7 176 rfl) rfl
theorem q1686 : (Jvm.Cond.static ({ cls := "RolloverModel", name := "many", desc := "(I)I" } : Jvm.MethodName)) ∈ lw_all := lw_g (lw_at lw_m7 177 rfl) rfl
theorem q1687 : (Jvm.Cond.code ({ cls := "RolloverModel", name := "many", desc := "(I)I" } : Jvm.MethodName) prog_15_method_30_code (3 : Nat) (Option.some Jvm.ClassFile.FieldType.int)) ∈ lw_all := lw_g (lw_at lw_m7 178 rfl) rfl
theorem q1689 : (Jvm.Cond.instanceMethod ({ cls := "RolloverModel", name := "child", desc := "(III)I" } : Jvm.MethodName)) ∈ lw_all := lw_g (lw_at lw_m7 180 rfl) rfl
theorem q1690 : (Jvm.Cond.selects "RolloverModel" ({ cls := "RolloverModel", name := "child", desc := "(III)I" } : Jvm.MethodName) ({ cls := "RolloverModel", name := "child", desc := "(III)I" } : Jvm.MethodName)) ∈ lw_all := lw_g (lw_at lw_m7 181 rfl) rfl
theorem q1691 : (Jvm.Cond.code ({ cls := "RolloverModel", name := "child", desc := "(III)I" } : Jvm.MethodName) prog_15_method_33_code (6 : Nat) (Option.some Jvm.ClassFile.FieldType.int)) ∈ lw_all := lw_g (lw_at lw_m7 182 rfl) rfl
theorem q1692 : (Jvm.Cond.methodLink "RolloverModel" (250 : Nat) ({ cls := "RolloverModel", name := "hasChild", desc := "(I)Z" } : Jvm.MethodName)) ∈ lw_all := lw_g (lw_at lw_m7 183 rfl) rfl
theorem q1693 : (Jvm.Cond.privateMethod ({ cls := "RolloverModel", name := "hasChild", desc := "(I)Z" } : Jvm.MethodName)) ∈ lw_tbl := lw_at lw_m7 184 rfl
theorem q1694 : (Jvm.Cond.instanceMethod ({ cls := "RolloverModel", name := "hasChild", desc := "(I)Z" } : Jvm.MethodName)) ∈ lw_all := lw_g (lw_at lw_m7 185 rfl) rfl
theorem q1695 : (Jvm.Cond.code ({ cls := "RolloverModel", name := "hasChild", desc := "(I)Z" } : Jvm.MethodName) prog_15_method_32_code (4 : Nat) (Option.some Jvm.ClassFile.FieldType.boolean)) ∈ lw_all := lw_g (lw_at lw_m7 186 rfl) rfl
theorem q1696 : (Jvm.Cond.methodLink "RolloverModel" (193 : Nat) ({ cls := "java/util/ArrayList", name := "iterator", desc := "()Ljava/util/Iterator;" } : Jvm.MethodName)) ∈ lw_all := lw_g (lw_at lw_m7 187 rfl) rfl
theorem q1719 : (Jvm.Cond.interfaceEntry "RolloverModel" (197 : Nat)) ∈ lw_tbl := lw_at lw_m7 210 rfl
theorem q1720 : (Jvm.Cond.methodLink "RolloverModel" (197 : Nat) ({ cls := "java/util/Iterator", name := "hasNext", desc := "()Z" } : Jvm.MethodName)) ∈ lw_all := lw_g (lw_at lw_m7 211 rfl) rfl
theorem q1729 : (Jvm.Cond.interfaceEntry "RolloverModel" (203 : Nat)) ∈ lw_tbl := lw_at lw_m7 220 rfl
theorem q1730 : (Jvm.Cond.methodLink "RolloverModel" (203 : Nat) ({ cls := "java/util/Iterator", name := "next", desc := "()Ljava/lang/Object;" } : Jvm.MethodName)) ∈ lw_all := lw_g (lw_at lw_m7 221 rfl) rfl
theorem q1743 : (Jvm.Cond.instanceMethod ({ cls := "RolloverModel", name := "pass", desc := "(I)I" } : Jvm.MethodName)) ∈ lw_all := lw_g (lw_at lw_m7 234 rfl) rfl
theorem q1744 : (Jvm.Cond.selects "RolloverModel" ({ cls := "RolloverModel", name := "pass", desc := "(I)I" } : Jvm.MethodName) ({ cls := "RolloverModel", name := "pass", desc := "(I)I" } : Jvm.MethodName)) ∈ lw_all := lw_g (lw_at lw_m7 235 rfl) rfl
theorem q1745 : (Jvm.Cond.code ({ cls := "RolloverModel", name := "pass", desc := "(I)I" } : Jvm.MethodName) prog_15_method_34_code (2 : Nat) (Option.some Jvm.ClassFile.FieldType.int)) ∈ lw_all := lw_g (lw_at lw_m7 236 rfl) rfl
theorem q1747 : (Jvm.Cond.instanceMethod ({ cls := "RolloverModel", name := "call", desc := "(IIIIII)I" } : Jvm.MethodName)) ∈ lw_all := lw_g (lw_at lw_m7 238 rfl) rfl
theorem q1748 : (Jvm.Cond.selects "RolloverModel" ({ cls := "RolloverModel", name := "call", desc := "(IIIIII)I" } : Jvm.MethodName) ({ cls := "RolloverModel", name := "call", desc := "(IIIIII)I" } : Jvm.MethodName)) ∈ lw_all := lw_g (lw_at lw_m7 239 rfl) rfl
theorem q1749 : (Jvm.Cond.code ({ cls := "RolloverModel", name := "call", desc := "(IIIIII)I" } : Jvm.MethodName) prog_15_method_38_code (10 : Nat) (Option.some Jvm.ClassFile.FieldType.int)) ∈ lw_all := lw_g (lw_at lw_m8 0 rfl) rfl
theorem q1750 : (Jvm.Cond.methodLink "RolloverModel" (254 : Nat) ({ cls := "RolloverModel", name := "isNoNumber", desc := "(I)Z" } : Jvm.MethodName)) ∈ lw_all := lw_g (lw_at lw_m8 1 rfl) rfl
theorem q1751 : (Jvm.Cond.static ({ cls := "RolloverModel", name := "isNoNumber", desc := "(I)Z" } : Jvm.MethodName)) ∈ lw_all := lw_g (lw_at lw_m8 2 rfl) rfl
theorem q1752 : (Jvm.Cond.code ({ cls := "RolloverModel", name := "isNoNumber", desc := "(I)Z" } : Jvm.MethodName) prog_15_method_10_code (1 : Nat) (Option.some Jvm.ClassFile.FieldType.boolean)) ∈ lw_all := lw_g (lw_at lw_m8 3 rfl) rfl
theorem q1753 : (Jvm.Cond.methodLink "RolloverModel" (257 : Nat) ({ cls := "RolloverModel", name := "isNoDay", desc := "(II)Z" } : Jvm.MethodName)) ∈ lw_all := lw_g (lw_at lw_m8 4 rfl) rfl
theorem q1754 : (Jvm.Cond.privateMethod ({ cls := "RolloverModel", name := "isNoDay", desc := "(II)Z" } : Jvm.MethodName)) ∈ lw_tbl := lw_at lw_m8 5 rfl
theorem q1755 : (Jvm.Cond.instanceMethod ({ cls := "RolloverModel", name := "isNoDay", desc := "(II)Z" } : Jvm.MethodName)) ∈ lw_all := lw_g (lw_at lw_m8 6 rfl) rfl
theorem q1756 : (Jvm.Cond.code ({ cls := "RolloverModel", name := "isNoDay", desc := "(II)Z" } : Jvm.MethodName) prog_15_method_11_code (3 : Nat) (Option.some Jvm.ClassFile.FieldType.boolean)) ∈ lw_all := lw_g (lw_at lw_m8 7 rfl) rfl
theorem q1757 : (Jvm.Cond.methodLink "RolloverModel" (261 : Nat) ({ cls := "RolloverModel", name := "isNoMinute", desc := "(I)Z" } : Jvm.MethodName)) ∈ lw_all := lw_g (lw_at lw_m8 8 rfl) rfl
theorem q1758 : (Jvm.Cond.static ({ cls := "RolloverModel", name := "isNoMinute", desc := "(I)Z" } : Jvm.MethodName)) ∈ lw_all := lw_g (lw_at lw_m8 9 rfl) rfl
theorem q1759 : (Jvm.Cond.code ({ cls := "RolloverModel", name := "isNoMinute", desc := "(I)Z" } : Jvm.MethodName) prog_15_method_12_code (1 : Nat) (Option.some Jvm.ClassFile.FieldType.boolean)) ∈ lw_all := lw_g (lw_at lw_m8 10 rfl) rfl
theorem q1760 : (Jvm.Cond.methodLink "RolloverModel" (264 : Nat) ({ cls := "RolloverModel", name := "isNoSeconds", desc := "(I)Z" } : Jvm.MethodName)) ∈ lw_all := lw_g (lw_at lw_m8 11 rfl) rfl
theorem q1761 : (Jvm.Cond.static ({ cls := "RolloverModel", name := "isNoSeconds", desc := "(I)Z" } : Jvm.MethodName)) ∈ lw_all := lw_g (lw_at lw_m8 12 rfl) rfl
theorem q1762 : (Jvm.Cond.code ({ cls := "RolloverModel", name := "isNoSeconds", desc := "(I)Z" } : Jvm.MethodName) prog_15_method_13_code (1 : Nat) (Option.some Jvm.ClassFile.FieldType.boolean)) ∈ lw_all := lw_g (lw_at lw_m8 13 rfl) rfl
theorem q1763 : (Jvm.Cond.methodLink "RolloverModel" (267 : Nat) ({ cls := "RolloverModel", name := "isFull", desc := "()Z" } : Jvm.MethodName)) ∈ lw_all := lw_g (lw_at lw_m8 14 rfl) rfl
theorem q1764 : (Jvm.Cond.privateMethod ({ cls := "RolloverModel", name := "isFull", desc := "()Z" } : Jvm.MethodName)) ∈ lw_tbl := lw_at lw_m8 15 rfl
theorem q1765 : (Jvm.Cond.instanceMethod ({ cls := "RolloverModel", name := "isFull", desc := "()Z" } : Jvm.MethodName)) ∈ lw_all := lw_g (lw_at lw_m8 16 rfl) rfl
theorem q1766 : (Jvm.Cond.code ({ cls := "RolloverModel", name := "isFull", desc := "()Z" } : Jvm.MethodName) prog_15_method_37_code (1 : Nat) (Option.some Jvm.ClassFile.FieldType.boolean)) ∈ lw_all := lw_g (lw_at lw_m8 17 rfl) rfl
theorem q1767 : (Jvm.Cond.methodLink "RolloverModel" (270 : Nat) ({ cls := "RolloverModel", name := "made", desc := "(IIIIIII)LRolloverModel$Ticket;" } : Jvm.MethodName)) ∈ lw_all := lw_g (lw_at lw_m8 18 rfl) rfl
theorem q1768 : (Jvm.Cond.privateMethod ({ cls := "RolloverModel", name := "made", desc := "(IIIIIII)LRolloverModel$Ticket;" } : Jvm.MethodName)) ∈ lw_tbl := lw_at lw_m8 19 rfl
theorem q1769 : (Jvm.Cond.instanceMethod ({ cls := "RolloverModel", name := "made", desc := "(IIIIIII)LRolloverModel$Ticket;" } : Jvm.MethodName)) ∈ lw_all := lw_g (lw_at lw_m8 20 rfl) rfl
theorem q1770 : (Jvm.Cond.code ({ cls := "RolloverModel", name := "made", desc := "(IIIIIII)LRolloverModel$Ticket;" } : Jvm.MethodName) prog_15_method_35_code (9 : Nat) (Option.some (Jvm.ClassFile.FieldType.object "RolloverModel$Ticket"))) ∈ lw_all := lw_g (lw_at lw_m8 21 rfl) rfl
theorem q1771 : (Jvm.Cond.classLink "RolloverModel" (73 : Nat) "RolloverModel$Ticket") ∈ lw_all := lw_g (lw_at lw_m8 22 rfl) rfl
theorem q1773 : (Jvm.Cond.methodLinkNest "RolloverModel" (253 : Nat) ({ cls := "RolloverModel$Ticket", name := "<init>", desc := "()V" } : Jvm.MethodName) "RolloverModel") ∈ lw_tbl := lw_at lw_m8 24 rfl
theorem q1778 : (Jvm.Cond.fieldLink "RolloverModel" (136 : Nat) "RolloverModel$Ticket" "kind" "I") ∈ lw_all := lw_g (lw_at lw_m8 29 rfl) rfl
theorem q1780 : (Jvm.Cond.fieldLink "RolloverModel" (142 : Nat) "RolloverModel$Ticket" "customer" "I") ∈ lw_all := lw_g (lw_at lw_m8 31 rfl) rfl
theorem q1783 : (Jvm.Cond.fieldLink "RolloverModel" (118 : Nat) "RolloverModel$Ticket" "day" "I") ∈ lw_all := lw_g (lw_at lw_m8 34 rfl) rfl
theorem q1785 : (Jvm.Cond.fieldLink "RolloverModel" (161 : Nat) "RolloverModel$Ticket" "minute" "I") ∈ lw_all := lw_g (lw_at lw_m8 36 rfl) rfl
theorem q1786 : (Jvm.Cond.fieldLink "RolloverModel" (145 : Nat) "RolloverModel$Ticket" "seconds" "I") ∈ lw_all := lw_g (lw_at lw_m8 37 rfl) rfl
theorem q1787 : (Jvm.Cond.fieldLink "RolloverModel" (148 : Nat) "RolloverModel$Ticket" "which" "I") ∈ lw_all := lw_g (lw_at lw_m8 38 rfl) rfl
theorem q1788 : (Jvm.Cond.fieldLink "RolloverModel" (187 : Nat) "RolloverModel$Ticket" "more" "I") ∈ lw_all := lw_g (lw_at lw_m8 39 rfl) rfl
theorem q1790 : (Jvm.Cond.fieldLink "RolloverModel" (124 : Nat) "RolloverModel$Ticket" "isVoid" "Z") ∈ lw_all := lw_g (lw_at lw_m8 41 rfl) rfl
theorem q1808 : (Jvm.Cond.methodLink "RolloverModel" (75 : Nat) ({ cls := "RolloverModel$Ticket", name := "begin", desc := "()I" } : Jvm.MethodName)) ∈ lw_all := lw_g (lw_at lw_m8 59 rfl) rfl
theorem q1812 : (Jvm.Cond.methodLink "RolloverModel" (277 : Nat) ({ cls := "RolloverModel", name := "add", desc := "(LRolloverModel$Ticket;)I" } : Jvm.MethodName)) ∈ lw_all := lw_g (lw_at lw_m8 63 rfl) rfl
theorem q1813 : (Jvm.Cond.privateMethod ({ cls := "RolloverModel", name := "add", desc := "(LRolloverModel$Ticket;)I" } : Jvm.MethodName)) ∈ lw_tbl := lw_at lw_m8 64 rfl
theorem q1814 : (Jvm.Cond.instanceMethod ({ cls := "RolloverModel", name := "add", desc := "(LRolloverModel$Ticket;)I" } : Jvm.MethodName)) ∈ lw_all := lw_g (lw_at lw_m8 65 rfl) rfl
theorem q1815 : (Jvm.Cond.code ({ cls := "RolloverModel", name := "add", desc := "(LRolloverModel$Ticket;)I" } : Jvm.MethodName) prog_15_method_36_code (2 : Nat) (Option.some Jvm.ClassFile.FieldType.int)) ∈ lw_all := lw_g (lw_at lw_m8 66 rfl) rfl
theorem q1817 : (Jvm.Cond.instanceMethod ({ cls := "RolloverModel", name := "gift", desc := "(IIIII)I" } : Jvm.MethodName)) ∈ lw_all := lw_g (lw_at lw_m8 68 rfl) rfl
theorem q1818 : (Jvm.Cond.selects "RolloverModel" ({ cls := "RolloverModel", name := "gift", desc := "(IIIII)I" } : Jvm.MethodName) ({ cls := "RolloverModel", name := "gift", desc := "(IIIII)I" } : Jvm.MethodName)) ∈ lw_all := lw_g (lw_at lw_m8 69 rfl) rfl
theorem q1819 : (Jvm.Cond.code ({ cls := "RolloverModel", name := "gift", desc := "(IIIII)I" } : Jvm.MethodName) prog_15_method_39_code (6 : Nat) (Option.some Jvm.ClassFile.FieldType.int)) ∈ lw_all := lw_g (lw_at lw_m8 70 rfl) rfl
theorem q1821 : (Jvm.Cond.instanceMethod ({ cls := "RolloverModel", name := "addOn", desc := "(IIIIII)I" } : Jvm.MethodName)) ∈ lw_all := lw_g (lw_at lw_m8 72 rfl) rfl
theorem q1822 : (Jvm.Cond.selects "RolloverModel" ({ cls := "RolloverModel", name := "addOn", desc := "(IIIIII)I" } : Jvm.MethodName) ({ cls := "RolloverModel", name := "addOn", desc := "(IIIIII)I" } : Jvm.MethodName)) ∈ lw_all := lw_g (lw_at lw_m8 73 rfl) rfl
theorem q1823 : (Jvm.Cond.code ({ cls := "RolloverModel", name := "addOn", desc := "(IIIIII)I" } : Jvm.MethodName) prog_15_method_40_code (7 : Nat) (Option.some Jvm.ClassFile.FieldType.int)) ∈ lw_all := lw_g (lw_at lw_m8 74 rfl) rfl
theorem q1825 : (Jvm.Cond.instanceMethod ({ cls := "RolloverModel", name := "correct", desc := "(II)I" } : Jvm.MethodName)) ∈ lw_all := lw_g (lw_at lw_m8 76 rfl) rfl
theorem q1826 : (Jvm.Cond.selects "RolloverModel" ({ cls := "RolloverModel", name := "correct", desc := "(II)I" } : Jvm.MethodName) ({ cls := "RolloverModel", name := "correct", desc := "(II)I" } : Jvm.MethodName)) ∈ lw_all := lw_g (lw_at lw_m8 77 rfl) rfl
theorem q1827 : (Jvm.Cond.code ({ cls := "RolloverModel", name := "correct", desc := "(II)I" } : Jvm.MethodName) prog_15_method_41_code (5 : Nat) (Option.some Jvm.ClassFile.FieldType.int)) ∈ lw_all := lw_g (lw_at lw_m8 78 rfl) rfl
theorem q1828 : (Jvm.Cond.methodLink "RolloverModel" (280 : Nat) ({ cls := "RolloverModel", name := "isNoTicket", desc := "(I)Z" } : Jvm.MethodName)) ∈ lw_all := lw_g (lw_at lw_m8 79 rfl) rfl
theorem q1829 : (Jvm.Cond.privateMethod ({ cls := "RolloverModel", name := "isNoTicket", desc := "(I)Z" } : Jvm.MethodName)) ∈ lw_tbl := lw_at lw_m8 80 rfl
theorem q1830 : (Jvm.Cond.instanceMethod ({ cls := "RolloverModel", name := "isNoTicket", desc := "(I)Z" } : Jvm.MethodName)) ∈ lw_all := lw_g (lw_at lw_m8 81 rfl) rfl
theorem q1831 : (Jvm.Cond.code ({ cls := "RolloverModel", name := "isNoTicket", desc := "(I)Z" } : Jvm.MethodName) prog_15_method_9_code (2 : Nat) (Option.some Jvm.ClassFile.FieldType.boolean)) ∈ lw_all := lw_g (lw_at lw_m8 82 rfl) rfl
theorem q1832 : (Jvm.Cond.methodLink "RolloverModel" (283 : Nat) ({ cls := "RolloverModel", name := "asIs", desc := "()LRolloverModel$Book;" } : Jvm.MethodName)) ∈ lw_all := lw_g (lw_at lw_m8 83 rfl) rfl
theorem q1833 : (Jvm.Cond.privateMethod ({ cls := "RolloverModel", name := "asIs", desc := "()LRolloverModel$Book;" } : Jvm.MethodName)) ∈ lw_tbl := lw_at lw_m8 84 rfl
theorem q1834 : (Jvm.Cond.instanceMethod ({ cls := "RolloverModel", name := "asIs", desc := "()LRolloverModel$Book;" } : Jvm.MethodName)) ∈ lw_all := lw_g (lw_at lw_m8 85 rfl) rfl
theorem q1835 : (Jvm.Cond.code ({ cls := "RolloverModel", name := "asIs", desc := "()LRolloverModel$Book;" } : Jvm.MethodName) prog_15_method_19_code (1 : Nat) (Option.some (Jvm.ClassFile.FieldType.object "RolloverModel$Book"))) ∈ lw_all := lw_g (lw_at lw_m8 86 rfl) rfl
theorem q1836 : (Jvm.Cond.methodLink "RolloverModel" (132 : Nat) ({ cls := "RolloverModel", name := "book", desc := "(IIILRolloverModel$Ticket;)LRolloverModel$Book;" } : Jvm.MethodName)) ∈ lw_all := lw_g (lw_at lw_m8 87 rfl) rfl
theorem q1837 : (Jvm.Cond.privateMethod ({ cls := "RolloverModel", name := "book", desc := "(IIILRolloverModel$Ticket;)LRolloverModel$Book;" } : Jvm.MethodName)) ∈ lw_tbl := lw_at lw_m8 88 rfl
theorem q1838 : (Jvm.Cond.instanceMethod ({ cls := "RolloverModel", name := "book", desc := "(IIILRolloverModel$Ticket;)LRolloverModel$Book;" } : Jvm.MethodName)) ∈ lw_all := lw_g (lw_at lw_m8 89 rfl) rfl
theorem q1839 : (Jvm.Cond.code ({ cls := "RolloverModel", name := "book", desc := "(IIILRolloverModel$Ticket;)LRolloverModel$Book;" } : Jvm.MethodName) prog_15_method_18_code (13 : Nat) (Option.some (Jvm.ClassFile.FieldType.object "RolloverModel$Book"))) ∈ lw_all := lw_g (lw_at lw_m8 90 rfl) rfl
theorem q1840 : (Jvm.Cond.classLink "RolloverModel" (66 : Nat) "RolloverModel$Book") ∈ lw_all := lw_g (lw_at lw_m8 91 rfl) rfl
theorem q1842 : (Jvm.Cond.methodLinkNest "RolloverModel" (101 : Nat) ({ cls := "RolloverModel$Book", name := "<init>", desc := "()V" } : Jvm.MethodName) "RolloverModel") ∈ lw_tbl := lw_at lw_m8 93 rfl
theorem q1849 : (Jvm.Cond.fieldLink "RolloverModel" (102 : Nat) "RolloverModel$Book" "all" "Ljava/util/ArrayList;") ∈ lw_all := lw_g (lw_at lw_m8 100 rfl) rfl
theorem q1851 : (Jvm.Cond.fieldLink "RolloverModel" (88 : Nat) "RolloverModel$Book" "buckets" "Ljava/util/ArrayList;") ∈ lw_all := lw_g (lw_at lw_m8 102 rfl) rfl
theorem q1853 : (Jvm.Cond.fieldLink "RolloverModel" (111 : Nat) "RolloverModel$Book" "rows" "[[I") ∈ lw_all := lw_g (lw_at lw_m8 104 rfl) rfl
theorem q1855 : (Jvm.Cond.fieldLink "RolloverModel" (65 : Nat) "RolloverModel$Book" "who" "I") ∈ lw_all := lw_g (lw_at lw_m8 106 rfl) rfl
theorem q1856 : (Jvm.Cond.fieldLink "RolloverModel" (70 : Nat) "RolloverModel$Book" "plan" "I") ∈ lw_all := lw_g (lw_at lw_m8 107 rfl) rfl
theorem q1868 : (Jvm.Cond.methodLink "RolloverModel" (105 : Nat) ({ cls := "java/util/ArrayList", name := "addAll", desc := "(Ljava/util/Collection;)Z" } : Jvm.MethodName)) ∈ lw_all := lw_g (lw_at lw_m8 119 rfl) rfl
theorem q1882 : (Jvm.Cond.classLink "RolloverModel" (109 : Nat) "[[I") ∈ lw_all := lw_g (lw_at lw_m8 133 rfl) rfl
theorem q1884 : (Jvm.Cond.methodLink "RolloverModel" (114 : Nat) ({ cls := "RolloverModel", name := "place", desc := "(Ljava/util/ArrayList;I)I" } : Jvm.MethodName)) ∈ lw_all := lw_g (lw_at lw_m8 135 rfl) rfl
theorem q1885 : (Jvm.Cond.static ({ cls := "RolloverModel", name := "place", desc := "(Ljava/util/ArrayList;I)I" } : Jvm.MethodName)) ∈ lw_all := lw_g (lw_at lw_m8 136 rfl) rfl
theorem q1886 : (Jvm.Cond.code ({ cls := "RolloverModel", name := "place", desc := "(Ljava/util/ArrayList;I)I" } : Jvm.MethodName) prog_15_method_16_code (5 : Nat) (Option.some Jvm.ClassFile.FieldType.int)) ∈ lw_all := lw_g (lw_at lw_m8 137 rfl) rfl
theorem q1887 : (Jvm.Cond.methodLink "RolloverModel" (78 : Nat) ({ cls := "RolloverModel", name := "one", desc := "(Z)I" } : Jvm.MethodName)) ∈ lw_all := lw_g (lw_at lw_m8 138 rfl) rfl
theorem q1888 : (Jvm.Cond.static ({ cls := "RolloverModel", name := "one", desc := "(Z)I" } : Jvm.MethodName)) ∈ lw_all := lw_g (lw_at lw_m8 139 rfl) rfl
theorem q1889 : (Jvm.Cond.code ({ cls := "RolloverModel", name := "one", desc := "(Z)I" } : Jvm.MethodName) prog_15_method_3_code (1 : Nat) (Option.some Jvm.ClassFile.FieldType.int)) ∈ lw_all := lw_g (lw_at lw_m8 140 rfl) rfl
theorem q1890 : (Jvm.Cond.methodLink "RolloverModel" (121 : Nat) ({ cls := "RolloverModel", name := "grant", desc := "(LRolloverModel$Book;I)V" } : Jvm.MethodName)) ∈ lw_all := lw_g (lw_at lw_m8 141 rfl) rfl
theorem q1891 : (Jvm.Cond.privateMethod ({ cls := "RolloverModel", name := "grant", desc := "(LRolloverModel$Book;I)V" } : Jvm.MethodName)) ∈ lw_tbl := lw_at lw_m8 142 rfl
theorem q1892 : (Jvm.Cond.instanceMethod ({ cls := "RolloverModel", name := "grant", desc := "(LRolloverModel$Book;I)V" } : Jvm.MethodName)) ∈ lw_all := lw_g (lw_at lw_m8 143 rfl) rfl
theorem q1893 : (Jvm.Cond.code ({ cls := "RolloverModel", name := "grant", desc := "(LRolloverModel$Book;I)V" } : Jvm.MethodName) prog_15_method_17_code (7 : Nat) (Option.none : Option Jvm.ClassFile.FieldType)) ∈ lw_all := lw_g (lw_at lw_m8 144 rfl) rfl
theorem q1894 : (Jvm.Cond.methodLink "RolloverModel" (82 : Nat) ({ cls := "RolloverModel", name := "planOf", desc := "(LRolloverModel$Book;II)I" } : Jvm.MethodName)) ∈ lw_all := lw_g (lw_at lw_m8 145 rfl) rfl
theorem q1895 : (Jvm.Cond.privateMethod ({ cls := "RolloverModel", name := "planOf", desc := "(LRolloverModel$Book;II)I" } : Jvm.MethodName)) ∈ lw_tbl := lw_at lw_m8 146 rfl
theorem q1896 : (Jvm.Cond.instanceMethod ({ cls := "RolloverModel", name := "planOf", desc := "(LRolloverModel$Book;II)I" } : Jvm.MethodName)) ∈ lw_all := lw_g (lw_at lw_m8 147 rfl) rfl
theorem q1897 : (Jvm.Cond.code ({ cls := "RolloverModel", name := "planOf", desc := "(LRolloverModel$Book;II)I" } : Jvm.MethodName) prog_15_method_15_code (5 : Nat) (Option.some Jvm.ClassFile.FieldType.int)) ∈ lw_all := lw_g (lw_at lw_m8 148 rfl) rfl
theorem q1898 : (Jvm.Cond.methodLink "RolloverModel" (128 : Nat) ({ cls := "RolloverModel", name := "rate", desc := "(LRolloverModel$Book;LRolloverModel$Ticket;[I)V" } : Jvm.MethodName)) ∈ lw_all := lw_g (lw_at lw_m8 149 rfl) rfl
theorem q1899 : (Jvm.Cond.privateMethod ({ cls := "RolloverModel", name := "rate", desc := "(LRolloverModel$Book;LRolloverModel$Ticket;[I)V" } : Jvm.MethodName)) ∈ lw_tbl := lw_at lw_m8 150 rfl
theorem q1900 : (Jvm.Cond.instanceMethod ({ cls := "RolloverModel", name := "rate", desc := "(LRolloverModel$Book;LRolloverModel$Ticket;[I)V" } : Jvm.MethodName)) ∈ lw_all := lw_g (lw_at lw_m8 151 rfl) rfl
theorem q1901 : (Jvm.Cond.code ({ cls := "RolloverModel", name := "rate", desc := "(LRolloverModel$Book;LRolloverModel$Ticket;[I)V" } : Jvm.MethodName) prog_15_method_20_code (4 : Nat) (Option.none : Option Jvm.ClassFile.FieldType)) ∈ lw_all := lw_g (lw_at lw_m8 152 rfl) rfl
theorem q1902 : (Jvm.Cond.methodLink "RolloverModel" (139 : Nat) ({ cls := "RolloverModel", name := "rateCall", desc := "(LRolloverModel$Book;LRolloverModel$Ticket;[I)V" } : Jvm.MethodName)) ∈ lw_all := lw_g (lw_at lw_m8 153 rfl) rfl
theorem q1903 : (Jvm.Cond.privateMethod ({ cls := "RolloverModel", name := "rateCall", desc := "(LRolloverModel$Book;LRolloverModel$Ticket;[I)V" } : Jvm.MethodName)) ∈ lw_tbl := lw_at lw_m8 154 rfl
theorem q1904 : (Jvm.Cond.instanceMethod ({ cls := "RolloverModel", name := "rateCall", desc := "(LRolloverModel$Book;LRolloverModel$Ticket;[I)V" } : Jvm.MethodName)) ∈ lw_all := lw_g (lw_at lw_m8 155 rfl) rfl
theorem q1905 : (Jvm.Cond.code ({ cls := "RolloverModel", name := "rateCall", desc := "(LRolloverModel$Book;LRolloverModel$Ticket;[I)V" } : Jvm.MethodName) prog_15_method_21_code (11 : Nat) (Option.none : Option Jvm.ClassFile.FieldType)) ∈ lw_all := lw_g (lw_at lw_m8 156 rfl) rfl
theorem q1906 : (Jvm.Cond.methodLink "RolloverModel" (164 : Nat) ({ cls := "RolloverModel$Book", name := "summed", desc := "(IIII)I" } : Jvm.MethodName)) ∈ lw_all := lw_g (lw_at lw_m8 157 rfl) rfl
theorem q1917 : (Jvm.Cond.methodLink "RolloverModel" (168 : Nat) ({ cls := "RolloverModel$Plan", name := "counted", desc := "(I)I" } : Jvm.MethodName)) ∈ lw_all := lw_g (lw_at lw_m8 168 rfl) rfl
theorem q1921 : (Jvm.Cond.methodLink "RolloverModel" (151 : Nat) ({ cls := "RolloverModel$Book", name := "take", desc := "(III)I" } : Jvm.MethodName)) ∈ lw_all := lw_g (lw_at lw_m8 172 rfl) rfl
theorem q1932 : (Jvm.Cond.methodLink "RolloverModel" (178 : Nat) ({ cls := "java/lang/Math", name := "min", desc := "(II)I" } : Jvm.MethodName)) ∈ lw_all := lw_g (lw_at lw_m8 183 rfl) rfl
theorem q1933 : (Jvm.Cond.methodLink "RolloverModel" (184 : Nat) ({ cls := "RolloverModel$Plan", name := "priced", desc := "(II)I" } : Jvm.MethodName)) ∈ lw_all := lw_g (lw_at lw_m8 184 rfl) rfl
theorem q1938 : (Jvm.Cond.methodLink "RolloverModel" (216 : Nat) ({ cls := "RolloverModel", name := "bill", desc := "(LRolloverModel$Book;II)I" } : Jvm.MethodName)) ∈ lw_all := lw_g (lw_at lw_m8 189 rfl) rfl
theorem q1939 : (Jvm.Cond.privateMethod ({ cls := "RolloverModel", name := "bill", desc := "(LRolloverModel$Book;II)I" } : Jvm.MethodName)) ∈ lw_tbl := lw_at lw_m8 190 rfl
theorem q1940 : (Jvm.Cond.instanceMethod ({ cls := "RolloverModel", name := "bill", desc := "(LRolloverModel$Book;II)I" } : Jvm.MethodName)) ∈ lw_all := lw_g (lw_at lw_m8 191 rfl) rfl
theorem q1941 : (Jvm.Cond.code ({ cls := "RolloverModel", name := "bill", desc := "(LRolloverModel$Book;II)I" } : Jvm.MethodName) prog_15_method_23_code (6 : Nat) (Option.some Jvm.ClassFile.FieldType.int)) ∈ lw_all := lw_g (lw_at lw_m8 192 rfl) rfl
theorem q1942 : (Jvm.Cond.methodLink "RolloverModel" (207 : Nat) ({ cls := "java/lang/Math", name := "max", desc := "(II)I" } : Jvm.MethodName)) ∈ lw_all := lw_g (lw_at lw_m8 193 rfl) rfl
theorem q1943 : (Jvm.Cond.methodLink "RolloverModel" (213 : Nat) ({ cls := "RolloverModel", name := "addOns", desc := "(II)I" } : Jvm.MethodName)) ∈ lw_all := lw_g (lw_at lw_m8 194 rfl) rfl
theorem q1944 : (Jvm.Cond.privateMethod ({ cls := "RolloverModel", name := "addOns", desc := "(II)I" } : Jvm.MethodName)) ∈ lw_tbl := lw_at lw_m8 195 rfl
theorem q1945 : (Jvm.Cond.instanceMethod ({ cls := "RolloverModel", name := "addOns", desc := "(II)I" } : Jvm.MethodName)) ∈ lw_all := lw_g (lw_at lw_m8 196 rfl) rfl
theorem q1946 : (Jvm.Cond.code ({ cls := "RolloverModel", name := "addOns", desc := "(II)I" } : Jvm.MethodName) prog_15_method_22_code (6 : Nat) (Option.some Jvm.ClassFile.FieldType.int)) ∈ lw_all := lw_g (lw_at lw_m8 197 rfl) rfl
theorem q1948 : (Jvm.Cond.instanceMethod ({ cls := "RolloverModel", name := "undo", desc := "(I)I" } : Jvm.MethodName)) ∈ lw_all := lw_g (lw_at lw_m8 199 rfl) rfl
theorem q1949 : (Jvm.Cond.selects "RolloverModel" ({ cls := "RolloverModel", name := "undo", desc := "(I)I" } : Jvm.MethodName) ({ cls := "RolloverModel", name := "undo", desc := "(I)I" } : Jvm.MethodName)) ∈ lw_all := lw_g (lw_at lw_m8 200 rfl) rfl
theorem q1950 : (Jvm.Cond.code ({ cls := "RolloverModel", name := "undo", desc := "(I)I" } : Jvm.MethodName) prog_15_method_42_code (3 : Nat) (Option.some Jvm.ClassFile.FieldType.int)) ∈ lw_all := lw_g (lw_at lw_m8 201 rfl) rfl
theorem q1951 : (Jvm.Cond.methodLink "RolloverModel" (287 : Nat) ({ cls := "RolloverModel", name := "bills", desc := "(LRolloverModel$Book;)I" } : Jvm.MethodName)) ∈ lw_all := lw_g (lw_at lw_m8 202 rfl) rfl
theorem q1952 : (Jvm.Cond.privateMethod ({ cls := "RolloverModel", name := "bills", desc := "(LRolloverModel$Book;)I" } : Jvm.MethodName)) ∈ lw_tbl := lw_at lw_m8 203 rfl
theorem q1953 : (Jvm.Cond.instanceMethod ({ cls := "RolloverModel", name := "bills", desc := "(LRolloverModel$Book;)I" } : Jvm.MethodName)) ∈ lw_all := lw_g (lw_at lw_m8 204 rfl) rfl
theorem q1954 : (Jvm.Cond.code ({ cls := "RolloverModel", name := "bills", desc := "(LRolloverModel$Book;)I" } : Jvm.MethodName) prog_15_method_24_code (5 : Nat) (Option.some Jvm.ClassFile.FieldType.int)) ∈ lw_all := lw_g (lw_at lw_m8 205 rfl) rfl
theorem q1956 : (Jvm.Cond.instanceMethod ({ cls := "RolloverModel", name := "port", desc := "(III)I" } : Jvm.MethodName)) ∈ lw_all := lw_g (lw_at lw_m8 207 rfl) rfl
theorem q1957 : (Jvm.Cond.selects "RolloverModel" ({ cls := "RolloverModel", name := "port", desc := "(III)I" } : Jvm.MethodName) ({ cls := "RolloverModel", name := "port", desc := "(III)I" } : Jvm.MethodName)) ∈ lw_all := lw_g (lw_at lw_m8 208 rfl) rfl
theorem q1958 : (Jvm.Cond.code ({ cls := "RolloverModel", name := "port", desc := "(III)I" } : Jvm.MethodName) prog_15_method_44_code (5 : Nat) (Option.some Jvm.ClassFile.FieldType.int)) ∈ lw_all := lw_g (lw_at lw_m8 209 rfl) rfl
theorem q1959 : (Jvm.Cond.methodLink "RolloverModel" (291 : Nat) ({ cls := "RolloverModel", name := "carrierOf", desc := "(II)I" } : Jvm.MethodName)) ∈ lw_all := lw_g (lw_at lw_m8 210 rfl) rfl
theorem q1960 : (Jvm.Cond.privateMethod ({ cls := "RolloverModel", name := "carrierOf", desc := "(II)I" } : Jvm.MethodName)) ∈ lw_tbl := lw_at lw_m8 211 rfl
theorem q1961 : (Jvm.Cond.instanceMethod ({ cls := "RolloverModel", name := "carrierOf", desc := "(II)I" } : Jvm.MethodName)) ∈ lw_all := lw_g (lw_at lw_m8 212 rfl) rfl
theorem q1962 : (Jvm.Cond.code ({ cls := "RolloverModel", name := "carrierOf", desc := "(II)I" } : Jvm.MethodName) prog_15_method_43_code (3 : Nat) (Option.some Jvm.ClassFile.FieldType.int)) ∈ lw_all := lw_g (lw_at lw_m8 213 rfl) rfl
theorem q1964 : (Jvm.Cond.instanceMethod ({ cls := "RolloverModel", name := "incoming", desc := "(II)I" } : Jvm.MethodName)) ∈ lw_all := lw_g (lw_at lw_m8 215 rfl) rfl
theorem q1965 : (Jvm.Cond.selects "RolloverModel" ({ cls := "RolloverModel", name := "incoming", desc := "(II)I" } : Jvm.MethodName) ({ cls := "RolloverModel", name := "incoming", desc := "(II)I" } : Jvm.MethodName)) ∈ lw_all := lw_g (lw_at lw_m8 216 rfl) rfl
theorem q1966 : (Jvm.Cond.code ({ cls := "RolloverModel", name := "incoming", desc := "(II)I" } : Jvm.MethodName) prog_15_method_46_code (3 : Nat) (Option.some Jvm.ClassFile.FieldType.int)) ∈ lw_all := lw_g (lw_at lw_m8 217 rfl) rfl
theorem q1967 : (Jvm.Cond.methodLink "RolloverModel" (297 : Nat) ({ cls := "RolloverModel", name := "settled", desc := "(I)I" } : Jvm.MethodName)) ∈ lw_all := lw_g (lw_at lw_m8 218 rfl) rfl
theorem q1968 : (Jvm.Cond.privateMethod ({ cls := "RolloverModel", name := "settled", desc := "(I)I" } : Jvm.MethodName)) ∈ lw_tbl := lw_at lw_m8 219 rfl
theorem q1969 : (Jvm.Cond.instanceMethod ({ cls := "RolloverModel", name := "settled", desc := "(I)I" } : Jvm.MethodName)) ∈ lw_all := lw_g (lw_at lw_m8 220 rfl) rfl
theorem q1970 : (Jvm.Cond.code ({ cls := "RolloverModel", name := "settled", desc := "(I)I" } : Jvm.MethodName) prog_15_method_45_code (5 : Nat) (Option.some Jvm.ClassFile.FieldType.int)) ∈ lw_all := lw_g (lw_at lw_m8 221 rfl) rfl
theorem q1971 : (Jvm.Cond.methodLink "RolloverModel" (294 : Nat) ({ cls := "RolloverModel$Ticket", name := "isCallOf", desc := "(I)Z" } : Jvm.MethodName)) ∈ lw_all := lw_g (lw_at lw_m8 222 rfl) rfl
theorem q1973 : (Jvm.Cond.instanceMethod ({ cls := "RolloverModel", name := "ofDay", desc := "(III)I" } : Jvm.MethodName)) ∈ lw_all := lw_g (lw_at lw_m8 224 rfl) rfl
theorem q1974 : (Jvm.Cond.selects "RolloverModel" ({ cls := "RolloverModel", name := "ofDay", desc := "(III)I" } : Jvm.MethodName) ({ cls := "RolloverModel", name := "ofDay", desc := "(III)I" } : Jvm.MethodName)) ∈ lw_all := lw_g (lw_at lw_m8 225 rfl) rfl
theorem q1975 : (Jvm.Cond.code ({ cls := "RolloverModel", name := "ofDay", desc := "(III)I" } : Jvm.MethodName) prog_15_method_48_code (4 : Nat) (Option.some Jvm.ClassFile.FieldType.int)) ∈ lw_all := lw_g (lw_at lw_m8 226 rfl) rfl
theorem q1976 : (Jvm.Cond.methodLink "RolloverModel" (300 : Nat) ({ cls := "RolloverModel", name := "dayTold", desc := "(LRolloverModel$Book;III)I" } : Jvm.MethodName)) ∈ lw_all := lw_g (lw_at lw_m8 227 rfl) rfl
theorem q1977 : (Jvm.Cond.privateMethod ({ cls := "RolloverModel", name := "dayTold", desc := "(LRolloverModel$Book;III)I" } : Jvm.MethodName)) ∈ lw_tbl := lw_at lw_m8 228 rfl
theorem q1978 : (Jvm.Cond.instanceMethod ({ cls := "RolloverModel", name := "dayTold", desc := "(LRolloverModel$Book;III)I" } : Jvm.MethodName)) ∈ lw_all := lw_g (lw_at lw_m8 229 rfl) rfl
theorem q1979 : (Jvm.Cond.code ({ cls := "RolloverModel", name := "dayTold", desc := "(LRolloverModel$Book;III)I" } : Jvm.MethodName) prog_15_method_47_code (10 : Nat) (Option.some Jvm.ClassFile.FieldType.int)) ∈ lw_all := lw_g (lw_at lw_m8 230 rfl) rfl
theorem q1981 : (Jvm.Cond.instanceMethod ({ cls := "RolloverModel", name := "ofCycle", desc := "(III)I" } : Jvm.MethodName)) ∈ lw_all := lw_g (lw_at lw_m8 232 rfl) rfl
theorem q1982 : (Jvm.Cond.selects "RolloverModel" ({ cls := "RolloverModel", name := "ofCycle", desc := "(III)I" } : Jvm.MethodName) ({ cls := "RolloverModel", name := "ofCycle", desc := "(III)I" } : Jvm.MethodName)) ∈ lw_all := lw_g (lw_at lw_m8 233 rfl) rfl
theorem q1983 : (Jvm.Cond.code ({ cls := "RolloverModel", name := "ofCycle", desc := "(III)I" } : Jvm.MethodName) prog_15_method_50_code (4 : Nat) (Option.some Jvm.ClassFile.FieldType.int)) ∈ lw_all := lw_g (lw_at lw_m8 234 rfl) rfl
theorem q1984 : (Jvm.Cond.methodLink "RolloverModel" (304 : Nat) ({ cls := "RolloverModel", name := "cycleTold", desc := "(LRolloverModel$Book;III)I" } : Jvm.MethodName)) ∈ lw_all := lw_g (lw_at lw_m8 235 rfl) rfl
theorem q1985 : (Jvm.Cond.privateMethod ({ cls := "RolloverModel", name := "cycleTold", desc := "(LRolloverModel$Book;III)I" } : Jvm.MethodName)) ∈ lw_tbl := lw_at lw_m8 236 rfl
theorem q1986 : (Jvm.Cond.instanceMethod ({ cls := "RolloverModel", name := "cycleTold", desc := "(LRolloverModel$Book;III)I" } : Jvm.MethodName)) ∈ lw_all := lw_g (lw_at lw_m8 237 rfl) rfl
theorem q1987 : (Jvm.Cond.code ({ cls := "RolloverModel", name := "cycleTold", desc := "(LRolloverModel$Book;III)I" } : Jvm.MethodName) prog_15_method_49_code (10 : Nat) (Option.some Jvm.ClassFile.FieldType.int)) ∈ lw_all := lw_g (lw_at lw_m8 238 rfl) rfl
theorem q1989 : (Jvm.Cond.instanceMethod ({ cls := "RolloverModel", name := "ofTicket", desc := "(II)I" } : Jvm.MethodName)) ∈ lw_all := lw_g (lw_at lw_m9 0 rfl) rfl
theorem q1990 : (Jvm.Cond.selects "RolloverModel" ({ cls := "RolloverModel", name := "ofTicket", desc := "(II)I" } : Jvm.MethodName) ({ cls := "RolloverModel", name := "ofTicket", desc := "(II)I" } : Jvm.MethodName)) ∈ lw_all := lw_g (lw_at lw_m9 1 rfl) rfl
theorem q1991 : (Jvm.Cond.code ({ cls := "RolloverModel", name := "ofTicket", desc := "(II)I" } : Jvm.MethodName) prog_15_method_52_code (3 : Nat) (Option.some Jvm.ClassFile.FieldType.int)) ∈ lw_all := lw_g (lw_at lw_m9 2 rfl) rfl
theorem q1992 : (Jvm.Cond.methodLink "RolloverModel" (307 : Nat) ({ cls := "RolloverModel", name := "ticketTold", desc := "(LRolloverModel$Book;II)I" } : Jvm.MethodName)) ∈ lw_all := lw_g (lw_at lw_m9 3 rfl) rfl
theorem q1993 : (Jvm.Cond.privateMethod ({ cls := "RolloverModel", name := "ticketTold", desc := "(LRolloverModel$Book;II)I" } : Jvm.MethodName)) ∈ lw_tbl := lw_at lw_m9 4 rfl
theorem q1994 : (Jvm.Cond.instanceMethod ({ cls := "RolloverModel", name := "ticketTold", desc := "(LRolloverModel$Book;II)I" } : Jvm.MethodName)) ∈ lw_all := lw_g (lw_at lw_m9 5 rfl) rfl
theorem q1995 : (Jvm.Cond.code ({ cls := "RolloverModel", name := "ticketTold", desc := "(LRolloverModel$Book;II)I" } : Jvm.MethodName) prog_15_method_51_code (7 : Nat) (Option.some Jvm.ClassFile.FieldType.int)) ∈ lw_all := lw_g (lw_at lw_m9 6 rfl) rfl
theorem q1997 : (Jvm.Cond.instanceMethod ({ cls := "RolloverModel", name := "carrier", desc := "(II)I" } : Jvm.MethodName)) ∈ lw_all := lw_g (lw_at lw_m9 8 rfl) rfl
theorem q1998 : (Jvm.Cond.selects "RolloverModel" ({ cls := "RolloverModel", name := "carrier", desc := "(II)I" } : Jvm.MethodName) ({ cls := "RolloverModel", name := "carrier", desc := "(II)I" } : Jvm.MethodName)) ∈ lw_all := lw_g (lw_at lw_m9 9 rfl) rfl
theorem q1999 : (Jvm.Cond.code ({ cls := "RolloverModel", name := "carrier", desc := "(II)I" } : Jvm.MethodName) prog_15_method_53_code (3 : Nat) (Option.some Jvm.ClassFile.FieldType.int)) ∈ lw_all := lw_g (lw_at lw_m9 10 rfl) rfl
theorem q2001 : (Jvm.Cond.instanceMethod ({ cls := "RolloverModel", name := "settlement", desc := "(I)I" } : Jvm.MethodName)) ∈ lw_all := lw_g (lw_at lw_m9 12 rfl) rfl
theorem q2002 : (Jvm.Cond.selects "RolloverModel" ({ cls := "RolloverModel", name := "settlement", desc := "(I)I" } : Jvm.MethodName) ({ cls := "RolloverModel", name := "settlement", desc := "(I)I" } : Jvm.MethodName)) ∈ lw_all := lw_g (lw_at lw_m9 13 rfl) rfl
theorem q2003 : (Jvm.Cond.code ({ cls := "RolloverModel", name := "settlement", desc := "(I)I" } : Jvm.MethodName) prog_15_method_54_code (2 : Nat) (Option.some Jvm.ClassFile.FieldType.int)) ∈ lw_all := lw_g (lw_at lw_m9 14 rfl) rfl
theorem q2005 : (Jvm.Cond.instanceMethod ({ cls := "RolloverModel", name := "suspect", desc := "(I)I" } : Jvm.MethodName)) ∈ lw_all := lw_g (lw_at lw_m9 16 rfl) rfl
theorem q2006 : (Jvm.Cond.selects "RolloverModel" ({ cls := "RolloverModel", name := "suspect", desc := "(I)I" } : Jvm.MethodName) ({ cls := "RolloverModel", name := "suspect", desc := "(I)I" } : Jvm.MethodName)) ∈ lw_all := lw_g (lw_at lw_m9 17 rfl) rfl
theorem q2007 : (Jvm.Cond.code ({ cls := "RolloverModel", name := "suspect", desc := "(I)I" } : Jvm.MethodName) prog_15_method_58_code (2 : Nat) (Option.some Jvm.ClassFile.FieldType.int)) ∈ lw_all := lw_g (lw_at lw_m9 18 rfl) rfl
theorem q2008 : (Jvm.Cond.methodLink "RolloverModel" (316 : Nat) ({ cls := "RolloverModel", name := "suspectOf", desc := "(I)I" } : Jvm.MethodName)) ∈ lw_all := lw_g (lw_at lw_m9 19 rfl) rfl
theorem q2009 : (Jvm.Cond.privateMethod ({ cls := "RolloverModel", name := "suspectOf", desc := "(I)I" } : Jvm.MethodName)) ∈ lw_tbl := lw_at lw_m9 20 rfl
theorem q2010 : (Jvm.Cond.instanceMethod ({ cls := "RolloverModel", name := "suspectOf", desc := "(I)I" } : Jvm.MethodName)) ∈ lw_all := lw_g (lw_at lw_m9 21 rfl) rfl
theorem q2011 : (Jvm.Cond.code ({ cls := "RolloverModel", name := "suspectOf", desc := "(I)I" } : Jvm.MethodName) prog_15_method_57_code (4 : Nat) (Option.some Jvm.ClassFile.FieldType.int)) ∈ lw_all := lw_g (lw_at lw_m9 22 rfl) rfl
theorem q2012 : (Jvm.Cond.methodLink "RolloverModel" (310 : Nat) ({ cls := "RolloverModel", name := "isOverlapped", desc := "(I)Z" } : Jvm.MethodName)) ∈ lw_all := lw_g (lw_at lw_m9 23 rfl) rfl
theorem q2013 : (Jvm.Cond.privateMethod ({ cls := "RolloverModel", name := "isOverlapped", desc := "(I)Z" } : Jvm.MethodName)) ∈ lw_tbl := lw_at lw_m9 24 rfl
theorem q2014 : (Jvm.Cond.instanceMethod ({ cls := "RolloverModel", name := "isOverlapped", desc := "(I)Z" } : Jvm.MethodName)) ∈ lw_all := lw_g (lw_at lw_m9 25 rfl) rfl
theorem q2015 : (Jvm.Cond.code ({ cls := "RolloverModel", name := "isOverlapped", desc := "(I)Z" } : Jvm.MethodName) prog_15_method_56_code (6 : Nat) (Option.some Jvm.ClassFile.FieldType.boolean)) ∈ lw_all := lw_g (lw_at lw_m9 26 rfl) rfl
theorem q2016 : (Jvm.Cond.methodLink "RolloverModel" (313 : Nat) ({ cls := "RolloverModel", name := "called", desc := "(II)I" } : Jvm.MethodName)) ∈ lw_all := lw_g (lw_at lw_m9 27 rfl) rfl
theorem q2017 : (Jvm.Cond.privateMethod ({ cls := "RolloverModel", name := "called", desc := "(II)I" } : Jvm.MethodName)) ∈ lw_tbl := lw_at lw_m9 28 rfl
theorem q2018 : (Jvm.Cond.instanceMethod ({ cls := "RolloverModel", name := "called", desc := "(II)I" } : Jvm.MethodName)) ∈ lw_all := lw_g (lw_at lw_m9 29 rfl) rfl
theorem q2019 : (Jvm.Cond.code ({ cls := "RolloverModel", name := "called", desc := "(II)I" } : Jvm.MethodName) prog_15_method_55_code (6 : Nat) (Option.some Jvm.ClassFile.FieldType.int)) ∈ lw_all := lw_g (lw_at lw_m9 30 rfl) rfl
theorem q2021 : (Jvm.Cond.instanceMethod ({ cls := "RolloverModel", name := "house", desc := "(I)I" } : Jvm.MethodName)) ∈ lw_all := lw_g (lw_at lw_m9 32 rfl) rfl
theorem q2022 : (Jvm.Cond.selects "RolloverModel" ({ cls := "RolloverModel", name := "house", desc := "(I)I" } : Jvm.MethodName) ({ cls := "RolloverModel", name := "house", desc := "(I)I" } : Jvm.MethodName)) ∈ lw_all := lw_g (lw_at lw_m9 33 rfl) rfl
theorem q2023 : (Jvm.Cond.code ({ cls := "RolloverModel", name := "house", desc := "(I)I" } : Jvm.MethodName) prog_15_method_60_code (2 : Nat) (Option.some Jvm.ClassFile.FieldType.int)) ∈ lw_all := lw_g (lw_at lw_m9 34 rfl) rfl
theorem q2024 : (Jvm.Cond.methodLink "RolloverModel" (319 : Nat) ({ cls := "RolloverModel", name := "houseTold", desc := "(LRolloverModel$Book;I)I" } : Jvm.MethodName)) ∈ lw_all := lw_g (lw_at lw_m9 35 rfl) rfl
theorem q2025 : (Jvm.Cond.privateMethod ({ cls := "RolloverModel", name := "houseTold", desc := "(LRolloverModel$Book;I)I" } : Jvm.MethodName)) ∈ lw_tbl := lw_at lw_m9 36 rfl
theorem q2026 : (Jvm.Cond.instanceMethod ({ cls := "RolloverModel", name := "houseTold", desc := "(LRolloverModel$Book;I)I" } : Jvm.MethodName)) ∈ lw_all := lw_g (lw_at lw_m9 37 rfl) rfl
theorem q2027 : (Jvm.Cond.code ({ cls := "RolloverModel", name := "houseTold", desc := "(LRolloverModel$Book;I)I" } : Jvm.MethodName) prog_15_method_59_code (7 : Nat) (Option.some Jvm.ClassFile.FieldType.int)) ∈ lw_all := lw_g (lw_at lw_m9 38 rfl) rfl
theorem q2029 : (Jvm.Cond.instanceMethod ({ cls := "RolloverModel", name := "line", desc := "(I)Ljava/lang/String;" } : Jvm.MethodName)) ∈ lw_all := lw_g (lw_at lw_m9 40 rfl) rfl
theorem q2030 : (Jvm.Cond.selects "RolloverModel" ({ cls := "RolloverModel", name := "line", desc := "(I)Ljava/lang/String;" } : Jvm.MethodName) ({ cls := "RolloverModel", name := "line", desc := "(I)Ljava/lang/String;" } : Jvm.MethodName)) ∈ lw_all := lw_g (lw_at lw_m9 41 rfl) rfl
theorem q2031 : (Jvm.Cond.code ({ cls := "RolloverModel", name := "line", desc := "(I)Ljava/lang/String;" } : Jvm.MethodName) prog_15_method_61_code (5 : Nat) (Option.some (Jvm.ClassFile.FieldType.object "java/lang/String"))) ∈ lw_all := lw_g (lw_at lw_m9 42 rfl) rfl
theorem q2032 : (Jvm.Cond.stringRef "RolloverModel" (323 : Nat) "") ∈ lw_tbl := lw_at lw_m9 43 rfl
theorem q2033 : (Jvm.Cond.classLink "RolloverModel" (325 : Nat) "java/lang/StringBuilder") ∈ lw_all := lw_g (lw_at lw_m9 44 rfl) rfl
theorem q2034 : (Jvm.Cond.methodLink "RolloverModel" (327 : Nat) ({ cls := "java/lang/StringBuilder", name := "<init>", desc := "()V" } : Jvm.MethodName)) ∈ lw_all := lw_g (lw_at lw_m9 45 rfl) rfl
theorem q2035 : (Jvm.Cond.stringRef "RolloverModel" (328 : Nat) "call ") ∈ lw_tbl := lw_at lw_m9 46 rfl
theorem q2036 : (Jvm.Cond.stringRef "RolloverModel" (330 : Nat) "gift ") ∈ lw_tbl := lw_at lw_m9 47 rfl
theorem q2037 : (Jvm.Cond.stringRef "RolloverModel" (332 : Nat) "add-on ") ∈ lw_tbl := lw_at lw_m9 48 rfl
theorem q2038 : (Jvm.Cond.methodLink "RolloverModel" (334 : Nat) ({ cls := "java/lang/StringBuilder", name := "append", desc := "(Ljava/lang/String;)Ljava/lang/StringBuilder;" } : Jvm.MethodName)) ∈ lw_all := lw_g (lw_at lw_m9 49 rfl) rfl
theorem q2039 : (Jvm.Cond.methodLink "RolloverModel" (338 : Nat) ({ cls := "java/lang/StringBuilder", name := "append", desc := "(I)Ljava/lang/StringBuilder;" } : Jvm.MethodName)) ∈ lw_all := lw_g (lw_at lw_m9 50 rfl) rfl
theorem q2040 : (Jvm.Cond.stringRef "RolloverModel" (341 : Nat) " on day ") ∈ lw_tbl := lw_at lw_m9 51 rfl
theorem q2041 : (Jvm.Cond.stringRef "RolloverModel" (343 : Nat) ": ") ∈ lw_tbl := lw_at lw_m9 52 rfl
theorem q2042 : (Jvm.Cond.methodLink "RolloverModel" (345 : Nat) ({ cls := "java/lang/StringBuilder", name := "toString", desc := "()Ljava/lang/String;" } : Jvm.MethodName)) ∈ lw_all := lw_g (lw_at lw_m9 53 rfl) rfl
theorem q2043 : (Jvm.Cond.stringRef "RolloverModel" (349 : Nat) "free") ∈ lw_tbl := lw_at lw_m9 54 rfl
theorem q2044 : (Jvm.Cond.stringRef "RolloverModel" (351 : Nat) "+") ∈ lw_tbl := lw_at lw_m9 55 rfl
theorem q2045 : (Jvm.Cond.stringRef "RolloverModel" (353 : Nat) " void") ∈ lw_tbl := lw_at lw_m9 56 rfl
theorem q2047 : (Jvm.Cond.instanceMethod ({ cls := "RolloverModel", name := "best", desc := "(IIZ)I" } : Jvm.MethodName)) ∈ lw_all := lw_g (lw_at lw_m9 58 rfl) rfl
theorem q2048 : (Jvm.Cond.selects "RolloverModel" ({ cls := "RolloverModel", name := "best", desc := "(IIZ)I" } : Jvm.MethodName) ({ cls := "RolloverModel", name := "best", desc := "(IIZ)I" } : Jvm.MethodName)) ∈ lw_all := lw_g (lw_at lw_m9 59 rfl) rfl
theorem q2049 : (Jvm.Cond.code ({ cls := "RolloverModel", name := "best", desc := "(IIZ)I" } : Jvm.MethodName) prog_15_method_62_code (8 : Nat) (Option.some Jvm.ClassFile.FieldType.int)) ∈ lw_all := lw_g (lw_at lw_m9 60 rfl) rfl
theorem q2051 : (Jvm.Cond.instanceMethod ({ cls := "RolloverModel", name := "wouldCost", desc := "(IIIII)I" } : Jvm.MethodName)) ∈ lw_all := lw_g (lw_at lw_m9 62 rfl) rfl
theorem q2052 : (Jvm.Cond.selects "RolloverModel" ({ cls := "RolloverModel", name := "wouldCost", desc := "(IIIII)I" } : Jvm.MethodName) ({ cls := "RolloverModel", name := "wouldCost", desc := "(IIIII)I" } : Jvm.MethodName)) ∈ lw_all := lw_g (lw_at lw_m9 63 rfl) rfl
theorem q2053 : (Jvm.Cond.code ({ cls := "RolloverModel", name := "wouldCost", desc := "(IIIII)I" } : Jvm.MethodName) prog_15_method_63_code (7 : Nat) (Option.some Jvm.ClassFile.FieldType.int)) ∈ lw_all := lw_g (lw_at lw_m9 64 rfl) rfl
theorem q2055 : (Jvm.Cond.instanceMethod ({ cls := "RolloverModel", name := "isSound", desc := "()Z" } : Jvm.MethodName)) ∈ lw_all := lw_g (lw_at lw_m9 66 rfl) rfl
theorem q2056 : (Jvm.Cond.selects "RolloverModel" ({ cls := "RolloverModel", name := "isSound", desc := "()Z" } : Jvm.MethodName) ({ cls := "RolloverModel", name := "isSound", desc := "()Z" } : Jvm.MethodName)) ∈ lw_all := lw_g (lw_at lw_m9 67 rfl) rfl
theorem q2057 : (Jvm.Cond.code ({ cls := "RolloverModel", name := "isSound", desc := "()Z" } : Jvm.MethodName) prog_15_method_66_code (1 : Nat) (Option.some Jvm.ClassFile.FieldType.boolean)) ∈ lw_all := lw_g (lw_at lw_m9 68 rfl) rfl
theorem q2058 : (Jvm.Cond.methodLink "RolloverModel" (359 : Nat) ({ cls := "RolloverModel", name := "isWhole", desc := "(LRolloverModel$Book;)Z" } : Jvm.MethodName)) ∈ lw_all := lw_g (lw_at lw_m9 69 rfl) rfl
theorem q2059 : (Jvm.Cond.privateMethod ({ cls := "RolloverModel", name := "isWhole", desc := "(LRolloverModel$Book;)Z" } : Jvm.MethodName)) ∈ lw_tbl := lw_at lw_m9 70 rfl
theorem q2060 : (Jvm.Cond.instanceMethod ({ cls := "RolloverModel", name := "isWhole", desc := "(LRolloverModel$Book;)Z" } : Jvm.MethodName)) ∈ lw_all := lw_g (lw_at lw_m9 71 rfl) rfl
theorem q2061 : (Jvm.Cond.code ({ cls := "RolloverModel", name := "isWhole", desc := "(LRolloverModel$Book;)Z" } : Jvm.MethodName) prog_15_method_65_code (5 : Nat) (Option.some Jvm.ClassFile.FieldType.boolean)) ∈ lw_all := lw_g (lw_at lw_m9 72 rfl) rfl
theorem q2062 : (Jvm.Cond.methodLink "RolloverModel" (355 : Nat) ({ cls := "RolloverModel", name := "areCallsWhole", desc := "(LRolloverModel$Book;)Z" } : Jvm.MethodName)) ∈ lw_all := lw_g (lw_at lw_m9 73 rfl) rfl
theorem q2063 : (Jvm.Cond.privateMethod ({ cls := "RolloverModel", name := "areCallsWhole", desc := "(LRolloverModel$Book;)Z" } : Jvm.MethodName)) ∈ lw_tbl := lw_at lw_m9 74 rfl
theorem q2064 : (Jvm.Cond.instanceMethod ({ cls := "RolloverModel", name := "areCallsWhole", desc := "(LRolloverModel$Book;)Z" } : Jvm.MethodName)) ∈ lw_all := lw_g (lw_at lw_m9 75 rfl) rfl
theorem q2065 : (Jvm.Cond.code ({ cls := "RolloverModel", name := "areCallsWhole", desc := "(LRolloverModel$Book;)Z" } : Jvm.MethodName) prog_15_method_64_code (6 : Nat) (Option.some Jvm.ClassFile.FieldType.boolean)) ∈ lw_all := lw_g (lw_at lw_m9 76 rfl) rfl
theorem q2067 : (Jvm.Cond.instanceMethod ({ cls := "RolloverModel", name := "digest", desc := "()J" } : Jvm.MethodName)) ∈ lw_all := lw_g (lw_at lw_m9 78 rfl) rfl
theorem q2068 : (Jvm.Cond.selects "RolloverModel" ({ cls := "RolloverModel", name := "digest", desc := "()J" } : Jvm.MethodName) ({ cls := "RolloverModel", name := "digest", desc := "()J" } : Jvm.MethodName)) ∈ lw_all := lw_g (lw_at lw_m9 79 rfl) rfl
theorem q2069 : (Jvm.Cond.code ({ cls := "RolloverModel", name := "digest", desc := "()J" } : Jvm.MethodName) prog_15_method_68_code (7 : Nat) (Option.some Jvm.ClassFile.FieldType.long)) ∈ lw_all := lw_g (lw_at lw_m9 80 rfl) rfl
theorem q2070 : (Jvm.Cond.constantLong "RolloverModel" (364 : Nat) (8111 : Int64)) ∈ lw_all := lw_g (lw_at lw_m9 81 rfl) rfl
theorem q2071 : (Jvm.Cond.methodLink "RolloverModel" (366 : Nat) ({ cls := "RolloverModel", name := "add", desc := "(JJ)J" } : Jvm.MethodName)) ∈ lw_all := lw_g (lw_at lw_m9 82 rfl) rfl
theorem q2072 : (Jvm.Cond.static ({ cls := "RolloverModel", name := "add", desc := "(JJ)J" } : Jvm.MethodName)) ∈ lw_all := lw_g (lw_at lw_m9 83 rfl) rfl
theorem q2073 : (Jvm.Cond.code ({ cls := "RolloverModel", name := "add", desc := "(JJ)J" } : Jvm.MethodName) prog_15_method_67_code (4 : Nat) (Option.some Jvm.ClassFile.FieldType.long)) ∈ lw_all := lw_g (lw_at lw_m9 84 rfl) rfl
theorem q2074 : (Jvm.Cond.constantLong "RolloverModel" (362 : Nat) (31 : Int64)) ∈ lw_all := lw_g (lw_at lw_m9 85 rfl) rfl
theorem q2100 : (Jvm.Cond.castable "RolloverModel" "java/lang/Object") ∈ lw_tbl := lw_at lw_m9 111 rfl
theorem in_X3 : ∀ w ∈ wsX30, w ∈ lw_all := lw_in wsX30 [1549, 1551, 1553, 1555, 1557, 1559, 1561, 1563, 1565] (by decide +kernel) (by decide +kernel)

/-! RolloverLaw -/
set_option maxRecDepth 100000
def RX0 : String := "RolloverLaw"
abbrev cX0_plan : ByteArray := method_2_code
def yX0_plan : MethodName := ⟨RX0, "plan", "(LRollover;IIILRolloverLaw$Out;)I"⟩
def dkwX0_plan_1 : List UInt8 := [3, 172]
abbrev dktX0_plan_1 : List UInt8 := dkwX0_plan_1 ++ []
def dkwX0_plan_0 : List UInt8 := [25, 4, 42, 27, 28, 29, 182, 0, 7, 133, 181, 0, 13, 167, 0, 11, 58, 5, 4, 172, 58, 5, 5, 172]
abbrev dktX0_plan_0 : List UInt8 := dkwX0_plan_0 ++ dktX0_plan_1
theorem dksX0_plan_0 : cX0_plan.data.toList.drop 0 = dktX0_plan_0 := by decide +kernel
theorem dksX0_plan_1 : cX0_plan.data.toList.drop 24 = dktX0_plan_1 := dk_seg dksX0_plan_0 24 rfl rfl
theorem dX0_plan_0 : decode cX0_plan 0 = .ok (.aload 4, 2) := dk_25 4 (dk_at dksX0_plan_0 0 rfl rfl)
theorem dX0_plan_2 : decode cX0_plan 2 = .ok (.aload_n 0, 1) := dk_42 (dk_at dksX0_plan_0 2 rfl rfl)
theorem dX0_plan_3 : decode cX0_plan 3 = .ok (.iload_n 1, 1) := dk_27 (dk_at dksX0_plan_0 3 rfl rfl)
theorem dX0_plan_4 : decode cX0_plan 4 = .ok (.iload_n 2, 1) := dk_28 (dk_at dksX0_plan_0 4 rfl rfl)
theorem dX0_plan_5 : decode cX0_plan 5 = .ok (.iload_n 3, 1) := dk_29 (dk_at dksX0_plan_0 5 rfl rfl)
theorem dX0_plan_6 : decode cX0_plan 6 = .ok (.invokevirtual 7, 3) := dk_182 0 7 (dk_at dksX0_plan_0 6 rfl rfl)
theorem dX0_plan_9 : decode cX0_plan 9 = .ok (.i2l, 1) := dk_133 (dk_at dksX0_plan_0 9 rfl rfl)
theorem dX0_plan_10 : decode cX0_plan 10 = .ok (.putfield 13, 3) := dk_181 0 13 (dk_at dksX0_plan_0 10 rfl rfl)
theorem dX0_plan_13 : decode cX0_plan 13 = .ok (.goto 11, 3) := dk_167 0 11 (dk_at dksX0_plan_0 13 rfl rfl)
theorem dX0_plan_16 : decode cX0_plan 16 = .ok (.astore 5, 2) := dk_58 5 (dk_at dksX0_plan_0 16 rfl rfl)
theorem dX0_plan_18 : decode cX0_plan 18 = .ok (.iconst 1, 1) := dk_4 (dk_at dksX0_plan_0 18 rfl rfl)
theorem dX0_plan_19 : decode cX0_plan 19 = .ok (.ireturn, 1) := dk_172 (dk_at dksX0_plan_0 19 rfl rfl)
theorem dX0_plan_20 : decode cX0_plan 20 = .ok (.astore 5, 2) := dk_58 5 (dk_at dksX0_plan_0 20 rfl rfl)
theorem dX0_plan_22 : decode cX0_plan 22 = .ok (.iconst 2, 1) := dk_5 (dk_at dksX0_plan_0 22 rfl rfl)
theorem dX0_plan_23 : decode cX0_plan 23 = .ok (.ireturn, 1) := dk_172 (dk_at dksX0_plan_0 23 rfl rfl)
theorem dX0_plan_24 : decode cX0_plan 24 = .ok (.iconst 0, 1) := dk_3 (dk_at dksX0_plan_1 0 rfl rfl)
theorem dX0_plan_25 : decode cX0_plan 25 = .ok (.ireturn, 1) := dk_172 (dk_at dksX0_plan_1 1 rfl rfl)
abbrev cX0_units : ByteArray := method_3_code
def yX0_units : MethodName := ⟨RX0, "units", "(LRollover;IIIIZLRolloverLaw$Out;)I"⟩
def dkwX0_units_1 : List UInt8 := [58, 7, 5, 172, 3, 172]
abbrev dktX0_units_1 : List UInt8 := dkwX0_units_1 ++ []
def dkwX0_units_0 : List UInt8 := [25, 6, 42, 27, 28, 29, 21, 4, 21, 5, 182, 0, 23, 133, 181, 0, 13, 167, 0, 11, 58, 7, 4, 172]
abbrev dktX0_units_0 : List UInt8 := dkwX0_units_0 ++ dktX0_units_1
theorem dksX0_units_0 : cX0_units.data.toList.drop 0 = dktX0_units_0 := by decide +kernel
theorem dksX0_units_1 : cX0_units.data.toList.drop 24 = dktX0_units_1 := dk_seg dksX0_units_0 24 rfl rfl
theorem dX0_units_0 : decode cX0_units 0 = .ok (.aload 6, 2) := dk_25 6 (dk_at dksX0_units_0 0 rfl rfl)
theorem dX0_units_2 : decode cX0_units 2 = .ok (.aload_n 0, 1) := dk_42 (dk_at dksX0_units_0 2 rfl rfl)
theorem dX0_units_3 : decode cX0_units 3 = .ok (.iload_n 1, 1) := dk_27 (dk_at dksX0_units_0 3 rfl rfl)
theorem dX0_units_4 : decode cX0_units 4 = .ok (.iload_n 2, 1) := dk_28 (dk_at dksX0_units_0 4 rfl rfl)
theorem dX0_units_5 : decode cX0_units 5 = .ok (.iload_n 3, 1) := dk_29 (dk_at dksX0_units_0 5 rfl rfl)
theorem dX0_units_6 : decode cX0_units 6 = .ok (.iload 4, 2) := dk_21 4 (dk_at dksX0_units_0 6 rfl rfl)
theorem dX0_units_8 : decode cX0_units 8 = .ok (.iload 5, 2) := dk_21 5 (dk_at dksX0_units_0 8 rfl rfl)
theorem dX0_units_10 : decode cX0_units 10 = .ok (.invokevirtual 23, 3) := dk_182 0 23 (dk_at dksX0_units_0 10 rfl rfl)
theorem dX0_units_13 : decode cX0_units 13 = .ok (.i2l, 1) := dk_133 (dk_at dksX0_units_0 13 rfl rfl)
theorem dX0_units_14 : decode cX0_units 14 = .ok (.putfield 13, 3) := dk_181 0 13 (dk_at dksX0_units_0 14 rfl rfl)
theorem dX0_units_17 : decode cX0_units 17 = .ok (.goto 11, 3) := dk_167 0 11 (dk_at dksX0_units_0 17 rfl rfl)
theorem dX0_units_20 : decode cX0_units 20 = .ok (.astore 7, 2) := dk_58 7 (dk_at dksX0_units_0 20 rfl rfl)
theorem dX0_units_22 : decode cX0_units 22 = .ok (.iconst 1, 1) := dk_4 (dk_at dksX0_units_0 22 rfl rfl)
theorem dX0_units_23 : decode cX0_units 23 = .ok (.ireturn, 1) := dk_172 (dk_at dksX0_units_0 23 rfl rfl)
theorem dX0_units_24 : decode cX0_units 24 = .ok (.astore 7, 2) := dk_58 7 (dk_at dksX0_units_1 0 rfl rfl)
theorem dX0_units_26 : decode cX0_units 26 = .ok (.iconst 2, 1) := dk_5 (dk_at dksX0_units_1 2 rfl rfl)
theorem dX0_units_27 : decode cX0_units 27 = .ok (.ireturn, 1) := dk_172 (dk_at dksX0_units_1 3 rfl rfl)
theorem dX0_units_28 : decode cX0_units 28 = .ok (.iconst 0, 1) := dk_3 (dk_at dksX0_units_1 4 rfl rfl)
theorem dX0_units_29 : decode cX0_units 29 = .ok (.ireturn, 1) := dk_172 (dk_at dksX0_units_1 5 rfl rfl)
abbrev cX0_steps : ByteArray := method_4_code
def yX0_steps : MethodName := ⟨RX0, "steps", "(LRollover;IIIILRolloverLaw$Out;)I"⟩
def dkwX0_steps_1 : List UInt8 := [5, 172, 3, 172]
abbrev dktX0_steps_1 : List UInt8 := dkwX0_steps_1 ++ []
def dkwX0_steps_0 : List UInt8 := [25, 5, 42, 27, 28, 29, 21, 4, 182, 0, 29, 133, 181, 0, 13, 167, 0, 11, 58, 6, 4, 172, 58, 6]
abbrev dktX0_steps_0 : List UInt8 := dkwX0_steps_0 ++ dktX0_steps_1
theorem dksX0_steps_0 : cX0_steps.data.toList.drop 0 = dktX0_steps_0 := by decide +kernel
theorem dksX0_steps_1 : cX0_steps.data.toList.drop 24 = dktX0_steps_1 := dk_seg dksX0_steps_0 24 rfl rfl
theorem dX0_steps_0 : decode cX0_steps 0 = .ok (.aload 5, 2) := dk_25 5 (dk_at dksX0_steps_0 0 rfl rfl)
theorem dX0_steps_2 : decode cX0_steps 2 = .ok (.aload_n 0, 1) := dk_42 (dk_at dksX0_steps_0 2 rfl rfl)
theorem dX0_steps_3 : decode cX0_steps 3 = .ok (.iload_n 1, 1) := dk_27 (dk_at dksX0_steps_0 3 rfl rfl)
theorem dX0_steps_4 : decode cX0_steps 4 = .ok (.iload_n 2, 1) := dk_28 (dk_at dksX0_steps_0 4 rfl rfl)
theorem dX0_steps_5 : decode cX0_steps 5 = .ok (.iload_n 3, 1) := dk_29 (dk_at dksX0_steps_0 5 rfl rfl)
theorem dX0_steps_6 : decode cX0_steps 6 = .ok (.iload 4, 2) := dk_21 4 (dk_at dksX0_steps_0 6 rfl rfl)
theorem dX0_steps_8 : decode cX0_steps 8 = .ok (.invokevirtual 29, 3) := dk_182 0 29 (dk_at dksX0_steps_0 8 rfl rfl)
theorem dX0_steps_11 : decode cX0_steps 11 = .ok (.i2l, 1) := dk_133 (dk_at dksX0_steps_0 11 rfl rfl)
theorem dX0_steps_12 : decode cX0_steps 12 = .ok (.putfield 13, 3) := dk_181 0 13 (dk_at dksX0_steps_0 12 rfl rfl)
theorem dX0_steps_15 : decode cX0_steps 15 = .ok (.goto 11, 3) := dk_167 0 11 (dk_at dksX0_steps_0 15 rfl rfl)
theorem dX0_steps_18 : decode cX0_steps 18 = .ok (.astore 6, 2) := dk_58 6 (dk_at dksX0_steps_0 18 rfl rfl)
theorem dX0_steps_20 : decode cX0_steps 20 = .ok (.iconst 1, 1) := dk_4 (dk_at dksX0_steps_0 20 rfl rfl)
theorem dX0_steps_21 : decode cX0_steps 21 = .ok (.ireturn, 1) := dk_172 (dk_at dksX0_steps_0 21 rfl rfl)
theorem dX0_steps_22 : decode cX0_steps 22 = .ok (.astore 6, 2) := dk_58 6 (dk_at dksX0_steps_0 22 rfl rfl)
theorem dX0_steps_24 : decode cX0_steps 24 = .ok (.iconst 2, 1) := dk_5 (dk_at dksX0_steps_1 0 rfl rfl)
theorem dX0_steps_25 : decode cX0_steps 25 = .ok (.ireturn, 1) := dk_172 (dk_at dksX0_steps_1 1 rfl rfl)
theorem dX0_steps_26 : decode cX0_steps 26 = .ok (.iconst 0, 1) := dk_3 (dk_at dksX0_steps_1 2 rfl rfl)
theorem dX0_steps_27 : decode cX0_steps 27 = .ok (.ireturn, 1) := dk_172 (dk_at dksX0_steps_1 3 rfl rfl)
abbrev cX0_join : ByteArray := method_5_code
def yX0_join : MethodName := ⟨RX0, "join", "(LRollover;IILRolloverLaw$Out;)I"⟩
def dkwX0_join_1 : List UInt8 := [6, 172, 3, 172]
abbrev dktX0_join_1 : List UInt8 := dkwX0_join_1 ++ []
def dkwX0_join_0 : List UInt8 := [45, 42, 27, 28, 182, 0, 33, 133, 181, 0, 13, 167, 0, 15, 58, 4, 4, 172, 58, 4, 5, 172, 58, 4]
abbrev dktX0_join_0 : List UInt8 := dkwX0_join_0 ++ dktX0_join_1
theorem dksX0_join_0 : cX0_join.data.toList.drop 0 = dktX0_join_0 := by decide +kernel
theorem dksX0_join_1 : cX0_join.data.toList.drop 24 = dktX0_join_1 := dk_seg dksX0_join_0 24 rfl rfl
theorem dX0_join_0 : decode cX0_join 0 = .ok (.aload_n 3, 1) := dk_45 (dk_at dksX0_join_0 0 rfl rfl)
theorem dX0_join_1 : decode cX0_join 1 = .ok (.aload_n 0, 1) := dk_42 (dk_at dksX0_join_0 1 rfl rfl)
theorem dX0_join_2 : decode cX0_join 2 = .ok (.iload_n 1, 1) := dk_27 (dk_at dksX0_join_0 2 rfl rfl)
theorem dX0_join_3 : decode cX0_join 3 = .ok (.iload_n 2, 1) := dk_28 (dk_at dksX0_join_0 3 rfl rfl)
theorem dX0_join_4 : decode cX0_join 4 = .ok (.invokevirtual 33, 3) := dk_182 0 33 (dk_at dksX0_join_0 4 rfl rfl)
theorem dX0_join_7 : decode cX0_join 7 = .ok (.i2l, 1) := dk_133 (dk_at dksX0_join_0 7 rfl rfl)
theorem dX0_join_8 : decode cX0_join 8 = .ok (.putfield 13, 3) := dk_181 0 13 (dk_at dksX0_join_0 8 rfl rfl)
theorem dX0_join_11 : decode cX0_join 11 = .ok (.goto 15, 3) := dk_167 0 15 (dk_at dksX0_join_0 11 rfl rfl)
theorem dX0_join_14 : decode cX0_join 14 = .ok (.astore 4, 2) := dk_58 4 (dk_at dksX0_join_0 14 rfl rfl)
theorem dX0_join_16 : decode cX0_join 16 = .ok (.iconst 1, 1) := dk_4 (dk_at dksX0_join_0 16 rfl rfl)
theorem dX0_join_17 : decode cX0_join 17 = .ok (.ireturn, 1) := dk_172 (dk_at dksX0_join_0 17 rfl rfl)
theorem dX0_join_18 : decode cX0_join 18 = .ok (.astore 4, 2) := dk_58 4 (dk_at dksX0_join_0 18 rfl rfl)
theorem dX0_join_20 : decode cX0_join 20 = .ok (.iconst 2, 1) := dk_5 (dk_at dksX0_join_0 20 rfl rfl)
theorem dX0_join_21 : decode cX0_join 21 = .ok (.ireturn, 1) := dk_172 (dk_at dksX0_join_0 21 rfl rfl)
theorem dX0_join_22 : decode cX0_join 22 = .ok (.astore 4, 2) := dk_58 4 (dk_at dksX0_join_0 22 rfl rfl)
theorem dX0_join_24 : decode cX0_join 24 = .ok (.iconst 3, 1) := dk_6 (dk_at dksX0_join_1 0 rfl rfl)
theorem dX0_join_25 : decode cX0_join 25 = .ok (.ireturn, 1) := dk_172 (dk_at dksX0_join_1 1 rfl rfl)
theorem dX0_join_26 : decode cX0_join 26 = .ok (.iconst 0, 1) := dk_3 (dk_at dksX0_join_1 2 rfl rfl)
theorem dX0_join_27 : decode cX0_join 27 = .ok (.ireturn, 1) := dk_172 (dk_at dksX0_join_1 3 rfl rfl)
abbrev cX0_change : ByteArray := method_6_code
def yX0_change : MethodName := ⟨RX0, "change", "(LRollover;IILRolloverLaw$Out;)I"⟩
def dkwX0_change_0 : List UInt8 := [45, 42, 27, 28, 182, 0, 37, 133, 181, 0, 13, 167, 0, 7, 58, 4, 4, 172, 3, 172]
abbrev dktX0_change_0 : List UInt8 := dkwX0_change_0 ++ []
theorem dksX0_change_0 : cX0_change.data.toList.drop 0 = dktX0_change_0 := by decide +kernel
theorem dX0_change_0 : decode cX0_change 0 = .ok (.aload_n 3, 1) := dk_45 (dk_at dksX0_change_0 0 rfl rfl)
theorem dX0_change_1 : decode cX0_change 1 = .ok (.aload_n 0, 1) := dk_42 (dk_at dksX0_change_0 1 rfl rfl)
theorem dX0_change_2 : decode cX0_change 2 = .ok (.iload_n 1, 1) := dk_27 (dk_at dksX0_change_0 2 rfl rfl)
theorem dX0_change_3 : decode cX0_change 3 = .ok (.iload_n 2, 1) := dk_28 (dk_at dksX0_change_0 3 rfl rfl)
theorem dX0_change_4 : decode cX0_change 4 = .ok (.invokevirtual 37, 3) := dk_182 0 37 (dk_at dksX0_change_0 4 rfl rfl)
theorem dX0_change_7 : decode cX0_change 7 = .ok (.i2l, 1) := dk_133 (dk_at dksX0_change_0 7 rfl rfl)
theorem dX0_change_8 : decode cX0_change 8 = .ok (.putfield 13, 3) := dk_181 0 13 (dk_at dksX0_change_0 8 rfl rfl)
theorem dX0_change_11 : decode cX0_change 11 = .ok (.goto 7, 3) := dk_167 0 7 (dk_at dksX0_change_0 11 rfl rfl)
theorem dX0_change_14 : decode cX0_change 14 = .ok (.astore 4, 2) := dk_58 4 (dk_at dksX0_change_0 14 rfl rfl)
theorem dX0_change_16 : decode cX0_change 16 = .ok (.iconst 1, 1) := dk_4 (dk_at dksX0_change_0 16 rfl rfl)
theorem dX0_change_17 : decode cX0_change 17 = .ok (.ireturn, 1) := dk_172 (dk_at dksX0_change_0 17 rfl rfl)
theorem dX0_change_18 : decode cX0_change 18 = .ok (.iconst 0, 1) := dk_3 (dk_at dksX0_change_0 18 rfl rfl)
theorem dX0_change_19 : decode cX0_change 19 = .ok (.ireturn, 1) := dk_172 (dk_at dksX0_change_0 19 rfl rfl)
abbrev cX0_circle : ByteArray := method_7_code
def yX0_circle : MethodName := ⟨RX0, "circle", "(LRollover;IILRolloverLaw$Out;)I"⟩
def dkwX0_circle_0 : List UInt8 := [45, 42, 27, 28, 182, 0, 40, 133, 181, 0, 13, 167, 0, 11, 58, 4, 4, 172, 58, 4, 5, 172, 3, 172]
abbrev dktX0_circle_0 : List UInt8 := dkwX0_circle_0 ++ []
theorem dksX0_circle_0 : cX0_circle.data.toList.drop 0 = dktX0_circle_0 := by decide +kernel
theorem dX0_circle_0 : decode cX0_circle 0 = .ok (.aload_n 3, 1) := dk_45 (dk_at dksX0_circle_0 0 rfl rfl)
theorem dX0_circle_1 : decode cX0_circle 1 = .ok (.aload_n 0, 1) := dk_42 (dk_at dksX0_circle_0 1 rfl rfl)
theorem dX0_circle_2 : decode cX0_circle 2 = .ok (.iload_n 1, 1) := dk_27 (dk_at dksX0_circle_0 2 rfl rfl)
theorem dX0_circle_3 : decode cX0_circle 3 = .ok (.iload_n 2, 1) := dk_28 (dk_at dksX0_circle_0 3 rfl rfl)
theorem dX0_circle_4 : decode cX0_circle 4 = .ok (.invokevirtual 40, 3) := dk_182 0 40 (dk_at dksX0_circle_0 4 rfl rfl)
theorem dX0_circle_7 : decode cX0_circle 7 = .ok (.i2l, 1) := dk_133 (dk_at dksX0_circle_0 7 rfl rfl)
theorem dX0_circle_8 : decode cX0_circle 8 = .ok (.putfield 13, 3) := dk_181 0 13 (dk_at dksX0_circle_0 8 rfl rfl)
theorem dX0_circle_11 : decode cX0_circle 11 = .ok (.goto 11, 3) := dk_167 0 11 (dk_at dksX0_circle_0 11 rfl rfl)
theorem dX0_circle_14 : decode cX0_circle 14 = .ok (.astore 4, 2) := dk_58 4 (dk_at dksX0_circle_0 14 rfl rfl)
theorem dX0_circle_16 : decode cX0_circle 16 = .ok (.iconst 1, 1) := dk_4 (dk_at dksX0_circle_0 16 rfl rfl)
theorem dX0_circle_17 : decode cX0_circle 17 = .ok (.ireturn, 1) := dk_172 (dk_at dksX0_circle_0 17 rfl rfl)
theorem dX0_circle_18 : decode cX0_circle 18 = .ok (.astore 4, 2) := dk_58 4 (dk_at dksX0_circle_0 18 rfl rfl)
theorem dX0_circle_20 : decode cX0_circle 20 = .ok (.iconst 2, 1) := dk_5 (dk_at dksX0_circle_0 20 rfl rfl)
theorem dX0_circle_21 : decode cX0_circle 21 = .ok (.ireturn, 1) := dk_172 (dk_at dksX0_circle_0 21 rfl rfl)
theorem dX0_circle_22 : decode cX0_circle 22 = .ok (.iconst 0, 1) := dk_3 (dk_at dksX0_circle_0 22 rfl rfl)
theorem dX0_circle_23 : decode cX0_circle 23 = .ok (.ireturn, 1) := dk_172 (dk_at dksX0_circle_0 23 rfl rfl)
abbrev cX0_child : ByteArray := method_8_code
def yX0_child : MethodName := ⟨RX0, "child", "(LRollover;IIILRolloverLaw$Out;)I"⟩
def dkwX0_child_1 : List UInt8 := [58, 5, 6, 172, 3, 172]
abbrev dktX0_child_1 : List UInt8 := dkwX0_child_1 ++ []
def dkwX0_child_0 : List UInt8 := [25, 4, 42, 27, 28, 29, 182, 0, 43, 133, 181, 0, 13, 167, 0, 15, 58, 5, 4, 172, 58, 5, 5, 172]
abbrev dktX0_child_0 : List UInt8 := dkwX0_child_0 ++ dktX0_child_1
theorem dksX0_child_0 : cX0_child.data.toList.drop 0 = dktX0_child_0 := by decide +kernel
theorem dksX0_child_1 : cX0_child.data.toList.drop 24 = dktX0_child_1 := dk_seg dksX0_child_0 24 rfl rfl
theorem dX0_child_0 : decode cX0_child 0 = .ok (.aload 4, 2) := dk_25 4 (dk_at dksX0_child_0 0 rfl rfl)
theorem dX0_child_2 : decode cX0_child 2 = .ok (.aload_n 0, 1) := dk_42 (dk_at dksX0_child_0 2 rfl rfl)
theorem dX0_child_3 : decode cX0_child 3 = .ok (.iload_n 1, 1) := dk_27 (dk_at dksX0_child_0 3 rfl rfl)
theorem dX0_child_4 : decode cX0_child 4 = .ok (.iload_n 2, 1) := dk_28 (dk_at dksX0_child_0 4 rfl rfl)
theorem dX0_child_5 : decode cX0_child 5 = .ok (.iload_n 3, 1) := dk_29 (dk_at dksX0_child_0 5 rfl rfl)
theorem dX0_child_6 : decode cX0_child 6 = .ok (.invokevirtual 43, 3) := dk_182 0 43 (dk_at dksX0_child_0 6 rfl rfl)
theorem dX0_child_9 : decode cX0_child 9 = .ok (.i2l, 1) := dk_133 (dk_at dksX0_child_0 9 rfl rfl)
theorem dX0_child_10 : decode cX0_child 10 = .ok (.putfield 13, 3) := dk_181 0 13 (dk_at dksX0_child_0 10 rfl rfl)
theorem dX0_child_13 : decode cX0_child 13 = .ok (.goto 15, 3) := dk_167 0 15 (dk_at dksX0_child_0 13 rfl rfl)
theorem dX0_child_16 : decode cX0_child 16 = .ok (.astore 5, 2) := dk_58 5 (dk_at dksX0_child_0 16 rfl rfl)
theorem dX0_child_18 : decode cX0_child 18 = .ok (.iconst 1, 1) := dk_4 (dk_at dksX0_child_0 18 rfl rfl)
theorem dX0_child_19 : decode cX0_child 19 = .ok (.ireturn, 1) := dk_172 (dk_at dksX0_child_0 19 rfl rfl)
theorem dX0_child_20 : decode cX0_child 20 = .ok (.astore 5, 2) := dk_58 5 (dk_at dksX0_child_0 20 rfl rfl)
theorem dX0_child_22 : decode cX0_child 22 = .ok (.iconst 2, 1) := dk_5 (dk_at dksX0_child_0 22 rfl rfl)
theorem dX0_child_23 : decode cX0_child 23 = .ok (.ireturn, 1) := dk_172 (dk_at dksX0_child_0 23 rfl rfl)
theorem dX0_child_24 : decode cX0_child 24 = .ok (.astore 5, 2) := dk_58 5 (dk_at dksX0_child_1 0 rfl rfl)
theorem dX0_child_26 : decode cX0_child 26 = .ok (.iconst 3, 1) := dk_6 (dk_at dksX0_child_1 2 rfl rfl)
theorem dX0_child_27 : decode cX0_child 27 = .ok (.ireturn, 1) := dk_172 (dk_at dksX0_child_1 3 rfl rfl)
theorem dX0_child_28 : decode cX0_child 28 = .ok (.iconst 0, 1) := dk_3 (dk_at dksX0_child_1 4 rfl rfl)
theorem dX0_child_29 : decode cX0_child 29 = .ok (.ireturn, 1) := dk_172 (dk_at dksX0_child_1 5 rfl rfl)
abbrev cX0_pass : ByteArray := method_9_code
def yX0_pass : MethodName := ⟨RX0, "pass", "(LRollover;ILRolloverLaw$Out;)I"⟩
def dkwX0_pass_0 : List UInt8 := [44, 42, 27, 182, 0, 46, 133, 181, 0, 13, 167, 0, 9, 78, 4, 172, 78, 5, 172, 3, 172]
abbrev dktX0_pass_0 : List UInt8 := dkwX0_pass_0 ++ []
theorem dksX0_pass_0 : cX0_pass.data.toList.drop 0 = dktX0_pass_0 := by decide +kernel
theorem dX0_pass_0 : decode cX0_pass 0 = .ok (.aload_n 2, 1) := dk_44 (dk_at dksX0_pass_0 0 rfl rfl)
theorem dX0_pass_1 : decode cX0_pass 1 = .ok (.aload_n 0, 1) := dk_42 (dk_at dksX0_pass_0 1 rfl rfl)
theorem dX0_pass_2 : decode cX0_pass 2 = .ok (.iload_n 1, 1) := dk_27 (dk_at dksX0_pass_0 2 rfl rfl)
theorem dX0_pass_3 : decode cX0_pass 3 = .ok (.invokevirtual 46, 3) := dk_182 0 46 (dk_at dksX0_pass_0 3 rfl rfl)
theorem dX0_pass_6 : decode cX0_pass 6 = .ok (.i2l, 1) := dk_133 (dk_at dksX0_pass_0 6 rfl rfl)
theorem dX0_pass_7 : decode cX0_pass 7 = .ok (.putfield 13, 3) := dk_181 0 13 (dk_at dksX0_pass_0 7 rfl rfl)
theorem dX0_pass_10 : decode cX0_pass 10 = .ok (.goto 9, 3) := dk_167 0 9 (dk_at dksX0_pass_0 10 rfl rfl)
theorem dX0_pass_13 : decode cX0_pass 13 = .ok (.astore_n 3, 1) := dk_78 (dk_at dksX0_pass_0 13 rfl rfl)
theorem dX0_pass_14 : decode cX0_pass 14 = .ok (.iconst 1, 1) := dk_4 (dk_at dksX0_pass_0 14 rfl rfl)
theorem dX0_pass_15 : decode cX0_pass 15 = .ok (.ireturn, 1) := dk_172 (dk_at dksX0_pass_0 15 rfl rfl)
theorem dX0_pass_16 : decode cX0_pass 16 = .ok (.astore_n 3, 1) := dk_78 (dk_at dksX0_pass_0 16 rfl rfl)
theorem dX0_pass_17 : decode cX0_pass 17 = .ok (.iconst 2, 1) := dk_5 (dk_at dksX0_pass_0 17 rfl rfl)
theorem dX0_pass_18 : decode cX0_pass 18 = .ok (.ireturn, 1) := dk_172 (dk_at dksX0_pass_0 18 rfl rfl)
theorem dX0_pass_19 : decode cX0_pass 19 = .ok (.iconst 0, 1) := dk_3 (dk_at dksX0_pass_0 19 rfl rfl)
theorem dX0_pass_20 : decode cX0_pass 20 = .ok (.ireturn, 1) := dk_172 (dk_at dksX0_pass_0 20 rfl rfl)
abbrev cX0_call : ByteArray := method_10_code
def yX0_call : MethodName := ⟨RX0, "call", "(LRollover;IIIIIILRolloverLaw$Out;)I"⟩
def dkwX0_call_1 : List UInt8 := [4, 172, 58, 8, 5, 172, 58, 8, 6, 172, 3, 172]
abbrev dktX0_call_1 : List UInt8 := dkwX0_call_1 ++ []
def dkwX0_call_0 : List UInt8 := [25, 7, 42, 27, 28, 29, 21, 4, 21, 5, 21, 6, 182, 0, 50, 133, 181, 0, 13, 167, 0, 15, 58, 8]
abbrev dktX0_call_0 : List UInt8 := dkwX0_call_0 ++ dktX0_call_1
theorem dksX0_call_0 : cX0_call.data.toList.drop 0 = dktX0_call_0 := by decide +kernel
theorem dksX0_call_1 : cX0_call.data.toList.drop 24 = dktX0_call_1 := dk_seg dksX0_call_0 24 rfl rfl
theorem dX0_call_0 : decode cX0_call 0 = .ok (.aload 7, 2) := dk_25 7 (dk_at dksX0_call_0 0 rfl rfl)
theorem dX0_call_2 : decode cX0_call 2 = .ok (.aload_n 0, 1) := dk_42 (dk_at dksX0_call_0 2 rfl rfl)
theorem dX0_call_3 : decode cX0_call 3 = .ok (.iload_n 1, 1) := dk_27 (dk_at dksX0_call_0 3 rfl rfl)
theorem dX0_call_4 : decode cX0_call 4 = .ok (.iload_n 2, 1) := dk_28 (dk_at dksX0_call_0 4 rfl rfl)
theorem dX0_call_5 : decode cX0_call 5 = .ok (.iload_n 3, 1) := dk_29 (dk_at dksX0_call_0 5 rfl rfl)
theorem dX0_call_6 : decode cX0_call 6 = .ok (.iload 4, 2) := dk_21 4 (dk_at dksX0_call_0 6 rfl rfl)
theorem dX0_call_8 : decode cX0_call 8 = .ok (.iload 5, 2) := dk_21 5 (dk_at dksX0_call_0 8 rfl rfl)
theorem dX0_call_10 : decode cX0_call 10 = .ok (.iload 6, 2) := dk_21 6 (dk_at dksX0_call_0 10 rfl rfl)
theorem dX0_call_12 : decode cX0_call 12 = .ok (.invokevirtual 50, 3) := dk_182 0 50 (dk_at dksX0_call_0 12 rfl rfl)
theorem dX0_call_15 : decode cX0_call 15 = .ok (.i2l, 1) := dk_133 (dk_at dksX0_call_0 15 rfl rfl)
theorem dX0_call_16 : decode cX0_call 16 = .ok (.putfield 13, 3) := dk_181 0 13 (dk_at dksX0_call_0 16 rfl rfl)
theorem dX0_call_19 : decode cX0_call 19 = .ok (.goto 15, 3) := dk_167 0 15 (dk_at dksX0_call_0 19 rfl rfl)
theorem dX0_call_22 : decode cX0_call 22 = .ok (.astore 8, 2) := dk_58 8 (dk_at dksX0_call_0 22 rfl rfl)
theorem dX0_call_24 : decode cX0_call 24 = .ok (.iconst 1, 1) := dk_4 (dk_at dksX0_call_1 0 rfl rfl)
theorem dX0_call_25 : decode cX0_call 25 = .ok (.ireturn, 1) := dk_172 (dk_at dksX0_call_1 1 rfl rfl)
theorem dX0_call_26 : decode cX0_call 26 = .ok (.astore 8, 2) := dk_58 8 (dk_at dksX0_call_1 2 rfl rfl)
theorem dX0_call_28 : decode cX0_call 28 = .ok (.iconst 2, 1) := dk_5 (dk_at dksX0_call_1 4 rfl rfl)
theorem dX0_call_29 : decode cX0_call 29 = .ok (.ireturn, 1) := dk_172 (dk_at dksX0_call_1 5 rfl rfl)
theorem dX0_call_30 : decode cX0_call 30 = .ok (.astore 8, 2) := dk_58 8 (dk_at dksX0_call_1 6 rfl rfl)
theorem dX0_call_32 : decode cX0_call 32 = .ok (.iconst 3, 1) := dk_6 (dk_at dksX0_call_1 8 rfl rfl)
theorem dX0_call_33 : decode cX0_call 33 = .ok (.ireturn, 1) := dk_172 (dk_at dksX0_call_1 9 rfl rfl)
theorem dX0_call_34 : decode cX0_call 34 = .ok (.iconst 0, 1) := dk_3 (dk_at dksX0_call_1 10 rfl rfl)
theorem dX0_call_35 : decode cX0_call 35 = .ok (.ireturn, 1) := dk_172 (dk_at dksX0_call_1 11 rfl rfl)
abbrev cX0_gift : ByteArray := method_11_code
def yX0_gift : MethodName := ⟨RX0, "gift", "(LRollover;IIIIILRolloverLaw$Out;)I"⟩
def dkwX0_gift_1 : List UInt8 := [58, 7, 5, 172, 58, 7, 6, 172, 3, 172]
abbrev dktX0_gift_1 : List UInt8 := dkwX0_gift_1 ++ []
def dkwX0_gift_0 : List UInt8 := [25, 6, 42, 27, 28, 29, 21, 4, 21, 5, 182, 0, 54, 133, 181, 0, 13, 167, 0, 15, 58, 7, 4, 172]
abbrev dktX0_gift_0 : List UInt8 := dkwX0_gift_0 ++ dktX0_gift_1
theorem dksX0_gift_0 : cX0_gift.data.toList.drop 0 = dktX0_gift_0 := by decide +kernel
theorem dksX0_gift_1 : cX0_gift.data.toList.drop 24 = dktX0_gift_1 := dk_seg dksX0_gift_0 24 rfl rfl
theorem dX0_gift_0 : decode cX0_gift 0 = .ok (.aload 6, 2) := dk_25 6 (dk_at dksX0_gift_0 0 rfl rfl)
theorem dX0_gift_2 : decode cX0_gift 2 = .ok (.aload_n 0, 1) := dk_42 (dk_at dksX0_gift_0 2 rfl rfl)
theorem dX0_gift_3 : decode cX0_gift 3 = .ok (.iload_n 1, 1) := dk_27 (dk_at dksX0_gift_0 3 rfl rfl)
theorem dX0_gift_4 : decode cX0_gift 4 = .ok (.iload_n 2, 1) := dk_28 (dk_at dksX0_gift_0 4 rfl rfl)
theorem dX0_gift_5 : decode cX0_gift 5 = .ok (.iload_n 3, 1) := dk_29 (dk_at dksX0_gift_0 5 rfl rfl)
theorem dX0_gift_6 : decode cX0_gift 6 = .ok (.iload 4, 2) := dk_21 4 (dk_at dksX0_gift_0 6 rfl rfl)
theorem dX0_gift_8 : decode cX0_gift 8 = .ok (.iload 5, 2) := dk_21 5 (dk_at dksX0_gift_0 8 rfl rfl)
theorem dX0_gift_10 : decode cX0_gift 10 = .ok (.invokevirtual 54, 3) := dk_182 0 54 (dk_at dksX0_gift_0 10 rfl rfl)
theorem dX0_gift_13 : decode cX0_gift 13 = .ok (.i2l, 1) := dk_133 (dk_at dksX0_gift_0 13 rfl rfl)
theorem dX0_gift_14 : decode cX0_gift 14 = .ok (.putfield 13, 3) := dk_181 0 13 (dk_at dksX0_gift_0 14 rfl rfl)
theorem dX0_gift_17 : decode cX0_gift 17 = .ok (.goto 15, 3) := dk_167 0 15 (dk_at dksX0_gift_0 17 rfl rfl)
theorem dX0_gift_20 : decode cX0_gift 20 = .ok (.astore 7, 2) := dk_58 7 (dk_at dksX0_gift_0 20 rfl rfl)
theorem dX0_gift_22 : decode cX0_gift 22 = .ok (.iconst 1, 1) := dk_4 (dk_at dksX0_gift_0 22 rfl rfl)
theorem dX0_gift_23 : decode cX0_gift 23 = .ok (.ireturn, 1) := dk_172 (dk_at dksX0_gift_0 23 rfl rfl)
theorem dX0_gift_24 : decode cX0_gift 24 = .ok (.astore 7, 2) := dk_58 7 (dk_at dksX0_gift_1 0 rfl rfl)
theorem dX0_gift_26 : decode cX0_gift 26 = .ok (.iconst 2, 1) := dk_5 (dk_at dksX0_gift_1 2 rfl rfl)
theorem dX0_gift_27 : decode cX0_gift 27 = .ok (.ireturn, 1) := dk_172 (dk_at dksX0_gift_1 3 rfl rfl)
theorem dX0_gift_28 : decode cX0_gift 28 = .ok (.astore 7, 2) := dk_58 7 (dk_at dksX0_gift_1 4 rfl rfl)
theorem dX0_gift_30 : decode cX0_gift 30 = .ok (.iconst 3, 1) := dk_6 (dk_at dksX0_gift_1 6 rfl rfl)
theorem dX0_gift_31 : decode cX0_gift 31 = .ok (.ireturn, 1) := dk_172 (dk_at dksX0_gift_1 7 rfl rfl)
theorem dX0_gift_32 : decode cX0_gift 32 = .ok (.iconst 0, 1) := dk_3 (dk_at dksX0_gift_1 8 rfl rfl)
theorem dX0_gift_33 : decode cX0_gift 33 = .ok (.ireturn, 1) := dk_172 (dk_at dksX0_gift_1 9 rfl rfl)
abbrev cX0_addOn : ByteArray := method_12_code
def yX0_addOn : MethodName := ⟨RX0, "addOn", "(LRollover;IIIIIILRolloverLaw$Out;)I"⟩
def dkwX0_addOn_1 : List UInt8 := [4, 172, 58, 8, 5, 172, 58, 8, 6, 172, 3, 172]
abbrev dktX0_addOn_1 : List UInt8 := dkwX0_addOn_1 ++ []
def dkwX0_addOn_0 : List UInt8 := [25, 7, 42, 27, 28, 29, 21, 4, 21, 5, 21, 6, 182, 0, 58, 133, 181, 0, 13, 167, 0, 15, 58, 8]
abbrev dktX0_addOn_0 : List UInt8 := dkwX0_addOn_0 ++ dktX0_addOn_1
theorem dksX0_addOn_0 : cX0_addOn.data.toList.drop 0 = dktX0_addOn_0 := by decide +kernel
theorem dksX0_addOn_1 : cX0_addOn.data.toList.drop 24 = dktX0_addOn_1 := dk_seg dksX0_addOn_0 24 rfl rfl
theorem dX0_addOn_0 : decode cX0_addOn 0 = .ok (.aload 7, 2) := dk_25 7 (dk_at dksX0_addOn_0 0 rfl rfl)
theorem dX0_addOn_2 : decode cX0_addOn 2 = .ok (.aload_n 0, 1) := dk_42 (dk_at dksX0_addOn_0 2 rfl rfl)
theorem dX0_addOn_3 : decode cX0_addOn 3 = .ok (.iload_n 1, 1) := dk_27 (dk_at dksX0_addOn_0 3 rfl rfl)
theorem dX0_addOn_4 : decode cX0_addOn 4 = .ok (.iload_n 2, 1) := dk_28 (dk_at dksX0_addOn_0 4 rfl rfl)
theorem dX0_addOn_5 : decode cX0_addOn 5 = .ok (.iload_n 3, 1) := dk_29 (dk_at dksX0_addOn_0 5 rfl rfl)
theorem dX0_addOn_6 : decode cX0_addOn 6 = .ok (.iload 4, 2) := dk_21 4 (dk_at dksX0_addOn_0 6 rfl rfl)
theorem dX0_addOn_8 : decode cX0_addOn 8 = .ok (.iload 5, 2) := dk_21 5 (dk_at dksX0_addOn_0 8 rfl rfl)
theorem dX0_addOn_10 : decode cX0_addOn 10 = .ok (.iload 6, 2) := dk_21 6 (dk_at dksX0_addOn_0 10 rfl rfl)
theorem dX0_addOn_12 : decode cX0_addOn 12 = .ok (.invokevirtual 58, 3) := dk_182 0 58 (dk_at dksX0_addOn_0 12 rfl rfl)
theorem dX0_addOn_15 : decode cX0_addOn 15 = .ok (.i2l, 1) := dk_133 (dk_at dksX0_addOn_0 15 rfl rfl)
theorem dX0_addOn_16 : decode cX0_addOn 16 = .ok (.putfield 13, 3) := dk_181 0 13 (dk_at dksX0_addOn_0 16 rfl rfl)
theorem dX0_addOn_19 : decode cX0_addOn 19 = .ok (.goto 15, 3) := dk_167 0 15 (dk_at dksX0_addOn_0 19 rfl rfl)
theorem dX0_addOn_22 : decode cX0_addOn 22 = .ok (.astore 8, 2) := dk_58 8 (dk_at dksX0_addOn_0 22 rfl rfl)
theorem dX0_addOn_24 : decode cX0_addOn 24 = .ok (.iconst 1, 1) := dk_4 (dk_at dksX0_addOn_1 0 rfl rfl)
theorem dX0_addOn_25 : decode cX0_addOn 25 = .ok (.ireturn, 1) := dk_172 (dk_at dksX0_addOn_1 1 rfl rfl)
theorem dX0_addOn_26 : decode cX0_addOn 26 = .ok (.astore 8, 2) := dk_58 8 (dk_at dksX0_addOn_1 2 rfl rfl)
theorem dX0_addOn_28 : decode cX0_addOn 28 = .ok (.iconst 2, 1) := dk_5 (dk_at dksX0_addOn_1 4 rfl rfl)
theorem dX0_addOn_29 : decode cX0_addOn 29 = .ok (.ireturn, 1) := dk_172 (dk_at dksX0_addOn_1 5 rfl rfl)
theorem dX0_addOn_30 : decode cX0_addOn 30 = .ok (.astore 8, 2) := dk_58 8 (dk_at dksX0_addOn_1 6 rfl rfl)
theorem dX0_addOn_32 : decode cX0_addOn 32 = .ok (.iconst 3, 1) := dk_6 (dk_at dksX0_addOn_1 8 rfl rfl)
theorem dX0_addOn_33 : decode cX0_addOn 33 = .ok (.ireturn, 1) := dk_172 (dk_at dksX0_addOn_1 9 rfl rfl)
theorem dX0_addOn_34 : decode cX0_addOn 34 = .ok (.iconst 0, 1) := dk_3 (dk_at dksX0_addOn_1 10 rfl rfl)
theorem dX0_addOn_35 : decode cX0_addOn 35 = .ok (.ireturn, 1) := dk_172 (dk_at dksX0_addOn_1 11 rfl rfl)
abbrev cX0_correct : ByteArray := method_13_code
def yX0_correct : MethodName := ⟨RX0, "correct", "(LRollover;IILRolloverLaw$Out;)I"⟩
def dkwX0_correct_1 : List UInt8 := [6, 172, 3, 172]
abbrev dktX0_correct_1 : List UInt8 := dkwX0_correct_1 ++ []
def dkwX0_correct_0 : List UInt8 := [45, 42, 27, 28, 182, 0, 61, 133, 181, 0, 13, 167, 0, 15, 58, 4, 4, 172, 58, 4, 5, 172, 58, 4]
abbrev dktX0_correct_0 : List UInt8 := dkwX0_correct_0 ++ dktX0_correct_1
theorem dksX0_correct_0 : cX0_correct.data.toList.drop 0 = dktX0_correct_0 := by decide +kernel
theorem dksX0_correct_1 : cX0_correct.data.toList.drop 24 = dktX0_correct_1 := dk_seg dksX0_correct_0 24 rfl rfl
theorem dX0_correct_0 : decode cX0_correct 0 = .ok (.aload_n 3, 1) := dk_45 (dk_at dksX0_correct_0 0 rfl rfl)
theorem dX0_correct_1 : decode cX0_correct 1 = .ok (.aload_n 0, 1) := dk_42 (dk_at dksX0_correct_0 1 rfl rfl)
theorem dX0_correct_2 : decode cX0_correct 2 = .ok (.iload_n 1, 1) := dk_27 (dk_at dksX0_correct_0 2 rfl rfl)
theorem dX0_correct_3 : decode cX0_correct 3 = .ok (.iload_n 2, 1) := dk_28 (dk_at dksX0_correct_0 3 rfl rfl)
theorem dX0_correct_4 : decode cX0_correct 4 = .ok (.invokevirtual 61, 3) := dk_182 0 61 (dk_at dksX0_correct_0 4 rfl rfl)
theorem dX0_correct_7 : decode cX0_correct 7 = .ok (.i2l, 1) := dk_133 (dk_at dksX0_correct_0 7 rfl rfl)
theorem dX0_correct_8 : decode cX0_correct 8 = .ok (.putfield 13, 3) := dk_181 0 13 (dk_at dksX0_correct_0 8 rfl rfl)
theorem dX0_correct_11 : decode cX0_correct 11 = .ok (.goto 15, 3) := dk_167 0 15 (dk_at dksX0_correct_0 11 rfl rfl)
theorem dX0_correct_14 : decode cX0_correct 14 = .ok (.astore 4, 2) := dk_58 4 (dk_at dksX0_correct_0 14 rfl rfl)
theorem dX0_correct_16 : decode cX0_correct 16 = .ok (.iconst 1, 1) := dk_4 (dk_at dksX0_correct_0 16 rfl rfl)
theorem dX0_correct_17 : decode cX0_correct 17 = .ok (.ireturn, 1) := dk_172 (dk_at dksX0_correct_0 17 rfl rfl)
theorem dX0_correct_18 : decode cX0_correct 18 = .ok (.astore 4, 2) := dk_58 4 (dk_at dksX0_correct_0 18 rfl rfl)
theorem dX0_correct_20 : decode cX0_correct 20 = .ok (.iconst 2, 1) := dk_5 (dk_at dksX0_correct_0 20 rfl rfl)
theorem dX0_correct_21 : decode cX0_correct 21 = .ok (.ireturn, 1) := dk_172 (dk_at dksX0_correct_0 21 rfl rfl)
theorem dX0_correct_22 : decode cX0_correct 22 = .ok (.astore 4, 2) := dk_58 4 (dk_at dksX0_correct_0 22 rfl rfl)
theorem dX0_correct_24 : decode cX0_correct 24 = .ok (.iconst 3, 1) := dk_6 (dk_at dksX0_correct_1 0 rfl rfl)
theorem dX0_correct_25 : decode cX0_correct 25 = .ok (.ireturn, 1) := dk_172 (dk_at dksX0_correct_1 1 rfl rfl)
theorem dX0_correct_26 : decode cX0_correct 26 = .ok (.iconst 0, 1) := dk_3 (dk_at dksX0_correct_1 2 rfl rfl)
theorem dX0_correct_27 : decode cX0_correct 27 = .ok (.ireturn, 1) := dk_172 (dk_at dksX0_correct_1 3 rfl rfl)
abbrev cX0_undo : ByteArray := method_14_code
def yX0_undo : MethodName := ⟨RX0, "undo", "(LRollover;ILRolloverLaw$Out;)I"⟩
def dkwX0_undo_0 : List UInt8 := [44, 42, 27, 182, 0, 64, 133, 181, 0, 13, 167, 0, 9, 78, 4, 172, 78, 5, 172, 3, 172]
abbrev dktX0_undo_0 : List UInt8 := dkwX0_undo_0 ++ []
theorem dksX0_undo_0 : cX0_undo.data.toList.drop 0 = dktX0_undo_0 := by decide +kernel
theorem dX0_undo_0 : decode cX0_undo 0 = .ok (.aload_n 2, 1) := dk_44 (dk_at dksX0_undo_0 0 rfl rfl)
theorem dX0_undo_1 : decode cX0_undo 1 = .ok (.aload_n 0, 1) := dk_42 (dk_at dksX0_undo_0 1 rfl rfl)
theorem dX0_undo_2 : decode cX0_undo 2 = .ok (.iload_n 1, 1) := dk_27 (dk_at dksX0_undo_0 2 rfl rfl)
theorem dX0_undo_3 : decode cX0_undo 3 = .ok (.invokevirtual 64, 3) := dk_182 0 64 (dk_at dksX0_undo_0 3 rfl rfl)
theorem dX0_undo_6 : decode cX0_undo 6 = .ok (.i2l, 1) := dk_133 (dk_at dksX0_undo_0 6 rfl rfl)
theorem dX0_undo_7 : decode cX0_undo 7 = .ok (.putfield 13, 3) := dk_181 0 13 (dk_at dksX0_undo_0 7 rfl rfl)
theorem dX0_undo_10 : decode cX0_undo 10 = .ok (.goto 9, 3) := dk_167 0 9 (dk_at dksX0_undo_0 10 rfl rfl)
theorem dX0_undo_13 : decode cX0_undo 13 = .ok (.astore_n 3, 1) := dk_78 (dk_at dksX0_undo_0 13 rfl rfl)
theorem dX0_undo_14 : decode cX0_undo 14 = .ok (.iconst 1, 1) := dk_4 (dk_at dksX0_undo_0 14 rfl rfl)
theorem dX0_undo_15 : decode cX0_undo 15 = .ok (.ireturn, 1) := dk_172 (dk_at dksX0_undo_0 15 rfl rfl)
theorem dX0_undo_16 : decode cX0_undo 16 = .ok (.astore_n 3, 1) := dk_78 (dk_at dksX0_undo_0 16 rfl rfl)
theorem dX0_undo_17 : decode cX0_undo 17 = .ok (.iconst 2, 1) := dk_5 (dk_at dksX0_undo_0 17 rfl rfl)
theorem dX0_undo_18 : decode cX0_undo 18 = .ok (.ireturn, 1) := dk_172 (dk_at dksX0_undo_0 18 rfl rfl)
theorem dX0_undo_19 : decode cX0_undo 19 = .ok (.iconst 0, 1) := dk_3 (dk_at dksX0_undo_0 19 rfl rfl)
theorem dX0_undo_20 : decode cX0_undo 20 = .ok (.ireturn, 1) := dk_172 (dk_at dksX0_undo_0 20 rfl rfl)
abbrev cX0_port : ByteArray := method_15_code
def yX0_port : MethodName := ⟨RX0, "port", "(LRollover;IIILRolloverLaw$Out;)I"⟩
def dkwX0_port_1 : List UInt8 := [58, 5, 6, 172, 3, 172]
abbrev dktX0_port_1 : List UInt8 := dkwX0_port_1 ++ []
def dkwX0_port_0 : List UInt8 := [25, 4, 42, 27, 28, 29, 182, 0, 67, 133, 181, 0, 13, 167, 0, 15, 58, 5, 4, 172, 58, 5, 5, 172]
abbrev dktX0_port_0 : List UInt8 := dkwX0_port_0 ++ dktX0_port_1
theorem dksX0_port_0 : cX0_port.data.toList.drop 0 = dktX0_port_0 := by decide +kernel
theorem dksX0_port_1 : cX0_port.data.toList.drop 24 = dktX0_port_1 := dk_seg dksX0_port_0 24 rfl rfl
theorem dX0_port_0 : decode cX0_port 0 = .ok (.aload 4, 2) := dk_25 4 (dk_at dksX0_port_0 0 rfl rfl)
theorem dX0_port_2 : decode cX0_port 2 = .ok (.aload_n 0, 1) := dk_42 (dk_at dksX0_port_0 2 rfl rfl)
theorem dX0_port_3 : decode cX0_port 3 = .ok (.iload_n 1, 1) := dk_27 (dk_at dksX0_port_0 3 rfl rfl)
theorem dX0_port_4 : decode cX0_port 4 = .ok (.iload_n 2, 1) := dk_28 (dk_at dksX0_port_0 4 rfl rfl)
theorem dX0_port_5 : decode cX0_port 5 = .ok (.iload_n 3, 1) := dk_29 (dk_at dksX0_port_0 5 rfl rfl)
theorem dX0_port_6 : decode cX0_port 6 = .ok (.invokevirtual 67, 3) := dk_182 0 67 (dk_at dksX0_port_0 6 rfl rfl)
theorem dX0_port_9 : decode cX0_port 9 = .ok (.i2l, 1) := dk_133 (dk_at dksX0_port_0 9 rfl rfl)
theorem dX0_port_10 : decode cX0_port 10 = .ok (.putfield 13, 3) := dk_181 0 13 (dk_at dksX0_port_0 10 rfl rfl)
theorem dX0_port_13 : decode cX0_port 13 = .ok (.goto 15, 3) := dk_167 0 15 (dk_at dksX0_port_0 13 rfl rfl)
theorem dX0_port_16 : decode cX0_port 16 = .ok (.astore 5, 2) := dk_58 5 (dk_at dksX0_port_0 16 rfl rfl)
theorem dX0_port_18 : decode cX0_port 18 = .ok (.iconst 1, 1) := dk_4 (dk_at dksX0_port_0 18 rfl rfl)
theorem dX0_port_19 : decode cX0_port 19 = .ok (.ireturn, 1) := dk_172 (dk_at dksX0_port_0 19 rfl rfl)
theorem dX0_port_20 : decode cX0_port 20 = .ok (.astore 5, 2) := dk_58 5 (dk_at dksX0_port_0 20 rfl rfl)
theorem dX0_port_22 : decode cX0_port 22 = .ok (.iconst 2, 1) := dk_5 (dk_at dksX0_port_0 22 rfl rfl)
theorem dX0_port_23 : decode cX0_port 23 = .ok (.ireturn, 1) := dk_172 (dk_at dksX0_port_0 23 rfl rfl)
theorem dX0_port_24 : decode cX0_port 24 = .ok (.astore 5, 2) := dk_58 5 (dk_at dksX0_port_1 0 rfl rfl)
theorem dX0_port_26 : decode cX0_port 26 = .ok (.iconst 3, 1) := dk_6 (dk_at dksX0_port_1 2 rfl rfl)
theorem dX0_port_27 : decode cX0_port 27 = .ok (.ireturn, 1) := dk_172 (dk_at dksX0_port_1 3 rfl rfl)
theorem dX0_port_28 : decode cX0_port 28 = .ok (.iconst 0, 1) := dk_3 (dk_at dksX0_port_1 4 rfl rfl)
theorem dX0_port_29 : decode cX0_port 29 = .ok (.ireturn, 1) := dk_172 (dk_at dksX0_port_1 5 rfl rfl)
abbrev cX0_incoming : ByteArray := method_16_code
def yX0_incoming : MethodName := ⟨RX0, "incoming", "(LRollover;IILRolloverLaw$Out;)I"⟩
def dkwX0_incoming_0 : List UInt8 := [45, 42, 27, 28, 182, 0, 70, 133, 181, 0, 13, 167, 0, 11, 58, 4, 4, 172, 58, 4, 5, 172, 3, 172]
abbrev dktX0_incoming_0 : List UInt8 := dkwX0_incoming_0 ++ []
theorem dksX0_incoming_0 : cX0_incoming.data.toList.drop 0 = dktX0_incoming_0 := by decide +kernel
theorem dX0_incoming_0 : decode cX0_incoming 0 = .ok (.aload_n 3, 1) := dk_45 (dk_at dksX0_incoming_0 0 rfl rfl)
theorem dX0_incoming_1 : decode cX0_incoming 1 = .ok (.aload_n 0, 1) := dk_42 (dk_at dksX0_incoming_0 1 rfl rfl)
theorem dX0_incoming_2 : decode cX0_incoming 2 = .ok (.iload_n 1, 1) := dk_27 (dk_at dksX0_incoming_0 2 rfl rfl)
theorem dX0_incoming_3 : decode cX0_incoming 3 = .ok (.iload_n 2, 1) := dk_28 (dk_at dksX0_incoming_0 3 rfl rfl)
theorem dX0_incoming_4 : decode cX0_incoming 4 = .ok (.invokevirtual 70, 3) := dk_182 0 70 (dk_at dksX0_incoming_0 4 rfl rfl)
theorem dX0_incoming_7 : decode cX0_incoming 7 = .ok (.i2l, 1) := dk_133 (dk_at dksX0_incoming_0 7 rfl rfl)
theorem dX0_incoming_8 : decode cX0_incoming 8 = .ok (.putfield 13, 3) := dk_181 0 13 (dk_at dksX0_incoming_0 8 rfl rfl)
theorem dX0_incoming_11 : decode cX0_incoming 11 = .ok (.goto 11, 3) := dk_167 0 11 (dk_at dksX0_incoming_0 11 rfl rfl)
theorem dX0_incoming_14 : decode cX0_incoming 14 = .ok (.astore 4, 2) := dk_58 4 (dk_at dksX0_incoming_0 14 rfl rfl)
theorem dX0_incoming_16 : decode cX0_incoming 16 = .ok (.iconst 1, 1) := dk_4 (dk_at dksX0_incoming_0 16 rfl rfl)
theorem dX0_incoming_17 : decode cX0_incoming 17 = .ok (.ireturn, 1) := dk_172 (dk_at dksX0_incoming_0 17 rfl rfl)
theorem dX0_incoming_18 : decode cX0_incoming 18 = .ok (.astore 4, 2) := dk_58 4 (dk_at dksX0_incoming_0 18 rfl rfl)
theorem dX0_incoming_20 : decode cX0_incoming 20 = .ok (.iconst 2, 1) := dk_5 (dk_at dksX0_incoming_0 20 rfl rfl)
theorem dX0_incoming_21 : decode cX0_incoming 21 = .ok (.ireturn, 1) := dk_172 (dk_at dksX0_incoming_0 21 rfl rfl)
theorem dX0_incoming_22 : decode cX0_incoming 22 = .ok (.iconst 0, 1) := dk_3 (dk_at dksX0_incoming_0 22 rfl rfl)
theorem dX0_incoming_23 : decode cX0_incoming 23 = .ok (.ireturn, 1) := dk_172 (dk_at dksX0_incoming_0 23 rfl rfl)
abbrev cX0_ofDay : ByteArray := method_17_code
def yX0_ofDay : MethodName := ⟨RX0, "ofDay", "(LRollover;IIILRolloverLaw$Out;)I"⟩
def dkwX0_ofDay_1 : List UInt8 := [3, 172]
abbrev dktX0_ofDay_1 : List UInt8 := dkwX0_ofDay_1 ++ []
def dkwX0_ofDay_0 : List UInt8 := [25, 4, 42, 27, 28, 29, 182, 0, 73, 133, 181, 0, 13, 167, 0, 11, 58, 5, 4, 172, 58, 5, 5, 172]
abbrev dktX0_ofDay_0 : List UInt8 := dkwX0_ofDay_0 ++ dktX0_ofDay_1
theorem dksX0_ofDay_0 : cX0_ofDay.data.toList.drop 0 = dktX0_ofDay_0 := by decide +kernel
theorem dksX0_ofDay_1 : cX0_ofDay.data.toList.drop 24 = dktX0_ofDay_1 := dk_seg dksX0_ofDay_0 24 rfl rfl
theorem dX0_ofDay_0 : decode cX0_ofDay 0 = .ok (.aload 4, 2) := dk_25 4 (dk_at dksX0_ofDay_0 0 rfl rfl)
theorem dX0_ofDay_2 : decode cX0_ofDay 2 = .ok (.aload_n 0, 1) := dk_42 (dk_at dksX0_ofDay_0 2 rfl rfl)
theorem dX0_ofDay_3 : decode cX0_ofDay 3 = .ok (.iload_n 1, 1) := dk_27 (dk_at dksX0_ofDay_0 3 rfl rfl)
theorem dX0_ofDay_4 : decode cX0_ofDay 4 = .ok (.iload_n 2, 1) := dk_28 (dk_at dksX0_ofDay_0 4 rfl rfl)
theorem dX0_ofDay_5 : decode cX0_ofDay 5 = .ok (.iload_n 3, 1) := dk_29 (dk_at dksX0_ofDay_0 5 rfl rfl)
theorem dX0_ofDay_6 : decode cX0_ofDay 6 = .ok (.invokevirtual 73, 3) := dk_182 0 73 (dk_at dksX0_ofDay_0 6 rfl rfl)
theorem dX0_ofDay_9 : decode cX0_ofDay 9 = .ok (.i2l, 1) := dk_133 (dk_at dksX0_ofDay_0 9 rfl rfl)
theorem dX0_ofDay_10 : decode cX0_ofDay 10 = .ok (.putfield 13, 3) := dk_181 0 13 (dk_at dksX0_ofDay_0 10 rfl rfl)
theorem dX0_ofDay_13 : decode cX0_ofDay 13 = .ok (.goto 11, 3) := dk_167 0 11 (dk_at dksX0_ofDay_0 13 rfl rfl)
theorem dX0_ofDay_16 : decode cX0_ofDay 16 = .ok (.astore 5, 2) := dk_58 5 (dk_at dksX0_ofDay_0 16 rfl rfl)
theorem dX0_ofDay_18 : decode cX0_ofDay 18 = .ok (.iconst 1, 1) := dk_4 (dk_at dksX0_ofDay_0 18 rfl rfl)
theorem dX0_ofDay_19 : decode cX0_ofDay 19 = .ok (.ireturn, 1) := dk_172 (dk_at dksX0_ofDay_0 19 rfl rfl)
theorem dX0_ofDay_20 : decode cX0_ofDay 20 = .ok (.astore 5, 2) := dk_58 5 (dk_at dksX0_ofDay_0 20 rfl rfl)
theorem dX0_ofDay_22 : decode cX0_ofDay 22 = .ok (.iconst 2, 1) := dk_5 (dk_at dksX0_ofDay_0 22 rfl rfl)
theorem dX0_ofDay_23 : decode cX0_ofDay 23 = .ok (.ireturn, 1) := dk_172 (dk_at dksX0_ofDay_0 23 rfl rfl)
theorem dX0_ofDay_24 : decode cX0_ofDay 24 = .ok (.iconst 0, 1) := dk_3 (dk_at dksX0_ofDay_1 0 rfl rfl)
theorem dX0_ofDay_25 : decode cX0_ofDay 25 = .ok (.ireturn, 1) := dk_172 (dk_at dksX0_ofDay_1 1 rfl rfl)
abbrev cX0_ofCycle : ByteArray := method_18_code
def yX0_ofCycle : MethodName := ⟨RX0, "ofCycle", "(LRollover;IIILRolloverLaw$Out;)I"⟩
def dkwX0_ofCycle_1 : List UInt8 := [3, 172]
abbrev dktX0_ofCycle_1 : List UInt8 := dkwX0_ofCycle_1 ++ []
def dkwX0_ofCycle_0 : List UInt8 := [25, 4, 42, 27, 28, 29, 182, 0, 76, 133, 181, 0, 13, 167, 0, 11, 58, 5, 4, 172, 58, 5, 5, 172]
abbrev dktX0_ofCycle_0 : List UInt8 := dkwX0_ofCycle_0 ++ dktX0_ofCycle_1
theorem dksX0_ofCycle_0 : cX0_ofCycle.data.toList.drop 0 = dktX0_ofCycle_0 := by decide +kernel
theorem dksX0_ofCycle_1 : cX0_ofCycle.data.toList.drop 24 = dktX0_ofCycle_1 := dk_seg dksX0_ofCycle_0 24 rfl rfl
theorem dX0_ofCycle_0 : decode cX0_ofCycle 0 = .ok (.aload 4, 2) := dk_25 4 (dk_at dksX0_ofCycle_0 0 rfl rfl)
theorem dX0_ofCycle_2 : decode cX0_ofCycle 2 = .ok (.aload_n 0, 1) := dk_42 (dk_at dksX0_ofCycle_0 2 rfl rfl)
theorem dX0_ofCycle_3 : decode cX0_ofCycle 3 = .ok (.iload_n 1, 1) := dk_27 (dk_at dksX0_ofCycle_0 3 rfl rfl)
theorem dX0_ofCycle_4 : decode cX0_ofCycle 4 = .ok (.iload_n 2, 1) := dk_28 (dk_at dksX0_ofCycle_0 4 rfl rfl)
theorem dX0_ofCycle_5 : decode cX0_ofCycle 5 = .ok (.iload_n 3, 1) := dk_29 (dk_at dksX0_ofCycle_0 5 rfl rfl)
theorem dX0_ofCycle_6 : decode cX0_ofCycle 6 = .ok (.invokevirtual 76, 3) := dk_182 0 76 (dk_at dksX0_ofCycle_0 6 rfl rfl)
theorem dX0_ofCycle_9 : decode cX0_ofCycle 9 = .ok (.i2l, 1) := dk_133 (dk_at dksX0_ofCycle_0 9 rfl rfl)
theorem dX0_ofCycle_10 : decode cX0_ofCycle 10 = .ok (.putfield 13, 3) := dk_181 0 13 (dk_at dksX0_ofCycle_0 10 rfl rfl)
theorem dX0_ofCycle_13 : decode cX0_ofCycle 13 = .ok (.goto 11, 3) := dk_167 0 11 (dk_at dksX0_ofCycle_0 13 rfl rfl)
theorem dX0_ofCycle_16 : decode cX0_ofCycle 16 = .ok (.astore 5, 2) := dk_58 5 (dk_at dksX0_ofCycle_0 16 rfl rfl)
theorem dX0_ofCycle_18 : decode cX0_ofCycle 18 = .ok (.iconst 1, 1) := dk_4 (dk_at dksX0_ofCycle_0 18 rfl rfl)
theorem dX0_ofCycle_19 : decode cX0_ofCycle 19 = .ok (.ireturn, 1) := dk_172 (dk_at dksX0_ofCycle_0 19 rfl rfl)
theorem dX0_ofCycle_20 : decode cX0_ofCycle 20 = .ok (.astore 5, 2) := dk_58 5 (dk_at dksX0_ofCycle_0 20 rfl rfl)
theorem dX0_ofCycle_22 : decode cX0_ofCycle 22 = .ok (.iconst 2, 1) := dk_5 (dk_at dksX0_ofCycle_0 22 rfl rfl)
theorem dX0_ofCycle_23 : decode cX0_ofCycle 23 = .ok (.ireturn, 1) := dk_172 (dk_at dksX0_ofCycle_0 23 rfl rfl)
theorem dX0_ofCycle_24 : decode cX0_ofCycle 24 = .ok (.iconst 0, 1) := dk_3 (dk_at dksX0_ofCycle_1 0 rfl rfl)
theorem dX0_ofCycle_25 : decode cX0_ofCycle 25 = .ok (.ireturn, 1) := dk_172 (dk_at dksX0_ofCycle_1 1 rfl rfl)
abbrev cX0_ofTicket : ByteArray := method_19_code
def yX0_ofTicket : MethodName := ⟨RX0, "ofTicket", "(LRollover;IILRolloverLaw$Out;)I"⟩
def dkwX0_ofTicket_0 : List UInt8 := [45, 42, 27, 28, 182, 0, 79, 133, 181, 0, 13, 167, 0, 11, 58, 4, 4, 172, 58, 4, 5, 172, 3, 172]
abbrev dktX0_ofTicket_0 : List UInt8 := dkwX0_ofTicket_0 ++ []
theorem dksX0_ofTicket_0 : cX0_ofTicket.data.toList.drop 0 = dktX0_ofTicket_0 := by decide +kernel
theorem dX0_ofTicket_0 : decode cX0_ofTicket 0 = .ok (.aload_n 3, 1) := dk_45 (dk_at dksX0_ofTicket_0 0 rfl rfl)
theorem dX0_ofTicket_1 : decode cX0_ofTicket 1 = .ok (.aload_n 0, 1) := dk_42 (dk_at dksX0_ofTicket_0 1 rfl rfl)
theorem dX0_ofTicket_2 : decode cX0_ofTicket 2 = .ok (.iload_n 1, 1) := dk_27 (dk_at dksX0_ofTicket_0 2 rfl rfl)
theorem dX0_ofTicket_3 : decode cX0_ofTicket 3 = .ok (.iload_n 2, 1) := dk_28 (dk_at dksX0_ofTicket_0 3 rfl rfl)
theorem dX0_ofTicket_4 : decode cX0_ofTicket 4 = .ok (.invokevirtual 79, 3) := dk_182 0 79 (dk_at dksX0_ofTicket_0 4 rfl rfl)
theorem dX0_ofTicket_7 : decode cX0_ofTicket 7 = .ok (.i2l, 1) := dk_133 (dk_at dksX0_ofTicket_0 7 rfl rfl)
theorem dX0_ofTicket_8 : decode cX0_ofTicket 8 = .ok (.putfield 13, 3) := dk_181 0 13 (dk_at dksX0_ofTicket_0 8 rfl rfl)
theorem dX0_ofTicket_11 : decode cX0_ofTicket 11 = .ok (.goto 11, 3) := dk_167 0 11 (dk_at dksX0_ofTicket_0 11 rfl rfl)
theorem dX0_ofTicket_14 : decode cX0_ofTicket 14 = .ok (.astore 4, 2) := dk_58 4 (dk_at dksX0_ofTicket_0 14 rfl rfl)
theorem dX0_ofTicket_16 : decode cX0_ofTicket 16 = .ok (.iconst 1, 1) := dk_4 (dk_at dksX0_ofTicket_0 16 rfl rfl)
theorem dX0_ofTicket_17 : decode cX0_ofTicket 17 = .ok (.ireturn, 1) := dk_172 (dk_at dksX0_ofTicket_0 17 rfl rfl)
theorem dX0_ofTicket_18 : decode cX0_ofTicket 18 = .ok (.astore 4, 2) := dk_58 4 (dk_at dksX0_ofTicket_0 18 rfl rfl)
theorem dX0_ofTicket_20 : decode cX0_ofTicket 20 = .ok (.iconst 2, 1) := dk_5 (dk_at dksX0_ofTicket_0 20 rfl rfl)
theorem dX0_ofTicket_21 : decode cX0_ofTicket 21 = .ok (.ireturn, 1) := dk_172 (dk_at dksX0_ofTicket_0 21 rfl rfl)
theorem dX0_ofTicket_22 : decode cX0_ofTicket 22 = .ok (.iconst 0, 1) := dk_3 (dk_at dksX0_ofTicket_0 22 rfl rfl)
theorem dX0_ofTicket_23 : decode cX0_ofTicket 23 = .ok (.ireturn, 1) := dk_172 (dk_at dksX0_ofTicket_0 23 rfl rfl)
abbrev cX0_carrier : ByteArray := method_20_code
def yX0_carrier : MethodName := ⟨RX0, "carrier", "(LRollover;IILRolloverLaw$Out;)I"⟩
def dkwX0_carrier_0 : List UInt8 := [45, 42, 27, 28, 182, 0, 82, 133, 181, 0, 13, 167, 0, 11, 58, 4, 4, 172, 58, 4, 5, 172, 3, 172]
abbrev dktX0_carrier_0 : List UInt8 := dkwX0_carrier_0 ++ []
theorem dksX0_carrier_0 : cX0_carrier.data.toList.drop 0 = dktX0_carrier_0 := by decide +kernel
theorem dX0_carrier_0 : decode cX0_carrier 0 = .ok (.aload_n 3, 1) := dk_45 (dk_at dksX0_carrier_0 0 rfl rfl)
theorem dX0_carrier_1 : decode cX0_carrier 1 = .ok (.aload_n 0, 1) := dk_42 (dk_at dksX0_carrier_0 1 rfl rfl)
theorem dX0_carrier_2 : decode cX0_carrier 2 = .ok (.iload_n 1, 1) := dk_27 (dk_at dksX0_carrier_0 2 rfl rfl)
theorem dX0_carrier_3 : decode cX0_carrier 3 = .ok (.iload_n 2, 1) := dk_28 (dk_at dksX0_carrier_0 3 rfl rfl)
theorem dX0_carrier_4 : decode cX0_carrier 4 = .ok (.invokevirtual 82, 3) := dk_182 0 82 (dk_at dksX0_carrier_0 4 rfl rfl)
theorem dX0_carrier_7 : decode cX0_carrier 7 = .ok (.i2l, 1) := dk_133 (dk_at dksX0_carrier_0 7 rfl rfl)
theorem dX0_carrier_8 : decode cX0_carrier 8 = .ok (.putfield 13, 3) := dk_181 0 13 (dk_at dksX0_carrier_0 8 rfl rfl)
theorem dX0_carrier_11 : decode cX0_carrier 11 = .ok (.goto 11, 3) := dk_167 0 11 (dk_at dksX0_carrier_0 11 rfl rfl)
theorem dX0_carrier_14 : decode cX0_carrier 14 = .ok (.astore 4, 2) := dk_58 4 (dk_at dksX0_carrier_0 14 rfl rfl)
theorem dX0_carrier_16 : decode cX0_carrier 16 = .ok (.iconst 1, 1) := dk_4 (dk_at dksX0_carrier_0 16 rfl rfl)
theorem dX0_carrier_17 : decode cX0_carrier 17 = .ok (.ireturn, 1) := dk_172 (dk_at dksX0_carrier_0 17 rfl rfl)
theorem dX0_carrier_18 : decode cX0_carrier 18 = .ok (.astore 4, 2) := dk_58 4 (dk_at dksX0_carrier_0 18 rfl rfl)
theorem dX0_carrier_20 : decode cX0_carrier 20 = .ok (.iconst 2, 1) := dk_5 (dk_at dksX0_carrier_0 20 rfl rfl)
theorem dX0_carrier_21 : decode cX0_carrier 21 = .ok (.ireturn, 1) := dk_172 (dk_at dksX0_carrier_0 21 rfl rfl)
theorem dX0_carrier_22 : decode cX0_carrier 22 = .ok (.iconst 0, 1) := dk_3 (dk_at dksX0_carrier_0 22 rfl rfl)
theorem dX0_carrier_23 : decode cX0_carrier 23 = .ok (.ireturn, 1) := dk_172 (dk_at dksX0_carrier_0 23 rfl rfl)
abbrev cX0_settlement : ByteArray := method_21_code
def yX0_settlement : MethodName := ⟨RX0, "settlement", "(LRollover;ILRolloverLaw$Out;)I"⟩
def dkwX0_settlement_0 : List UInt8 := [44, 42, 27, 182, 0, 85, 133, 181, 0, 13, 167, 0, 6, 78, 4, 172, 3, 172]
abbrev dktX0_settlement_0 : List UInt8 := dkwX0_settlement_0 ++ []
theorem dksX0_settlement_0 : cX0_settlement.data.toList.drop 0 = dktX0_settlement_0 := by decide +kernel
theorem dX0_settlement_0 : decode cX0_settlement 0 = .ok (.aload_n 2, 1) := dk_44 (dk_at dksX0_settlement_0 0 rfl rfl)
theorem dX0_settlement_1 : decode cX0_settlement 1 = .ok (.aload_n 0, 1) := dk_42 (dk_at dksX0_settlement_0 1 rfl rfl)
theorem dX0_settlement_2 : decode cX0_settlement 2 = .ok (.iload_n 1, 1) := dk_27 (dk_at dksX0_settlement_0 2 rfl rfl)
theorem dX0_settlement_3 : decode cX0_settlement 3 = .ok (.invokevirtual 85, 3) := dk_182 0 85 (dk_at dksX0_settlement_0 3 rfl rfl)
theorem dX0_settlement_6 : decode cX0_settlement 6 = .ok (.i2l, 1) := dk_133 (dk_at dksX0_settlement_0 6 rfl rfl)
theorem dX0_settlement_7 : decode cX0_settlement 7 = .ok (.putfield 13, 3) := dk_181 0 13 (dk_at dksX0_settlement_0 7 rfl rfl)
theorem dX0_settlement_10 : decode cX0_settlement 10 = .ok (.goto 6, 3) := dk_167 0 6 (dk_at dksX0_settlement_0 10 rfl rfl)
theorem dX0_settlement_13 : decode cX0_settlement 13 = .ok (.astore_n 3, 1) := dk_78 (dk_at dksX0_settlement_0 13 rfl rfl)
theorem dX0_settlement_14 : decode cX0_settlement 14 = .ok (.iconst 1, 1) := dk_4 (dk_at dksX0_settlement_0 14 rfl rfl)
theorem dX0_settlement_15 : decode cX0_settlement 15 = .ok (.ireturn, 1) := dk_172 (dk_at dksX0_settlement_0 15 rfl rfl)
theorem dX0_settlement_16 : decode cX0_settlement 16 = .ok (.iconst 0, 1) := dk_3 (dk_at dksX0_settlement_0 16 rfl rfl)
theorem dX0_settlement_17 : decode cX0_settlement 17 = .ok (.ireturn, 1) := dk_172 (dk_at dksX0_settlement_0 17 rfl rfl)
abbrev cX0_suspect : ByteArray := method_22_code
def yX0_suspect : MethodName := ⟨RX0, "suspect", "(LRollover;ILRolloverLaw$Out;)I"⟩
def dkwX0_suspect_0 : List UInt8 := [44, 42, 27, 182, 0, 88, 133, 181, 0, 13, 167, 0, 6, 78, 4, 172, 3, 172]
abbrev dktX0_suspect_0 : List UInt8 := dkwX0_suspect_0 ++ []
theorem dksX0_suspect_0 : cX0_suspect.data.toList.drop 0 = dktX0_suspect_0 := by decide +kernel
theorem dX0_suspect_0 : decode cX0_suspect 0 = .ok (.aload_n 2, 1) := dk_44 (dk_at dksX0_suspect_0 0 rfl rfl)
theorem dX0_suspect_1 : decode cX0_suspect 1 = .ok (.aload_n 0, 1) := dk_42 (dk_at dksX0_suspect_0 1 rfl rfl)
theorem dX0_suspect_2 : decode cX0_suspect 2 = .ok (.iload_n 1, 1) := dk_27 (dk_at dksX0_suspect_0 2 rfl rfl)
theorem dX0_suspect_3 : decode cX0_suspect 3 = .ok (.invokevirtual 88, 3) := dk_182 0 88 (dk_at dksX0_suspect_0 3 rfl rfl)
theorem dX0_suspect_6 : decode cX0_suspect 6 = .ok (.i2l, 1) := dk_133 (dk_at dksX0_suspect_0 6 rfl rfl)
theorem dX0_suspect_7 : decode cX0_suspect 7 = .ok (.putfield 13, 3) := dk_181 0 13 (dk_at dksX0_suspect_0 7 rfl rfl)
theorem dX0_suspect_10 : decode cX0_suspect 10 = .ok (.goto 6, 3) := dk_167 0 6 (dk_at dksX0_suspect_0 10 rfl rfl)
theorem dX0_suspect_13 : decode cX0_suspect 13 = .ok (.astore_n 3, 1) := dk_78 (dk_at dksX0_suspect_0 13 rfl rfl)
theorem dX0_suspect_14 : decode cX0_suspect 14 = .ok (.iconst 1, 1) := dk_4 (dk_at dksX0_suspect_0 14 rfl rfl)
theorem dX0_suspect_15 : decode cX0_suspect 15 = .ok (.ireturn, 1) := dk_172 (dk_at dksX0_suspect_0 15 rfl rfl)
theorem dX0_suspect_16 : decode cX0_suspect 16 = .ok (.iconst 0, 1) := dk_3 (dk_at dksX0_suspect_0 16 rfl rfl)
theorem dX0_suspect_17 : decode cX0_suspect 17 = .ok (.ireturn, 1) := dk_172 (dk_at dksX0_suspect_0 17 rfl rfl)
abbrev cX0_house : ByteArray := method_23_code
def yX0_house : MethodName := ⟨RX0, "house", "(LRollover;ILRolloverLaw$Out;)I"⟩
def dkwX0_house_0 : List UInt8 := [44, 42, 27, 182, 0, 91, 133, 181, 0, 13, 167, 0, 6, 78, 4, 172, 3, 172]
abbrev dktX0_house_0 : List UInt8 := dkwX0_house_0 ++ []
theorem dksX0_house_0 : cX0_house.data.toList.drop 0 = dktX0_house_0 := by decide +kernel
theorem dX0_house_0 : decode cX0_house 0 = .ok (.aload_n 2, 1) := dk_44 (dk_at dksX0_house_0 0 rfl rfl)
theorem dX0_house_1 : decode cX0_house 1 = .ok (.aload_n 0, 1) := dk_42 (dk_at dksX0_house_0 1 rfl rfl)
theorem dX0_house_2 : decode cX0_house 2 = .ok (.iload_n 1, 1) := dk_27 (dk_at dksX0_house_0 2 rfl rfl)
theorem dX0_house_3 : decode cX0_house 3 = .ok (.invokevirtual 91, 3) := dk_182 0 91 (dk_at dksX0_house_0 3 rfl rfl)
theorem dX0_house_6 : decode cX0_house 6 = .ok (.i2l, 1) := dk_133 (dk_at dksX0_house_0 6 rfl rfl)
theorem dX0_house_7 : decode cX0_house 7 = .ok (.putfield 13, 3) := dk_181 0 13 (dk_at dksX0_house_0 7 rfl rfl)
theorem dX0_house_10 : decode cX0_house 10 = .ok (.goto 6, 3) := dk_167 0 6 (dk_at dksX0_house_0 10 rfl rfl)
theorem dX0_house_13 : decode cX0_house 13 = .ok (.astore_n 3, 1) := dk_78 (dk_at dksX0_house_0 13 rfl rfl)
theorem dX0_house_14 : decode cX0_house 14 = .ok (.iconst 1, 1) := dk_4 (dk_at dksX0_house_0 14 rfl rfl)
theorem dX0_house_15 : decode cX0_house 15 = .ok (.ireturn, 1) := dk_172 (dk_at dksX0_house_0 15 rfl rfl)
theorem dX0_house_16 : decode cX0_house 16 = .ok (.iconst 0, 1) := dk_3 (dk_at dksX0_house_0 16 rfl rfl)
theorem dX0_house_17 : decode cX0_house 17 = .ok (.ireturn, 1) := dk_172 (dk_at dksX0_house_0 17 rfl rfl)
abbrev cX0_line : ByteArray := method_24_code
def yX0_line : MethodName := ⟨RX0, "line", "(LRollover;ILRolloverLaw$Out;)I"⟩
def dkwX0_line_0 : List UInt8 := [44, 42, 27, 182, 0, 94, 181, 0, 98, 167, 0, 6, 78, 4, 172, 3, 172]
abbrev dktX0_line_0 : List UInt8 := dkwX0_line_0 ++ []
theorem dksX0_line_0 : cX0_line.data.toList.drop 0 = dktX0_line_0 := by decide +kernel
theorem dX0_line_0 : decode cX0_line 0 = .ok (.aload_n 2, 1) := dk_44 (dk_at dksX0_line_0 0 rfl rfl)
theorem dX0_line_1 : decode cX0_line 1 = .ok (.aload_n 0, 1) := dk_42 (dk_at dksX0_line_0 1 rfl rfl)
theorem dX0_line_2 : decode cX0_line 2 = .ok (.iload_n 1, 1) := dk_27 (dk_at dksX0_line_0 2 rfl rfl)
theorem dX0_line_3 : decode cX0_line 3 = .ok (.invokevirtual 94, 3) := dk_182 0 94 (dk_at dksX0_line_0 3 rfl rfl)
theorem dX0_line_6 : decode cX0_line 6 = .ok (.putfield 98, 3) := dk_181 0 98 (dk_at dksX0_line_0 6 rfl rfl)
theorem dX0_line_9 : decode cX0_line 9 = .ok (.goto 6, 3) := dk_167 0 6 (dk_at dksX0_line_0 9 rfl rfl)
theorem dX0_line_12 : decode cX0_line 12 = .ok (.astore_n 3, 1) := dk_78 (dk_at dksX0_line_0 12 rfl rfl)
theorem dX0_line_13 : decode cX0_line 13 = .ok (.iconst 1, 1) := dk_4 (dk_at dksX0_line_0 13 rfl rfl)
theorem dX0_line_14 : decode cX0_line 14 = .ok (.ireturn, 1) := dk_172 (dk_at dksX0_line_0 14 rfl rfl)
theorem dX0_line_15 : decode cX0_line 15 = .ok (.iconst 0, 1) := dk_3 (dk_at dksX0_line_0 15 rfl rfl)
theorem dX0_line_16 : decode cX0_line 16 = .ok (.ireturn, 1) := dk_172 (dk_at dksX0_line_0 16 rfl rfl)
abbrev cX0_best : ByteArray := method_25_code
def yX0_best : MethodName := ⟨RX0, "best", "(LRollover;IIZLRolloverLaw$Out;)I"⟩
def dkwX0_best_1 : List UInt8 := [3, 172]
abbrev dktX0_best_1 : List UInt8 := dkwX0_best_1 ++ []
def dkwX0_best_0 : List UInt8 := [25, 4, 42, 27, 28, 29, 182, 0, 102, 133, 181, 0, 13, 167, 0, 11, 58, 5, 4, 172, 58, 5, 5, 172]
abbrev dktX0_best_0 : List UInt8 := dkwX0_best_0 ++ dktX0_best_1
theorem dksX0_best_0 : cX0_best.data.toList.drop 0 = dktX0_best_0 := by decide +kernel
theorem dksX0_best_1 : cX0_best.data.toList.drop 24 = dktX0_best_1 := dk_seg dksX0_best_0 24 rfl rfl
theorem dX0_best_0 : decode cX0_best 0 = .ok (.aload 4, 2) := dk_25 4 (dk_at dksX0_best_0 0 rfl rfl)
theorem dX0_best_2 : decode cX0_best 2 = .ok (.aload_n 0, 1) := dk_42 (dk_at dksX0_best_0 2 rfl rfl)
theorem dX0_best_3 : decode cX0_best 3 = .ok (.iload_n 1, 1) := dk_27 (dk_at dksX0_best_0 3 rfl rfl)
theorem dX0_best_4 : decode cX0_best 4 = .ok (.iload_n 2, 1) := dk_28 (dk_at dksX0_best_0 4 rfl rfl)
theorem dX0_best_5 : decode cX0_best 5 = .ok (.iload_n 3, 1) := dk_29 (dk_at dksX0_best_0 5 rfl rfl)
theorem dX0_best_6 : decode cX0_best 6 = .ok (.invokevirtual 102, 3) := dk_182 0 102 (dk_at dksX0_best_0 6 rfl rfl)
theorem dX0_best_9 : decode cX0_best 9 = .ok (.i2l, 1) := dk_133 (dk_at dksX0_best_0 9 rfl rfl)
theorem dX0_best_10 : decode cX0_best 10 = .ok (.putfield 13, 3) := dk_181 0 13 (dk_at dksX0_best_0 10 rfl rfl)
theorem dX0_best_13 : decode cX0_best 13 = .ok (.goto 11, 3) := dk_167 0 11 (dk_at dksX0_best_0 13 rfl rfl)
theorem dX0_best_16 : decode cX0_best 16 = .ok (.astore 5, 2) := dk_58 5 (dk_at dksX0_best_0 16 rfl rfl)
theorem dX0_best_18 : decode cX0_best 18 = .ok (.iconst 1, 1) := dk_4 (dk_at dksX0_best_0 18 rfl rfl)
theorem dX0_best_19 : decode cX0_best 19 = .ok (.ireturn, 1) := dk_172 (dk_at dksX0_best_0 19 rfl rfl)
theorem dX0_best_20 : decode cX0_best 20 = .ok (.astore 5, 2) := dk_58 5 (dk_at dksX0_best_0 20 rfl rfl)
theorem dX0_best_22 : decode cX0_best 22 = .ok (.iconst 2, 1) := dk_5 (dk_at dksX0_best_0 22 rfl rfl)
theorem dX0_best_23 : decode cX0_best 23 = .ok (.ireturn, 1) := dk_172 (dk_at dksX0_best_0 23 rfl rfl)
theorem dX0_best_24 : decode cX0_best 24 = .ok (.iconst 0, 1) := dk_3 (dk_at dksX0_best_1 0 rfl rfl)
theorem dX0_best_25 : decode cX0_best 25 = .ok (.ireturn, 1) := dk_172 (dk_at dksX0_best_1 1 rfl rfl)
abbrev cX0_wouldCost : ByteArray := method_26_code
def yX0_wouldCost : MethodName := ⟨RX0, "wouldCost", "(LRollover;IIIIILRolloverLaw$Out;)I"⟩
def dkwX0_wouldCost_1 : List UInt8 := [58, 7, 5, 172, 3, 172]
abbrev dktX0_wouldCost_1 : List UInt8 := dkwX0_wouldCost_1 ++ []
def dkwX0_wouldCost_0 : List UInt8 := [25, 6, 42, 27, 28, 29, 21, 4, 21, 5, 182, 0, 106, 133, 181, 0, 13, 167, 0, 11, 58, 7, 4, 172]
abbrev dktX0_wouldCost_0 : List UInt8 := dkwX0_wouldCost_0 ++ dktX0_wouldCost_1
theorem dksX0_wouldCost_0 : cX0_wouldCost.data.toList.drop 0 = dktX0_wouldCost_0 := by decide +kernel
theorem dksX0_wouldCost_1 : cX0_wouldCost.data.toList.drop 24 = dktX0_wouldCost_1 := dk_seg dksX0_wouldCost_0 24 rfl rfl
theorem dX0_wouldCost_0 : decode cX0_wouldCost 0 = .ok (.aload 6, 2) := dk_25 6 (dk_at dksX0_wouldCost_0 0 rfl rfl)
theorem dX0_wouldCost_2 : decode cX0_wouldCost 2 = .ok (.aload_n 0, 1) := dk_42 (dk_at dksX0_wouldCost_0 2 rfl rfl)
theorem dX0_wouldCost_3 : decode cX0_wouldCost 3 = .ok (.iload_n 1, 1) := dk_27 (dk_at dksX0_wouldCost_0 3 rfl rfl)
theorem dX0_wouldCost_4 : decode cX0_wouldCost 4 = .ok (.iload_n 2, 1) := dk_28 (dk_at dksX0_wouldCost_0 4 rfl rfl)
theorem dX0_wouldCost_5 : decode cX0_wouldCost 5 = .ok (.iload_n 3, 1) := dk_29 (dk_at dksX0_wouldCost_0 5 rfl rfl)
theorem dX0_wouldCost_6 : decode cX0_wouldCost 6 = .ok (.iload 4, 2) := dk_21 4 (dk_at dksX0_wouldCost_0 6 rfl rfl)
theorem dX0_wouldCost_8 : decode cX0_wouldCost 8 = .ok (.iload 5, 2) := dk_21 5 (dk_at dksX0_wouldCost_0 8 rfl rfl)
theorem dX0_wouldCost_10 : decode cX0_wouldCost 10 = .ok (.invokevirtual 106, 3) := dk_182 0 106 (dk_at dksX0_wouldCost_0 10 rfl rfl)
theorem dX0_wouldCost_13 : decode cX0_wouldCost 13 = .ok (.i2l, 1) := dk_133 (dk_at dksX0_wouldCost_0 13 rfl rfl)
theorem dX0_wouldCost_14 : decode cX0_wouldCost 14 = .ok (.putfield 13, 3) := dk_181 0 13 (dk_at dksX0_wouldCost_0 14 rfl rfl)
theorem dX0_wouldCost_17 : decode cX0_wouldCost 17 = .ok (.goto 11, 3) := dk_167 0 11 (dk_at dksX0_wouldCost_0 17 rfl rfl)
theorem dX0_wouldCost_20 : decode cX0_wouldCost 20 = .ok (.astore 7, 2) := dk_58 7 (dk_at dksX0_wouldCost_0 20 rfl rfl)
theorem dX0_wouldCost_22 : decode cX0_wouldCost 22 = .ok (.iconst 1, 1) := dk_4 (dk_at dksX0_wouldCost_0 22 rfl rfl)
theorem dX0_wouldCost_23 : decode cX0_wouldCost 23 = .ok (.ireturn, 1) := dk_172 (dk_at dksX0_wouldCost_0 23 rfl rfl)
theorem dX0_wouldCost_24 : decode cX0_wouldCost 24 = .ok (.astore 7, 2) := dk_58 7 (dk_at dksX0_wouldCost_1 0 rfl rfl)
theorem dX0_wouldCost_26 : decode cX0_wouldCost 26 = .ok (.iconst 2, 1) := dk_5 (dk_at dksX0_wouldCost_1 2 rfl rfl)
theorem dX0_wouldCost_27 : decode cX0_wouldCost 27 = .ok (.ireturn, 1) := dk_172 (dk_at dksX0_wouldCost_1 3 rfl rfl)
theorem dX0_wouldCost_28 : decode cX0_wouldCost 28 = .ok (.iconst 0, 1) := dk_3 (dk_at dksX0_wouldCost_1 4 rfl rfl)
theorem dX0_wouldCost_29 : decode cX0_wouldCost 29 = .ok (.ireturn, 1) := dk_172 (dk_at dksX0_wouldCost_1 5 rfl rfl)
theorem q69 : (Jvm.Cond.initialized "RolloverLaw") ∈ lw_all := lw_g (lw_at lw_m1 0 rfl) rfl
theorem q115 : (Jvm.Cond.classLink "RolloverLaw" (8 : Nat) "Rollover") ∈ lw_all := lw_g (lw_at lw_m1 46 rfl) rfl
theorem q117 : (Jvm.Cond.methodLink "RolloverLaw" (109 : Nat) ({ cls := "Rollover", name := "<init>", desc := "()V" } : Jvm.MethodName)) ∈ lw_all := lw_g (lw_at lw_m1 48 rfl) rfl
theorem q304 : (Jvm.Cond.methodLink "RolloverLaw" (209 : Nat) ({ cls := "Rollover", name := "isSound", desc := "()Z" } : Jvm.MethodName)) ∈ lw_all := lw_g (lw_at lw_m1 235 rfl) rfl
theorem q619 : (Jvm.Cond.methodLink "RolloverLaw" (214 : Nat) ({ cls := "Rollover", name := "digest", desc := "()J" } : Jvm.MethodName)) ∈ lw_all := lw_g (lw_at lw_m3 70 rfl) rfl
theorem q760 : (Jvm.Cond.classLink "RolloverLaw" (14 : Nat) "RolloverLaw$Out") ∈ lw_all := lw_g (lw_at lw_m3 211 rfl) rfl
theorem q762 : (Jvm.Cond.methodLinkNest "RolloverLaw" (113 : Nat) ({ cls := "RolloverLaw$Out", name := "<init>", desc := "()V" } : Jvm.MethodName) "RolloverLaw") ∈ lw_tbl := lw_at lw_m3 213 rfl
theorem q766 : (Jvm.Cond.fieldLinkNest "RolloverLaw" (13 : Nat) "RolloverLaw$Out" "n" "J" "RolloverLaw") ∈ lw_tbl := lw_at lw_m3 217 rfl
theorem q767 : (Jvm.Cond.fieldLinkNest "RolloverLaw" (98 : Nat) "RolloverLaw$Out" "s" "Ljava/lang/String;" "RolloverLaw") ∈ lw_tbl := lw_at lw_m3 218 rfl
theorem q773 : (Jvm.Cond.methodLink "RolloverLaw" (114 : Nat) ({ cls := "RolloverLaw", name := "plan", desc := "(LRollover;IIILRolloverLaw$Out;)I" } : Jvm.MethodName)) ∈ lw_all := lw_g (lw_at lw_m3 224 rfl) rfl
theorem q774 : (Jvm.Cond.static ({ cls := "RolloverLaw", name := "plan", desc := "(LRollover;IIILRolloverLaw$Out;)I" } : Jvm.MethodName)) ∈ lw_all := lw_g (lw_at lw_m3 225 rfl) rfl
theorem q775 : (Jvm.Cond.codeWith ({ cls := "RolloverLaw", name := "plan", desc := "(LRollover;IIILRolloverLaw$Out;)I" } : Jvm.MethodName) method_2_code (6 : Nat) (Option.some Jvm.ClassFile.FieldType.int) [((0 : Nat), (13 : Nat), (16 : Nat), (19 : Nat)), ((0 : Nat), (13 : Nat), (20 : Nat), (21 : Nat))]) ∈ lw_all := lw_g (lw_at lw_m3 226 rfl) rfl
theorem q776 : (Jvm.Cond.classLink "RolloverLaw" (19 : Nat) "java/lang/IllegalArgumentException") ∈ lw_all := lw_g (lw_at lw_m3 227 rfl) rfl
theorem q777 : (Jvm.Cond.classLink "RolloverLaw" (21 : Nat) "java/lang/IllegalStateException") ∈ lw_all := lw_g (lw_at lw_m3 228 rfl) rfl
theorem q778 : (Jvm.Cond.methodLink "RolloverLaw" (7 : Nat) ({ cls := "Rollover", name := "plan", desc := "(III)I" } : Jvm.MethodName)) ∈ lw_all := lw_g (lw_at lw_m3 229 rfl) rfl
theorem q917 : (Jvm.Cond.methodLink "RolloverLaw" (124 : Nat) ({ cls := "RolloverLaw", name := "units", desc := "(LRollover;IIIIZLRolloverLaw$Out;)I" } : Jvm.MethodName)) ∈ lw_all := lw_g (lw_at lw_m4 128 rfl) rfl
theorem q918 : (Jvm.Cond.static ({ cls := "RolloverLaw", name := "units", desc := "(LRollover;IIIIZLRolloverLaw$Out;)I" } : Jvm.MethodName)) ∈ lw_all := lw_g (lw_at lw_m4 129 rfl) rfl
theorem q919 : (Jvm.Cond.codeWith ({ cls := "RolloverLaw", name := "units", desc := "(LRollover;IIIIZLRolloverLaw$Out;)I" } : Jvm.MethodName) method_3_code (8 : Nat) (Option.some Jvm.ClassFile.FieldType.int) [((0 : Nat), (17 : Nat), (20 : Nat), (27 : Nat)), ((0 : Nat), (17 : Nat), (24 : Nat), (19 : Nat))]) ∈ lw_all := lw_g (lw_at lw_m4 130 rfl) rfl
theorem q920 : (Jvm.Cond.classLink "RolloverLaw" (27 : Nat) "java/lang/IndexOutOfBoundsException") ∈ lw_all := lw_g (lw_at lw_m4 131 rfl) rfl
theorem q953 : (Jvm.Cond.methodLink "RolloverLaw" (23 : Nat) ({ cls := "Rollover", name := "units", desc := "(IIIIZ)I" } : Jvm.MethodName)) ∈ lw_all := lw_g (lw_at lw_m4 164 rfl) rfl
theorem q979 : (Jvm.Cond.methodLink "RolloverLaw" (128 : Nat) ({ cls := "RolloverLaw", name := "steps", desc := "(LRollover;IIIILRolloverLaw$Out;)I" } : Jvm.MethodName)) ∈ lw_all := lw_g (lw_at lw_m4 190 rfl) rfl
theorem q980 : (Jvm.Cond.static ({ cls := "RolloverLaw", name := "steps", desc := "(LRollover;IIIILRolloverLaw$Out;)I" } : Jvm.MethodName)) ∈ lw_all := lw_g (lw_at lw_m4 191 rfl) rfl
theorem q981 : (Jvm.Cond.codeWith ({ cls := "RolloverLaw", name := "steps", desc := "(LRollover;IIIILRolloverLaw$Out;)I" } : Jvm.MethodName) method_4_code (7 : Nat) (Option.some Jvm.ClassFile.FieldType.int) [((0 : Nat), (15 : Nat), (18 : Nat), (27 : Nat)), ((0 : Nat), (15 : Nat), (22 : Nat), (19 : Nat))]) ∈ lw_all := lw_g (lw_at lw_m4 192 rfl) rfl
theorem q982 : (Jvm.Cond.methodLink "RolloverLaw" (29 : Nat) ({ cls := "Rollover", name := "steps", desc := "(IIII)I" } : Jvm.MethodName)) ∈ lw_all := lw_g (lw_at lw_m4 193 rfl) rfl
theorem q986 : (Jvm.Cond.methodLink "RolloverLaw" (132 : Nat) ({ cls := "RolloverLaw", name := "join", desc := "(LRollover;IILRolloverLaw$Out;)I" } : Jvm.MethodName)) ∈ lw_all := lw_g (lw_at lw_m4 197 rfl) rfl
theorem q987 : (Jvm.Cond.static ({ cls := "RolloverLaw", name := "join", desc := "(LRollover;IILRolloverLaw$Out;)I" } : Jvm.MethodName)) ∈ lw_all := lw_g (lw_at lw_m4 198 rfl) rfl
theorem q988 : (Jvm.Cond.codeWith ({ cls := "RolloverLaw", name := "join", desc := "(LRollover;IILRolloverLaw$Out;)I" } : Jvm.MethodName) method_5_code (5 : Nat) (Option.some Jvm.ClassFile.FieldType.int) [((0 : Nat), (11 : Nat), (14 : Nat), (27 : Nat)), ((0 : Nat), (11 : Nat), (18 : Nat), (19 : Nat)), ((0 : Nat), (11 : Nat), (22 : Nat), (21 : Nat))]) ∈ lw_all := lw_g (lw_at lw_m4 199 rfl) rfl
theorem q989 : (Jvm.Cond.methodLink "RolloverLaw" (33 : Nat) ({ cls := "Rollover", name := "join", desc := "(II)I" } : Jvm.MethodName)) ∈ lw_all := lw_g (lw_at lw_m4 200 rfl) rfl
theorem q1025 : (Jvm.Cond.methodLink "RolloverLaw" (136 : Nat) ({ cls := "RolloverLaw", name := "change", desc := "(LRollover;IILRolloverLaw$Out;)I" } : Jvm.MethodName)) ∈ lw_all := lw_g (lw_at lw_m4 236 rfl) rfl
theorem q1026 : (Jvm.Cond.static ({ cls := "RolloverLaw", name := "change", desc := "(LRollover;IILRolloverLaw$Out;)I" } : Jvm.MethodName)) ∈ lw_all := lw_g (lw_at lw_m4 237 rfl) rfl
theorem q1027 : (Jvm.Cond.codeWith ({ cls := "RolloverLaw", name := "change", desc := "(LRollover;IILRolloverLaw$Out;)I" } : Jvm.MethodName) method_6_code (5 : Nat) (Option.some Jvm.ClassFile.FieldType.int) [((0 : Nat), (11 : Nat), (14 : Nat), (27 : Nat))]) ∈ lw_all := lw_g (lw_at lw_m4 238 rfl) rfl
theorem q1028 : (Jvm.Cond.methodLink "RolloverLaw" (37 : Nat) ({ cls := "Rollover", name := "change", desc := "(II)I" } : Jvm.MethodName)) ∈ lw_all := lw_g (lw_at lw_m4 239 rfl) rfl
theorem q1036 : (Jvm.Cond.methodLink "RolloverLaw" (139 : Nat) ({ cls := "RolloverLaw", name := "circle", desc := "(LRollover;IILRolloverLaw$Out;)I" } : Jvm.MethodName)) ∈ lw_all := lw_g (lw_at lw_m5 7 rfl) rfl
theorem q1037 : (Jvm.Cond.static ({ cls := "RolloverLaw", name := "circle", desc := "(LRollover;IILRolloverLaw$Out;)I" } : Jvm.MethodName)) ∈ lw_all := lw_g (lw_at lw_m5 8 rfl) rfl
theorem q1038 : (Jvm.Cond.codeWith ({ cls := "RolloverLaw", name := "circle", desc := "(LRollover;IILRolloverLaw$Out;)I" } : Jvm.MethodName) method_7_code (5 : Nat) (Option.some Jvm.ClassFile.FieldType.int) [((0 : Nat), (11 : Nat), (14 : Nat), (27 : Nat)), ((0 : Nat), (11 : Nat), (18 : Nat), (19 : Nat))]) ∈ lw_all := lw_g (lw_at lw_m5 9 rfl) rfl
theorem q1039 : (Jvm.Cond.methodLink "RolloverLaw" (40 : Nat) ({ cls := "Rollover", name := "circle", desc := "(II)I" } : Jvm.MethodName)) ∈ lw_all := lw_g (lw_at lw_m5 10 rfl) rfl
theorem q1044 : (Jvm.Cond.methodLink "RolloverLaw" (142 : Nat) ({ cls := "RolloverLaw", name := "child", desc := "(LRollover;IIILRolloverLaw$Out;)I" } : Jvm.MethodName)) ∈ lw_all := lw_g (lw_at lw_m5 15 rfl) rfl
theorem q1045 : (Jvm.Cond.static ({ cls := "RolloverLaw", name := "child", desc := "(LRollover;IIILRolloverLaw$Out;)I" } : Jvm.MethodName)) ∈ lw_all := lw_g (lw_at lw_m5 16 rfl) rfl
theorem q1046 : (Jvm.Cond.codeWith ({ cls := "RolloverLaw", name := "child", desc := "(LRollover;IIILRolloverLaw$Out;)I" } : Jvm.MethodName) method_8_code (6 : Nat) (Option.some Jvm.ClassFile.FieldType.int) [((0 : Nat), (13 : Nat), (16 : Nat), (27 : Nat)), ((0 : Nat), (13 : Nat), (20 : Nat), (19 : Nat)), ((0 : Nat), (13 : Nat), (24 : Nat), (21 : Nat))]) ∈ lw_all := lw_g (lw_at lw_m5 17 rfl) rfl
theorem q1047 : (Jvm.Cond.methodLink "RolloverLaw" (43 : Nat) ({ cls := "Rollover", name := "child", desc := "(III)I" } : Jvm.MethodName)) ∈ lw_all := lw_g (lw_at lw_m5 18 rfl) rfl
theorem q1055 : (Jvm.Cond.methodLink "RolloverLaw" (145 : Nat) ({ cls := "RolloverLaw", name := "pass", desc := "(LRollover;ILRolloverLaw$Out;)I" } : Jvm.MethodName)) ∈ lw_all := lw_g (lw_at lw_m5 26 rfl) rfl
theorem q1056 : (Jvm.Cond.static ({ cls := "RolloverLaw", name := "pass", desc := "(LRollover;ILRolloverLaw$Out;)I" } : Jvm.MethodName)) ∈ lw_all := lw_g (lw_at lw_m5 27 rfl) rfl
theorem q1057 : (Jvm.Cond.codeWith ({ cls := "RolloverLaw", name := "pass", desc := "(LRollover;ILRolloverLaw$Out;)I" } : Jvm.MethodName) method_9_code (4 : Nat) (Option.some Jvm.ClassFile.FieldType.int) [((0 : Nat), (10 : Nat), (13 : Nat), (19 : Nat)), ((0 : Nat), (10 : Nat), (16 : Nat), (21 : Nat))]) ∈ lw_all := lw_g (lw_at lw_m5 28 rfl) rfl
theorem q1058 : (Jvm.Cond.methodLink "RolloverLaw" (46 : Nat) ({ cls := "Rollover", name := "pass", desc := "(I)I" } : Jvm.MethodName)) ∈ lw_all := lw_g (lw_at lw_m5 29 rfl) rfl
theorem q1062 : (Jvm.Cond.methodLink "RolloverLaw" (149 : Nat) ({ cls := "RolloverLaw", name := "call", desc := "(LRollover;IIIIIILRolloverLaw$Out;)I" } : Jvm.MethodName)) ∈ lw_all := lw_g (lw_at lw_m5 33 rfl) rfl
theorem q1063 : (Jvm.Cond.static ({ cls := "RolloverLaw", name := "call", desc := "(LRollover;IIIIIILRolloverLaw$Out;)I" } : Jvm.MethodName)) ∈ lw_all := lw_g (lw_at lw_m5 34 rfl) rfl
theorem q1064 : (Jvm.Cond.codeWith ({ cls := "RolloverLaw", name := "call", desc := "(LRollover;IIIIIILRolloverLaw$Out;)I" } : Jvm.MethodName) method_10_code (9 : Nat) (Option.some Jvm.ClassFile.FieldType.int) [((0 : Nat), (19 : Nat), (22 : Nat), (27 : Nat)), ((0 : Nat), (19 : Nat), (26 : Nat), (19 : Nat)), ((0 : Nat), (19 : Nat), (30 : Nat), (21 : Nat))]) ∈ lw_all := lw_g (lw_at lw_m5 35 rfl) rfl
theorem q1065 : (Jvm.Cond.methodLink "RolloverLaw" (50 : Nat) ({ cls := "Rollover", name := "call", desc := "(IIIIII)I" } : Jvm.MethodName)) ∈ lw_all := lw_g (lw_at lw_m5 36 rfl) rfl
theorem q1140 : (Jvm.Cond.methodLink "RolloverLaw" (153 : Nat) ({ cls := "RolloverLaw", name := "gift", desc := "(LRollover;IIIIILRolloverLaw$Out;)I" } : Jvm.MethodName)) ∈ lw_all := lw_g (lw_at lw_m5 111 rfl) rfl
theorem q1141 : (Jvm.Cond.static ({ cls := "RolloverLaw", name := "gift", desc := "(LRollover;IIIIILRolloverLaw$Out;)I" } : Jvm.MethodName)) ∈ lw_all := lw_g (lw_at lw_m5 112 rfl) rfl
theorem q1142 : (Jvm.Cond.codeWith ({ cls := "RolloverLaw", name := "gift", desc := "(LRollover;IIIIILRolloverLaw$Out;)I" } : Jvm.MethodName) method_11_code (8 : Nat) (Option.some Jvm.ClassFile.FieldType.int) [((0 : Nat), (17 : Nat), (20 : Nat), (27 : Nat)), ((0 : Nat), (17 : Nat), (24 : Nat), (19 : Nat)), ((0 : Nat), (17 : Nat), (28 : Nat), (21 : Nat))]) ∈ lw_all := lw_g (lw_at lw_m5 113 rfl) rfl
theorem q1143 : (Jvm.Cond.methodLink "RolloverLaw" (54 : Nat) ({ cls := "Rollover", name := "gift", desc := "(IIIII)I" } : Jvm.MethodName)) ∈ lw_all := lw_g (lw_at lw_m5 114 rfl) rfl
theorem q1149 : (Jvm.Cond.methodLink "RolloverLaw" (157 : Nat) ({ cls := "RolloverLaw", name := "addOn", desc := "(LRollover;IIIIIILRolloverLaw$Out;)I" } : Jvm.MethodName)) ∈ lw_all := lw_g (lw_at lw_m5 120 rfl) rfl
theorem q1150 : (Jvm.Cond.static ({ cls := "RolloverLaw", name := "addOn", desc := "(LRollover;IIIIIILRolloverLaw$Out;)I" } : Jvm.MethodName)) ∈ lw_all := lw_g (lw_at lw_m5 121 rfl) rfl
theorem q1151 : (Jvm.Cond.codeWith ({ cls := "RolloverLaw", name := "addOn", desc := "(LRollover;IIIIIILRolloverLaw$Out;)I" } : Jvm.MethodName) method_12_code (9 : Nat) (Option.some Jvm.ClassFile.FieldType.int) [((0 : Nat), (19 : Nat), (22 : Nat), (27 : Nat)), ((0 : Nat), (19 : Nat), (26 : Nat), (19 : Nat)), ((0 : Nat), (19 : Nat), (30 : Nat), (21 : Nat))]) ∈ lw_all := lw_g (lw_at lw_m5 122 rfl) rfl
theorem q1152 : (Jvm.Cond.methodLink "RolloverLaw" (58 : Nat) ({ cls := "Rollover", name := "addOn", desc := "(IIIIII)I" } : Jvm.MethodName)) ∈ lw_all := lw_g (lw_at lw_m5 123 rfl) rfl
theorem q1158 : (Jvm.Cond.methodLink "RolloverLaw" (160 : Nat) ({ cls := "RolloverLaw", name := "correct", desc := "(LRollover;IILRolloverLaw$Out;)I" } : Jvm.MethodName)) ∈ lw_all := lw_g (lw_at lw_m5 129 rfl) rfl
theorem q1159 : (Jvm.Cond.static ({ cls := "RolloverLaw", name := "correct", desc := "(LRollover;IILRolloverLaw$Out;)I" } : Jvm.MethodName)) ∈ lw_all := lw_g (lw_at lw_m5 130 rfl) rfl
theorem q1160 : (Jvm.Cond.codeWith ({ cls := "RolloverLaw", name := "correct", desc := "(LRollover;IILRolloverLaw$Out;)I" } : Jvm.MethodName) method_13_code (5 : Nat) (Option.some Jvm.ClassFile.FieldType.int) [((0 : Nat), (11 : Nat), (14 : Nat), (27 : Nat)), ((0 : Nat), (11 : Nat), (18 : Nat), (19 : Nat)), ((0 : Nat), (11 : Nat), (22 : Nat), (21 : Nat))]) ∈ lw_all := lw_g (lw_at lw_m5 131 rfl) rfl
theorem q1161 : (Jvm.Cond.methodLink "RolloverLaw" (61 : Nat) ({ cls := "Rollover", name := "correct", desc := "(II)I" } : Jvm.MethodName)) ∈ lw_all := lw_g (lw_at lw_m5 132 rfl) rfl
theorem q1169 : (Jvm.Cond.methodLink "RolloverLaw" (163 : Nat) ({ cls := "RolloverLaw", name := "undo", desc := "(LRollover;ILRolloverLaw$Out;)I" } : Jvm.MethodName)) ∈ lw_all := lw_g (lw_at lw_m5 140 rfl) rfl
theorem q1170 : (Jvm.Cond.static ({ cls := "RolloverLaw", name := "undo", desc := "(LRollover;ILRolloverLaw$Out;)I" } : Jvm.MethodName)) ∈ lw_all := lw_g (lw_at lw_m5 141 rfl) rfl
theorem q1171 : (Jvm.Cond.codeWith ({ cls := "RolloverLaw", name := "undo", desc := "(LRollover;ILRolloverLaw$Out;)I" } : Jvm.MethodName) method_14_code (4 : Nat) (Option.some Jvm.ClassFile.FieldType.int) [((0 : Nat), (10 : Nat), (13 : Nat), (27 : Nat)), ((0 : Nat), (10 : Nat), (16 : Nat), (21 : Nat))]) ∈ lw_all := lw_g (lw_at lw_m5 142 rfl) rfl
theorem q1172 : (Jvm.Cond.methodLink "RolloverLaw" (64 : Nat) ({ cls := "Rollover", name := "undo", desc := "(I)I" } : Jvm.MethodName)) ∈ lw_all := lw_g (lw_at lw_m5 143 rfl) rfl
theorem q1176 : (Jvm.Cond.methodLink "RolloverLaw" (166 : Nat) ({ cls := "RolloverLaw", name := "port", desc := "(LRollover;IIILRolloverLaw$Out;)I" } : Jvm.MethodName)) ∈ lw_all := lw_g (lw_at lw_m5 147 rfl) rfl
theorem q1177 : (Jvm.Cond.static ({ cls := "RolloverLaw", name := "port", desc := "(LRollover;IIILRolloverLaw$Out;)I" } : Jvm.MethodName)) ∈ lw_all := lw_g (lw_at lw_m5 148 rfl) rfl
theorem q1178 : (Jvm.Cond.codeWith ({ cls := "RolloverLaw", name := "port", desc := "(LRollover;IIILRolloverLaw$Out;)I" } : Jvm.MethodName) method_15_code (6 : Nat) (Option.some Jvm.ClassFile.FieldType.int) [((0 : Nat), (13 : Nat), (16 : Nat), (27 : Nat)), ((0 : Nat), (13 : Nat), (20 : Nat), (19 : Nat)), ((0 : Nat), (13 : Nat), (24 : Nat), (21 : Nat))]) ∈ lw_all := lw_g (lw_at lw_m5 149 rfl) rfl
theorem q1179 : (Jvm.Cond.methodLink "RolloverLaw" (67 : Nat) ({ cls := "Rollover", name := "port", desc := "(III)I" } : Jvm.MethodName)) ∈ lw_all := lw_g (lw_at lw_m5 150 rfl) rfl
theorem q1183 : (Jvm.Cond.methodLink "RolloverLaw" (169 : Nat) ({ cls := "RolloverLaw", name := "incoming", desc := "(LRollover;IILRolloverLaw$Out;)I" } : Jvm.MethodName)) ∈ lw_all := lw_g (lw_at lw_m5 154 rfl) rfl
theorem q1184 : (Jvm.Cond.static ({ cls := "RolloverLaw", name := "incoming", desc := "(LRollover;IILRolloverLaw$Out;)I" } : Jvm.MethodName)) ∈ lw_all := lw_g (lw_at lw_m5 155 rfl) rfl
theorem q1185 : (Jvm.Cond.codeWith ({ cls := "RolloverLaw", name := "incoming", desc := "(LRollover;IILRolloverLaw$Out;)I" } : Jvm.MethodName) method_16_code (5 : Nat) (Option.some Jvm.ClassFile.FieldType.int) [((0 : Nat), (11 : Nat), (14 : Nat), (27 : Nat)), ((0 : Nat), (11 : Nat), (18 : Nat), (19 : Nat))]) ∈ lw_all := lw_g (lw_at lw_m5 156 rfl) rfl
theorem q1186 : (Jvm.Cond.methodLink "RolloverLaw" (70 : Nat) ({ cls := "Rollover", name := "incoming", desc := "(II)I" } : Jvm.MethodName)) ∈ lw_all := lw_g (lw_at lw_m5 157 rfl) rfl
theorem q1193 : (Jvm.Cond.methodLink "RolloverLaw" (172 : Nat) ({ cls := "RolloverLaw", name := "ofDay", desc := "(LRollover;IIILRolloverLaw$Out;)I" } : Jvm.MethodName)) ∈ lw_all := lw_g (lw_at lw_m5 164 rfl) rfl
theorem q1194 : (Jvm.Cond.static ({ cls := "RolloverLaw", name := "ofDay", desc := "(LRollover;IIILRolloverLaw$Out;)I" } : Jvm.MethodName)) ∈ lw_all := lw_g (lw_at lw_m5 165 rfl) rfl
theorem q1195 : (Jvm.Cond.codeWith ({ cls := "RolloverLaw", name := "ofDay", desc := "(LRollover;IIILRolloverLaw$Out;)I" } : Jvm.MethodName) method_17_code (6 : Nat) (Option.some Jvm.ClassFile.FieldType.int) [((0 : Nat), (13 : Nat), (16 : Nat), (27 : Nat)), ((0 : Nat), (13 : Nat), (20 : Nat), (19 : Nat))]) ∈ lw_all := lw_g (lw_at lw_m5 166 rfl) rfl
theorem q1196 : (Jvm.Cond.methodLink "RolloverLaw" (73 : Nat) ({ cls := "Rollover", name := "ofDay", desc := "(III)I" } : Jvm.MethodName)) ∈ lw_all := lw_g (lw_at lw_m5 167 rfl) rfl
theorem q1200 : (Jvm.Cond.methodLink "RolloverLaw" (175 : Nat) ({ cls := "RolloverLaw", name := "ofCycle", desc := "(LRollover;IIILRolloverLaw$Out;)I" } : Jvm.MethodName)) ∈ lw_all := lw_g (lw_at lw_m5 171 rfl) rfl
theorem q1201 : (Jvm.Cond.static ({ cls := "RolloverLaw", name := "ofCycle", desc := "(LRollover;IIILRolloverLaw$Out;)I" } : Jvm.MethodName)) ∈ lw_all := lw_g (lw_at lw_m5 172 rfl) rfl
theorem q1202 : (Jvm.Cond.codeWith ({ cls := "RolloverLaw", name := "ofCycle", desc := "(LRollover;IIILRolloverLaw$Out;)I" } : Jvm.MethodName) method_18_code (6 : Nat) (Option.some Jvm.ClassFile.FieldType.int) [((0 : Nat), (13 : Nat), (16 : Nat), (27 : Nat)), ((0 : Nat), (13 : Nat), (20 : Nat), (19 : Nat))]) ∈ lw_all := lw_g (lw_at lw_m5 173 rfl) rfl
theorem q1203 : (Jvm.Cond.methodLink "RolloverLaw" (76 : Nat) ({ cls := "Rollover", name := "ofCycle", desc := "(III)I" } : Jvm.MethodName)) ∈ lw_all := lw_g (lw_at lw_m5 174 rfl) rfl
theorem q1207 : (Jvm.Cond.methodLink "RolloverLaw" (178 : Nat) ({ cls := "RolloverLaw", name := "ofTicket", desc := "(LRollover;IILRolloverLaw$Out;)I" } : Jvm.MethodName)) ∈ lw_all := lw_g (lw_at lw_m5 178 rfl) rfl
theorem q1208 : (Jvm.Cond.static ({ cls := "RolloverLaw", name := "ofTicket", desc := "(LRollover;IILRolloverLaw$Out;)I" } : Jvm.MethodName)) ∈ lw_all := lw_g (lw_at lw_m5 179 rfl) rfl
theorem q1209 : (Jvm.Cond.codeWith ({ cls := "RolloverLaw", name := "ofTicket", desc := "(LRollover;IILRolloverLaw$Out;)I" } : Jvm.MethodName) method_19_code (5 : Nat) (Option.some Jvm.ClassFile.FieldType.int) [((0 : Nat), (11 : Nat), (14 : Nat), (27 : Nat)), ((0 : Nat), (11 : Nat), (18 : Nat), (19 : Nat))]) ∈ lw_all := lw_g (lw_at lw_m5 180 rfl) rfl
theorem q1210 : (Jvm.Cond.methodLink "RolloverLaw" (79 : Nat) ({ cls := "Rollover", name := "ofTicket", desc := "(II)I" } : Jvm.MethodName)) ∈ lw_all := lw_g (lw_at lw_m5 181 rfl) rfl
theorem q1214 : (Jvm.Cond.methodLink "RolloverLaw" (181 : Nat) ({ cls := "RolloverLaw", name := "carrier", desc := "(LRollover;IILRolloverLaw$Out;)I" } : Jvm.MethodName)) ∈ lw_all := lw_g (lw_at lw_m5 185 rfl) rfl
theorem q1215 : (Jvm.Cond.static ({ cls := "RolloverLaw", name := "carrier", desc := "(LRollover;IILRolloverLaw$Out;)I" } : Jvm.MethodName)) ∈ lw_all := lw_g (lw_at lw_m5 186 rfl) rfl
theorem q1216 : (Jvm.Cond.codeWith ({ cls := "RolloverLaw", name := "carrier", desc := "(LRollover;IILRolloverLaw$Out;)I" } : Jvm.MethodName) method_20_code (5 : Nat) (Option.some Jvm.ClassFile.FieldType.int) [((0 : Nat), (11 : Nat), (14 : Nat), (27 : Nat)), ((0 : Nat), (11 : Nat), (18 : Nat), (19 : Nat))]) ∈ lw_all := lw_g (lw_at lw_m5 187 rfl) rfl
theorem q1217 : (Jvm.Cond.methodLink "RolloverLaw" (82 : Nat) ({ cls := "Rollover", name := "carrier", desc := "(II)I" } : Jvm.MethodName)) ∈ lw_all := lw_g (lw_at lw_m5 188 rfl) rfl
theorem q1221 : (Jvm.Cond.methodLink "RolloverLaw" (184 : Nat) ({ cls := "RolloverLaw", name := "settlement", desc := "(LRollover;ILRolloverLaw$Out;)I" } : Jvm.MethodName)) ∈ lw_all := lw_g (lw_at lw_m5 192 rfl) rfl
theorem q1222 : (Jvm.Cond.static ({ cls := "RolloverLaw", name := "settlement", desc := "(LRollover;ILRolloverLaw$Out;)I" } : Jvm.MethodName)) ∈ lw_all := lw_g (lw_at lw_m5 193 rfl) rfl
theorem q1223 : (Jvm.Cond.codeWith ({ cls := "RolloverLaw", name := "settlement", desc := "(LRollover;ILRolloverLaw$Out;)I" } : Jvm.MethodName) method_21_code (4 : Nat) (Option.some Jvm.ClassFile.FieldType.int) [((0 : Nat), (10 : Nat), (13 : Nat), (27 : Nat))]) ∈ lw_all := lw_g (lw_at lw_m5 194 rfl) rfl
theorem q1224 : (Jvm.Cond.methodLink "RolloverLaw" (85 : Nat) ({ cls := "Rollover", name := "settlement", desc := "(I)I" } : Jvm.MethodName)) ∈ lw_all := lw_g (lw_at lw_m5 195 rfl) rfl
theorem q1228 : (Jvm.Cond.methodLink "RolloverLaw" (187 : Nat) ({ cls := "RolloverLaw", name := "suspect", desc := "(LRollover;ILRolloverLaw$Out;)I" } : Jvm.MethodName)) ∈ lw_all := lw_g (lw_at lw_m5 199 rfl) rfl
theorem q1229 : (Jvm.Cond.static ({ cls := "RolloverLaw", name := "suspect", desc := "(LRollover;ILRolloverLaw$Out;)I" } : Jvm.MethodName)) ∈ lw_all := lw_g (lw_at lw_m5 200 rfl) rfl
theorem q1230 : (Jvm.Cond.codeWith ({ cls := "RolloverLaw", name := "suspect", desc := "(LRollover;ILRolloverLaw$Out;)I" } : Jvm.MethodName) method_22_code (4 : Nat) (Option.some Jvm.ClassFile.FieldType.int) [((0 : Nat), (10 : Nat), (13 : Nat), (27 : Nat))]) ∈ lw_all := lw_g (lw_at lw_m5 201 rfl) rfl
theorem q1231 : (Jvm.Cond.methodLink "RolloverLaw" (88 : Nat) ({ cls := "Rollover", name := "suspect", desc := "(I)I" } : Jvm.MethodName)) ∈ lw_all := lw_g (lw_at lw_m5 202 rfl) rfl
theorem q1235 : (Jvm.Cond.methodLink "RolloverLaw" (190 : Nat) ({ cls := "RolloverLaw", name := "house", desc := "(LRollover;ILRolloverLaw$Out;)I" } : Jvm.MethodName)) ∈ lw_all := lw_g (lw_at lw_m5 206 rfl) rfl
theorem q1236 : (Jvm.Cond.static ({ cls := "RolloverLaw", name := "house", desc := "(LRollover;ILRolloverLaw$Out;)I" } : Jvm.MethodName)) ∈ lw_all := lw_g (lw_at lw_m5 207 rfl) rfl
theorem q1237 : (Jvm.Cond.codeWith ({ cls := "RolloverLaw", name := "house", desc := "(LRollover;ILRolloverLaw$Out;)I" } : Jvm.MethodName) method_23_code (4 : Nat) (Option.some Jvm.ClassFile.FieldType.int) [((0 : Nat), (10 : Nat), (13 : Nat), (19 : Nat))]) ∈ lw_all := lw_g (lw_at lw_m5 208 rfl) rfl
theorem q1238 : (Jvm.Cond.methodLink "RolloverLaw" (91 : Nat) ({ cls := "Rollover", name := "house", desc := "(I)I" } : Jvm.MethodName)) ∈ lw_all := lw_g (lw_at lw_m5 209 rfl) rfl
theorem q1242 : (Jvm.Cond.methodLink "RolloverLaw" (193 : Nat) ({ cls := "RolloverLaw", name := "line", desc := "(LRollover;ILRolloverLaw$Out;)I" } : Jvm.MethodName)) ∈ lw_all := lw_g (lw_at lw_m5 213 rfl) rfl
theorem q1243 : (Jvm.Cond.static ({ cls := "RolloverLaw", name := "line", desc := "(LRollover;ILRolloverLaw$Out;)I" } : Jvm.MethodName)) ∈ lw_all := lw_g (lw_at lw_m5 214 rfl) rfl
theorem q1244 : (Jvm.Cond.codeWith ({ cls := "RolloverLaw", name := "line", desc := "(LRollover;ILRolloverLaw$Out;)I" } : Jvm.MethodName) method_24_code (4 : Nat) (Option.some Jvm.ClassFile.FieldType.int) [((0 : Nat), (9 : Nat), (12 : Nat), (27 : Nat))]) ∈ lw_all := lw_g (lw_at lw_m5 215 rfl) rfl
theorem q1245 : (Jvm.Cond.methodLink "RolloverLaw" (94 : Nat) ({ cls := "Rollover", name := "line", desc := "(I)Ljava/lang/String;" } : Jvm.MethodName)) ∈ lw_all := lw_g (lw_at lw_m5 216 rfl) rfl
theorem q1503 : (Jvm.Cond.methodLink "RolloverLaw" (202 : Nat) ({ cls := "RolloverLaw", name := "best", desc := "(LRollover;IIZLRolloverLaw$Out;)I" } : Jvm.MethodName)) ∈ lw_all := lw_g (lw_at lw_m6 234 rfl) rfl
theorem q1504 : (Jvm.Cond.static ({ cls := "RolloverLaw", name := "best", desc := "(LRollover;IIZLRolloverLaw$Out;)I" } : Jvm.MethodName)) ∈ lw_all := lw_g (lw_at lw_m6 235 rfl) rfl
theorem q1505 : (Jvm.Cond.codeWith ({ cls := "RolloverLaw", name := "best", desc := "(LRollover;IIZLRolloverLaw$Out;)I" } : Jvm.MethodName) method_25_code (6 : Nat) (Option.some Jvm.ClassFile.FieldType.int) [((0 : Nat), (13 : Nat), (16 : Nat), (27 : Nat)), ((0 : Nat), (13 : Nat), (20 : Nat), (19 : Nat))]) ∈ lw_all := lw_g (lw_at lw_m6 236 rfl) rfl
theorem q1506 : (Jvm.Cond.methodLink "RolloverLaw" (102 : Nat) ({ cls := "Rollover", name := "best", desc := "(IIZ)I" } : Jvm.MethodName)) ∈ lw_all := lw_g (lw_at lw_m6 237 rfl) rfl
theorem q1511 : (Jvm.Cond.methodLink "RolloverLaw" (206 : Nat) ({ cls := "RolloverLaw", name := "wouldCost", desc := "(LRollover;IIIIILRolloverLaw$Out;)I" } : Jvm.MethodName)) ∈ lw_all := lw_g (lw_at lw_m7 2 rfl) rfl
theorem q1512 : (Jvm.Cond.static ({ cls := "RolloverLaw", name := "wouldCost", desc := "(LRollover;IIIIILRolloverLaw$Out;)I" } : Jvm.MethodName)) ∈ lw_all := lw_g (lw_at lw_m7 3 rfl) rfl
theorem q1513 : (Jvm.Cond.codeWith ({ cls := "RolloverLaw", name := "wouldCost", desc := "(LRollover;IIIIILRolloverLaw$Out;)I" } : Jvm.MethodName) method_26_code (8 : Nat) (Option.some Jvm.ClassFile.FieldType.int) [((0 : Nat), (17 : Nat), (20 : Nat), (27 : Nat)), ((0 : Nat), (17 : Nat), (24 : Nat), (19 : Nat))]) ∈ lw_all := lw_g (lw_at lw_m7 4 rfl) rfl
theorem q1514 : (Jvm.Cond.methodLink "RolloverLaw" (106 : Nat) ({ cls := "Rollover", name := "wouldCost", desc := "(IIIII)I" } : Jvm.MethodName)) ∈ lw_all := lw_g (lw_at lw_m7 5 rfl) rfl
theorem q1532 : (Jvm.Cond.classLink "RolloverLaw" (110 : Nat) "RolloverModel") ∈ lw_all := lw_g (lw_at lw_m7 23 rfl) rfl
theorem q1534 : (Jvm.Cond.methodLink "RolloverLaw" (112 : Nat) ({ cls := "RolloverModel", name := "<init>", desc := "()V" } : Jvm.MethodName)) ∈ lw_all := lw_g (lw_at lw_m7 25 rfl) rfl
theorem q1568 : (Jvm.Cond.methodLink "RolloverLaw" (120 : Nat) ({ cls := "RolloverModel", name := "thrown", desc := "()I" } : Jvm.MethodName)) ∈ lw_all := lw_g (lw_at lw_m7 59 rfl) rfl
theorem q1572 : (Jvm.Cond.methodLink "RolloverLaw" (119 : Nat) ({ cls := "RolloverModel", name := "plan", desc := "(III)I" } : Jvm.MethodName)) ∈ lw_all := lw_g (lw_at lw_m7 63 rfl) rfl
theorem q1631 : (Jvm.Cond.methodLink "RolloverLaw" (127 : Nat) ({ cls := "RolloverModel", name := "units", desc := "(IIIIZ)I" } : Jvm.MethodName)) ∈ lw_all := lw_g (lw_at lw_m7 122 rfl) rfl
theorem q1640 : (Jvm.Cond.methodLink "RolloverLaw" (131 : Nat) ({ cls := "RolloverModel", name := "steps", desc := "(IIII)I" } : Jvm.MethodName)) ∈ lw_all := lw_g (lw_at lw_m7 131 rfl) rfl
theorem q1644 : (Jvm.Cond.methodLink "RolloverLaw" (135 : Nat) ({ cls := "RolloverModel", name := "join", desc := "(II)I" } : Jvm.MethodName)) ∈ lw_all := lw_g (lw_at lw_m7 135 rfl) rfl
theorem q1668 : (Jvm.Cond.methodLink "RolloverLaw" (138 : Nat) ({ cls := "RolloverModel", name := "change", desc := "(II)I" } : Jvm.MethodName)) ∈ lw_all := lw_g (lw_at lw_m7 159 rfl) rfl
theorem q1680 : (Jvm.Cond.methodLink "RolloverLaw" (141 : Nat) ({ cls := "RolloverModel", name := "circle", desc := "(II)I" } : Jvm.MethodName)) ∈ lw_all := lw_g (lw_at lw_m7 171 rfl) rfl
theorem q1688 : (Jvm.Cond.methodLink "RolloverLaw" (144 : Nat) ({ cls := "RolloverModel", name := "child", desc := "(III)I" } : Jvm.MethodName)) ∈ lw_all := lw_g (lw_at lw_m7 179 rfl) rfl
theorem q1742 : (Jvm.Cond.methodLink "RolloverLaw" (148 : Nat) ({ cls := "RolloverModel", name := "pass", desc := "(I)I" } : Jvm.MethodName)) ∈ lw_all := lw_g (lw_at lw_m7 233 rfl) rfl
theorem q1746 : (Jvm.Cond.methodLink "RolloverLaw" (152 : Nat) ({ cls := "RolloverModel", name := "call", desc := "(IIIIII)I" } : Jvm.MethodName)) ∈ lw_all := lw_g (lw_at lw_m7 237 rfl) rfl
theorem q1816 : (Jvm.Cond.methodLink "RolloverLaw" (156 : Nat) ({ cls := "RolloverModel", name := "gift", desc := "(IIIII)I" } : Jvm.MethodName)) ∈ lw_all := lw_g (lw_at lw_m8 67 rfl) rfl
theorem q1820 : (Jvm.Cond.methodLink "RolloverLaw" (159 : Nat) ({ cls := "RolloverModel", name := "addOn", desc := "(IIIIII)I" } : Jvm.MethodName)) ∈ lw_all := lw_g (lw_at lw_m8 71 rfl) rfl
theorem q1824 : (Jvm.Cond.methodLink "RolloverLaw" (162 : Nat) ({ cls := "RolloverModel", name := "correct", desc := "(II)I" } : Jvm.MethodName)) ∈ lw_all := lw_g (lw_at lw_m8 75 rfl) rfl
theorem q1947 : (Jvm.Cond.methodLink "RolloverLaw" (165 : Nat) ({ cls := "RolloverModel", name := "undo", desc := "(I)I" } : Jvm.MethodName)) ∈ lw_all := lw_g (lw_at lw_m8 198 rfl) rfl
theorem q1955 : (Jvm.Cond.methodLink "RolloverLaw" (168 : Nat) ({ cls := "RolloverModel", name := "port", desc := "(III)I" } : Jvm.MethodName)) ∈ lw_all := lw_g (lw_at lw_m8 206 rfl) rfl
theorem q1963 : (Jvm.Cond.methodLink "RolloverLaw" (171 : Nat) ({ cls := "RolloverModel", name := "incoming", desc := "(II)I" } : Jvm.MethodName)) ∈ lw_all := lw_g (lw_at lw_m8 214 rfl) rfl
theorem q1972 : (Jvm.Cond.methodLink "RolloverLaw" (174 : Nat) ({ cls := "RolloverModel", name := "ofDay", desc := "(III)I" } : Jvm.MethodName)) ∈ lw_all := lw_g (lw_at lw_m8 223 rfl) rfl
theorem q1980 : (Jvm.Cond.methodLink "RolloverLaw" (177 : Nat) ({ cls := "RolloverModel", name := "ofCycle", desc := "(III)I" } : Jvm.MethodName)) ∈ lw_all := lw_g (lw_at lw_m8 231 rfl) rfl
theorem q1988 : (Jvm.Cond.methodLink "RolloverLaw" (180 : Nat) ({ cls := "RolloverModel", name := "ofTicket", desc := "(II)I" } : Jvm.MethodName)) ∈ lw_all := lw_g (lw_at lw_m8 239 rfl) rfl
theorem q1996 : (Jvm.Cond.methodLink "RolloverLaw" (183 : Nat) ({ cls := "RolloverModel", name := "carrier", desc := "(II)I" } : Jvm.MethodName)) ∈ lw_all := lw_g (lw_at lw_m9 7 rfl) rfl
theorem q2000 : (Jvm.Cond.methodLink "RolloverLaw" (186 : Nat) ({ cls := "RolloverModel", name := "settlement", desc := "(I)I" } : Jvm.MethodName)) ∈ lw_all := lw_g (lw_at lw_m9 11 rfl) rfl
theorem q2004 : (Jvm.Cond.methodLink "RolloverLaw" (189 : Nat) ({ cls := "RolloverModel", name := "suspect", desc := "(I)I" } : Jvm.MethodName)) ∈ lw_all := lw_g (lw_at lw_m9 15 rfl) rfl
theorem q2020 : (Jvm.Cond.methodLink "RolloverLaw" (192 : Nat) ({ cls := "RolloverModel", name := "house", desc := "(I)I" } : Jvm.MethodName)) ∈ lw_all := lw_g (lw_at lw_m9 31 rfl) rfl
theorem q2028 : (Jvm.Cond.methodLink "RolloverLaw" (195 : Nat) ({ cls := "RolloverModel", name := "line", desc := "(I)Ljava/lang/String;" } : Jvm.MethodName)) ∈ lw_all := lw_g (lw_at lw_m9 39 rfl) rfl
theorem q2046 : (Jvm.Cond.methodLink "RolloverLaw" (205 : Nat) ({ cls := "RolloverModel", name := "best", desc := "(IIZ)I" } : Jvm.MethodName)) ∈ lw_all := lw_g (lw_at lw_m9 57 rfl) rfl
theorem q2050 : (Jvm.Cond.methodLink "RolloverLaw" (208 : Nat) ({ cls := "RolloverModel", name := "wouldCost", desc := "(IIIII)I" } : Jvm.MethodName)) ∈ lw_all := lw_g (lw_at lw_m9 61 rfl) rfl
theorem q2054 : (Jvm.Cond.methodLink "RolloverLaw" (213 : Nat) ({ cls := "RolloverModel", name := "isSound", desc := "()Z" } : Jvm.MethodName)) ∈ lw_all := lw_g (lw_at lw_m9 65 rfl) rfl
theorem q2066 : (Jvm.Cond.methodLink "RolloverLaw" (218 : Nat) ({ cls := "RolloverModel", name := "digest", desc := "()J" } : Jvm.MethodName)) ∈ lw_all := lw_g (lw_at lw_m9 77 rfl) rfl
theorem q2075 : (Jvm.Cond.methodLink "RolloverLaw" (196 : Nat) ({ cls := "java/lang/String", name := "equals", desc := "(Ljava/lang/Object;)Z" } : Jvm.MethodName)) ∈ lw_all := lw_g (lw_at lw_m9 86 rfl) rfl
/-! the law's own entry -/
set_option maxRecDepth 100000
abbrev cL_law : ByteArray := code
def dkwL_law_90 : List UInt8 := [132, 4, 7, 167, 247, 143, 4, 172]
abbrev dktL_law_90 : List UInt8 := dkwL_law_90 ++ []
def dkwL_law_89 : List UInt8 := [182, 0, 213, 159, 0, 19, 3, 172, 43, 182, 0, 214, 44, 182, 0, 218, 148, 153, 0, 5, 3, 172]
abbrev dktL_law_89 : List UInt8 := dkwL_law_89 ++ dktL_law_90
def dkwL_law_88 : List UInt8 := [154, 0, 16, 45, 180, 0, 13, 21, 6, 133, 148, 153, 0, 5, 3, 172, 167, 0, 30, 43, 182, 0, 209, 44]
abbrev dktL_law_88 : List UInt8 := dkwL_law_88 ++ dktL_law_89
def dkwL_law_87 : List UInt8 := [21, 4, 8, 96, 46, 182, 0, 208, 54, 6, 44, 182, 0, 120, 21, 5, 159, 0, 5, 3, 172, 21, 5]
abbrev dktL_law_87 : List UInt8 := dkwL_law_87 ++ dktL_law_88
def dkwL_law_86 : List UInt8 := [21, 4, 4, 96, 46, 42, 21, 4, 5, 96, 46, 42, 21, 4, 6, 96, 46, 42, 21, 4, 7, 96, 46, 42]
abbrev dktL_law_86 : List UInt8 := dkwL_law_86 ++ dktL_law_87
def dkwL_law_85 : List UInt8 := [6, 96, 46, 42, 21, 4, 7, 96, 46, 42, 21, 4, 8, 96, 46, 45, 184, 0, 206, 54, 5, 44, 42]
abbrev dktL_law_85 : List UInt8 := dkwL_law_85 ++ dktL_law_86
def dkwL_law_84 : List UInt8 := [153, 0, 5, 3, 172, 167, 0, 135, 43, 42, 21, 4, 4, 96, 46, 42, 21, 4, 5, 96, 46, 42, 21, 4]
abbrev dktL_law_84 : List UInt8 := dkwL_law_84 ++ dktL_law_85
def dkwL_law_83 : List UInt8 := [182, 0, 120, 21, 5, 159, 0, 5, 3, 172, 21, 5, 154, 0, 16, 45, 180, 0, 13, 21, 6, 133, 148]
abbrev dktL_law_83 : List UInt8 := dkwL_law_83 ++ dktL_law_84
def dkwL_law_82 : List UInt8 := [5, 96, 46, 42, 21, 4, 6, 96, 46, 153, 0, 7, 4, 167, 0, 4, 3, 182, 0, 205, 54, 6, 44]
abbrev dktL_law_82 : List UInt8 := dkwL_law_82 ++ dktL_law_83
def dkwL_law_81 : List UInt8 := [153, 0, 7, 4, 167, 0, 4, 3, 45, 184, 0, 202, 54, 5, 44, 42, 21, 4, 4, 96, 46, 42, 21, 4]
abbrev dktL_law_81 : List UInt8 := dkwL_law_81 ++ dktL_law_82
def dkwL_law_80 : List UInt8 := [167, 0, 232, 43, 42, 21, 4, 4, 96, 46, 42, 21, 4, 5, 96, 46, 42, 21, 4, 6, 96, 46]
abbrev dktL_law_80 : List UInt8 := dkwL_law_80 ++ dktL_law_81
def dkwL_law_79 : List UInt8 := [159, 0, 5, 3, 172, 21, 5, 154, 0, 17, 45, 180, 0, 98, 25, 6, 182, 0, 196, 154, 0, 5, 3, 172]
abbrev dktL_law_79 : List UInt8 := dkwL_law_79 ++ dktL_law_80
def dkwL_law_78 : List UInt8 := [184, 0, 193, 54, 5, 44, 42, 21, 4, 4, 96, 46, 182, 0, 195, 58, 6, 44, 182, 0, 120, 21, 5]
abbrev dktL_law_78 : List UInt8 := dkwL_law_78 ++ dktL_law_79
def dkwL_law_77 : List UInt8 := [180, 0, 13, 21, 6, 133, 148, 153, 0, 5, 3, 172, 167, 1, 34, 43, 42, 21, 4, 4, 96, 46, 45]
abbrev dktL_law_77 : List UInt8 := dkwL_law_77 ++ dktL_law_78
def dkwL_law_76 : List UInt8 := [182, 0, 192, 54, 6, 44, 182, 0, 120, 21, 5, 159, 0, 5, 3, 172, 21, 5, 154, 0, 16, 45]
abbrev dktL_law_76 : List UInt8 := dkwL_law_76 ++ dktL_law_77
def dkwL_law_75 : List UInt8 := [167, 1, 91, 43, 42, 21, 4, 4, 96, 46, 45, 184, 0, 190, 54, 5, 44, 42, 21, 4, 4, 96, 46]
abbrev dktL_law_75 : List UInt8 := dkwL_law_75 ++ dktL_law_76
def dkwL_law_74 : List UInt8 := [159, 0, 5, 3, 172, 21, 5, 154, 0, 16, 45, 180, 0, 13, 21, 6, 133, 148, 153, 0, 5, 3, 172]
abbrev dktL_law_74 : List UInt8 := dkwL_law_74 ++ dktL_law_75
def dkwL_law_73 : List UInt8 := [184, 0, 187, 54, 5, 44, 42, 21, 4, 4, 96, 46, 182, 0, 189, 54, 6, 44, 182, 0, 120, 21, 5]
abbrev dktL_law_73 : List UInt8 := dkwL_law_73 ++ dktL_law_74
def dkwL_law_72 : List UInt8 := [180, 0, 13, 21, 6, 133, 148, 153, 0, 5, 3, 172, 167, 1, 148, 43, 42, 21, 4, 4, 96, 46, 45]
abbrev dktL_law_72 : List UInt8 := dkwL_law_72 ++ dktL_law_73
def dkwL_law_71 : List UInt8 := [182, 0, 186, 54, 6, 44, 182, 0, 120, 21, 5, 159, 0, 5, 3, 172, 21, 5, 154, 0, 16, 45]
abbrev dktL_law_71 : List UInt8 := dkwL_law_71 ++ dktL_law_72
def dkwL_law_70 : List UInt8 := [167, 1, 205, 43, 42, 21, 4, 4, 96, 46, 45, 184, 0, 184, 54, 5, 44, 42, 21, 4, 4, 96, 46]
abbrev dktL_law_70 : List UInt8 := dkwL_law_70 ++ dktL_law_71
def dkwL_law_69 : List UInt8 := [159, 0, 5, 3, 172, 21, 5, 154, 0, 16, 45, 180, 0, 13, 21, 6, 133, 148, 153, 0, 5, 3, 172]
abbrev dktL_law_69 : List UInt8 := dkwL_law_69 ++ dktL_law_70
def dkwL_law_68 : List UInt8 := [21, 4, 4, 96, 46, 42, 21, 4, 5, 96, 46, 182, 0, 183, 54, 6, 44, 182, 0, 120, 21, 5]
abbrev dktL_law_68 : List UInt8 := dkwL_law_68 ++ dktL_law_69
def dkwL_law_67 : List UInt8 := [167, 2, 18, 43, 42, 21, 4, 4, 96, 46, 42, 21, 4, 5, 96, 46, 45, 184, 0, 181, 54, 5, 44, 42]
abbrev dktL_law_67 : List UInt8 := dkwL_law_67 ++ dktL_law_68
def dkwL_law_66 : List UInt8 := [159, 0, 5, 3, 172, 21, 5, 154, 0, 16, 45, 180, 0, 13, 21, 6, 133, 148, 153, 0, 5, 3, 172]
abbrev dktL_law_66 : List UInt8 := dkwL_law_66 ++ dktL_law_67
def dkwL_law_65 : List UInt8 := [21, 4, 4, 96, 46, 42, 21, 4, 5, 96, 46, 182, 0, 180, 54, 6, 44, 182, 0, 120, 21, 5]
abbrev dktL_law_65 : List UInt8 := dkwL_law_65 ++ dktL_law_66
def dkwL_law_64 : List UInt8 := [167, 2, 87, 43, 42, 21, 4, 4, 96, 46, 42, 21, 4, 5, 96, 46, 45, 184, 0, 178, 54, 5, 44, 42]
abbrev dktL_law_64 : List UInt8 := dkwL_law_64 ++ dktL_law_65
def dkwL_law_63 : List UInt8 := [159, 0, 5, 3, 172, 21, 5, 154, 0, 16, 45, 180, 0, 13, 21, 6, 133, 148, 153, 0, 5, 3, 172]
abbrev dktL_law_63 : List UInt8 := dkwL_law_63 ++ dktL_law_64
def dkwL_law_62 : List UInt8 := [42, 21, 4, 5, 96, 46, 42, 21, 4, 6, 96, 46, 182, 0, 177, 54, 6, 44, 182, 0, 120, 21, 5]
abbrev dktL_law_62 : List UInt8 := dkwL_law_62 ++ dktL_law_63
def dkwL_law_61 : List UInt8 := [21, 4, 5, 96, 46, 42, 21, 4, 6, 96, 46, 45, 184, 0, 175, 54, 5, 44, 42, 21, 4, 4, 96, 46]
abbrev dktL_law_61 : List UInt8 := dkwL_law_61 ++ dktL_law_62
def dkwL_law_60 : List UInt8 := [180, 0, 13, 21, 6, 133, 148, 153, 0, 5, 3, 172, 167, 2, 168, 43, 42, 21, 4, 4, 96, 46, 42]
abbrev dktL_law_60 : List UInt8 := dkwL_law_60 ++ dktL_law_61
def dkwL_law_59 : List UInt8 := [182, 0, 174, 54, 6, 44, 182, 0, 120, 21, 5, 159, 0, 5, 3, 172, 21, 5, 154, 0, 16, 45]
abbrev dktL_law_59 : List UInt8 := dkwL_law_59 ++ dktL_law_60
def dkwL_law_58 : List UInt8 := [184, 0, 172, 54, 5, 44, 42, 21, 4, 4, 96, 46, 42, 21, 4, 5, 96, 46, 42, 21, 4, 6, 96, 46]
abbrev dktL_law_58 : List UInt8 := dkwL_law_58 ++ dktL_law_59
def dkwL_law_57 : List UInt8 := [167, 2, 249, 43, 42, 21, 4, 4, 96, 46, 42, 21, 4, 5, 96, 46, 42, 21, 4, 6, 96, 46, 45]
abbrev dktL_law_57 : List UInt8 := dkwL_law_57 ++ dktL_law_58
def dkwL_law_56 : List UInt8 := [159, 0, 5, 3, 172, 21, 5, 154, 0, 16, 45, 180, 0, 13, 21, 6, 133, 148, 153, 0, 5, 3, 172]
abbrev dktL_law_56 : List UInt8 := dkwL_law_56 ++ dktL_law_57
def dkwL_law_55 : List UInt8 := [21, 4, 4, 96, 46, 42, 21, 4, 5, 96, 46, 182, 0, 171, 54, 6, 44, 182, 0, 120, 21, 5]
abbrev dktL_law_55 : List UInt8 := dkwL_law_55 ++ dktL_law_56
def dkwL_law_54 : List UInt8 := [167, 3, 62, 43, 42, 21, 4, 4, 96, 46, 42, 21, 4, 5, 96, 46, 45, 184, 0, 169, 54, 5, 44, 42]
abbrev dktL_law_54 : List UInt8 := dkwL_law_54 ++ dktL_law_55
def dkwL_law_53 : List UInt8 := [159, 0, 5, 3, 172, 21, 5, 154, 0, 16, 45, 180, 0, 13, 21, 6, 133, 148, 153, 0, 5, 3, 172]
abbrev dktL_law_53 : List UInt8 := dkwL_law_53 ++ dktL_law_54
def dkwL_law_52 : List UInt8 := [42, 21, 4, 5, 96, 46, 42, 21, 4, 6, 96, 46, 182, 0, 168, 54, 6, 44, 182, 0, 120, 21, 5]
abbrev dktL_law_52 : List UInt8 := dkwL_law_52 ++ dktL_law_53
def dkwL_law_51 : List UInt8 := [21, 4, 5, 96, 46, 42, 21, 4, 6, 96, 46, 45, 184, 0, 166, 54, 5, 44, 42, 21, 4, 4, 96, 46]
abbrev dktL_law_51 : List UInt8 := dkwL_law_51 ++ dktL_law_52
def dkwL_law_50 : List UInt8 := [180, 0, 13, 21, 6, 133, 148, 153, 0, 5, 3, 172, 167, 3, 143, 43, 42, 21, 4, 4, 96, 46, 42]
abbrev dktL_law_50 : List UInt8 := dkwL_law_50 ++ dktL_law_51
def dkwL_law_49 : List UInt8 := [182, 0, 165, 54, 6, 44, 182, 0, 120, 21, 5, 159, 0, 5, 3, 172, 21, 5, 154, 0, 16, 45]
abbrev dktL_law_49 : List UInt8 := dkwL_law_49 ++ dktL_law_50
def dkwL_law_48 : List UInt8 := [167, 3, 200, 43, 42, 21, 4, 4, 96, 46, 45, 184, 0, 163, 54, 5, 44, 42, 21, 4, 4, 96, 46]
abbrev dktL_law_48 : List UInt8 := dkwL_law_48 ++ dktL_law_49
def dkwL_law_47 : List UInt8 := [159, 0, 5, 3, 172, 21, 5, 154, 0, 16, 45, 180, 0, 13, 21, 6, 133, 148, 153, 0, 5, 3, 172]
abbrev dktL_law_47 : List UInt8 := dkwL_law_47 ++ dktL_law_48
def dkwL_law_46 : List UInt8 := [42, 21, 4, 4, 96, 46, 42, 21, 4, 5, 96, 46, 182, 0, 162, 54, 6, 44, 182, 0, 120, 21, 5]
abbrev dktL_law_46 : List UInt8 := dkwL_law_46 ++ dktL_law_47
def dkwL_law_45 : List UInt8 := [172, 167, 4, 13, 43, 42, 21, 4, 4, 96, 46, 42, 21, 4, 5, 96, 46, 45, 184, 0, 160, 54, 5, 44]
abbrev dktL_law_45 : List UInt8 := dkwL_law_45 ++ dktL_law_46
def dkwL_law_44 : List UInt8 := [21, 5, 159, 0, 5, 3, 172, 21, 5, 154, 0, 16, 45, 180, 0, 13, 21, 6, 133, 148, 153, 0, 5, 3]
abbrev dktL_law_44 : List UInt8 := dkwL_law_44 ++ dktL_law_45
def dkwL_law_43 : List UInt8 := [46, 42, 21, 4, 8, 96, 46, 42, 21, 4, 16, 6, 96, 46, 182, 0, 159, 54, 6, 44, 182, 0, 120]
abbrev dktL_law_43 : List UInt8 := dkwL_law_43 ++ dktL_law_44
def dkwL_law_42 : List UInt8 := [44, 42, 21, 4, 4, 96, 46, 42, 21, 4, 5, 96, 46, 42, 21, 4, 6, 96, 46, 42, 21, 4, 7, 96]
abbrev dktL_law_42 : List UInt8 := dkwL_law_42 ++ dktL_law_43
def dkwL_law_41 : List UInt8 := [21, 4, 7, 96, 46, 42, 21, 4, 8, 96, 46, 42, 21, 4, 16, 6, 96, 46, 45, 184, 0, 157, 54, 5]
abbrev dktL_law_41 : List UInt8 := dkwL_law_41 ++ dktL_law_42
def dkwL_law_40 : List UInt8 := [167, 4, 132, 43, 42, 21, 4, 4, 96, 46, 42, 21, 4, 5, 96, 46, 42, 21, 4, 6, 96, 46, 42]
abbrev dktL_law_40 : List UInt8 := dkwL_law_40 ++ dktL_law_41
def dkwL_law_39 : List UInt8 := [159, 0, 5, 3, 172, 21, 5, 154, 0, 16, 45, 180, 0, 13, 21, 6, 133, 148, 153, 0, 5, 3, 172]
abbrev dktL_law_39 : List UInt8 := dkwL_law_39 ++ dktL_law_40
def dkwL_law_38 : List UInt8 := [42, 21, 4, 7, 96, 46, 42, 21, 4, 8, 96, 46, 182, 0, 156, 54, 6, 44, 182, 0, 120, 21, 5]
abbrev dktL_law_38 : List UInt8 := dkwL_law_38 ++ dktL_law_39
def dkwL_law_37 : List UInt8 := [184, 0, 153, 54, 5, 44, 42, 21, 4, 4, 96, 46, 42, 21, 4, 5, 96, 46, 42, 21, 4, 6, 96, 46]
abbrev dktL_law_37 : List UInt8 := dkwL_law_37 ++ dktL_law_38
def dkwL_law_36 : List UInt8 := [21, 4, 5, 96, 46, 42, 21, 4, 6, 96, 46, 42, 21, 4, 7, 96, 46, 42, 21, 4, 8, 96, 46, 45]
abbrev dktL_law_36 : List UInt8 := dkwL_law_36 ++ dktL_law_37
def dkwL_law_35 : List UInt8 := [180, 0, 13, 21, 6, 133, 148, 153, 0, 5, 3, 172, 167, 4, 237, 43, 42, 21, 4, 4, 96, 46, 42]
abbrev dktL_law_35 : List UInt8 := dkwL_law_35 ++ dktL_law_36
def dkwL_law_34 : List UInt8 := [96, 46, 182, 0, 152, 54, 6, 44, 182, 0, 120, 21, 5, 159, 0, 5, 3, 172, 21, 5, 154, 0, 16, 45]
abbrev dktL_law_34 : List UInt8 := dkwL_law_34 ++ dktL_law_35
def dkwL_law_33 : List UInt8 := [46, 42, 21, 4, 6, 96, 46, 42, 21, 4, 7, 96, 46, 42, 21, 4, 8, 96, 46, 42, 21, 4, 16, 6]
abbrev dktL_law_33 : List UInt8 := dkwL_law_33 ++ dktL_law_34
def dkwL_law_32 : List UInt8 := [21, 4, 16, 6, 96, 46, 45, 184, 0, 149, 54, 5, 44, 42, 21, 4, 4, 96, 46, 42, 21, 4, 5, 96]
abbrev dktL_law_32 : List UInt8 := dkwL_law_32 ++ dktL_law_33
def dkwL_law_31 : List UInt8 := [21, 4, 5, 96, 46, 42, 21, 4, 6, 96, 46, 42, 21, 4, 7, 96, 46, 42, 21, 4, 8, 96, 46, 42]
abbrev dktL_law_31 : List UInt8 := dkwL_law_31 ++ dktL_law_32
def dkwL_law_30 : List UInt8 := [180, 0, 13, 21, 6, 133, 148, 153, 0, 5, 3, 172, 167, 5, 100, 43, 42, 21, 4, 4, 96, 46, 42]
abbrev dktL_law_30 : List UInt8 := dkwL_law_30 ++ dktL_law_31
def dkwL_law_29 : List UInt8 := [182, 0, 148, 54, 6, 44, 182, 0, 120, 21, 5, 159, 0, 5, 3, 172, 21, 5, 154, 0, 16, 45]
abbrev dktL_law_29 : List UInt8 := dkwL_law_29 ++ dktL_law_30
def dkwL_law_28 : List UInt8 := [167, 5, 157, 43, 42, 21, 4, 4, 96, 46, 45, 184, 0, 145, 54, 5, 44, 42, 21, 4, 4, 96, 46]
abbrev dktL_law_28 : List UInt8 := dkwL_law_28 ++ dktL_law_29
def dkwL_law_27 : List UInt8 := [159, 0, 5, 3, 172, 21, 5, 154, 0, 16, 45, 180, 0, 13, 21, 6, 133, 148, 153, 0, 5, 3, 172]
abbrev dktL_law_27 : List UInt8 := dkwL_law_27 ++ dktL_law_28
def dkwL_law_26 : List UInt8 := [42, 21, 4, 5, 96, 46, 42, 21, 4, 6, 96, 46, 182, 0, 144, 54, 6, 44, 182, 0, 120, 21, 5]
abbrev dktL_law_26 : List UInt8 := dkwL_law_26 ++ dktL_law_27
def dkwL_law_25 : List UInt8 := [21, 4, 5, 96, 46, 42, 21, 4, 6, 96, 46, 45, 184, 0, 142, 54, 5, 44, 42, 21, 4, 4, 96, 46]
abbrev dktL_law_25 : List UInt8 := dkwL_law_25 ++ dktL_law_26
def dkwL_law_24 : List UInt8 := [180, 0, 13, 21, 6, 133, 148, 153, 0, 5, 3, 172, 167, 5, 238, 43, 42, 21, 4, 4, 96, 46, 42]
abbrev dktL_law_24 : List UInt8 := dkwL_law_24 ++ dktL_law_25
def dkwL_law_23 : List UInt8 := [182, 0, 141, 54, 6, 44, 182, 0, 120, 21, 5, 159, 0, 5, 3, 172, 21, 5, 154, 0, 16, 45]
abbrev dktL_law_23 : List UInt8 := dkwL_law_23 ++ dktL_law_24
def dkwL_law_22 : List UInt8 := [21, 4, 5, 96, 46, 45, 184, 0, 139, 54, 5, 44, 42, 21, 4, 4, 96, 46, 42, 21, 4, 5, 96, 46]
abbrev dktL_law_22 : List UInt8 := dkwL_law_22 ++ dktL_law_23
def dkwL_law_21 : List UInt8 := [180, 0, 13, 21, 6, 133, 148, 153, 0, 5, 3, 172, 167, 6, 51, 43, 42, 21, 4, 4, 96, 46, 42]
abbrev dktL_law_21 : List UInt8 := dkwL_law_21 ++ dktL_law_22
def dkwL_law_20 : List UInt8 := [182, 0, 138, 54, 6, 44, 182, 0, 120, 21, 5, 159, 0, 5, 3, 172, 21, 5, 154, 0, 16, 45]
abbrev dktL_law_20 : List UInt8 := dkwL_law_20 ++ dktL_law_21
def dkwL_law_19 : List UInt8 := [21, 4, 5, 96, 46, 45, 184, 0, 136, 54, 5, 44, 42, 21, 4, 4, 96, 46, 42, 21, 4, 5, 96, 46]
abbrev dktL_law_19 : List UInt8 := dkwL_law_19 ++ dktL_law_20
def dkwL_law_18 : List UInt8 := [180, 0, 13, 21, 6, 133, 148, 153, 0, 5, 3, 172, 167, 6, 120, 43, 42, 21, 4, 4, 96, 46, 42]
abbrev dktL_law_18 : List UInt8 := dkwL_law_18 ++ dktL_law_19
def dkwL_law_17 : List UInt8 := [182, 0, 135, 54, 6, 44, 182, 0, 120, 21, 5, 159, 0, 5, 3, 172, 21, 5, 154, 0, 16, 45]
abbrev dktL_law_17 : List UInt8 := dkwL_law_17 ++ dktL_law_18
def dkwL_law_16 : List UInt8 := [21, 4, 5, 96, 46, 45, 184, 0, 132, 54, 5, 44, 42, 21, 4, 4, 96, 46, 42, 21, 4, 5, 96, 46]
abbrev dktL_law_16 : List UInt8 := dkwL_law_16 ++ dktL_law_17
def dkwL_law_15 : List UInt8 := [180, 0, 13, 21, 6, 133, 148, 153, 0, 5, 3, 172, 167, 6, 189, 43, 42, 21, 4, 4, 96, 46, 42]
abbrev dktL_law_15 : List UInt8 := dkwL_law_15 ++ dktL_law_16
def dkwL_law_14 : List UInt8 := [182, 0, 131, 54, 6, 44, 182, 0, 120, 21, 5, 159, 0, 5, 3, 172, 21, 5, 154, 0, 16, 45]
abbrev dktL_law_14 : List UInt8 := dkwL_law_14 ++ dktL_law_15
def dkwL_law_13 : List UInt8 := [42, 21, 4, 4, 96, 46, 42, 21, 4, 5, 96, 46, 42, 21, 4, 6, 96, 46, 42, 21, 4, 7, 96, 46]
abbrev dktL_law_13 : List UInt8 := dkwL_law_13 ++ dktL_law_14
def dkwL_law_12 : List UInt8 := [21, 4, 5, 96, 46, 42, 21, 4, 6, 96, 46, 42, 21, 4, 7, 96, 46, 45, 184, 0, 128, 54, 5, 44]
abbrev dktL_law_12 : List UInt8 := dkwL_law_12 ++ dktL_law_13
def dkwL_law_11 : List UInt8 := [180, 0, 13, 21, 6, 133, 148, 153, 0, 5, 3, 172, 167, 7, 26, 43, 42, 21, 4, 4, 96, 46, 42]
abbrev dktL_law_11 : List UInt8 := dkwL_law_11 ++ dktL_law_12
def dkwL_law_10 : List UInt8 := [182, 0, 127, 54, 6, 44, 182, 0, 120, 21, 5, 159, 0, 5, 3, 172, 21, 5, 154, 0, 16, 45]
abbrev dktL_law_10 : List UInt8 := dkwL_law_10 ++ dktL_law_11
def dkwL_law_9 : List UInt8 := [96, 46, 42, 21, 4, 7, 96, 46, 42, 21, 4, 8, 96, 46, 153, 0, 7, 4, 167, 0, 4, 3]
abbrev dktL_law_9 : List UInt8 := dkwL_law_9 ++ dktL_law_10
def dkwL_law_8 : List UInt8 := [3, 45, 184, 0, 124, 54, 5, 44, 42, 21, 4, 4, 96, 46, 42, 21, 4, 5, 96, 46, 42, 21, 4, 6]
abbrev dktL_law_8 : List UInt8 := dkwL_law_8 ++ dktL_law_9
def dkwL_law_7 : List UInt8 := [21, 4, 6, 96, 46, 42, 21, 4, 7, 96, 46, 42, 21, 4, 8, 96, 46, 153, 0, 7, 4, 167, 0, 4]
abbrev dktL_law_7 : List UInt8 := dkwL_law_7 ++ dktL_law_8
def dkwL_law_6 : List UInt8 := [133, 148, 153, 0, 5, 3, 172, 167, 7, 147, 43, 42, 21, 4, 4, 96, 46, 42, 21, 4, 5, 96, 46, 42]
abbrev dktL_law_6 : List UInt8 := dkwL_law_6 ++ dktL_law_7
def dkwL_law_5 : List UInt8 := [54, 6, 44, 182, 0, 120, 21, 5, 159, 0, 5, 3, 172, 21, 5, 154, 0, 16, 45, 180, 0, 13, 21, 6]
abbrev dktL_law_5 : List UInt8 := dkwL_law_5 ++ dktL_law_6
def dkwL_law_4 : List UInt8 := [54, 5, 44, 42, 21, 4, 4, 96, 46, 42, 21, 4, 5, 96, 46, 42, 21, 4, 6, 96, 46, 182, 0, 119]
abbrev dktL_law_4 : List UInt8 := dkwL_law_4 ++ dktL_law_5
def dkwL_law_3 : List UInt8 := [43, 42, 21, 4, 4, 96, 46, 42, 21, 4, 5, 96, 46, 42, 21, 4, 6, 96, 46, 45, 184, 0, 114]
abbrev dktL_law_3 : List UInt8 := dkwL_law_3 ++ dktL_law_4
def dkwL_law_2 : List UInt8 := [170, 0, 0, 0, 0, 0, 8, 93, 0, 0, 0, 0, 0, 0, 0, 26, 0, 0, 0, 124, 0, 0, 0, 205, 0, 0, 1, 70, 0, 0, 1, 163, 0, 0, 1, 232, 0, 0, 2, 45, 0, 0, 2, 114, 0, 0, 2, 195, 0, 0, 2, 252, 0, 0, 3, 115, 0, 0, 3, 220, 0, 0, 4, 83, 0, 0, 4, 152, 0, 0, 4, 209, 0, 0, 5, 34, 0, 0, 5, 103, 0, 0, 5, 184, 0, 0, 6, 9, 0, 0, 6, 78, 0, 0, 6, 147, 0, 0, 6, 204, 0, 0, 7, 5, 0, 0, 7, 62, 0, 0, 7, 120, 0, 0, 7, 217, 0, 0, 8, 66, 0, 0, 8, 79]
abbrev dktL_law_2 : List UInt8 := dkwL_law_2 ++ dktL_law_3
def dkwL_law_1 : List UInt8 := [3, 54, 4, 21, 4, 42, 190, 16, 7, 100, 163, 8, 109, 42, 21, 4, 46, 16, 31, 126]
abbrev dktL_law_1 : List UInt8 := dkwL_law_1 ++ dktL_law_2
def dkwL_law_0 : List UInt8 := [187, 0, 8, 89, 183, 0, 109, 76, 187, 0, 110, 89, 183, 0, 112, 77, 187, 0, 14, 89, 183, 0, 113, 78]
abbrev dktL_law_0 : List UInt8 := dkwL_law_0 ++ dktL_law_1
theorem dksL_law_0 : cL_law.data.toList.drop 0 = dktL_law_0 := by decide +kernel
theorem dksL_law_1 : cL_law.data.toList.drop 24 = dktL_law_1 := dk_seg dksL_law_0 24 rfl rfl
theorem dksL_law_2 : cL_law.data.toList.drop 44 = dktL_law_2 := dk_seg dksL_law_1 20 rfl rfl
theorem dksL_law_3 : cL_law.data.toList.drop 168 = dktL_law_3 := dk_seg dksL_law_2 124 rfl rfl
theorem dksL_law_4 : cL_law.data.toList.drop 191 = dktL_law_4 := dk_seg dksL_law_3 23 rfl rfl
theorem dksL_law_5 : cL_law.data.toList.drop 215 = dktL_law_5 := dk_seg dksL_law_4 24 rfl rfl
theorem dksL_law_6 : cL_law.data.toList.drop 239 = dktL_law_6 := dk_seg dksL_law_5 24 rfl rfl
theorem dksL_law_7 : cL_law.data.toList.drop 263 = dktL_law_7 := dk_seg dksL_law_6 24 rfl rfl
theorem dksL_law_8 : cL_law.data.toList.drop 287 = dktL_law_8 := dk_seg dksL_law_7 24 rfl rfl
theorem dksL_law_9 : cL_law.data.toList.drop 311 = dktL_law_9 := dk_seg dksL_law_8 24 rfl rfl
theorem dksL_law_10 : cL_law.data.toList.drop 333 = dktL_law_10 := dk_seg dksL_law_9 22 rfl rfl
theorem dksL_law_11 : cL_law.data.toList.drop 355 = dktL_law_11 := dk_seg dksL_law_10 22 rfl rfl
theorem dksL_law_12 : cL_law.data.toList.drop 378 = dktL_law_12 := dk_seg dksL_law_11 23 rfl rfl
theorem dksL_law_13 : cL_law.data.toList.drop 402 = dktL_law_13 := dk_seg dksL_law_12 24 rfl rfl
theorem dksL_law_14 : cL_law.data.toList.drop 426 = dktL_law_14 := dk_seg dksL_law_13 24 rfl rfl
theorem dksL_law_15 : cL_law.data.toList.drop 448 = dktL_law_15 := dk_seg dksL_law_14 22 rfl rfl
theorem dksL_law_16 : cL_law.data.toList.drop 471 = dktL_law_16 := dk_seg dksL_law_15 23 rfl rfl
theorem dksL_law_17 : cL_law.data.toList.drop 495 = dktL_law_17 := dk_seg dksL_law_16 24 rfl rfl
theorem dksL_law_18 : cL_law.data.toList.drop 517 = dktL_law_18 := dk_seg dksL_law_17 22 rfl rfl
theorem dksL_law_19 : cL_law.data.toList.drop 540 = dktL_law_19 := dk_seg dksL_law_18 23 rfl rfl
theorem dksL_law_20 : cL_law.data.toList.drop 564 = dktL_law_20 := dk_seg dksL_law_19 24 rfl rfl
theorem dksL_law_21 : cL_law.data.toList.drop 586 = dktL_law_21 := dk_seg dksL_law_20 22 rfl rfl
theorem dksL_law_22 : cL_law.data.toList.drop 609 = dktL_law_22 := dk_seg dksL_law_21 23 rfl rfl
theorem dksL_law_23 : cL_law.data.toList.drop 633 = dktL_law_23 := dk_seg dksL_law_22 24 rfl rfl
theorem dksL_law_24 : cL_law.data.toList.drop 655 = dktL_law_24 := dk_seg dksL_law_23 22 rfl rfl
theorem dksL_law_25 : cL_law.data.toList.drop 678 = dktL_law_25 := dk_seg dksL_law_24 23 rfl rfl
theorem dksL_law_26 : cL_law.data.toList.drop 702 = dktL_law_26 := dk_seg dksL_law_25 24 rfl rfl
theorem dksL_law_27 : cL_law.data.toList.drop 725 = dktL_law_27 := dk_seg dksL_law_26 23 rfl rfl
theorem dksL_law_28 : cL_law.data.toList.drop 748 = dktL_law_28 := dk_seg dksL_law_27 23 rfl rfl
theorem dksL_law_29 : cL_law.data.toList.drop 771 = dktL_law_29 := dk_seg dksL_law_28 23 rfl rfl
theorem dksL_law_30 : cL_law.data.toList.drop 793 = dktL_law_30 := dk_seg dksL_law_29 22 rfl rfl
theorem dksL_law_31 : cL_law.data.toList.drop 816 = dktL_law_31 := dk_seg dksL_law_30 23 rfl rfl
theorem dksL_law_32 : cL_law.data.toList.drop 840 = dktL_law_32 := dk_seg dksL_law_31 24 rfl rfl
theorem dksL_law_33 : cL_law.data.toList.drop 864 = dktL_law_33 := dk_seg dksL_law_32 24 rfl rfl
theorem dksL_law_34 : cL_law.data.toList.drop 888 = dktL_law_34 := dk_seg dksL_law_33 24 rfl rfl
theorem dksL_law_35 : cL_law.data.toList.drop 912 = dktL_law_35 := dk_seg dksL_law_34 24 rfl rfl
theorem dksL_law_36 : cL_law.data.toList.drop 935 = dktL_law_36 := dk_seg dksL_law_35 23 rfl rfl
theorem dksL_law_37 : cL_law.data.toList.drop 959 = dktL_law_37 := dk_seg dksL_law_36 24 rfl rfl
theorem dksL_law_38 : cL_law.data.toList.drop 983 = dktL_law_38 := dk_seg dksL_law_37 24 rfl rfl
theorem dksL_law_39 : cL_law.data.toList.drop 1006 = dktL_law_39 := dk_seg dksL_law_38 23 rfl rfl
theorem dksL_law_40 : cL_law.data.toList.drop 1029 = dktL_law_40 := dk_seg dksL_law_39 23 rfl rfl
theorem dksL_law_41 : cL_law.data.toList.drop 1052 = dktL_law_41 := dk_seg dksL_law_40 23 rfl rfl
theorem dksL_law_42 : cL_law.data.toList.drop 1076 = dktL_law_42 := dk_seg dksL_law_41 24 rfl rfl
theorem dksL_law_43 : cL_law.data.toList.drop 1100 = dktL_law_43 := dk_seg dksL_law_42 24 rfl rfl
theorem dksL_law_44 : cL_law.data.toList.drop 1123 = dktL_law_44 := dk_seg dksL_law_43 23 rfl rfl
theorem dksL_law_45 : cL_law.data.toList.drop 1147 = dktL_law_45 := dk_seg dksL_law_44 24 rfl rfl
theorem dksL_law_46 : cL_law.data.toList.drop 1171 = dktL_law_46 := dk_seg dksL_law_45 24 rfl rfl
theorem dksL_law_47 : cL_law.data.toList.drop 1194 = dktL_law_47 := dk_seg dksL_law_46 23 rfl rfl
theorem dksL_law_48 : cL_law.data.toList.drop 1217 = dktL_law_48 := dk_seg dksL_law_47 23 rfl rfl
theorem dksL_law_49 : cL_law.data.toList.drop 1240 = dktL_law_49 := dk_seg dksL_law_48 23 rfl rfl
theorem dksL_law_50 : cL_law.data.toList.drop 1262 = dktL_law_50 := dk_seg dksL_law_49 22 rfl rfl
theorem dksL_law_51 : cL_law.data.toList.drop 1285 = dktL_law_51 := dk_seg dksL_law_50 23 rfl rfl
theorem dksL_law_52 : cL_law.data.toList.drop 1309 = dktL_law_52 := dk_seg dksL_law_51 24 rfl rfl
theorem dksL_law_53 : cL_law.data.toList.drop 1332 = dktL_law_53 := dk_seg dksL_law_52 23 rfl rfl
theorem dksL_law_54 : cL_law.data.toList.drop 1355 = dktL_law_54 := dk_seg dksL_law_53 23 rfl rfl
theorem dksL_law_55 : cL_law.data.toList.drop 1379 = dktL_law_55 := dk_seg dksL_law_54 24 rfl rfl
theorem dksL_law_56 : cL_law.data.toList.drop 1401 = dktL_law_56 := dk_seg dksL_law_55 22 rfl rfl
theorem dksL_law_57 : cL_law.data.toList.drop 1424 = dktL_law_57 := dk_seg dksL_law_56 23 rfl rfl
theorem dksL_law_58 : cL_law.data.toList.drop 1447 = dktL_law_58 := dk_seg dksL_law_57 23 rfl rfl
theorem dksL_law_59 : cL_law.data.toList.drop 1471 = dktL_law_59 := dk_seg dksL_law_58 24 rfl rfl
theorem dksL_law_60 : cL_law.data.toList.drop 1493 = dktL_law_60 := dk_seg dksL_law_59 22 rfl rfl
theorem dksL_law_61 : cL_law.data.toList.drop 1516 = dktL_law_61 := dk_seg dksL_law_60 23 rfl rfl
theorem dksL_law_62 : cL_law.data.toList.drop 1540 = dktL_law_62 := dk_seg dksL_law_61 24 rfl rfl
theorem dksL_law_63 : cL_law.data.toList.drop 1563 = dktL_law_63 := dk_seg dksL_law_62 23 rfl rfl
theorem dksL_law_64 : cL_law.data.toList.drop 1586 = dktL_law_64 := dk_seg dksL_law_63 23 rfl rfl
theorem dksL_law_65 : cL_law.data.toList.drop 1610 = dktL_law_65 := dk_seg dksL_law_64 24 rfl rfl
theorem dksL_law_66 : cL_law.data.toList.drop 1632 = dktL_law_66 := dk_seg dksL_law_65 22 rfl rfl
theorem dksL_law_67 : cL_law.data.toList.drop 1655 = dktL_law_67 := dk_seg dksL_law_66 23 rfl rfl
theorem dksL_law_68 : cL_law.data.toList.drop 1679 = dktL_law_68 := dk_seg dksL_law_67 24 rfl rfl
theorem dksL_law_69 : cL_law.data.toList.drop 1701 = dktL_law_69 := dk_seg dksL_law_68 22 rfl rfl
theorem dksL_law_70 : cL_law.data.toList.drop 1724 = dktL_law_70 := dk_seg dksL_law_69 23 rfl rfl
theorem dksL_law_71 : cL_law.data.toList.drop 1747 = dktL_law_71 := dk_seg dksL_law_70 23 rfl rfl
theorem dksL_law_72 : cL_law.data.toList.drop 1769 = dktL_law_72 := dk_seg dksL_law_71 22 rfl rfl
theorem dksL_law_73 : cL_law.data.toList.drop 1792 = dktL_law_73 := dk_seg dksL_law_72 23 rfl rfl
theorem dksL_law_74 : cL_law.data.toList.drop 1815 = dktL_law_74 := dk_seg dksL_law_73 23 rfl rfl
theorem dksL_law_75 : cL_law.data.toList.drop 1838 = dktL_law_75 := dk_seg dksL_law_74 23 rfl rfl
theorem dksL_law_76 : cL_law.data.toList.drop 1861 = dktL_law_76 := dk_seg dksL_law_75 23 rfl rfl
theorem dksL_law_77 : cL_law.data.toList.drop 1883 = dktL_law_77 := dk_seg dksL_law_76 22 rfl rfl
theorem dksL_law_78 : cL_law.data.toList.drop 1906 = dktL_law_78 := dk_seg dksL_law_77 23 rfl rfl
theorem dksL_law_79 : cL_law.data.toList.drop 1929 = dktL_law_79 := dk_seg dksL_law_78 23 rfl rfl
theorem dksL_law_80 : cL_law.data.toList.drop 1953 = dktL_law_80 := dk_seg dksL_law_79 24 rfl rfl
theorem dksL_law_81 : cL_law.data.toList.drop 1975 = dktL_law_81 := dk_seg dksL_law_80 22 rfl rfl
theorem dksL_law_82 : cL_law.data.toList.drop 1999 = dktL_law_82 := dk_seg dksL_law_81 24 rfl rfl
theorem dksL_law_83 : cL_law.data.toList.drop 2022 = dktL_law_83 := dk_seg dksL_law_82 23 rfl rfl
theorem dksL_law_84 : cL_law.data.toList.drop 2045 = dktL_law_84 := dk_seg dksL_law_83 23 rfl rfl
theorem dksL_law_85 : cL_law.data.toList.drop 2069 = dktL_law_85 := dk_seg dksL_law_84 24 rfl rfl
theorem dksL_law_86 : cL_law.data.toList.drop 2092 = dktL_law_86 := dk_seg dksL_law_85 23 rfl rfl
theorem dksL_law_87 : cL_law.data.toList.drop 2116 = dktL_law_87 := dk_seg dksL_law_86 24 rfl rfl
theorem dksL_law_88 : cL_law.data.toList.drop 2139 = dktL_law_88 := dk_seg dksL_law_87 23 rfl rfl
theorem dksL_law_89 : cL_law.data.toList.drop 2163 = dktL_law_89 := dk_seg dksL_law_88 24 rfl rfl
theorem dksL_law_90 : cL_law.data.toList.drop 2185 = dktL_law_90 := dk_seg dksL_law_89 22 rfl rfl
theorem dL_law_0 : decode cL_law 0 = .ok (.new 8, 3) := dk_187 0 8 (dk_at dksL_law_0 0 rfl rfl)
theorem dL_law_3 : decode cL_law 3 = .ok (.dup, 1) := dk_89 (dk_at dksL_law_0 3 rfl rfl)
theorem dL_law_4 : decode cL_law 4 = .ok (.invokespecial 109, 3) := dk_183 0 109 (dk_at dksL_law_0 4 rfl rfl)
theorem dL_law_7 : decode cL_law 7 = .ok (.astore_n 1, 1) := dk_76 (dk_at dksL_law_0 7 rfl rfl)
theorem dL_law_8 : decode cL_law 8 = .ok (.new 110, 3) := dk_187 0 110 (dk_at dksL_law_0 8 rfl rfl)
theorem dL_law_11 : decode cL_law 11 = .ok (.dup, 1) := dk_89 (dk_at dksL_law_0 11 rfl rfl)
theorem dL_law_12 : decode cL_law 12 = .ok (.invokespecial 112, 3) := dk_183 0 112 (dk_at dksL_law_0 12 rfl rfl)
theorem dL_law_15 : decode cL_law 15 = .ok (.astore_n 2, 1) := dk_77 (dk_at dksL_law_0 15 rfl rfl)
theorem dL_law_16 : decode cL_law 16 = .ok (.new 14, 3) := dk_187 0 14 (dk_at dksL_law_0 16 rfl rfl)
theorem dL_law_19 : decode cL_law 19 = .ok (.dup, 1) := dk_89 (dk_at dksL_law_0 19 rfl rfl)
theorem dL_law_20 : decode cL_law 20 = .ok (.invokespecial 113, 3) := dk_183 0 113 (dk_at dksL_law_0 20 rfl rfl)
theorem dL_law_23 : decode cL_law 23 = .ok (.astore_n 3, 1) := dk_78 (dk_at dksL_law_0 23 rfl rfl)
theorem dL_law_24 : decode cL_law 24 = .ok (.iconst 0, 1) := dk_3 (dk_at dksL_law_1 0 rfl rfl)
theorem dL_law_25 : decode cL_law 25 = .ok (.istore 4, 2) := dk_54 4 (dk_at dksL_law_1 1 rfl rfl)
theorem dL_law_27 : decode cL_law 27 = .ok (.iload 4, 2) := dk_21 4 (dk_at dksL_law_1 3 rfl rfl)
theorem dL_law_29 : decode cL_law 29 = .ok (.aload_n 0, 1) := dk_42 (dk_at dksL_law_1 5 rfl rfl)
theorem dL_law_30 : decode cL_law 30 = .ok (.arraylength, 1) := dk_190 (dk_at dksL_law_1 6 rfl rfl)
theorem dL_law_31 : decode cL_law 31 = .ok (.bipush 7, 2) := dk_16 7 (dk_at dksL_law_1 7 rfl rfl)
theorem dL_law_33 : decode cL_law 33 = .ok (.isub, 1) := dk_100 (dk_at dksL_law_1 9 rfl rfl)
theorem dL_law_34 : decode cL_law 34 = .ok (.if_icmp .gt 2157, 3) := dk_163 8 109 (dk_at dksL_law_1 10 rfl rfl)
theorem dL_law_37 : decode cL_law 37 = .ok (.aload_n 0, 1) := dk_42 (dk_at dksL_law_1 13 rfl rfl)
theorem dL_law_38 : decode cL_law 38 = .ok (.iload 4, 2) := dk_21 4 (dk_at dksL_law_1 14 rfl rfl)
theorem dL_law_40 : decode cL_law 40 = .ok (.iaload, 1) := dk_46 (dk_at dksL_law_1 16 rfl rfl)
theorem dL_law_41 : decode cL_law 41 = .ok (.bipush 31, 2) := dk_16 31 (dk_at dksL_law_1 17 rfl rfl)
theorem dL_law_43 : decode cL_law 43 = .ok (.iand, 1) := dk_126 (dk_at dksL_law_1 19 rfl rfl)
theorem dL_law_44 : decode cL_law 44 = .ok (.tableswitch 2141 0 26 #[124, 205, 326, 419, 488, 557, 626, 707, 764, 883, 988, 1107, 1176, 1233, 1314, 1383, 1464, 1545, 1614, 1683, 1740, 1797, 1854, 1912, 2009, 2114, 2127], 124) := by decide +kernel
theorem dL_law_168 : decode cL_law 168 = .ok (.aload_n 1, 1) := dk_43 (dk_at dksL_law_3 0 rfl rfl)
theorem dL_law_169 : decode cL_law 169 = .ok (.aload_n 0, 1) := dk_42 (dk_at dksL_law_3 1 rfl rfl)
theorem dL_law_170 : decode cL_law 170 = .ok (.iload 4, 2) := dk_21 4 (dk_at dksL_law_3 2 rfl rfl)
theorem dL_law_172 : decode cL_law 172 = .ok (.iconst 1, 1) := dk_4 (dk_at dksL_law_3 4 rfl rfl)
theorem dL_law_173 : decode cL_law 173 = .ok (.iadd, 1) := dk_96 (dk_at dksL_law_3 5 rfl rfl)
theorem dL_law_174 : decode cL_law 174 = .ok (.iaload, 1) := dk_46 (dk_at dksL_law_3 6 rfl rfl)
theorem dL_law_175 : decode cL_law 175 = .ok (.aload_n 0, 1) := dk_42 (dk_at dksL_law_3 7 rfl rfl)
theorem dL_law_176 : decode cL_law 176 = .ok (.iload 4, 2) := dk_21 4 (dk_at dksL_law_3 8 rfl rfl)
theorem dL_law_178 : decode cL_law 178 = .ok (.iconst 2, 1) := dk_5 (dk_at dksL_law_3 10 rfl rfl)
theorem dL_law_179 : decode cL_law 179 = .ok (.iadd, 1) := dk_96 (dk_at dksL_law_3 11 rfl rfl)
theorem dL_law_180 : decode cL_law 180 = .ok (.iaload, 1) := dk_46 (dk_at dksL_law_3 12 rfl rfl)
theorem dL_law_181 : decode cL_law 181 = .ok (.aload_n 0, 1) := dk_42 (dk_at dksL_law_3 13 rfl rfl)
theorem dL_law_182 : decode cL_law 182 = .ok (.iload 4, 2) := dk_21 4 (dk_at dksL_law_3 14 rfl rfl)
theorem dL_law_184 : decode cL_law 184 = .ok (.iconst 3, 1) := dk_6 (dk_at dksL_law_3 16 rfl rfl)
theorem dL_law_185 : decode cL_law 185 = .ok (.iadd, 1) := dk_96 (dk_at dksL_law_3 17 rfl rfl)
theorem dL_law_186 : decode cL_law 186 = .ok (.iaload, 1) := dk_46 (dk_at dksL_law_3 18 rfl rfl)
theorem dL_law_187 : decode cL_law 187 = .ok (.aload_n 3, 1) := dk_45 (dk_at dksL_law_3 19 rfl rfl)
theorem dL_law_188 : decode cL_law 188 = .ok (.invokestatic 114, 3) := dk_184 0 114 (dk_at dksL_law_3 20 rfl rfl)
theorem dL_law_191 : decode cL_law 191 = .ok (.istore 5, 2) := dk_54 5 (dk_at dksL_law_4 0 rfl rfl)
theorem dL_law_193 : decode cL_law 193 = .ok (.aload_n 2, 1) := dk_44 (dk_at dksL_law_4 2 rfl rfl)
theorem dL_law_194 : decode cL_law 194 = .ok (.aload_n 0, 1) := dk_42 (dk_at dksL_law_4 3 rfl rfl)
theorem dL_law_195 : decode cL_law 195 = .ok (.iload 4, 2) := dk_21 4 (dk_at dksL_law_4 4 rfl rfl)
theorem dL_law_197 : decode cL_law 197 = .ok (.iconst 1, 1) := dk_4 (dk_at dksL_law_4 6 rfl rfl)
theorem dL_law_198 : decode cL_law 198 = .ok (.iadd, 1) := dk_96 (dk_at dksL_law_4 7 rfl rfl)
theorem dL_law_199 : decode cL_law 199 = .ok (.iaload, 1) := dk_46 (dk_at dksL_law_4 8 rfl rfl)
theorem dL_law_200 : decode cL_law 200 = .ok (.aload_n 0, 1) := dk_42 (dk_at dksL_law_4 9 rfl rfl)
theorem dL_law_201 : decode cL_law 201 = .ok (.iload 4, 2) := dk_21 4 (dk_at dksL_law_4 10 rfl rfl)
theorem dL_law_203 : decode cL_law 203 = .ok (.iconst 2, 1) := dk_5 (dk_at dksL_law_4 12 rfl rfl)
theorem dL_law_204 : decode cL_law 204 = .ok (.iadd, 1) := dk_96 (dk_at dksL_law_4 13 rfl rfl)
theorem dL_law_205 : decode cL_law 205 = .ok (.iaload, 1) := dk_46 (dk_at dksL_law_4 14 rfl rfl)
theorem dL_law_206 : decode cL_law 206 = .ok (.aload_n 0, 1) := dk_42 (dk_at dksL_law_4 15 rfl rfl)
theorem dL_law_207 : decode cL_law 207 = .ok (.iload 4, 2) := dk_21 4 (dk_at dksL_law_4 16 rfl rfl)
theorem dL_law_209 : decode cL_law 209 = .ok (.iconst 3, 1) := dk_6 (dk_at dksL_law_4 18 rfl rfl)
theorem dL_law_210 : decode cL_law 210 = .ok (.iadd, 1) := dk_96 (dk_at dksL_law_4 19 rfl rfl)
theorem dL_law_211 : decode cL_law 211 = .ok (.iaload, 1) := dk_46 (dk_at dksL_law_4 20 rfl rfl)
theorem dL_law_212 : decode cL_law 212 = .ok (.invokevirtual 119, 3) := dk_182 0 119 (dk_at dksL_law_4 21 rfl rfl)
theorem dL_law_215 : decode cL_law 215 = .ok (.istore 6, 2) := dk_54 6 (dk_at dksL_law_5 0 rfl rfl)
theorem dL_law_217 : decode cL_law 217 = .ok (.aload_n 2, 1) := dk_44 (dk_at dksL_law_5 2 rfl rfl)
theorem dL_law_218 : decode cL_law 218 = .ok (.invokevirtual 120, 3) := dk_182 0 120 (dk_at dksL_law_5 3 rfl rfl)
theorem dL_law_221 : decode cL_law 221 = .ok (.iload 5, 2) := dk_21 5 (dk_at dksL_law_5 6 rfl rfl)
theorem dL_law_223 : decode cL_law 223 = .ok (.if_icmp .eq 5, 3) := dk_159 0 5 (dk_at dksL_law_5 8 rfl rfl)
theorem dL_law_226 : decode cL_law 226 = .ok (.iconst 0, 1) := dk_3 (dk_at dksL_law_5 11 rfl rfl)
theorem dL_law_227 : decode cL_law 227 = .ok (.ireturn, 1) := dk_172 (dk_at dksL_law_5 12 rfl rfl)
theorem dL_law_228 : decode cL_law 228 = .ok (.iload 5, 2) := dk_21 5 (dk_at dksL_law_5 13 rfl rfl)
theorem dL_law_230 : decode cL_law 230 = .ok (.ifCond .ne 16, 3) := dk_154 0 16 (dk_at dksL_law_5 15 rfl rfl)
theorem dL_law_233 : decode cL_law 233 = .ok (.aload_n 3, 1) := dk_45 (dk_at dksL_law_5 18 rfl rfl)
theorem dL_law_234 : decode cL_law 234 = .ok (.getfield 13, 3) := dk_180 0 13 (dk_at dksL_law_5 19 rfl rfl)
theorem dL_law_237 : decode cL_law 237 = .ok (.iload 6, 2) := dk_21 6 (dk_at dksL_law_5 22 rfl rfl)
theorem dL_law_239 : decode cL_law 239 = .ok (.i2l, 1) := dk_133 (dk_at dksL_law_6 0 rfl rfl)
theorem dL_law_240 : decode cL_law 240 = .ok (.lcmp, 1) := dk_148 (dk_at dksL_law_6 1 rfl rfl)
theorem dL_law_241 : decode cL_law 241 = .ok (.ifCond .eq 5, 3) := dk_153 0 5 (dk_at dksL_law_6 2 rfl rfl)
theorem dL_law_244 : decode cL_law 244 = .ok (.iconst 0, 1) := dk_3 (dk_at dksL_law_6 5 rfl rfl)
theorem dL_law_245 : decode cL_law 245 = .ok (.ireturn, 1) := dk_172 (dk_at dksL_law_6 6 rfl rfl)
theorem dL_law_246 : decode cL_law 246 = .ok (.goto 1939, 3) := dk_167 7 147 (dk_at dksL_law_6 7 rfl rfl)
theorem dL_law_249 : decode cL_law 249 = .ok (.aload_n 1, 1) := dk_43 (dk_at dksL_law_6 10 rfl rfl)
theorem dL_law_250 : decode cL_law 250 = .ok (.aload_n 0, 1) := dk_42 (dk_at dksL_law_6 11 rfl rfl)
theorem dL_law_251 : decode cL_law 251 = .ok (.iload 4, 2) := dk_21 4 (dk_at dksL_law_6 12 rfl rfl)
theorem dL_law_253 : decode cL_law 253 = .ok (.iconst 1, 1) := dk_4 (dk_at dksL_law_6 14 rfl rfl)
theorem dL_law_254 : decode cL_law 254 = .ok (.iadd, 1) := dk_96 (dk_at dksL_law_6 15 rfl rfl)
theorem dL_law_255 : decode cL_law 255 = .ok (.iaload, 1) := dk_46 (dk_at dksL_law_6 16 rfl rfl)
theorem dL_law_256 : decode cL_law 256 = .ok (.aload_n 0, 1) := dk_42 (dk_at dksL_law_6 17 rfl rfl)
theorem dL_law_257 : decode cL_law 257 = .ok (.iload 4, 2) := dk_21 4 (dk_at dksL_law_6 18 rfl rfl)
theorem dL_law_259 : decode cL_law 259 = .ok (.iconst 2, 1) := dk_5 (dk_at dksL_law_6 20 rfl rfl)
theorem dL_law_260 : decode cL_law 260 = .ok (.iadd, 1) := dk_96 (dk_at dksL_law_6 21 rfl rfl)
theorem dL_law_261 : decode cL_law 261 = .ok (.iaload, 1) := dk_46 (dk_at dksL_law_6 22 rfl rfl)
theorem dL_law_262 : decode cL_law 262 = .ok (.aload_n 0, 1) := dk_42 (dk_at dksL_law_6 23 rfl rfl)
theorem dL_law_263 : decode cL_law 263 = .ok (.iload 4, 2) := dk_21 4 (dk_at dksL_law_7 0 rfl rfl)
theorem dL_law_265 : decode cL_law 265 = .ok (.iconst 3, 1) := dk_6 (dk_at dksL_law_7 2 rfl rfl)
theorem dL_law_266 : decode cL_law 266 = .ok (.iadd, 1) := dk_96 (dk_at dksL_law_7 3 rfl rfl)
theorem dL_law_267 : decode cL_law 267 = .ok (.iaload, 1) := dk_46 (dk_at dksL_law_7 4 rfl rfl)
theorem dL_law_268 : decode cL_law 268 = .ok (.aload_n 0, 1) := dk_42 (dk_at dksL_law_7 5 rfl rfl)
theorem dL_law_269 : decode cL_law 269 = .ok (.iload 4, 2) := dk_21 4 (dk_at dksL_law_7 6 rfl rfl)
theorem dL_law_271 : decode cL_law 271 = .ok (.iconst 4, 1) := dk_7 (dk_at dksL_law_7 8 rfl rfl)
theorem dL_law_272 : decode cL_law 272 = .ok (.iadd, 1) := dk_96 (dk_at dksL_law_7 9 rfl rfl)
theorem dL_law_273 : decode cL_law 273 = .ok (.iaload, 1) := dk_46 (dk_at dksL_law_7 10 rfl rfl)
theorem dL_law_274 : decode cL_law 274 = .ok (.aload_n 0, 1) := dk_42 (dk_at dksL_law_7 11 rfl rfl)
theorem dL_law_275 : decode cL_law 275 = .ok (.iload 4, 2) := dk_21 4 (dk_at dksL_law_7 12 rfl rfl)
theorem dL_law_277 : decode cL_law 277 = .ok (.iconst 5, 1) := dk_8 (dk_at dksL_law_7 14 rfl rfl)
theorem dL_law_278 : decode cL_law 278 = .ok (.iadd, 1) := dk_96 (dk_at dksL_law_7 15 rfl rfl)
theorem dL_law_279 : decode cL_law 279 = .ok (.iaload, 1) := dk_46 (dk_at dksL_law_7 16 rfl rfl)
theorem dL_law_280 : decode cL_law 280 = .ok (.ifCond .eq 7, 3) := dk_153 0 7 (dk_at dksL_law_7 17 rfl rfl)
theorem dL_law_283 : decode cL_law 283 = .ok (.iconst 1, 1) := dk_4 (dk_at dksL_law_7 20 rfl rfl)
theorem dL_law_284 : decode cL_law 284 = .ok (.goto 4, 3) := dk_167 0 4 (dk_at dksL_law_7 21 rfl rfl)
theorem dL_law_287 : decode cL_law 287 = .ok (.iconst 0, 1) := dk_3 (dk_at dksL_law_8 0 rfl rfl)
theorem dL_law_288 : decode cL_law 288 = .ok (.aload_n 3, 1) := dk_45 (dk_at dksL_law_8 1 rfl rfl)
theorem dL_law_289 : decode cL_law 289 = .ok (.invokestatic 124, 3) := dk_184 0 124 (dk_at dksL_law_8 2 rfl rfl)
theorem dL_law_292 : decode cL_law 292 = .ok (.istore 5, 2) := dk_54 5 (dk_at dksL_law_8 5 rfl rfl)
theorem dL_law_294 : decode cL_law 294 = .ok (.aload_n 2, 1) := dk_44 (dk_at dksL_law_8 7 rfl rfl)
theorem dL_law_295 : decode cL_law 295 = .ok (.aload_n 0, 1) := dk_42 (dk_at dksL_law_8 8 rfl rfl)
theorem dL_law_296 : decode cL_law 296 = .ok (.iload 4, 2) := dk_21 4 (dk_at dksL_law_8 9 rfl rfl)
theorem dL_law_298 : decode cL_law 298 = .ok (.iconst 1, 1) := dk_4 (dk_at dksL_law_8 11 rfl rfl)
theorem dL_law_299 : decode cL_law 299 = .ok (.iadd, 1) := dk_96 (dk_at dksL_law_8 12 rfl rfl)
theorem dL_law_300 : decode cL_law 300 = .ok (.iaload, 1) := dk_46 (dk_at dksL_law_8 13 rfl rfl)
theorem dL_law_301 : decode cL_law 301 = .ok (.aload_n 0, 1) := dk_42 (dk_at dksL_law_8 14 rfl rfl)
theorem dL_law_302 : decode cL_law 302 = .ok (.iload 4, 2) := dk_21 4 (dk_at dksL_law_8 15 rfl rfl)
theorem dL_law_304 : decode cL_law 304 = .ok (.iconst 2, 1) := dk_5 (dk_at dksL_law_8 17 rfl rfl)
theorem dL_law_305 : decode cL_law 305 = .ok (.iadd, 1) := dk_96 (dk_at dksL_law_8 18 rfl rfl)
theorem dL_law_306 : decode cL_law 306 = .ok (.iaload, 1) := dk_46 (dk_at dksL_law_8 19 rfl rfl)
theorem dL_law_307 : decode cL_law 307 = .ok (.aload_n 0, 1) := dk_42 (dk_at dksL_law_8 20 rfl rfl)
theorem dL_law_308 : decode cL_law 308 = .ok (.iload 4, 2) := dk_21 4 (dk_at dksL_law_8 21 rfl rfl)
theorem dL_law_310 : decode cL_law 310 = .ok (.iconst 3, 1) := dk_6 (dk_at dksL_law_8 23 rfl rfl)
theorem dL_law_311 : decode cL_law 311 = .ok (.iadd, 1) := dk_96 (dk_at dksL_law_9 0 rfl rfl)
theorem dL_law_312 : decode cL_law 312 = .ok (.iaload, 1) := dk_46 (dk_at dksL_law_9 1 rfl rfl)
theorem dL_law_313 : decode cL_law 313 = .ok (.aload_n 0, 1) := dk_42 (dk_at dksL_law_9 2 rfl rfl)
theorem dL_law_314 : decode cL_law 314 = .ok (.iload 4, 2) := dk_21 4 (dk_at dksL_law_9 3 rfl rfl)
theorem dL_law_316 : decode cL_law 316 = .ok (.iconst 4, 1) := dk_7 (dk_at dksL_law_9 5 rfl rfl)
theorem dL_law_317 : decode cL_law 317 = .ok (.iadd, 1) := dk_96 (dk_at dksL_law_9 6 rfl rfl)
theorem dL_law_318 : decode cL_law 318 = .ok (.iaload, 1) := dk_46 (dk_at dksL_law_9 7 rfl rfl)
theorem dL_law_319 : decode cL_law 319 = .ok (.aload_n 0, 1) := dk_42 (dk_at dksL_law_9 8 rfl rfl)
theorem dL_law_320 : decode cL_law 320 = .ok (.iload 4, 2) := dk_21 4 (dk_at dksL_law_9 9 rfl rfl)
theorem dL_law_322 : decode cL_law 322 = .ok (.iconst 5, 1) := dk_8 (dk_at dksL_law_9 11 rfl rfl)
theorem dL_law_323 : decode cL_law 323 = .ok (.iadd, 1) := dk_96 (dk_at dksL_law_9 12 rfl rfl)
theorem dL_law_324 : decode cL_law 324 = .ok (.iaload, 1) := dk_46 (dk_at dksL_law_9 13 rfl rfl)
theorem dL_law_325 : decode cL_law 325 = .ok (.ifCond .eq 7, 3) := dk_153 0 7 (dk_at dksL_law_9 14 rfl rfl)
theorem dL_law_328 : decode cL_law 328 = .ok (.iconst 1, 1) := dk_4 (dk_at dksL_law_9 17 rfl rfl)
theorem dL_law_329 : decode cL_law 329 = .ok (.goto 4, 3) := dk_167 0 4 (dk_at dksL_law_9 18 rfl rfl)
theorem dL_law_332 : decode cL_law 332 = .ok (.iconst 0, 1) := dk_3 (dk_at dksL_law_9 21 rfl rfl)
theorem dL_law_333 : decode cL_law 333 = .ok (.invokevirtual 127, 3) := dk_182 0 127 (dk_at dksL_law_10 0 rfl rfl)
theorem dL_law_336 : decode cL_law 336 = .ok (.istore 6, 2) := dk_54 6 (dk_at dksL_law_10 3 rfl rfl)
theorem dL_law_338 : decode cL_law 338 = .ok (.aload_n 2, 1) := dk_44 (dk_at dksL_law_10 5 rfl rfl)
theorem dL_law_339 : decode cL_law 339 = .ok (.invokevirtual 120, 3) := dk_182 0 120 (dk_at dksL_law_10 6 rfl rfl)
theorem dL_law_342 : decode cL_law 342 = .ok (.iload 5, 2) := dk_21 5 (dk_at dksL_law_10 9 rfl rfl)
theorem dL_law_344 : decode cL_law 344 = .ok (.if_icmp .eq 5, 3) := dk_159 0 5 (dk_at dksL_law_10 11 rfl rfl)
theorem dL_law_347 : decode cL_law 347 = .ok (.iconst 0, 1) := dk_3 (dk_at dksL_law_10 14 rfl rfl)
theorem dL_law_348 : decode cL_law 348 = .ok (.ireturn, 1) := dk_172 (dk_at dksL_law_10 15 rfl rfl)
theorem dL_law_349 : decode cL_law 349 = .ok (.iload 5, 2) := dk_21 5 (dk_at dksL_law_10 16 rfl rfl)
theorem dL_law_351 : decode cL_law 351 = .ok (.ifCond .ne 16, 3) := dk_154 0 16 (dk_at dksL_law_10 18 rfl rfl)
theorem dL_law_354 : decode cL_law 354 = .ok (.aload_n 3, 1) := dk_45 (dk_at dksL_law_10 21 rfl rfl)
theorem dL_law_355 : decode cL_law 355 = .ok (.getfield 13, 3) := dk_180 0 13 (dk_at dksL_law_11 0 rfl rfl)
theorem dL_law_358 : decode cL_law 358 = .ok (.iload 6, 2) := dk_21 6 (dk_at dksL_law_11 3 rfl rfl)
theorem dL_law_360 : decode cL_law 360 = .ok (.i2l, 1) := dk_133 (dk_at dksL_law_11 5 rfl rfl)
theorem dL_law_361 : decode cL_law 361 = .ok (.lcmp, 1) := dk_148 (dk_at dksL_law_11 6 rfl rfl)
theorem dL_law_362 : decode cL_law 362 = .ok (.ifCond .eq 5, 3) := dk_153 0 5 (dk_at dksL_law_11 7 rfl rfl)
theorem dL_law_365 : decode cL_law 365 = .ok (.iconst 0, 1) := dk_3 (dk_at dksL_law_11 10 rfl rfl)
theorem dL_law_366 : decode cL_law 366 = .ok (.ireturn, 1) := dk_172 (dk_at dksL_law_11 11 rfl rfl)
theorem dL_law_367 : decode cL_law 367 = .ok (.goto 1818, 3) := dk_167 7 26 (dk_at dksL_law_11 12 rfl rfl)
theorem dL_law_370 : decode cL_law 370 = .ok (.aload_n 1, 1) := dk_43 (dk_at dksL_law_11 15 rfl rfl)
theorem dL_law_371 : decode cL_law 371 = .ok (.aload_n 0, 1) := dk_42 (dk_at dksL_law_11 16 rfl rfl)
theorem dL_law_372 : decode cL_law 372 = .ok (.iload 4, 2) := dk_21 4 (dk_at dksL_law_11 17 rfl rfl)
theorem dL_law_374 : decode cL_law 374 = .ok (.iconst 1, 1) := dk_4 (dk_at dksL_law_11 19 rfl rfl)
theorem dL_law_375 : decode cL_law 375 = .ok (.iadd, 1) := dk_96 (dk_at dksL_law_11 20 rfl rfl)
theorem dL_law_376 : decode cL_law 376 = .ok (.iaload, 1) := dk_46 (dk_at dksL_law_11 21 rfl rfl)
theorem dL_law_377 : decode cL_law 377 = .ok (.aload_n 0, 1) := dk_42 (dk_at dksL_law_11 22 rfl rfl)
theorem dL_law_378 : decode cL_law 378 = .ok (.iload 4, 2) := dk_21 4 (dk_at dksL_law_12 0 rfl rfl)
theorem dL_law_380 : decode cL_law 380 = .ok (.iconst 2, 1) := dk_5 (dk_at dksL_law_12 2 rfl rfl)
theorem dL_law_381 : decode cL_law 381 = .ok (.iadd, 1) := dk_96 (dk_at dksL_law_12 3 rfl rfl)
theorem dL_law_382 : decode cL_law 382 = .ok (.iaload, 1) := dk_46 (dk_at dksL_law_12 4 rfl rfl)
theorem dL_law_383 : decode cL_law 383 = .ok (.aload_n 0, 1) := dk_42 (dk_at dksL_law_12 5 rfl rfl)
theorem dL_law_384 : decode cL_law 384 = .ok (.iload 4, 2) := dk_21 4 (dk_at dksL_law_12 6 rfl rfl)
theorem dL_law_386 : decode cL_law 386 = .ok (.iconst 3, 1) := dk_6 (dk_at dksL_law_12 8 rfl rfl)
theorem dL_law_387 : decode cL_law 387 = .ok (.iadd, 1) := dk_96 (dk_at dksL_law_12 9 rfl rfl)
theorem dL_law_388 : decode cL_law 388 = .ok (.iaload, 1) := dk_46 (dk_at dksL_law_12 10 rfl rfl)
theorem dL_law_389 : decode cL_law 389 = .ok (.aload_n 0, 1) := dk_42 (dk_at dksL_law_12 11 rfl rfl)
theorem dL_law_390 : decode cL_law 390 = .ok (.iload 4, 2) := dk_21 4 (dk_at dksL_law_12 12 rfl rfl)
theorem dL_law_392 : decode cL_law 392 = .ok (.iconst 4, 1) := dk_7 (dk_at dksL_law_12 14 rfl rfl)
theorem dL_law_393 : decode cL_law 393 = .ok (.iadd, 1) := dk_96 (dk_at dksL_law_12 15 rfl rfl)
theorem dL_law_394 : decode cL_law 394 = .ok (.iaload, 1) := dk_46 (dk_at dksL_law_12 16 rfl rfl)
theorem dL_law_395 : decode cL_law 395 = .ok (.aload_n 3, 1) := dk_45 (dk_at dksL_law_12 17 rfl rfl)
theorem dL_law_396 : decode cL_law 396 = .ok (.invokestatic 128, 3) := dk_184 0 128 (dk_at dksL_law_12 18 rfl rfl)
theorem dL_law_399 : decode cL_law 399 = .ok (.istore 5, 2) := dk_54 5 (dk_at dksL_law_12 21 rfl rfl)
theorem dL_law_401 : decode cL_law 401 = .ok (.aload_n 2, 1) := dk_44 (dk_at dksL_law_12 23 rfl rfl)
theorem dL_law_402 : decode cL_law 402 = .ok (.aload_n 0, 1) := dk_42 (dk_at dksL_law_13 0 rfl rfl)
theorem dL_law_403 : decode cL_law 403 = .ok (.iload 4, 2) := dk_21 4 (dk_at dksL_law_13 1 rfl rfl)
theorem dL_law_405 : decode cL_law 405 = .ok (.iconst 1, 1) := dk_4 (dk_at dksL_law_13 3 rfl rfl)
theorem dL_law_406 : decode cL_law 406 = .ok (.iadd, 1) := dk_96 (dk_at dksL_law_13 4 rfl rfl)
theorem dL_law_407 : decode cL_law 407 = .ok (.iaload, 1) := dk_46 (dk_at dksL_law_13 5 rfl rfl)
theorem dL_law_408 : decode cL_law 408 = .ok (.aload_n 0, 1) := dk_42 (dk_at dksL_law_13 6 rfl rfl)
theorem dL_law_409 : decode cL_law 409 = .ok (.iload 4, 2) := dk_21 4 (dk_at dksL_law_13 7 rfl rfl)
theorem dL_law_411 : decode cL_law 411 = .ok (.iconst 2, 1) := dk_5 (dk_at dksL_law_13 9 rfl rfl)
theorem dL_law_412 : decode cL_law 412 = .ok (.iadd, 1) := dk_96 (dk_at dksL_law_13 10 rfl rfl)
theorem dL_law_413 : decode cL_law 413 = .ok (.iaload, 1) := dk_46 (dk_at dksL_law_13 11 rfl rfl)
theorem dL_law_414 : decode cL_law 414 = .ok (.aload_n 0, 1) := dk_42 (dk_at dksL_law_13 12 rfl rfl)
theorem dL_law_415 : decode cL_law 415 = .ok (.iload 4, 2) := dk_21 4 (dk_at dksL_law_13 13 rfl rfl)
theorem dL_law_417 : decode cL_law 417 = .ok (.iconst 3, 1) := dk_6 (dk_at dksL_law_13 15 rfl rfl)
theorem dL_law_418 : decode cL_law 418 = .ok (.iadd, 1) := dk_96 (dk_at dksL_law_13 16 rfl rfl)
theorem dL_law_419 : decode cL_law 419 = .ok (.iaload, 1) := dk_46 (dk_at dksL_law_13 17 rfl rfl)
theorem dL_law_420 : decode cL_law 420 = .ok (.aload_n 0, 1) := dk_42 (dk_at dksL_law_13 18 rfl rfl)
theorem dL_law_421 : decode cL_law 421 = .ok (.iload 4, 2) := dk_21 4 (dk_at dksL_law_13 19 rfl rfl)
theorem dL_law_423 : decode cL_law 423 = .ok (.iconst 4, 1) := dk_7 (dk_at dksL_law_13 21 rfl rfl)
theorem dL_law_424 : decode cL_law 424 = .ok (.iadd, 1) := dk_96 (dk_at dksL_law_13 22 rfl rfl)
theorem dL_law_425 : decode cL_law 425 = .ok (.iaload, 1) := dk_46 (dk_at dksL_law_13 23 rfl rfl)
theorem dL_law_426 : decode cL_law 426 = .ok (.invokevirtual 131, 3) := dk_182 0 131 (dk_at dksL_law_14 0 rfl rfl)
theorem dL_law_429 : decode cL_law 429 = .ok (.istore 6, 2) := dk_54 6 (dk_at dksL_law_14 3 rfl rfl)
theorem dL_law_431 : decode cL_law 431 = .ok (.aload_n 2, 1) := dk_44 (dk_at dksL_law_14 5 rfl rfl)
theorem dL_law_432 : decode cL_law 432 = .ok (.invokevirtual 120, 3) := dk_182 0 120 (dk_at dksL_law_14 6 rfl rfl)
theorem dL_law_435 : decode cL_law 435 = .ok (.iload 5, 2) := dk_21 5 (dk_at dksL_law_14 9 rfl rfl)
theorem dL_law_437 : decode cL_law 437 = .ok (.if_icmp .eq 5, 3) := dk_159 0 5 (dk_at dksL_law_14 11 rfl rfl)
theorem dL_law_440 : decode cL_law 440 = .ok (.iconst 0, 1) := dk_3 (dk_at dksL_law_14 14 rfl rfl)
theorem dL_law_441 : decode cL_law 441 = .ok (.ireturn, 1) := dk_172 (dk_at dksL_law_14 15 rfl rfl)
theorem dL_law_442 : decode cL_law 442 = .ok (.iload 5, 2) := dk_21 5 (dk_at dksL_law_14 16 rfl rfl)
theorem dL_law_444 : decode cL_law 444 = .ok (.ifCond .ne 16, 3) := dk_154 0 16 (dk_at dksL_law_14 18 rfl rfl)
theorem dL_law_447 : decode cL_law 447 = .ok (.aload_n 3, 1) := dk_45 (dk_at dksL_law_14 21 rfl rfl)
theorem dL_law_448 : decode cL_law 448 = .ok (.getfield 13, 3) := dk_180 0 13 (dk_at dksL_law_15 0 rfl rfl)
theorem dL_law_451 : decode cL_law 451 = .ok (.iload 6, 2) := dk_21 6 (dk_at dksL_law_15 3 rfl rfl)
theorem dL_law_453 : decode cL_law 453 = .ok (.i2l, 1) := dk_133 (dk_at dksL_law_15 5 rfl rfl)
theorem dL_law_454 : decode cL_law 454 = .ok (.lcmp, 1) := dk_148 (dk_at dksL_law_15 6 rfl rfl)
theorem dL_law_455 : decode cL_law 455 = .ok (.ifCond .eq 5, 3) := dk_153 0 5 (dk_at dksL_law_15 7 rfl rfl)
theorem dL_law_458 : decode cL_law 458 = .ok (.iconst 0, 1) := dk_3 (dk_at dksL_law_15 10 rfl rfl)
theorem dL_law_459 : decode cL_law 459 = .ok (.ireturn, 1) := dk_172 (dk_at dksL_law_15 11 rfl rfl)
theorem dL_law_460 : decode cL_law 460 = .ok (.goto 1725, 3) := dk_167 6 189 (dk_at dksL_law_15 12 rfl rfl)
theorem dL_law_463 : decode cL_law 463 = .ok (.aload_n 1, 1) := dk_43 (dk_at dksL_law_15 15 rfl rfl)
theorem dL_law_464 : decode cL_law 464 = .ok (.aload_n 0, 1) := dk_42 (dk_at dksL_law_15 16 rfl rfl)
theorem dL_law_465 : decode cL_law 465 = .ok (.iload 4, 2) := dk_21 4 (dk_at dksL_law_15 17 rfl rfl)
theorem dL_law_467 : decode cL_law 467 = .ok (.iconst 1, 1) := dk_4 (dk_at dksL_law_15 19 rfl rfl)
theorem dL_law_468 : decode cL_law 468 = .ok (.iadd, 1) := dk_96 (dk_at dksL_law_15 20 rfl rfl)
theorem dL_law_469 : decode cL_law 469 = .ok (.iaload, 1) := dk_46 (dk_at dksL_law_15 21 rfl rfl)
theorem dL_law_470 : decode cL_law 470 = .ok (.aload_n 0, 1) := dk_42 (dk_at dksL_law_15 22 rfl rfl)
theorem dL_law_471 : decode cL_law 471 = .ok (.iload 4, 2) := dk_21 4 (dk_at dksL_law_16 0 rfl rfl)
theorem dL_law_473 : decode cL_law 473 = .ok (.iconst 2, 1) := dk_5 (dk_at dksL_law_16 2 rfl rfl)
theorem dL_law_474 : decode cL_law 474 = .ok (.iadd, 1) := dk_96 (dk_at dksL_law_16 3 rfl rfl)
theorem dL_law_475 : decode cL_law 475 = .ok (.iaload, 1) := dk_46 (dk_at dksL_law_16 4 rfl rfl)
theorem dL_law_476 : decode cL_law 476 = .ok (.aload_n 3, 1) := dk_45 (dk_at dksL_law_16 5 rfl rfl)
theorem dL_law_477 : decode cL_law 477 = .ok (.invokestatic 132, 3) := dk_184 0 132 (dk_at dksL_law_16 6 rfl rfl)
theorem dL_law_480 : decode cL_law 480 = .ok (.istore 5, 2) := dk_54 5 (dk_at dksL_law_16 9 rfl rfl)
theorem dL_law_482 : decode cL_law 482 = .ok (.aload_n 2, 1) := dk_44 (dk_at dksL_law_16 11 rfl rfl)
theorem dL_law_483 : decode cL_law 483 = .ok (.aload_n 0, 1) := dk_42 (dk_at dksL_law_16 12 rfl rfl)
theorem dL_law_484 : decode cL_law 484 = .ok (.iload 4, 2) := dk_21 4 (dk_at dksL_law_16 13 rfl rfl)
theorem dL_law_486 : decode cL_law 486 = .ok (.iconst 1, 1) := dk_4 (dk_at dksL_law_16 15 rfl rfl)
theorem dL_law_487 : decode cL_law 487 = .ok (.iadd, 1) := dk_96 (dk_at dksL_law_16 16 rfl rfl)
theorem dL_law_488 : decode cL_law 488 = .ok (.iaload, 1) := dk_46 (dk_at dksL_law_16 17 rfl rfl)
theorem dL_law_489 : decode cL_law 489 = .ok (.aload_n 0, 1) := dk_42 (dk_at dksL_law_16 18 rfl rfl)
theorem dL_law_490 : decode cL_law 490 = .ok (.iload 4, 2) := dk_21 4 (dk_at dksL_law_16 19 rfl rfl)
theorem dL_law_492 : decode cL_law 492 = .ok (.iconst 2, 1) := dk_5 (dk_at dksL_law_16 21 rfl rfl)
theorem dL_law_493 : decode cL_law 493 = .ok (.iadd, 1) := dk_96 (dk_at dksL_law_16 22 rfl rfl)
theorem dL_law_494 : decode cL_law 494 = .ok (.iaload, 1) := dk_46 (dk_at dksL_law_16 23 rfl rfl)
theorem dL_law_495 : decode cL_law 495 = .ok (.invokevirtual 135, 3) := dk_182 0 135 (dk_at dksL_law_17 0 rfl rfl)
theorem dL_law_498 : decode cL_law 498 = .ok (.istore 6, 2) := dk_54 6 (dk_at dksL_law_17 3 rfl rfl)
theorem dL_law_500 : decode cL_law 500 = .ok (.aload_n 2, 1) := dk_44 (dk_at dksL_law_17 5 rfl rfl)
theorem dL_law_501 : decode cL_law 501 = .ok (.invokevirtual 120, 3) := dk_182 0 120 (dk_at dksL_law_17 6 rfl rfl)
theorem dL_law_504 : decode cL_law 504 = .ok (.iload 5, 2) := dk_21 5 (dk_at dksL_law_17 9 rfl rfl)
theorem dL_law_506 : decode cL_law 506 = .ok (.if_icmp .eq 5, 3) := dk_159 0 5 (dk_at dksL_law_17 11 rfl rfl)
theorem dL_law_509 : decode cL_law 509 = .ok (.iconst 0, 1) := dk_3 (dk_at dksL_law_17 14 rfl rfl)
theorem dL_law_510 : decode cL_law 510 = .ok (.ireturn, 1) := dk_172 (dk_at dksL_law_17 15 rfl rfl)
theorem dL_law_511 : decode cL_law 511 = .ok (.iload 5, 2) := dk_21 5 (dk_at dksL_law_17 16 rfl rfl)
theorem dL_law_513 : decode cL_law 513 = .ok (.ifCond .ne 16, 3) := dk_154 0 16 (dk_at dksL_law_17 18 rfl rfl)
theorem dL_law_516 : decode cL_law 516 = .ok (.aload_n 3, 1) := dk_45 (dk_at dksL_law_17 21 rfl rfl)
theorem dL_law_517 : decode cL_law 517 = .ok (.getfield 13, 3) := dk_180 0 13 (dk_at dksL_law_18 0 rfl rfl)
theorem dL_law_520 : decode cL_law 520 = .ok (.iload 6, 2) := dk_21 6 (dk_at dksL_law_18 3 rfl rfl)
theorem dL_law_522 : decode cL_law 522 = .ok (.i2l, 1) := dk_133 (dk_at dksL_law_18 5 rfl rfl)
theorem dL_law_523 : decode cL_law 523 = .ok (.lcmp, 1) := dk_148 (dk_at dksL_law_18 6 rfl rfl)
theorem dL_law_524 : decode cL_law 524 = .ok (.ifCond .eq 5, 3) := dk_153 0 5 (dk_at dksL_law_18 7 rfl rfl)
theorem dL_law_527 : decode cL_law 527 = .ok (.iconst 0, 1) := dk_3 (dk_at dksL_law_18 10 rfl rfl)
theorem dL_law_528 : decode cL_law 528 = .ok (.ireturn, 1) := dk_172 (dk_at dksL_law_18 11 rfl rfl)
theorem dL_law_529 : decode cL_law 529 = .ok (.goto 1656, 3) := dk_167 6 120 (dk_at dksL_law_18 12 rfl rfl)
theorem dL_law_532 : decode cL_law 532 = .ok (.aload_n 1, 1) := dk_43 (dk_at dksL_law_18 15 rfl rfl)
theorem dL_law_533 : decode cL_law 533 = .ok (.aload_n 0, 1) := dk_42 (dk_at dksL_law_18 16 rfl rfl)
theorem dL_law_534 : decode cL_law 534 = .ok (.iload 4, 2) := dk_21 4 (dk_at dksL_law_18 17 rfl rfl)
theorem dL_law_536 : decode cL_law 536 = .ok (.iconst 1, 1) := dk_4 (dk_at dksL_law_18 19 rfl rfl)
theorem dL_law_537 : decode cL_law 537 = .ok (.iadd, 1) := dk_96 (dk_at dksL_law_18 20 rfl rfl)
theorem dL_law_538 : decode cL_law 538 = .ok (.iaload, 1) := dk_46 (dk_at dksL_law_18 21 rfl rfl)
theorem dL_law_539 : decode cL_law 539 = .ok (.aload_n 0, 1) := dk_42 (dk_at dksL_law_18 22 rfl rfl)
theorem dL_law_540 : decode cL_law 540 = .ok (.iload 4, 2) := dk_21 4 (dk_at dksL_law_19 0 rfl rfl)
theorem dL_law_542 : decode cL_law 542 = .ok (.iconst 2, 1) := dk_5 (dk_at dksL_law_19 2 rfl rfl)
theorem dL_law_543 : decode cL_law 543 = .ok (.iadd, 1) := dk_96 (dk_at dksL_law_19 3 rfl rfl)
theorem dL_law_544 : decode cL_law 544 = .ok (.iaload, 1) := dk_46 (dk_at dksL_law_19 4 rfl rfl)
theorem dL_law_545 : decode cL_law 545 = .ok (.aload_n 3, 1) := dk_45 (dk_at dksL_law_19 5 rfl rfl)
theorem dL_law_546 : decode cL_law 546 = .ok (.invokestatic 136, 3) := dk_184 0 136 (dk_at dksL_law_19 6 rfl rfl)
theorem dL_law_549 : decode cL_law 549 = .ok (.istore 5, 2) := dk_54 5 (dk_at dksL_law_19 9 rfl rfl)
theorem dL_law_551 : decode cL_law 551 = .ok (.aload_n 2, 1) := dk_44 (dk_at dksL_law_19 11 rfl rfl)
theorem dL_law_552 : decode cL_law 552 = .ok (.aload_n 0, 1) := dk_42 (dk_at dksL_law_19 12 rfl rfl)
theorem dL_law_553 : decode cL_law 553 = .ok (.iload 4, 2) := dk_21 4 (dk_at dksL_law_19 13 rfl rfl)
theorem dL_law_555 : decode cL_law 555 = .ok (.iconst 1, 1) := dk_4 (dk_at dksL_law_19 15 rfl rfl)
theorem dL_law_556 : decode cL_law 556 = .ok (.iadd, 1) := dk_96 (dk_at dksL_law_19 16 rfl rfl)
theorem dL_law_557 : decode cL_law 557 = .ok (.iaload, 1) := dk_46 (dk_at dksL_law_19 17 rfl rfl)
theorem dL_law_558 : decode cL_law 558 = .ok (.aload_n 0, 1) := dk_42 (dk_at dksL_law_19 18 rfl rfl)
theorem dL_law_559 : decode cL_law 559 = .ok (.iload 4, 2) := dk_21 4 (dk_at dksL_law_19 19 rfl rfl)
theorem dL_law_561 : decode cL_law 561 = .ok (.iconst 2, 1) := dk_5 (dk_at dksL_law_19 21 rfl rfl)
theorem dL_law_562 : decode cL_law 562 = .ok (.iadd, 1) := dk_96 (dk_at dksL_law_19 22 rfl rfl)
theorem dL_law_563 : decode cL_law 563 = .ok (.iaload, 1) := dk_46 (dk_at dksL_law_19 23 rfl rfl)
theorem dL_law_564 : decode cL_law 564 = .ok (.invokevirtual 138, 3) := dk_182 0 138 (dk_at dksL_law_20 0 rfl rfl)
theorem dL_law_567 : decode cL_law 567 = .ok (.istore 6, 2) := dk_54 6 (dk_at dksL_law_20 3 rfl rfl)
theorem dL_law_569 : decode cL_law 569 = .ok (.aload_n 2, 1) := dk_44 (dk_at dksL_law_20 5 rfl rfl)
theorem dL_law_570 : decode cL_law 570 = .ok (.invokevirtual 120, 3) := dk_182 0 120 (dk_at dksL_law_20 6 rfl rfl)
theorem dL_law_573 : decode cL_law 573 = .ok (.iload 5, 2) := dk_21 5 (dk_at dksL_law_20 9 rfl rfl)
theorem dL_law_575 : decode cL_law 575 = .ok (.if_icmp .eq 5, 3) := dk_159 0 5 (dk_at dksL_law_20 11 rfl rfl)
theorem dL_law_578 : decode cL_law 578 = .ok (.iconst 0, 1) := dk_3 (dk_at dksL_law_20 14 rfl rfl)
theorem dL_law_579 : decode cL_law 579 = .ok (.ireturn, 1) := dk_172 (dk_at dksL_law_20 15 rfl rfl)
theorem dL_law_580 : decode cL_law 580 = .ok (.iload 5, 2) := dk_21 5 (dk_at dksL_law_20 16 rfl rfl)
theorem dL_law_582 : decode cL_law 582 = .ok (.ifCond .ne 16, 3) := dk_154 0 16 (dk_at dksL_law_20 18 rfl rfl)
theorem dL_law_585 : decode cL_law 585 = .ok (.aload_n 3, 1) := dk_45 (dk_at dksL_law_20 21 rfl rfl)
theorem dL_law_586 : decode cL_law 586 = .ok (.getfield 13, 3) := dk_180 0 13 (dk_at dksL_law_21 0 rfl rfl)
theorem dL_law_589 : decode cL_law 589 = .ok (.iload 6, 2) := dk_21 6 (dk_at dksL_law_21 3 rfl rfl)
theorem dL_law_591 : decode cL_law 591 = .ok (.i2l, 1) := dk_133 (dk_at dksL_law_21 5 rfl rfl)
theorem dL_law_592 : decode cL_law 592 = .ok (.lcmp, 1) := dk_148 (dk_at dksL_law_21 6 rfl rfl)
theorem dL_law_593 : decode cL_law 593 = .ok (.ifCond .eq 5, 3) := dk_153 0 5 (dk_at dksL_law_21 7 rfl rfl)
theorem dL_law_596 : decode cL_law 596 = .ok (.iconst 0, 1) := dk_3 (dk_at dksL_law_21 10 rfl rfl)
theorem dL_law_597 : decode cL_law 597 = .ok (.ireturn, 1) := dk_172 (dk_at dksL_law_21 11 rfl rfl)
theorem dL_law_598 : decode cL_law 598 = .ok (.goto 1587, 3) := dk_167 6 51 (dk_at dksL_law_21 12 rfl rfl)
theorem dL_law_601 : decode cL_law 601 = .ok (.aload_n 1, 1) := dk_43 (dk_at dksL_law_21 15 rfl rfl)
theorem dL_law_602 : decode cL_law 602 = .ok (.aload_n 0, 1) := dk_42 (dk_at dksL_law_21 16 rfl rfl)
theorem dL_law_603 : decode cL_law 603 = .ok (.iload 4, 2) := dk_21 4 (dk_at dksL_law_21 17 rfl rfl)
theorem dL_law_605 : decode cL_law 605 = .ok (.iconst 1, 1) := dk_4 (dk_at dksL_law_21 19 rfl rfl)
theorem dL_law_606 : decode cL_law 606 = .ok (.iadd, 1) := dk_96 (dk_at dksL_law_21 20 rfl rfl)
theorem dL_law_607 : decode cL_law 607 = .ok (.iaload, 1) := dk_46 (dk_at dksL_law_21 21 rfl rfl)
theorem dL_law_608 : decode cL_law 608 = .ok (.aload_n 0, 1) := dk_42 (dk_at dksL_law_21 22 rfl rfl)
theorem dL_law_609 : decode cL_law 609 = .ok (.iload 4, 2) := dk_21 4 (dk_at dksL_law_22 0 rfl rfl)
theorem dL_law_611 : decode cL_law 611 = .ok (.iconst 2, 1) := dk_5 (dk_at dksL_law_22 2 rfl rfl)
theorem dL_law_612 : decode cL_law 612 = .ok (.iadd, 1) := dk_96 (dk_at dksL_law_22 3 rfl rfl)
theorem dL_law_613 : decode cL_law 613 = .ok (.iaload, 1) := dk_46 (dk_at dksL_law_22 4 rfl rfl)
theorem dL_law_614 : decode cL_law 614 = .ok (.aload_n 3, 1) := dk_45 (dk_at dksL_law_22 5 rfl rfl)
theorem dL_law_615 : decode cL_law 615 = .ok (.invokestatic 139, 3) := dk_184 0 139 (dk_at dksL_law_22 6 rfl rfl)
theorem dL_law_618 : decode cL_law 618 = .ok (.istore 5, 2) := dk_54 5 (dk_at dksL_law_22 9 rfl rfl)
theorem dL_law_620 : decode cL_law 620 = .ok (.aload_n 2, 1) := dk_44 (dk_at dksL_law_22 11 rfl rfl)
theorem dL_law_621 : decode cL_law 621 = .ok (.aload_n 0, 1) := dk_42 (dk_at dksL_law_22 12 rfl rfl)
theorem dL_law_622 : decode cL_law 622 = .ok (.iload 4, 2) := dk_21 4 (dk_at dksL_law_22 13 rfl rfl)
theorem dL_law_624 : decode cL_law 624 = .ok (.iconst 1, 1) := dk_4 (dk_at dksL_law_22 15 rfl rfl)
theorem dL_law_625 : decode cL_law 625 = .ok (.iadd, 1) := dk_96 (dk_at dksL_law_22 16 rfl rfl)
theorem dL_law_626 : decode cL_law 626 = .ok (.iaload, 1) := dk_46 (dk_at dksL_law_22 17 rfl rfl)
theorem dL_law_627 : decode cL_law 627 = .ok (.aload_n 0, 1) := dk_42 (dk_at dksL_law_22 18 rfl rfl)
theorem dL_law_628 : decode cL_law 628 = .ok (.iload 4, 2) := dk_21 4 (dk_at dksL_law_22 19 rfl rfl)
theorem dL_law_630 : decode cL_law 630 = .ok (.iconst 2, 1) := dk_5 (dk_at dksL_law_22 21 rfl rfl)
theorem dL_law_631 : decode cL_law 631 = .ok (.iadd, 1) := dk_96 (dk_at dksL_law_22 22 rfl rfl)
theorem dL_law_632 : decode cL_law 632 = .ok (.iaload, 1) := dk_46 (dk_at dksL_law_22 23 rfl rfl)
theorem dL_law_633 : decode cL_law 633 = .ok (.invokevirtual 141, 3) := dk_182 0 141 (dk_at dksL_law_23 0 rfl rfl)
theorem dL_law_636 : decode cL_law 636 = .ok (.istore 6, 2) := dk_54 6 (dk_at dksL_law_23 3 rfl rfl)
theorem dL_law_638 : decode cL_law 638 = .ok (.aload_n 2, 1) := dk_44 (dk_at dksL_law_23 5 rfl rfl)
theorem dL_law_639 : decode cL_law 639 = .ok (.invokevirtual 120, 3) := dk_182 0 120 (dk_at dksL_law_23 6 rfl rfl)
theorem dL_law_642 : decode cL_law 642 = .ok (.iload 5, 2) := dk_21 5 (dk_at dksL_law_23 9 rfl rfl)
theorem dL_law_644 : decode cL_law 644 = .ok (.if_icmp .eq 5, 3) := dk_159 0 5 (dk_at dksL_law_23 11 rfl rfl)
theorem dL_law_647 : decode cL_law 647 = .ok (.iconst 0, 1) := dk_3 (dk_at dksL_law_23 14 rfl rfl)
theorem dL_law_648 : decode cL_law 648 = .ok (.ireturn, 1) := dk_172 (dk_at dksL_law_23 15 rfl rfl)
theorem dL_law_649 : decode cL_law 649 = .ok (.iload 5, 2) := dk_21 5 (dk_at dksL_law_23 16 rfl rfl)
theorem dL_law_651 : decode cL_law 651 = .ok (.ifCond .ne 16, 3) := dk_154 0 16 (dk_at dksL_law_23 18 rfl rfl)
theorem dL_law_654 : decode cL_law 654 = .ok (.aload_n 3, 1) := dk_45 (dk_at dksL_law_23 21 rfl rfl)
theorem dL_law_655 : decode cL_law 655 = .ok (.getfield 13, 3) := dk_180 0 13 (dk_at dksL_law_24 0 rfl rfl)
theorem dL_law_658 : decode cL_law 658 = .ok (.iload 6, 2) := dk_21 6 (dk_at dksL_law_24 3 rfl rfl)
theorem dL_law_660 : decode cL_law 660 = .ok (.i2l, 1) := dk_133 (dk_at dksL_law_24 5 rfl rfl)
theorem dL_law_661 : decode cL_law 661 = .ok (.lcmp, 1) := dk_148 (dk_at dksL_law_24 6 rfl rfl)
theorem dL_law_662 : decode cL_law 662 = .ok (.ifCond .eq 5, 3) := dk_153 0 5 (dk_at dksL_law_24 7 rfl rfl)
theorem dL_law_665 : decode cL_law 665 = .ok (.iconst 0, 1) := dk_3 (dk_at dksL_law_24 10 rfl rfl)
theorem dL_law_666 : decode cL_law 666 = .ok (.ireturn, 1) := dk_172 (dk_at dksL_law_24 11 rfl rfl)
theorem dL_law_667 : decode cL_law 667 = .ok (.goto 1518, 3) := dk_167 5 238 (dk_at dksL_law_24 12 rfl rfl)
theorem dL_law_670 : decode cL_law 670 = .ok (.aload_n 1, 1) := dk_43 (dk_at dksL_law_24 15 rfl rfl)
theorem dL_law_671 : decode cL_law 671 = .ok (.aload_n 0, 1) := dk_42 (dk_at dksL_law_24 16 rfl rfl)
theorem dL_law_672 : decode cL_law 672 = .ok (.iload 4, 2) := dk_21 4 (dk_at dksL_law_24 17 rfl rfl)
theorem dL_law_674 : decode cL_law 674 = .ok (.iconst 1, 1) := dk_4 (dk_at dksL_law_24 19 rfl rfl)
theorem dL_law_675 : decode cL_law 675 = .ok (.iadd, 1) := dk_96 (dk_at dksL_law_24 20 rfl rfl)
theorem dL_law_676 : decode cL_law 676 = .ok (.iaload, 1) := dk_46 (dk_at dksL_law_24 21 rfl rfl)
theorem dL_law_677 : decode cL_law 677 = .ok (.aload_n 0, 1) := dk_42 (dk_at dksL_law_24 22 rfl rfl)
theorem dL_law_678 : decode cL_law 678 = .ok (.iload 4, 2) := dk_21 4 (dk_at dksL_law_25 0 rfl rfl)
theorem dL_law_680 : decode cL_law 680 = .ok (.iconst 2, 1) := dk_5 (dk_at dksL_law_25 2 rfl rfl)
theorem dL_law_681 : decode cL_law 681 = .ok (.iadd, 1) := dk_96 (dk_at dksL_law_25 3 rfl rfl)
theorem dL_law_682 : decode cL_law 682 = .ok (.iaload, 1) := dk_46 (dk_at dksL_law_25 4 rfl rfl)
theorem dL_law_683 : decode cL_law 683 = .ok (.aload_n 0, 1) := dk_42 (dk_at dksL_law_25 5 rfl rfl)
theorem dL_law_684 : decode cL_law 684 = .ok (.iload 4, 2) := dk_21 4 (dk_at dksL_law_25 6 rfl rfl)
theorem dL_law_686 : decode cL_law 686 = .ok (.iconst 3, 1) := dk_6 (dk_at dksL_law_25 8 rfl rfl)
theorem dL_law_687 : decode cL_law 687 = .ok (.iadd, 1) := dk_96 (dk_at dksL_law_25 9 rfl rfl)
theorem dL_law_688 : decode cL_law 688 = .ok (.iaload, 1) := dk_46 (dk_at dksL_law_25 10 rfl rfl)
theorem dL_law_689 : decode cL_law 689 = .ok (.aload_n 3, 1) := dk_45 (dk_at dksL_law_25 11 rfl rfl)
theorem dL_law_690 : decode cL_law 690 = .ok (.invokestatic 142, 3) := dk_184 0 142 (dk_at dksL_law_25 12 rfl rfl)
theorem dL_law_693 : decode cL_law 693 = .ok (.istore 5, 2) := dk_54 5 (dk_at dksL_law_25 15 rfl rfl)
theorem dL_law_695 : decode cL_law 695 = .ok (.aload_n 2, 1) := dk_44 (dk_at dksL_law_25 17 rfl rfl)
theorem dL_law_696 : decode cL_law 696 = .ok (.aload_n 0, 1) := dk_42 (dk_at dksL_law_25 18 rfl rfl)
theorem dL_law_697 : decode cL_law 697 = .ok (.iload 4, 2) := dk_21 4 (dk_at dksL_law_25 19 rfl rfl)
theorem dL_law_699 : decode cL_law 699 = .ok (.iconst 1, 1) := dk_4 (dk_at dksL_law_25 21 rfl rfl)
theorem dL_law_700 : decode cL_law 700 = .ok (.iadd, 1) := dk_96 (dk_at dksL_law_25 22 rfl rfl)
theorem dL_law_701 : decode cL_law 701 = .ok (.iaload, 1) := dk_46 (dk_at dksL_law_25 23 rfl rfl)
theorem dL_law_702 : decode cL_law 702 = .ok (.aload_n 0, 1) := dk_42 (dk_at dksL_law_26 0 rfl rfl)
theorem dL_law_703 : decode cL_law 703 = .ok (.iload 4, 2) := dk_21 4 (dk_at dksL_law_26 1 rfl rfl)
theorem dL_law_705 : decode cL_law 705 = .ok (.iconst 2, 1) := dk_5 (dk_at dksL_law_26 3 rfl rfl)
theorem dL_law_706 : decode cL_law 706 = .ok (.iadd, 1) := dk_96 (dk_at dksL_law_26 4 rfl rfl)
theorem dL_law_707 : decode cL_law 707 = .ok (.iaload, 1) := dk_46 (dk_at dksL_law_26 5 rfl rfl)
theorem dL_law_708 : decode cL_law 708 = .ok (.aload_n 0, 1) := dk_42 (dk_at dksL_law_26 6 rfl rfl)
theorem dL_law_709 : decode cL_law 709 = .ok (.iload 4, 2) := dk_21 4 (dk_at dksL_law_26 7 rfl rfl)
theorem dL_law_711 : decode cL_law 711 = .ok (.iconst 3, 1) := dk_6 (dk_at dksL_law_26 9 rfl rfl)
theorem dL_law_712 : decode cL_law 712 = .ok (.iadd, 1) := dk_96 (dk_at dksL_law_26 10 rfl rfl)
theorem dL_law_713 : decode cL_law 713 = .ok (.iaload, 1) := dk_46 (dk_at dksL_law_26 11 rfl rfl)
theorem dL_law_714 : decode cL_law 714 = .ok (.invokevirtual 144, 3) := dk_182 0 144 (dk_at dksL_law_26 12 rfl rfl)
theorem dL_law_717 : decode cL_law 717 = .ok (.istore 6, 2) := dk_54 6 (dk_at dksL_law_26 15 rfl rfl)
theorem dL_law_719 : decode cL_law 719 = .ok (.aload_n 2, 1) := dk_44 (dk_at dksL_law_26 17 rfl rfl)
theorem dL_law_720 : decode cL_law 720 = .ok (.invokevirtual 120, 3) := dk_182 0 120 (dk_at dksL_law_26 18 rfl rfl)
theorem dL_law_723 : decode cL_law 723 = .ok (.iload 5, 2) := dk_21 5 (dk_at dksL_law_26 21 rfl rfl)
theorem dL_law_725 : decode cL_law 725 = .ok (.if_icmp .eq 5, 3) := dk_159 0 5 (dk_at dksL_law_27 0 rfl rfl)
theorem dL_law_728 : decode cL_law 728 = .ok (.iconst 0, 1) := dk_3 (dk_at dksL_law_27 3 rfl rfl)
theorem dL_law_729 : decode cL_law 729 = .ok (.ireturn, 1) := dk_172 (dk_at dksL_law_27 4 rfl rfl)
theorem dL_law_730 : decode cL_law 730 = .ok (.iload 5, 2) := dk_21 5 (dk_at dksL_law_27 5 rfl rfl)
theorem dL_law_732 : decode cL_law 732 = .ok (.ifCond .ne 16, 3) := dk_154 0 16 (dk_at dksL_law_27 7 rfl rfl)
theorem dL_law_735 : decode cL_law 735 = .ok (.aload_n 3, 1) := dk_45 (dk_at dksL_law_27 10 rfl rfl)
theorem dL_law_736 : decode cL_law 736 = .ok (.getfield 13, 3) := dk_180 0 13 (dk_at dksL_law_27 11 rfl rfl)
theorem dL_law_739 : decode cL_law 739 = .ok (.iload 6, 2) := dk_21 6 (dk_at dksL_law_27 14 rfl rfl)
theorem dL_law_741 : decode cL_law 741 = .ok (.i2l, 1) := dk_133 (dk_at dksL_law_27 16 rfl rfl)
theorem dL_law_742 : decode cL_law 742 = .ok (.lcmp, 1) := dk_148 (dk_at dksL_law_27 17 rfl rfl)
theorem dL_law_743 : decode cL_law 743 = .ok (.ifCond .eq 5, 3) := dk_153 0 5 (dk_at dksL_law_27 18 rfl rfl)
theorem dL_law_746 : decode cL_law 746 = .ok (.iconst 0, 1) := dk_3 (dk_at dksL_law_27 21 rfl rfl)
theorem dL_law_747 : decode cL_law 747 = .ok (.ireturn, 1) := dk_172 (dk_at dksL_law_27 22 rfl rfl)
theorem dL_law_748 : decode cL_law 748 = .ok (.goto 1437, 3) := dk_167 5 157 (dk_at dksL_law_28 0 rfl rfl)
theorem dL_law_751 : decode cL_law 751 = .ok (.aload_n 1, 1) := dk_43 (dk_at dksL_law_28 3 rfl rfl)
theorem dL_law_752 : decode cL_law 752 = .ok (.aload_n 0, 1) := dk_42 (dk_at dksL_law_28 4 rfl rfl)
theorem dL_law_753 : decode cL_law 753 = .ok (.iload 4, 2) := dk_21 4 (dk_at dksL_law_28 5 rfl rfl)
theorem dL_law_755 : decode cL_law 755 = .ok (.iconst 1, 1) := dk_4 (dk_at dksL_law_28 7 rfl rfl)
theorem dL_law_756 : decode cL_law 756 = .ok (.iadd, 1) := dk_96 (dk_at dksL_law_28 8 rfl rfl)
theorem dL_law_757 : decode cL_law 757 = .ok (.iaload, 1) := dk_46 (dk_at dksL_law_28 9 rfl rfl)
theorem dL_law_758 : decode cL_law 758 = .ok (.aload_n 3, 1) := dk_45 (dk_at dksL_law_28 10 rfl rfl)
theorem dL_law_759 : decode cL_law 759 = .ok (.invokestatic 145, 3) := dk_184 0 145 (dk_at dksL_law_28 11 rfl rfl)
theorem dL_law_762 : decode cL_law 762 = .ok (.istore 5, 2) := dk_54 5 (dk_at dksL_law_28 14 rfl rfl)
theorem dL_law_764 : decode cL_law 764 = .ok (.aload_n 2, 1) := dk_44 (dk_at dksL_law_28 16 rfl rfl)
theorem dL_law_765 : decode cL_law 765 = .ok (.aload_n 0, 1) := dk_42 (dk_at dksL_law_28 17 rfl rfl)
theorem dL_law_766 : decode cL_law 766 = .ok (.iload 4, 2) := dk_21 4 (dk_at dksL_law_28 18 rfl rfl)
theorem dL_law_768 : decode cL_law 768 = .ok (.iconst 1, 1) := dk_4 (dk_at dksL_law_28 20 rfl rfl)
theorem dL_law_769 : decode cL_law 769 = .ok (.iadd, 1) := dk_96 (dk_at dksL_law_28 21 rfl rfl)
theorem dL_law_770 : decode cL_law 770 = .ok (.iaload, 1) := dk_46 (dk_at dksL_law_28 22 rfl rfl)
theorem dL_law_771 : decode cL_law 771 = .ok (.invokevirtual 148, 3) := dk_182 0 148 (dk_at dksL_law_29 0 rfl rfl)
theorem dL_law_774 : decode cL_law 774 = .ok (.istore 6, 2) := dk_54 6 (dk_at dksL_law_29 3 rfl rfl)
theorem dL_law_776 : decode cL_law 776 = .ok (.aload_n 2, 1) := dk_44 (dk_at dksL_law_29 5 rfl rfl)
theorem dL_law_777 : decode cL_law 777 = .ok (.invokevirtual 120, 3) := dk_182 0 120 (dk_at dksL_law_29 6 rfl rfl)
theorem dL_law_780 : decode cL_law 780 = .ok (.iload 5, 2) := dk_21 5 (dk_at dksL_law_29 9 rfl rfl)
theorem dL_law_782 : decode cL_law 782 = .ok (.if_icmp .eq 5, 3) := dk_159 0 5 (dk_at dksL_law_29 11 rfl rfl)
theorem dL_law_785 : decode cL_law 785 = .ok (.iconst 0, 1) := dk_3 (dk_at dksL_law_29 14 rfl rfl)
theorem dL_law_786 : decode cL_law 786 = .ok (.ireturn, 1) := dk_172 (dk_at dksL_law_29 15 rfl rfl)
theorem dL_law_787 : decode cL_law 787 = .ok (.iload 5, 2) := dk_21 5 (dk_at dksL_law_29 16 rfl rfl)
theorem dL_law_789 : decode cL_law 789 = .ok (.ifCond .ne 16, 3) := dk_154 0 16 (dk_at dksL_law_29 18 rfl rfl)
theorem dL_law_792 : decode cL_law 792 = .ok (.aload_n 3, 1) := dk_45 (dk_at dksL_law_29 21 rfl rfl)
theorem dL_law_793 : decode cL_law 793 = .ok (.getfield 13, 3) := dk_180 0 13 (dk_at dksL_law_30 0 rfl rfl)
theorem dL_law_796 : decode cL_law 796 = .ok (.iload 6, 2) := dk_21 6 (dk_at dksL_law_30 3 rfl rfl)
theorem dL_law_798 : decode cL_law 798 = .ok (.i2l, 1) := dk_133 (dk_at dksL_law_30 5 rfl rfl)
theorem dL_law_799 : decode cL_law 799 = .ok (.lcmp, 1) := dk_148 (dk_at dksL_law_30 6 rfl rfl)
theorem dL_law_800 : decode cL_law 800 = .ok (.ifCond .eq 5, 3) := dk_153 0 5 (dk_at dksL_law_30 7 rfl rfl)
theorem dL_law_803 : decode cL_law 803 = .ok (.iconst 0, 1) := dk_3 (dk_at dksL_law_30 10 rfl rfl)
theorem dL_law_804 : decode cL_law 804 = .ok (.ireturn, 1) := dk_172 (dk_at dksL_law_30 11 rfl rfl)
theorem dL_law_805 : decode cL_law 805 = .ok (.goto 1380, 3) := dk_167 5 100 (dk_at dksL_law_30 12 rfl rfl)
theorem dL_law_808 : decode cL_law 808 = .ok (.aload_n 1, 1) := dk_43 (dk_at dksL_law_30 15 rfl rfl)
theorem dL_law_809 : decode cL_law 809 = .ok (.aload_n 0, 1) := dk_42 (dk_at dksL_law_30 16 rfl rfl)
theorem dL_law_810 : decode cL_law 810 = .ok (.iload 4, 2) := dk_21 4 (dk_at dksL_law_30 17 rfl rfl)
theorem dL_law_812 : decode cL_law 812 = .ok (.iconst 1, 1) := dk_4 (dk_at dksL_law_30 19 rfl rfl)
theorem dL_law_813 : decode cL_law 813 = .ok (.iadd, 1) := dk_96 (dk_at dksL_law_30 20 rfl rfl)
theorem dL_law_814 : decode cL_law 814 = .ok (.iaload, 1) := dk_46 (dk_at dksL_law_30 21 rfl rfl)
theorem dL_law_815 : decode cL_law 815 = .ok (.aload_n 0, 1) := dk_42 (dk_at dksL_law_30 22 rfl rfl)
theorem dL_law_816 : decode cL_law 816 = .ok (.iload 4, 2) := dk_21 4 (dk_at dksL_law_31 0 rfl rfl)
theorem dL_law_818 : decode cL_law 818 = .ok (.iconst 2, 1) := dk_5 (dk_at dksL_law_31 2 rfl rfl)
theorem dL_law_819 : decode cL_law 819 = .ok (.iadd, 1) := dk_96 (dk_at dksL_law_31 3 rfl rfl)
theorem dL_law_820 : decode cL_law 820 = .ok (.iaload, 1) := dk_46 (dk_at dksL_law_31 4 rfl rfl)
theorem dL_law_821 : decode cL_law 821 = .ok (.aload_n 0, 1) := dk_42 (dk_at dksL_law_31 5 rfl rfl)
theorem dL_law_822 : decode cL_law 822 = .ok (.iload 4, 2) := dk_21 4 (dk_at dksL_law_31 6 rfl rfl)
theorem dL_law_824 : decode cL_law 824 = .ok (.iconst 3, 1) := dk_6 (dk_at dksL_law_31 8 rfl rfl)
theorem dL_law_825 : decode cL_law 825 = .ok (.iadd, 1) := dk_96 (dk_at dksL_law_31 9 rfl rfl)
theorem dL_law_826 : decode cL_law 826 = .ok (.iaload, 1) := dk_46 (dk_at dksL_law_31 10 rfl rfl)
theorem dL_law_827 : decode cL_law 827 = .ok (.aload_n 0, 1) := dk_42 (dk_at dksL_law_31 11 rfl rfl)
theorem dL_law_828 : decode cL_law 828 = .ok (.iload 4, 2) := dk_21 4 (dk_at dksL_law_31 12 rfl rfl)
theorem dL_law_830 : decode cL_law 830 = .ok (.iconst 4, 1) := dk_7 (dk_at dksL_law_31 14 rfl rfl)
theorem dL_law_831 : decode cL_law 831 = .ok (.iadd, 1) := dk_96 (dk_at dksL_law_31 15 rfl rfl)
theorem dL_law_832 : decode cL_law 832 = .ok (.iaload, 1) := dk_46 (dk_at dksL_law_31 16 rfl rfl)
theorem dL_law_833 : decode cL_law 833 = .ok (.aload_n 0, 1) := dk_42 (dk_at dksL_law_31 17 rfl rfl)
theorem dL_law_834 : decode cL_law 834 = .ok (.iload 4, 2) := dk_21 4 (dk_at dksL_law_31 18 rfl rfl)
theorem dL_law_836 : decode cL_law 836 = .ok (.iconst 5, 1) := dk_8 (dk_at dksL_law_31 20 rfl rfl)
theorem dL_law_837 : decode cL_law 837 = .ok (.iadd, 1) := dk_96 (dk_at dksL_law_31 21 rfl rfl)
theorem dL_law_838 : decode cL_law 838 = .ok (.iaload, 1) := dk_46 (dk_at dksL_law_31 22 rfl rfl)
theorem dL_law_839 : decode cL_law 839 = .ok (.aload_n 0, 1) := dk_42 (dk_at dksL_law_31 23 rfl rfl)
theorem dL_law_840 : decode cL_law 840 = .ok (.iload 4, 2) := dk_21 4 (dk_at dksL_law_32 0 rfl rfl)
theorem dL_law_842 : decode cL_law 842 = .ok (.bipush 6, 2) := dk_16 6 (dk_at dksL_law_32 2 rfl rfl)
theorem dL_law_844 : decode cL_law 844 = .ok (.iadd, 1) := dk_96 (dk_at dksL_law_32 4 rfl rfl)
theorem dL_law_845 : decode cL_law 845 = .ok (.iaload, 1) := dk_46 (dk_at dksL_law_32 5 rfl rfl)
theorem dL_law_846 : decode cL_law 846 = .ok (.aload_n 3, 1) := dk_45 (dk_at dksL_law_32 6 rfl rfl)
theorem dL_law_847 : decode cL_law 847 = .ok (.invokestatic 149, 3) := dk_184 0 149 (dk_at dksL_law_32 7 rfl rfl)
theorem dL_law_850 : decode cL_law 850 = .ok (.istore 5, 2) := dk_54 5 (dk_at dksL_law_32 10 rfl rfl)
theorem dL_law_852 : decode cL_law 852 = .ok (.aload_n 2, 1) := dk_44 (dk_at dksL_law_32 12 rfl rfl)
theorem dL_law_853 : decode cL_law 853 = .ok (.aload_n 0, 1) := dk_42 (dk_at dksL_law_32 13 rfl rfl)
theorem dL_law_854 : decode cL_law 854 = .ok (.iload 4, 2) := dk_21 4 (dk_at dksL_law_32 14 rfl rfl)
theorem dL_law_856 : decode cL_law 856 = .ok (.iconst 1, 1) := dk_4 (dk_at dksL_law_32 16 rfl rfl)
theorem dL_law_857 : decode cL_law 857 = .ok (.iadd, 1) := dk_96 (dk_at dksL_law_32 17 rfl rfl)
theorem dL_law_858 : decode cL_law 858 = .ok (.iaload, 1) := dk_46 (dk_at dksL_law_32 18 rfl rfl)
theorem dL_law_859 : decode cL_law 859 = .ok (.aload_n 0, 1) := dk_42 (dk_at dksL_law_32 19 rfl rfl)
theorem dL_law_860 : decode cL_law 860 = .ok (.iload 4, 2) := dk_21 4 (dk_at dksL_law_32 20 rfl rfl)
theorem dL_law_862 : decode cL_law 862 = .ok (.iconst 2, 1) := dk_5 (dk_at dksL_law_32 22 rfl rfl)
theorem dL_law_863 : decode cL_law 863 = .ok (.iadd, 1) := dk_96 (dk_at dksL_law_32 23 rfl rfl)
theorem dL_law_864 : decode cL_law 864 = .ok (.iaload, 1) := dk_46 (dk_at dksL_law_33 0 rfl rfl)
theorem dL_law_865 : decode cL_law 865 = .ok (.aload_n 0, 1) := dk_42 (dk_at dksL_law_33 1 rfl rfl)
theorem dL_law_866 : decode cL_law 866 = .ok (.iload 4, 2) := dk_21 4 (dk_at dksL_law_33 2 rfl rfl)
theorem dL_law_868 : decode cL_law 868 = .ok (.iconst 3, 1) := dk_6 (dk_at dksL_law_33 4 rfl rfl)
theorem dL_law_869 : decode cL_law 869 = .ok (.iadd, 1) := dk_96 (dk_at dksL_law_33 5 rfl rfl)
theorem dL_law_870 : decode cL_law 870 = .ok (.iaload, 1) := dk_46 (dk_at dksL_law_33 6 rfl rfl)
theorem dL_law_871 : decode cL_law 871 = .ok (.aload_n 0, 1) := dk_42 (dk_at dksL_law_33 7 rfl rfl)
theorem dL_law_872 : decode cL_law 872 = .ok (.iload 4, 2) := dk_21 4 (dk_at dksL_law_33 8 rfl rfl)
theorem dL_law_874 : decode cL_law 874 = .ok (.iconst 4, 1) := dk_7 (dk_at dksL_law_33 10 rfl rfl)
theorem dL_law_875 : decode cL_law 875 = .ok (.iadd, 1) := dk_96 (dk_at dksL_law_33 11 rfl rfl)
theorem dL_law_876 : decode cL_law 876 = .ok (.iaload, 1) := dk_46 (dk_at dksL_law_33 12 rfl rfl)
theorem dL_law_877 : decode cL_law 877 = .ok (.aload_n 0, 1) := dk_42 (dk_at dksL_law_33 13 rfl rfl)
theorem dL_law_878 : decode cL_law 878 = .ok (.iload 4, 2) := dk_21 4 (dk_at dksL_law_33 14 rfl rfl)
theorem dL_law_880 : decode cL_law 880 = .ok (.iconst 5, 1) := dk_8 (dk_at dksL_law_33 16 rfl rfl)
theorem dL_law_881 : decode cL_law 881 = .ok (.iadd, 1) := dk_96 (dk_at dksL_law_33 17 rfl rfl)
theorem dL_law_882 : decode cL_law 882 = .ok (.iaload, 1) := dk_46 (dk_at dksL_law_33 18 rfl rfl)
theorem dL_law_883 : decode cL_law 883 = .ok (.aload_n 0, 1) := dk_42 (dk_at dksL_law_33 19 rfl rfl)
theorem dL_law_884 : decode cL_law 884 = .ok (.iload 4, 2) := dk_21 4 (dk_at dksL_law_33 20 rfl rfl)
theorem dL_law_886 : decode cL_law 886 = .ok (.bipush 6, 2) := dk_16 6 (dk_at dksL_law_33 22 rfl rfl)
theorem dL_law_888 : decode cL_law 888 = .ok (.iadd, 1) := dk_96 (dk_at dksL_law_34 0 rfl rfl)
theorem dL_law_889 : decode cL_law 889 = .ok (.iaload, 1) := dk_46 (dk_at dksL_law_34 1 rfl rfl)
theorem dL_law_890 : decode cL_law 890 = .ok (.invokevirtual 152, 3) := dk_182 0 152 (dk_at dksL_law_34 2 rfl rfl)
theorem dL_law_893 : decode cL_law 893 = .ok (.istore 6, 2) := dk_54 6 (dk_at dksL_law_34 5 rfl rfl)
theorem dL_law_895 : decode cL_law 895 = .ok (.aload_n 2, 1) := dk_44 (dk_at dksL_law_34 7 rfl rfl)
theorem dL_law_896 : decode cL_law 896 = .ok (.invokevirtual 120, 3) := dk_182 0 120 (dk_at dksL_law_34 8 rfl rfl)
theorem dL_law_899 : decode cL_law 899 = .ok (.iload 5, 2) := dk_21 5 (dk_at dksL_law_34 11 rfl rfl)
theorem dL_law_901 : decode cL_law 901 = .ok (.if_icmp .eq 5, 3) := dk_159 0 5 (dk_at dksL_law_34 13 rfl rfl)
theorem dL_law_904 : decode cL_law 904 = .ok (.iconst 0, 1) := dk_3 (dk_at dksL_law_34 16 rfl rfl)
theorem dL_law_905 : decode cL_law 905 = .ok (.ireturn, 1) := dk_172 (dk_at dksL_law_34 17 rfl rfl)
theorem dL_law_906 : decode cL_law 906 = .ok (.iload 5, 2) := dk_21 5 (dk_at dksL_law_34 18 rfl rfl)
theorem dL_law_908 : decode cL_law 908 = .ok (.ifCond .ne 16, 3) := dk_154 0 16 (dk_at dksL_law_34 20 rfl rfl)
theorem dL_law_911 : decode cL_law 911 = .ok (.aload_n 3, 1) := dk_45 (dk_at dksL_law_34 23 rfl rfl)
theorem dL_law_912 : decode cL_law 912 = .ok (.getfield 13, 3) := dk_180 0 13 (dk_at dksL_law_35 0 rfl rfl)
theorem dL_law_915 : decode cL_law 915 = .ok (.iload 6, 2) := dk_21 6 (dk_at dksL_law_35 3 rfl rfl)
theorem dL_law_917 : decode cL_law 917 = .ok (.i2l, 1) := dk_133 (dk_at dksL_law_35 5 rfl rfl)
theorem dL_law_918 : decode cL_law 918 = .ok (.lcmp, 1) := dk_148 (dk_at dksL_law_35 6 rfl rfl)
theorem dL_law_919 : decode cL_law 919 = .ok (.ifCond .eq 5, 3) := dk_153 0 5 (dk_at dksL_law_35 7 rfl rfl)
theorem dL_law_922 : decode cL_law 922 = .ok (.iconst 0, 1) := dk_3 (dk_at dksL_law_35 10 rfl rfl)
theorem dL_law_923 : decode cL_law 923 = .ok (.ireturn, 1) := dk_172 (dk_at dksL_law_35 11 rfl rfl)
theorem dL_law_924 : decode cL_law 924 = .ok (.goto 1261, 3) := dk_167 4 237 (dk_at dksL_law_35 12 rfl rfl)
theorem dL_law_927 : decode cL_law 927 = .ok (.aload_n 1, 1) := dk_43 (dk_at dksL_law_35 15 rfl rfl)
theorem dL_law_928 : decode cL_law 928 = .ok (.aload_n 0, 1) := dk_42 (dk_at dksL_law_35 16 rfl rfl)
theorem dL_law_929 : decode cL_law 929 = .ok (.iload 4, 2) := dk_21 4 (dk_at dksL_law_35 17 rfl rfl)
theorem dL_law_931 : decode cL_law 931 = .ok (.iconst 1, 1) := dk_4 (dk_at dksL_law_35 19 rfl rfl)
theorem dL_law_932 : decode cL_law 932 = .ok (.iadd, 1) := dk_96 (dk_at dksL_law_35 20 rfl rfl)
theorem dL_law_933 : decode cL_law 933 = .ok (.iaload, 1) := dk_46 (dk_at dksL_law_35 21 rfl rfl)
theorem dL_law_934 : decode cL_law 934 = .ok (.aload_n 0, 1) := dk_42 (dk_at dksL_law_35 22 rfl rfl)
theorem dL_law_935 : decode cL_law 935 = .ok (.iload 4, 2) := dk_21 4 (dk_at dksL_law_36 0 rfl rfl)
theorem dL_law_937 : decode cL_law 937 = .ok (.iconst 2, 1) := dk_5 (dk_at dksL_law_36 2 rfl rfl)
theorem dL_law_938 : decode cL_law 938 = .ok (.iadd, 1) := dk_96 (dk_at dksL_law_36 3 rfl rfl)
theorem dL_law_939 : decode cL_law 939 = .ok (.iaload, 1) := dk_46 (dk_at dksL_law_36 4 rfl rfl)
theorem dL_law_940 : decode cL_law 940 = .ok (.aload_n 0, 1) := dk_42 (dk_at dksL_law_36 5 rfl rfl)
theorem dL_law_941 : decode cL_law 941 = .ok (.iload 4, 2) := dk_21 4 (dk_at dksL_law_36 6 rfl rfl)
theorem dL_law_943 : decode cL_law 943 = .ok (.iconst 3, 1) := dk_6 (dk_at dksL_law_36 8 rfl rfl)
theorem dL_law_944 : decode cL_law 944 = .ok (.iadd, 1) := dk_96 (dk_at dksL_law_36 9 rfl rfl)
theorem dL_law_945 : decode cL_law 945 = .ok (.iaload, 1) := dk_46 (dk_at dksL_law_36 10 rfl rfl)
theorem dL_law_946 : decode cL_law 946 = .ok (.aload_n 0, 1) := dk_42 (dk_at dksL_law_36 11 rfl rfl)
theorem dL_law_947 : decode cL_law 947 = .ok (.iload 4, 2) := dk_21 4 (dk_at dksL_law_36 12 rfl rfl)
theorem dL_law_949 : decode cL_law 949 = .ok (.iconst 4, 1) := dk_7 (dk_at dksL_law_36 14 rfl rfl)
theorem dL_law_950 : decode cL_law 950 = .ok (.iadd, 1) := dk_96 (dk_at dksL_law_36 15 rfl rfl)
theorem dL_law_951 : decode cL_law 951 = .ok (.iaload, 1) := dk_46 (dk_at dksL_law_36 16 rfl rfl)
theorem dL_law_952 : decode cL_law 952 = .ok (.aload_n 0, 1) := dk_42 (dk_at dksL_law_36 17 rfl rfl)
theorem dL_law_953 : decode cL_law 953 = .ok (.iload 4, 2) := dk_21 4 (dk_at dksL_law_36 18 rfl rfl)
theorem dL_law_955 : decode cL_law 955 = .ok (.iconst 5, 1) := dk_8 (dk_at dksL_law_36 20 rfl rfl)
theorem dL_law_956 : decode cL_law 956 = .ok (.iadd, 1) := dk_96 (dk_at dksL_law_36 21 rfl rfl)
theorem dL_law_957 : decode cL_law 957 = .ok (.iaload, 1) := dk_46 (dk_at dksL_law_36 22 rfl rfl)
theorem dL_law_958 : decode cL_law 958 = .ok (.aload_n 3, 1) := dk_45 (dk_at dksL_law_36 23 rfl rfl)
theorem dL_law_959 : decode cL_law 959 = .ok (.invokestatic 153, 3) := dk_184 0 153 (dk_at dksL_law_37 0 rfl rfl)
theorem dL_law_962 : decode cL_law 962 = .ok (.istore 5, 2) := dk_54 5 (dk_at dksL_law_37 3 rfl rfl)
theorem dL_law_964 : decode cL_law 964 = .ok (.aload_n 2, 1) := dk_44 (dk_at dksL_law_37 5 rfl rfl)
theorem dL_law_965 : decode cL_law 965 = .ok (.aload_n 0, 1) := dk_42 (dk_at dksL_law_37 6 rfl rfl)
theorem dL_law_966 : decode cL_law 966 = .ok (.iload 4, 2) := dk_21 4 (dk_at dksL_law_37 7 rfl rfl)
theorem dL_law_968 : decode cL_law 968 = .ok (.iconst 1, 1) := dk_4 (dk_at dksL_law_37 9 rfl rfl)
theorem dL_law_969 : decode cL_law 969 = .ok (.iadd, 1) := dk_96 (dk_at dksL_law_37 10 rfl rfl)
theorem dL_law_970 : decode cL_law 970 = .ok (.iaload, 1) := dk_46 (dk_at dksL_law_37 11 rfl rfl)
theorem dL_law_971 : decode cL_law 971 = .ok (.aload_n 0, 1) := dk_42 (dk_at dksL_law_37 12 rfl rfl)
theorem dL_law_972 : decode cL_law 972 = .ok (.iload 4, 2) := dk_21 4 (dk_at dksL_law_37 13 rfl rfl)
theorem dL_law_974 : decode cL_law 974 = .ok (.iconst 2, 1) := dk_5 (dk_at dksL_law_37 15 rfl rfl)
theorem dL_law_975 : decode cL_law 975 = .ok (.iadd, 1) := dk_96 (dk_at dksL_law_37 16 rfl rfl)
theorem dL_law_976 : decode cL_law 976 = .ok (.iaload, 1) := dk_46 (dk_at dksL_law_37 17 rfl rfl)
theorem dL_law_977 : decode cL_law 977 = .ok (.aload_n 0, 1) := dk_42 (dk_at dksL_law_37 18 rfl rfl)
theorem dL_law_978 : decode cL_law 978 = .ok (.iload 4, 2) := dk_21 4 (dk_at dksL_law_37 19 rfl rfl)
theorem dL_law_980 : decode cL_law 980 = .ok (.iconst 3, 1) := dk_6 (dk_at dksL_law_37 21 rfl rfl)
theorem dL_law_981 : decode cL_law 981 = .ok (.iadd, 1) := dk_96 (dk_at dksL_law_37 22 rfl rfl)
theorem dL_law_982 : decode cL_law 982 = .ok (.iaload, 1) := dk_46 (dk_at dksL_law_37 23 rfl rfl)
theorem dL_law_983 : decode cL_law 983 = .ok (.aload_n 0, 1) := dk_42 (dk_at dksL_law_38 0 rfl rfl)
theorem dL_law_984 : decode cL_law 984 = .ok (.iload 4, 2) := dk_21 4 (dk_at dksL_law_38 1 rfl rfl)
theorem dL_law_986 : decode cL_law 986 = .ok (.iconst 4, 1) := dk_7 (dk_at dksL_law_38 3 rfl rfl)
theorem dL_law_987 : decode cL_law 987 = .ok (.iadd, 1) := dk_96 (dk_at dksL_law_38 4 rfl rfl)
theorem dL_law_988 : decode cL_law 988 = .ok (.iaload, 1) := dk_46 (dk_at dksL_law_38 5 rfl rfl)
theorem dL_law_989 : decode cL_law 989 = .ok (.aload_n 0, 1) := dk_42 (dk_at dksL_law_38 6 rfl rfl)
theorem dL_law_990 : decode cL_law 990 = .ok (.iload 4, 2) := dk_21 4 (dk_at dksL_law_38 7 rfl rfl)
theorem dL_law_992 : decode cL_law 992 = .ok (.iconst 5, 1) := dk_8 (dk_at dksL_law_38 9 rfl rfl)
theorem dL_law_993 : decode cL_law 993 = .ok (.iadd, 1) := dk_96 (dk_at dksL_law_38 10 rfl rfl)
theorem dL_law_994 : decode cL_law 994 = .ok (.iaload, 1) := dk_46 (dk_at dksL_law_38 11 rfl rfl)
theorem dL_law_995 : decode cL_law 995 = .ok (.invokevirtual 156, 3) := dk_182 0 156 (dk_at dksL_law_38 12 rfl rfl)
theorem dL_law_998 : decode cL_law 998 = .ok (.istore 6, 2) := dk_54 6 (dk_at dksL_law_38 15 rfl rfl)
theorem dL_law_1000 : decode cL_law 1000 = .ok (.aload_n 2, 1) := dk_44 (dk_at dksL_law_38 17 rfl rfl)
theorem dL_law_1001 : decode cL_law 1001 = .ok (.invokevirtual 120, 3) := dk_182 0 120 (dk_at dksL_law_38 18 rfl rfl)
theorem dL_law_1004 : decode cL_law 1004 = .ok (.iload 5, 2) := dk_21 5 (dk_at dksL_law_38 21 rfl rfl)
theorem dL_law_1006 : decode cL_law 1006 = .ok (.if_icmp .eq 5, 3) := dk_159 0 5 (dk_at dksL_law_39 0 rfl rfl)
theorem dL_law_1009 : decode cL_law 1009 = .ok (.iconst 0, 1) := dk_3 (dk_at dksL_law_39 3 rfl rfl)
theorem dL_law_1010 : decode cL_law 1010 = .ok (.ireturn, 1) := dk_172 (dk_at dksL_law_39 4 rfl rfl)
theorem dL_law_1011 : decode cL_law 1011 = .ok (.iload 5, 2) := dk_21 5 (dk_at dksL_law_39 5 rfl rfl)
theorem dL_law_1013 : decode cL_law 1013 = .ok (.ifCond .ne 16, 3) := dk_154 0 16 (dk_at dksL_law_39 7 rfl rfl)
theorem dL_law_1016 : decode cL_law 1016 = .ok (.aload_n 3, 1) := dk_45 (dk_at dksL_law_39 10 rfl rfl)
theorem dL_law_1017 : decode cL_law 1017 = .ok (.getfield 13, 3) := dk_180 0 13 (dk_at dksL_law_39 11 rfl rfl)
theorem dL_law_1020 : decode cL_law 1020 = .ok (.iload 6, 2) := dk_21 6 (dk_at dksL_law_39 14 rfl rfl)
theorem dL_law_1022 : decode cL_law 1022 = .ok (.i2l, 1) := dk_133 (dk_at dksL_law_39 16 rfl rfl)
theorem dL_law_1023 : decode cL_law 1023 = .ok (.lcmp, 1) := dk_148 (dk_at dksL_law_39 17 rfl rfl)
theorem dL_law_1024 : decode cL_law 1024 = .ok (.ifCond .eq 5, 3) := dk_153 0 5 (dk_at dksL_law_39 18 rfl rfl)
theorem dL_law_1027 : decode cL_law 1027 = .ok (.iconst 0, 1) := dk_3 (dk_at dksL_law_39 21 rfl rfl)
theorem dL_law_1028 : decode cL_law 1028 = .ok (.ireturn, 1) := dk_172 (dk_at dksL_law_39 22 rfl rfl)
theorem dL_law_1029 : decode cL_law 1029 = .ok (.goto 1156, 3) := dk_167 4 132 (dk_at dksL_law_40 0 rfl rfl)
theorem dL_law_1032 : decode cL_law 1032 = .ok (.aload_n 1, 1) := dk_43 (dk_at dksL_law_40 3 rfl rfl)
theorem dL_law_1033 : decode cL_law 1033 = .ok (.aload_n 0, 1) := dk_42 (dk_at dksL_law_40 4 rfl rfl)
theorem dL_law_1034 : decode cL_law 1034 = .ok (.iload 4, 2) := dk_21 4 (dk_at dksL_law_40 5 rfl rfl)
theorem dL_law_1036 : decode cL_law 1036 = .ok (.iconst 1, 1) := dk_4 (dk_at dksL_law_40 7 rfl rfl)
theorem dL_law_1037 : decode cL_law 1037 = .ok (.iadd, 1) := dk_96 (dk_at dksL_law_40 8 rfl rfl)
theorem dL_law_1038 : decode cL_law 1038 = .ok (.iaload, 1) := dk_46 (dk_at dksL_law_40 9 rfl rfl)
theorem dL_law_1039 : decode cL_law 1039 = .ok (.aload_n 0, 1) := dk_42 (dk_at dksL_law_40 10 rfl rfl)
theorem dL_law_1040 : decode cL_law 1040 = .ok (.iload 4, 2) := dk_21 4 (dk_at dksL_law_40 11 rfl rfl)
theorem dL_law_1042 : decode cL_law 1042 = .ok (.iconst 2, 1) := dk_5 (dk_at dksL_law_40 13 rfl rfl)
theorem dL_law_1043 : decode cL_law 1043 = .ok (.iadd, 1) := dk_96 (dk_at dksL_law_40 14 rfl rfl)
theorem dL_law_1044 : decode cL_law 1044 = .ok (.iaload, 1) := dk_46 (dk_at dksL_law_40 15 rfl rfl)
theorem dL_law_1045 : decode cL_law 1045 = .ok (.aload_n 0, 1) := dk_42 (dk_at dksL_law_40 16 rfl rfl)
theorem dL_law_1046 : decode cL_law 1046 = .ok (.iload 4, 2) := dk_21 4 (dk_at dksL_law_40 17 rfl rfl)
theorem dL_law_1048 : decode cL_law 1048 = .ok (.iconst 3, 1) := dk_6 (dk_at dksL_law_40 19 rfl rfl)
theorem dL_law_1049 : decode cL_law 1049 = .ok (.iadd, 1) := dk_96 (dk_at dksL_law_40 20 rfl rfl)
theorem dL_law_1050 : decode cL_law 1050 = .ok (.iaload, 1) := dk_46 (dk_at dksL_law_40 21 rfl rfl)
theorem dL_law_1051 : decode cL_law 1051 = .ok (.aload_n 0, 1) := dk_42 (dk_at dksL_law_40 22 rfl rfl)
theorem dL_law_1052 : decode cL_law 1052 = .ok (.iload 4, 2) := dk_21 4 (dk_at dksL_law_41 0 rfl rfl)
theorem dL_law_1054 : decode cL_law 1054 = .ok (.iconst 4, 1) := dk_7 (dk_at dksL_law_41 2 rfl rfl)
theorem dL_law_1055 : decode cL_law 1055 = .ok (.iadd, 1) := dk_96 (dk_at dksL_law_41 3 rfl rfl)
theorem dL_law_1056 : decode cL_law 1056 = .ok (.iaload, 1) := dk_46 (dk_at dksL_law_41 4 rfl rfl)
theorem dL_law_1057 : decode cL_law 1057 = .ok (.aload_n 0, 1) := dk_42 (dk_at dksL_law_41 5 rfl rfl)
theorem dL_law_1058 : decode cL_law 1058 = .ok (.iload 4, 2) := dk_21 4 (dk_at dksL_law_41 6 rfl rfl)
theorem dL_law_1060 : decode cL_law 1060 = .ok (.iconst 5, 1) := dk_8 (dk_at dksL_law_41 8 rfl rfl)
theorem dL_law_1061 : decode cL_law 1061 = .ok (.iadd, 1) := dk_96 (dk_at dksL_law_41 9 rfl rfl)
theorem dL_law_1062 : decode cL_law 1062 = .ok (.iaload, 1) := dk_46 (dk_at dksL_law_41 10 rfl rfl)
theorem dL_law_1063 : decode cL_law 1063 = .ok (.aload_n 0, 1) := dk_42 (dk_at dksL_law_41 11 rfl rfl)
theorem dL_law_1064 : decode cL_law 1064 = .ok (.iload 4, 2) := dk_21 4 (dk_at dksL_law_41 12 rfl rfl)
theorem dL_law_1066 : decode cL_law 1066 = .ok (.bipush 6, 2) := dk_16 6 (dk_at dksL_law_41 14 rfl rfl)
theorem dL_law_1068 : decode cL_law 1068 = .ok (.iadd, 1) := dk_96 (dk_at dksL_law_41 16 rfl rfl)
theorem dL_law_1069 : decode cL_law 1069 = .ok (.iaload, 1) := dk_46 (dk_at dksL_law_41 17 rfl rfl)
theorem dL_law_1070 : decode cL_law 1070 = .ok (.aload_n 3, 1) := dk_45 (dk_at dksL_law_41 18 rfl rfl)
theorem dL_law_1071 : decode cL_law 1071 = .ok (.invokestatic 157, 3) := dk_184 0 157 (dk_at dksL_law_41 19 rfl rfl)
theorem dL_law_1074 : decode cL_law 1074 = .ok (.istore 5, 2) := dk_54 5 (dk_at dksL_law_41 22 rfl rfl)
theorem dL_law_1076 : decode cL_law 1076 = .ok (.aload_n 2, 1) := dk_44 (dk_at dksL_law_42 0 rfl rfl)
theorem dL_law_1077 : decode cL_law 1077 = .ok (.aload_n 0, 1) := dk_42 (dk_at dksL_law_42 1 rfl rfl)
theorem dL_law_1078 : decode cL_law 1078 = .ok (.iload 4, 2) := dk_21 4 (dk_at dksL_law_42 2 rfl rfl)
theorem dL_law_1080 : decode cL_law 1080 = .ok (.iconst 1, 1) := dk_4 (dk_at dksL_law_42 4 rfl rfl)
theorem dL_law_1081 : decode cL_law 1081 = .ok (.iadd, 1) := dk_96 (dk_at dksL_law_42 5 rfl rfl)
theorem dL_law_1082 : decode cL_law 1082 = .ok (.iaload, 1) := dk_46 (dk_at dksL_law_42 6 rfl rfl)
theorem dL_law_1083 : decode cL_law 1083 = .ok (.aload_n 0, 1) := dk_42 (dk_at dksL_law_42 7 rfl rfl)
theorem dL_law_1084 : decode cL_law 1084 = .ok (.iload 4, 2) := dk_21 4 (dk_at dksL_law_42 8 rfl rfl)
theorem dL_law_1086 : decode cL_law 1086 = .ok (.iconst 2, 1) := dk_5 (dk_at dksL_law_42 10 rfl rfl)
theorem dL_law_1087 : decode cL_law 1087 = .ok (.iadd, 1) := dk_96 (dk_at dksL_law_42 11 rfl rfl)
theorem dL_law_1088 : decode cL_law 1088 = .ok (.iaload, 1) := dk_46 (dk_at dksL_law_42 12 rfl rfl)
theorem dL_law_1089 : decode cL_law 1089 = .ok (.aload_n 0, 1) := dk_42 (dk_at dksL_law_42 13 rfl rfl)
theorem dL_law_1090 : decode cL_law 1090 = .ok (.iload 4, 2) := dk_21 4 (dk_at dksL_law_42 14 rfl rfl)
theorem dL_law_1092 : decode cL_law 1092 = .ok (.iconst 3, 1) := dk_6 (dk_at dksL_law_42 16 rfl rfl)
theorem dL_law_1093 : decode cL_law 1093 = .ok (.iadd, 1) := dk_96 (dk_at dksL_law_42 17 rfl rfl)
theorem dL_law_1094 : decode cL_law 1094 = .ok (.iaload, 1) := dk_46 (dk_at dksL_law_42 18 rfl rfl)
theorem dL_law_1095 : decode cL_law 1095 = .ok (.aload_n 0, 1) := dk_42 (dk_at dksL_law_42 19 rfl rfl)
theorem dL_law_1096 : decode cL_law 1096 = .ok (.iload 4, 2) := dk_21 4 (dk_at dksL_law_42 20 rfl rfl)
theorem dL_law_1098 : decode cL_law 1098 = .ok (.iconst 4, 1) := dk_7 (dk_at dksL_law_42 22 rfl rfl)
theorem dL_law_1099 : decode cL_law 1099 = .ok (.iadd, 1) := dk_96 (dk_at dksL_law_42 23 rfl rfl)
theorem dL_law_1100 : decode cL_law 1100 = .ok (.iaload, 1) := dk_46 (dk_at dksL_law_43 0 rfl rfl)
theorem dL_law_1101 : decode cL_law 1101 = .ok (.aload_n 0, 1) := dk_42 (dk_at dksL_law_43 1 rfl rfl)
theorem dL_law_1102 : decode cL_law 1102 = .ok (.iload 4, 2) := dk_21 4 (dk_at dksL_law_43 2 rfl rfl)
theorem dL_law_1104 : decode cL_law 1104 = .ok (.iconst 5, 1) := dk_8 (dk_at dksL_law_43 4 rfl rfl)
theorem dL_law_1105 : decode cL_law 1105 = .ok (.iadd, 1) := dk_96 (dk_at dksL_law_43 5 rfl rfl)
theorem dL_law_1106 : decode cL_law 1106 = .ok (.iaload, 1) := dk_46 (dk_at dksL_law_43 6 rfl rfl)
theorem dL_law_1107 : decode cL_law 1107 = .ok (.aload_n 0, 1) := dk_42 (dk_at dksL_law_43 7 rfl rfl)
theorem dL_law_1108 : decode cL_law 1108 = .ok (.iload 4, 2) := dk_21 4 (dk_at dksL_law_43 8 rfl rfl)
theorem dL_law_1110 : decode cL_law 1110 = .ok (.bipush 6, 2) := dk_16 6 (dk_at dksL_law_43 10 rfl rfl)
theorem dL_law_1112 : decode cL_law 1112 = .ok (.iadd, 1) := dk_96 (dk_at dksL_law_43 12 rfl rfl)
theorem dL_law_1113 : decode cL_law 1113 = .ok (.iaload, 1) := dk_46 (dk_at dksL_law_43 13 rfl rfl)
theorem dL_law_1114 : decode cL_law 1114 = .ok (.invokevirtual 159, 3) := dk_182 0 159 (dk_at dksL_law_43 14 rfl rfl)
theorem dL_law_1117 : decode cL_law 1117 = .ok (.istore 6, 2) := dk_54 6 (dk_at dksL_law_43 17 rfl rfl)
theorem dL_law_1119 : decode cL_law 1119 = .ok (.aload_n 2, 1) := dk_44 (dk_at dksL_law_43 19 rfl rfl)
theorem dL_law_1120 : decode cL_law 1120 = .ok (.invokevirtual 120, 3) := dk_182 0 120 (dk_at dksL_law_43 20 rfl rfl)
theorem dL_law_1123 : decode cL_law 1123 = .ok (.iload 5, 2) := dk_21 5 (dk_at dksL_law_44 0 rfl rfl)
theorem dL_law_1125 : decode cL_law 1125 = .ok (.if_icmp .eq 5, 3) := dk_159 0 5 (dk_at dksL_law_44 2 rfl rfl)
theorem dL_law_1128 : decode cL_law 1128 = .ok (.iconst 0, 1) := dk_3 (dk_at dksL_law_44 5 rfl rfl)
theorem dL_law_1129 : decode cL_law 1129 = .ok (.ireturn, 1) := dk_172 (dk_at dksL_law_44 6 rfl rfl)
theorem dL_law_1130 : decode cL_law 1130 = .ok (.iload 5, 2) := dk_21 5 (dk_at dksL_law_44 7 rfl rfl)
theorem dL_law_1132 : decode cL_law 1132 = .ok (.ifCond .ne 16, 3) := dk_154 0 16 (dk_at dksL_law_44 9 rfl rfl)
theorem dL_law_1135 : decode cL_law 1135 = .ok (.aload_n 3, 1) := dk_45 (dk_at dksL_law_44 12 rfl rfl)
theorem dL_law_1136 : decode cL_law 1136 = .ok (.getfield 13, 3) := dk_180 0 13 (dk_at dksL_law_44 13 rfl rfl)
theorem dL_law_1139 : decode cL_law 1139 = .ok (.iload 6, 2) := dk_21 6 (dk_at dksL_law_44 16 rfl rfl)
theorem dL_law_1141 : decode cL_law 1141 = .ok (.i2l, 1) := dk_133 (dk_at dksL_law_44 18 rfl rfl)
theorem dL_law_1142 : decode cL_law 1142 = .ok (.lcmp, 1) := dk_148 (dk_at dksL_law_44 19 rfl rfl)
theorem dL_law_1143 : decode cL_law 1143 = .ok (.ifCond .eq 5, 3) := dk_153 0 5 (dk_at dksL_law_44 20 rfl rfl)
theorem dL_law_1146 : decode cL_law 1146 = .ok (.iconst 0, 1) := dk_3 (dk_at dksL_law_44 23 rfl rfl)
theorem dL_law_1147 : decode cL_law 1147 = .ok (.ireturn, 1) := dk_172 (dk_at dksL_law_45 0 rfl rfl)
theorem dL_law_1148 : decode cL_law 1148 = .ok (.goto 1037, 3) := dk_167 4 13 (dk_at dksL_law_45 1 rfl rfl)
theorem dL_law_1151 : decode cL_law 1151 = .ok (.aload_n 1, 1) := dk_43 (dk_at dksL_law_45 4 rfl rfl)
theorem dL_law_1152 : decode cL_law 1152 = .ok (.aload_n 0, 1) := dk_42 (dk_at dksL_law_45 5 rfl rfl)
theorem dL_law_1153 : decode cL_law 1153 = .ok (.iload 4, 2) := dk_21 4 (dk_at dksL_law_45 6 rfl rfl)
theorem dL_law_1155 : decode cL_law 1155 = .ok (.iconst 1, 1) := dk_4 (dk_at dksL_law_45 8 rfl rfl)
theorem dL_law_1156 : decode cL_law 1156 = .ok (.iadd, 1) := dk_96 (dk_at dksL_law_45 9 rfl rfl)
theorem dL_law_1157 : decode cL_law 1157 = .ok (.iaload, 1) := dk_46 (dk_at dksL_law_45 10 rfl rfl)
theorem dL_law_1158 : decode cL_law 1158 = .ok (.aload_n 0, 1) := dk_42 (dk_at dksL_law_45 11 rfl rfl)
theorem dL_law_1159 : decode cL_law 1159 = .ok (.iload 4, 2) := dk_21 4 (dk_at dksL_law_45 12 rfl rfl)
theorem dL_law_1161 : decode cL_law 1161 = .ok (.iconst 2, 1) := dk_5 (dk_at dksL_law_45 14 rfl rfl)
theorem dL_law_1162 : decode cL_law 1162 = .ok (.iadd, 1) := dk_96 (dk_at dksL_law_45 15 rfl rfl)
theorem dL_law_1163 : decode cL_law 1163 = .ok (.iaload, 1) := dk_46 (dk_at dksL_law_45 16 rfl rfl)
theorem dL_law_1164 : decode cL_law 1164 = .ok (.aload_n 3, 1) := dk_45 (dk_at dksL_law_45 17 rfl rfl)
theorem dL_law_1165 : decode cL_law 1165 = .ok (.invokestatic 160, 3) := dk_184 0 160 (dk_at dksL_law_45 18 rfl rfl)
theorem dL_law_1168 : decode cL_law 1168 = .ok (.istore 5, 2) := dk_54 5 (dk_at dksL_law_45 21 rfl rfl)
theorem dL_law_1170 : decode cL_law 1170 = .ok (.aload_n 2, 1) := dk_44 (dk_at dksL_law_45 23 rfl rfl)
theorem dL_law_1171 : decode cL_law 1171 = .ok (.aload_n 0, 1) := dk_42 (dk_at dksL_law_46 0 rfl rfl)
theorem dL_law_1172 : decode cL_law 1172 = .ok (.iload 4, 2) := dk_21 4 (dk_at dksL_law_46 1 rfl rfl)
theorem dL_law_1174 : decode cL_law 1174 = .ok (.iconst 1, 1) := dk_4 (dk_at dksL_law_46 3 rfl rfl)
theorem dL_law_1175 : decode cL_law 1175 = .ok (.iadd, 1) := dk_96 (dk_at dksL_law_46 4 rfl rfl)
theorem dL_law_1176 : decode cL_law 1176 = .ok (.iaload, 1) := dk_46 (dk_at dksL_law_46 5 rfl rfl)
theorem dL_law_1177 : decode cL_law 1177 = .ok (.aload_n 0, 1) := dk_42 (dk_at dksL_law_46 6 rfl rfl)
theorem dL_law_1178 : decode cL_law 1178 = .ok (.iload 4, 2) := dk_21 4 (dk_at dksL_law_46 7 rfl rfl)
theorem dL_law_1180 : decode cL_law 1180 = .ok (.iconst 2, 1) := dk_5 (dk_at dksL_law_46 9 rfl rfl)
theorem dL_law_1181 : decode cL_law 1181 = .ok (.iadd, 1) := dk_96 (dk_at dksL_law_46 10 rfl rfl)
theorem dL_law_1182 : decode cL_law 1182 = .ok (.iaload, 1) := dk_46 (dk_at dksL_law_46 11 rfl rfl)
theorem dL_law_1183 : decode cL_law 1183 = .ok (.invokevirtual 162, 3) := dk_182 0 162 (dk_at dksL_law_46 12 rfl rfl)
theorem dL_law_1186 : decode cL_law 1186 = .ok (.istore 6, 2) := dk_54 6 (dk_at dksL_law_46 15 rfl rfl)
theorem dL_law_1188 : decode cL_law 1188 = .ok (.aload_n 2, 1) := dk_44 (dk_at dksL_law_46 17 rfl rfl)
theorem dL_law_1189 : decode cL_law 1189 = .ok (.invokevirtual 120, 3) := dk_182 0 120 (dk_at dksL_law_46 18 rfl rfl)
theorem dL_law_1192 : decode cL_law 1192 = .ok (.iload 5, 2) := dk_21 5 (dk_at dksL_law_46 21 rfl rfl)
theorem dL_law_1194 : decode cL_law 1194 = .ok (.if_icmp .eq 5, 3) := dk_159 0 5 (dk_at dksL_law_47 0 rfl rfl)
theorem dL_law_1197 : decode cL_law 1197 = .ok (.iconst 0, 1) := dk_3 (dk_at dksL_law_47 3 rfl rfl)
theorem dL_law_1198 : decode cL_law 1198 = .ok (.ireturn, 1) := dk_172 (dk_at dksL_law_47 4 rfl rfl)
theorem dL_law_1199 : decode cL_law 1199 = .ok (.iload 5, 2) := dk_21 5 (dk_at dksL_law_47 5 rfl rfl)
theorem dL_law_1201 : decode cL_law 1201 = .ok (.ifCond .ne 16, 3) := dk_154 0 16 (dk_at dksL_law_47 7 rfl rfl)
theorem dL_law_1204 : decode cL_law 1204 = .ok (.aload_n 3, 1) := dk_45 (dk_at dksL_law_47 10 rfl rfl)
theorem dL_law_1205 : decode cL_law 1205 = .ok (.getfield 13, 3) := dk_180 0 13 (dk_at dksL_law_47 11 rfl rfl)
theorem dL_law_1208 : decode cL_law 1208 = .ok (.iload 6, 2) := dk_21 6 (dk_at dksL_law_47 14 rfl rfl)
theorem dL_law_1210 : decode cL_law 1210 = .ok (.i2l, 1) := dk_133 (dk_at dksL_law_47 16 rfl rfl)
theorem dL_law_1211 : decode cL_law 1211 = .ok (.lcmp, 1) := dk_148 (dk_at dksL_law_47 17 rfl rfl)
theorem dL_law_1212 : decode cL_law 1212 = .ok (.ifCond .eq 5, 3) := dk_153 0 5 (dk_at dksL_law_47 18 rfl rfl)
theorem dL_law_1215 : decode cL_law 1215 = .ok (.iconst 0, 1) := dk_3 (dk_at dksL_law_47 21 rfl rfl)
theorem dL_law_1216 : decode cL_law 1216 = .ok (.ireturn, 1) := dk_172 (dk_at dksL_law_47 22 rfl rfl)
theorem dL_law_1217 : decode cL_law 1217 = .ok (.goto 968, 3) := dk_167 3 200 (dk_at dksL_law_48 0 rfl rfl)
theorem dL_law_1220 : decode cL_law 1220 = .ok (.aload_n 1, 1) := dk_43 (dk_at dksL_law_48 3 rfl rfl)
theorem dL_law_1221 : decode cL_law 1221 = .ok (.aload_n 0, 1) := dk_42 (dk_at dksL_law_48 4 rfl rfl)
theorem dL_law_1222 : decode cL_law 1222 = .ok (.iload 4, 2) := dk_21 4 (dk_at dksL_law_48 5 rfl rfl)
theorem dL_law_1224 : decode cL_law 1224 = .ok (.iconst 1, 1) := dk_4 (dk_at dksL_law_48 7 rfl rfl)
theorem dL_law_1225 : decode cL_law 1225 = .ok (.iadd, 1) := dk_96 (dk_at dksL_law_48 8 rfl rfl)
theorem dL_law_1226 : decode cL_law 1226 = .ok (.iaload, 1) := dk_46 (dk_at dksL_law_48 9 rfl rfl)
theorem dL_law_1227 : decode cL_law 1227 = .ok (.aload_n 3, 1) := dk_45 (dk_at dksL_law_48 10 rfl rfl)
theorem dL_law_1228 : decode cL_law 1228 = .ok (.invokestatic 163, 3) := dk_184 0 163 (dk_at dksL_law_48 11 rfl rfl)
theorem dL_law_1231 : decode cL_law 1231 = .ok (.istore 5, 2) := dk_54 5 (dk_at dksL_law_48 14 rfl rfl)
theorem dL_law_1233 : decode cL_law 1233 = .ok (.aload_n 2, 1) := dk_44 (dk_at dksL_law_48 16 rfl rfl)
theorem dL_law_1234 : decode cL_law 1234 = .ok (.aload_n 0, 1) := dk_42 (dk_at dksL_law_48 17 rfl rfl)
theorem dL_law_1235 : decode cL_law 1235 = .ok (.iload 4, 2) := dk_21 4 (dk_at dksL_law_48 18 rfl rfl)
theorem dL_law_1237 : decode cL_law 1237 = .ok (.iconst 1, 1) := dk_4 (dk_at dksL_law_48 20 rfl rfl)
theorem dL_law_1238 : decode cL_law 1238 = .ok (.iadd, 1) := dk_96 (dk_at dksL_law_48 21 rfl rfl)
theorem dL_law_1239 : decode cL_law 1239 = .ok (.iaload, 1) := dk_46 (dk_at dksL_law_48 22 rfl rfl)
theorem dL_law_1240 : decode cL_law 1240 = .ok (.invokevirtual 165, 3) := dk_182 0 165 (dk_at dksL_law_49 0 rfl rfl)
theorem dL_law_1243 : decode cL_law 1243 = .ok (.istore 6, 2) := dk_54 6 (dk_at dksL_law_49 3 rfl rfl)
theorem dL_law_1245 : decode cL_law 1245 = .ok (.aload_n 2, 1) := dk_44 (dk_at dksL_law_49 5 rfl rfl)
theorem dL_law_1246 : decode cL_law 1246 = .ok (.invokevirtual 120, 3) := dk_182 0 120 (dk_at dksL_law_49 6 rfl rfl)
theorem dL_law_1249 : decode cL_law 1249 = .ok (.iload 5, 2) := dk_21 5 (dk_at dksL_law_49 9 rfl rfl)
theorem dL_law_1251 : decode cL_law 1251 = .ok (.if_icmp .eq 5, 3) := dk_159 0 5 (dk_at dksL_law_49 11 rfl rfl)
theorem dL_law_1254 : decode cL_law 1254 = .ok (.iconst 0, 1) := dk_3 (dk_at dksL_law_49 14 rfl rfl)
theorem dL_law_1255 : decode cL_law 1255 = .ok (.ireturn, 1) := dk_172 (dk_at dksL_law_49 15 rfl rfl)
theorem dL_law_1256 : decode cL_law 1256 = .ok (.iload 5, 2) := dk_21 5 (dk_at dksL_law_49 16 rfl rfl)
theorem dL_law_1258 : decode cL_law 1258 = .ok (.ifCond .ne 16, 3) := dk_154 0 16 (dk_at dksL_law_49 18 rfl rfl)
theorem dL_law_1261 : decode cL_law 1261 = .ok (.aload_n 3, 1) := dk_45 (dk_at dksL_law_49 21 rfl rfl)
theorem dL_law_1262 : decode cL_law 1262 = .ok (.getfield 13, 3) := dk_180 0 13 (dk_at dksL_law_50 0 rfl rfl)
theorem dL_law_1265 : decode cL_law 1265 = .ok (.iload 6, 2) := dk_21 6 (dk_at dksL_law_50 3 rfl rfl)
theorem dL_law_1267 : decode cL_law 1267 = .ok (.i2l, 1) := dk_133 (dk_at dksL_law_50 5 rfl rfl)
theorem dL_law_1268 : decode cL_law 1268 = .ok (.lcmp, 1) := dk_148 (dk_at dksL_law_50 6 rfl rfl)
theorem dL_law_1269 : decode cL_law 1269 = .ok (.ifCond .eq 5, 3) := dk_153 0 5 (dk_at dksL_law_50 7 rfl rfl)
theorem dL_law_1272 : decode cL_law 1272 = .ok (.iconst 0, 1) := dk_3 (dk_at dksL_law_50 10 rfl rfl)
theorem dL_law_1273 : decode cL_law 1273 = .ok (.ireturn, 1) := dk_172 (dk_at dksL_law_50 11 rfl rfl)
theorem dL_law_1274 : decode cL_law 1274 = .ok (.goto 911, 3) := dk_167 3 143 (dk_at dksL_law_50 12 rfl rfl)
theorem dL_law_1277 : decode cL_law 1277 = .ok (.aload_n 1, 1) := dk_43 (dk_at dksL_law_50 15 rfl rfl)
theorem dL_law_1278 : decode cL_law 1278 = .ok (.aload_n 0, 1) := dk_42 (dk_at dksL_law_50 16 rfl rfl)
theorem dL_law_1279 : decode cL_law 1279 = .ok (.iload 4, 2) := dk_21 4 (dk_at dksL_law_50 17 rfl rfl)
theorem dL_law_1281 : decode cL_law 1281 = .ok (.iconst 1, 1) := dk_4 (dk_at dksL_law_50 19 rfl rfl)
theorem dL_law_1282 : decode cL_law 1282 = .ok (.iadd, 1) := dk_96 (dk_at dksL_law_50 20 rfl rfl)
theorem dL_law_1283 : decode cL_law 1283 = .ok (.iaload, 1) := dk_46 (dk_at dksL_law_50 21 rfl rfl)
theorem dL_law_1284 : decode cL_law 1284 = .ok (.aload_n 0, 1) := dk_42 (dk_at dksL_law_50 22 rfl rfl)
theorem dL_law_1285 : decode cL_law 1285 = .ok (.iload 4, 2) := dk_21 4 (dk_at dksL_law_51 0 rfl rfl)
theorem dL_law_1287 : decode cL_law 1287 = .ok (.iconst 2, 1) := dk_5 (dk_at dksL_law_51 2 rfl rfl)
theorem dL_law_1288 : decode cL_law 1288 = .ok (.iadd, 1) := dk_96 (dk_at dksL_law_51 3 rfl rfl)
theorem dL_law_1289 : decode cL_law 1289 = .ok (.iaload, 1) := dk_46 (dk_at dksL_law_51 4 rfl rfl)
theorem dL_law_1290 : decode cL_law 1290 = .ok (.aload_n 0, 1) := dk_42 (dk_at dksL_law_51 5 rfl rfl)
theorem dL_law_1291 : decode cL_law 1291 = .ok (.iload 4, 2) := dk_21 4 (dk_at dksL_law_51 6 rfl rfl)
theorem dL_law_1293 : decode cL_law 1293 = .ok (.iconst 3, 1) := dk_6 (dk_at dksL_law_51 8 rfl rfl)
theorem dL_law_1294 : decode cL_law 1294 = .ok (.iadd, 1) := dk_96 (dk_at dksL_law_51 9 rfl rfl)
theorem dL_law_1295 : decode cL_law 1295 = .ok (.iaload, 1) := dk_46 (dk_at dksL_law_51 10 rfl rfl)
theorem dL_law_1296 : decode cL_law 1296 = .ok (.aload_n 3, 1) := dk_45 (dk_at dksL_law_51 11 rfl rfl)
theorem dL_law_1297 : decode cL_law 1297 = .ok (.invokestatic 166, 3) := dk_184 0 166 (dk_at dksL_law_51 12 rfl rfl)
theorem dL_law_1300 : decode cL_law 1300 = .ok (.istore 5, 2) := dk_54 5 (dk_at dksL_law_51 15 rfl rfl)
theorem dL_law_1302 : decode cL_law 1302 = .ok (.aload_n 2, 1) := dk_44 (dk_at dksL_law_51 17 rfl rfl)
theorem dL_law_1303 : decode cL_law 1303 = .ok (.aload_n 0, 1) := dk_42 (dk_at dksL_law_51 18 rfl rfl)
theorem dL_law_1304 : decode cL_law 1304 = .ok (.iload 4, 2) := dk_21 4 (dk_at dksL_law_51 19 rfl rfl)
theorem dL_law_1306 : decode cL_law 1306 = .ok (.iconst 1, 1) := dk_4 (dk_at dksL_law_51 21 rfl rfl)
theorem dL_law_1307 : decode cL_law 1307 = .ok (.iadd, 1) := dk_96 (dk_at dksL_law_51 22 rfl rfl)
theorem dL_law_1308 : decode cL_law 1308 = .ok (.iaload, 1) := dk_46 (dk_at dksL_law_51 23 rfl rfl)
theorem dL_law_1309 : decode cL_law 1309 = .ok (.aload_n 0, 1) := dk_42 (dk_at dksL_law_52 0 rfl rfl)
theorem dL_law_1310 : decode cL_law 1310 = .ok (.iload 4, 2) := dk_21 4 (dk_at dksL_law_52 1 rfl rfl)
theorem dL_law_1312 : decode cL_law 1312 = .ok (.iconst 2, 1) := dk_5 (dk_at dksL_law_52 3 rfl rfl)
theorem dL_law_1313 : decode cL_law 1313 = .ok (.iadd, 1) := dk_96 (dk_at dksL_law_52 4 rfl rfl)
theorem dL_law_1314 : decode cL_law 1314 = .ok (.iaload, 1) := dk_46 (dk_at dksL_law_52 5 rfl rfl)
theorem dL_law_1315 : decode cL_law 1315 = .ok (.aload_n 0, 1) := dk_42 (dk_at dksL_law_52 6 rfl rfl)
theorem dL_law_1316 : decode cL_law 1316 = .ok (.iload 4, 2) := dk_21 4 (dk_at dksL_law_52 7 rfl rfl)
theorem dL_law_1318 : decode cL_law 1318 = .ok (.iconst 3, 1) := dk_6 (dk_at dksL_law_52 9 rfl rfl)
theorem dL_law_1319 : decode cL_law 1319 = .ok (.iadd, 1) := dk_96 (dk_at dksL_law_52 10 rfl rfl)
theorem dL_law_1320 : decode cL_law 1320 = .ok (.iaload, 1) := dk_46 (dk_at dksL_law_52 11 rfl rfl)
theorem dL_law_1321 : decode cL_law 1321 = .ok (.invokevirtual 168, 3) := dk_182 0 168 (dk_at dksL_law_52 12 rfl rfl)
theorem dL_law_1324 : decode cL_law 1324 = .ok (.istore 6, 2) := dk_54 6 (dk_at dksL_law_52 15 rfl rfl)
theorem dL_law_1326 : decode cL_law 1326 = .ok (.aload_n 2, 1) := dk_44 (dk_at dksL_law_52 17 rfl rfl)
theorem dL_law_1327 : decode cL_law 1327 = .ok (.invokevirtual 120, 3) := dk_182 0 120 (dk_at dksL_law_52 18 rfl rfl)
theorem dL_law_1330 : decode cL_law 1330 = .ok (.iload 5, 2) := dk_21 5 (dk_at dksL_law_52 21 rfl rfl)
theorem dL_law_1332 : decode cL_law 1332 = .ok (.if_icmp .eq 5, 3) := dk_159 0 5 (dk_at dksL_law_53 0 rfl rfl)
theorem dL_law_1335 : decode cL_law 1335 = .ok (.iconst 0, 1) := dk_3 (dk_at dksL_law_53 3 rfl rfl)
theorem dL_law_1336 : decode cL_law 1336 = .ok (.ireturn, 1) := dk_172 (dk_at dksL_law_53 4 rfl rfl)
theorem dL_law_1337 : decode cL_law 1337 = .ok (.iload 5, 2) := dk_21 5 (dk_at dksL_law_53 5 rfl rfl)
theorem dL_law_1339 : decode cL_law 1339 = .ok (.ifCond .ne 16, 3) := dk_154 0 16 (dk_at dksL_law_53 7 rfl rfl)
theorem dL_law_1342 : decode cL_law 1342 = .ok (.aload_n 3, 1) := dk_45 (dk_at dksL_law_53 10 rfl rfl)
theorem dL_law_1343 : decode cL_law 1343 = .ok (.getfield 13, 3) := dk_180 0 13 (dk_at dksL_law_53 11 rfl rfl)
theorem dL_law_1346 : decode cL_law 1346 = .ok (.iload 6, 2) := dk_21 6 (dk_at dksL_law_53 14 rfl rfl)
theorem dL_law_1348 : decode cL_law 1348 = .ok (.i2l, 1) := dk_133 (dk_at dksL_law_53 16 rfl rfl)
theorem dL_law_1349 : decode cL_law 1349 = .ok (.lcmp, 1) := dk_148 (dk_at dksL_law_53 17 rfl rfl)
theorem dL_law_1350 : decode cL_law 1350 = .ok (.ifCond .eq 5, 3) := dk_153 0 5 (dk_at dksL_law_53 18 rfl rfl)
theorem dL_law_1353 : decode cL_law 1353 = .ok (.iconst 0, 1) := dk_3 (dk_at dksL_law_53 21 rfl rfl)
theorem dL_law_1354 : decode cL_law 1354 = .ok (.ireturn, 1) := dk_172 (dk_at dksL_law_53 22 rfl rfl)
theorem dL_law_1355 : decode cL_law 1355 = .ok (.goto 830, 3) := dk_167 3 62 (dk_at dksL_law_54 0 rfl rfl)
theorem dL_law_1358 : decode cL_law 1358 = .ok (.aload_n 1, 1) := dk_43 (dk_at dksL_law_54 3 rfl rfl)
theorem dL_law_1359 : decode cL_law 1359 = .ok (.aload_n 0, 1) := dk_42 (dk_at dksL_law_54 4 rfl rfl)
theorem dL_law_1360 : decode cL_law 1360 = .ok (.iload 4, 2) := dk_21 4 (dk_at dksL_law_54 5 rfl rfl)
theorem dL_law_1362 : decode cL_law 1362 = .ok (.iconst 1, 1) := dk_4 (dk_at dksL_law_54 7 rfl rfl)
theorem dL_law_1363 : decode cL_law 1363 = .ok (.iadd, 1) := dk_96 (dk_at dksL_law_54 8 rfl rfl)
theorem dL_law_1364 : decode cL_law 1364 = .ok (.iaload, 1) := dk_46 (dk_at dksL_law_54 9 rfl rfl)
theorem dL_law_1365 : decode cL_law 1365 = .ok (.aload_n 0, 1) := dk_42 (dk_at dksL_law_54 10 rfl rfl)
theorem dL_law_1366 : decode cL_law 1366 = .ok (.iload 4, 2) := dk_21 4 (dk_at dksL_law_54 11 rfl rfl)
theorem dL_law_1368 : decode cL_law 1368 = .ok (.iconst 2, 1) := dk_5 (dk_at dksL_law_54 13 rfl rfl)
theorem dL_law_1369 : decode cL_law 1369 = .ok (.iadd, 1) := dk_96 (dk_at dksL_law_54 14 rfl rfl)
theorem dL_law_1370 : decode cL_law 1370 = .ok (.iaload, 1) := dk_46 (dk_at dksL_law_54 15 rfl rfl)
theorem dL_law_1371 : decode cL_law 1371 = .ok (.aload_n 3, 1) := dk_45 (dk_at dksL_law_54 16 rfl rfl)
theorem dL_law_1372 : decode cL_law 1372 = .ok (.invokestatic 169, 3) := dk_184 0 169 (dk_at dksL_law_54 17 rfl rfl)
theorem dL_law_1375 : decode cL_law 1375 = .ok (.istore 5, 2) := dk_54 5 (dk_at dksL_law_54 20 rfl rfl)
theorem dL_law_1377 : decode cL_law 1377 = .ok (.aload_n 2, 1) := dk_44 (dk_at dksL_law_54 22 rfl rfl)
theorem dL_law_1378 : decode cL_law 1378 = .ok (.aload_n 0, 1) := dk_42 (dk_at dksL_law_54 23 rfl rfl)
theorem dL_law_1379 : decode cL_law 1379 = .ok (.iload 4, 2) := dk_21 4 (dk_at dksL_law_55 0 rfl rfl)
theorem dL_law_1381 : decode cL_law 1381 = .ok (.iconst 1, 1) := dk_4 (dk_at dksL_law_55 2 rfl rfl)
theorem dL_law_1382 : decode cL_law 1382 = .ok (.iadd, 1) := dk_96 (dk_at dksL_law_55 3 rfl rfl)
theorem dL_law_1383 : decode cL_law 1383 = .ok (.iaload, 1) := dk_46 (dk_at dksL_law_55 4 rfl rfl)
theorem dL_law_1384 : decode cL_law 1384 = .ok (.aload_n 0, 1) := dk_42 (dk_at dksL_law_55 5 rfl rfl)
theorem dL_law_1385 : decode cL_law 1385 = .ok (.iload 4, 2) := dk_21 4 (dk_at dksL_law_55 6 rfl rfl)
theorem dL_law_1387 : decode cL_law 1387 = .ok (.iconst 2, 1) := dk_5 (dk_at dksL_law_55 8 rfl rfl)
theorem dL_law_1388 : decode cL_law 1388 = .ok (.iadd, 1) := dk_96 (dk_at dksL_law_55 9 rfl rfl)
theorem dL_law_1389 : decode cL_law 1389 = .ok (.iaload, 1) := dk_46 (dk_at dksL_law_55 10 rfl rfl)
theorem dL_law_1390 : decode cL_law 1390 = .ok (.invokevirtual 171, 3) := dk_182 0 171 (dk_at dksL_law_55 11 rfl rfl)
theorem dL_law_1393 : decode cL_law 1393 = .ok (.istore 6, 2) := dk_54 6 (dk_at dksL_law_55 14 rfl rfl)
theorem dL_law_1395 : decode cL_law 1395 = .ok (.aload_n 2, 1) := dk_44 (dk_at dksL_law_55 16 rfl rfl)
theorem dL_law_1396 : decode cL_law 1396 = .ok (.invokevirtual 120, 3) := dk_182 0 120 (dk_at dksL_law_55 17 rfl rfl)
theorem dL_law_1399 : decode cL_law 1399 = .ok (.iload 5, 2) := dk_21 5 (dk_at dksL_law_55 20 rfl rfl)
theorem dL_law_1401 : decode cL_law 1401 = .ok (.if_icmp .eq 5, 3) := dk_159 0 5 (dk_at dksL_law_56 0 rfl rfl)
theorem dL_law_1404 : decode cL_law 1404 = .ok (.iconst 0, 1) := dk_3 (dk_at dksL_law_56 3 rfl rfl)
theorem dL_law_1405 : decode cL_law 1405 = .ok (.ireturn, 1) := dk_172 (dk_at dksL_law_56 4 rfl rfl)
theorem dL_law_1406 : decode cL_law 1406 = .ok (.iload 5, 2) := dk_21 5 (dk_at dksL_law_56 5 rfl rfl)
theorem dL_law_1408 : decode cL_law 1408 = .ok (.ifCond .ne 16, 3) := dk_154 0 16 (dk_at dksL_law_56 7 rfl rfl)
theorem dL_law_1411 : decode cL_law 1411 = .ok (.aload_n 3, 1) := dk_45 (dk_at dksL_law_56 10 rfl rfl)
theorem dL_law_1412 : decode cL_law 1412 = .ok (.getfield 13, 3) := dk_180 0 13 (dk_at dksL_law_56 11 rfl rfl)
theorem dL_law_1415 : decode cL_law 1415 = .ok (.iload 6, 2) := dk_21 6 (dk_at dksL_law_56 14 rfl rfl)
theorem dL_law_1417 : decode cL_law 1417 = .ok (.i2l, 1) := dk_133 (dk_at dksL_law_56 16 rfl rfl)
theorem dL_law_1418 : decode cL_law 1418 = .ok (.lcmp, 1) := dk_148 (dk_at dksL_law_56 17 rfl rfl)
theorem dL_law_1419 : decode cL_law 1419 = .ok (.ifCond .eq 5, 3) := dk_153 0 5 (dk_at dksL_law_56 18 rfl rfl)
theorem dL_law_1422 : decode cL_law 1422 = .ok (.iconst 0, 1) := dk_3 (dk_at dksL_law_56 21 rfl rfl)
theorem dL_law_1423 : decode cL_law 1423 = .ok (.ireturn, 1) := dk_172 (dk_at dksL_law_56 22 rfl rfl)
theorem dL_law_1424 : decode cL_law 1424 = .ok (.goto 761, 3) := dk_167 2 249 (dk_at dksL_law_57 0 rfl rfl)
theorem dL_law_1427 : decode cL_law 1427 = .ok (.aload_n 1, 1) := dk_43 (dk_at dksL_law_57 3 rfl rfl)
theorem dL_law_1428 : decode cL_law 1428 = .ok (.aload_n 0, 1) := dk_42 (dk_at dksL_law_57 4 rfl rfl)
theorem dL_law_1429 : decode cL_law 1429 = .ok (.iload 4, 2) := dk_21 4 (dk_at dksL_law_57 5 rfl rfl)
theorem dL_law_1431 : decode cL_law 1431 = .ok (.iconst 1, 1) := dk_4 (dk_at dksL_law_57 7 rfl rfl)
theorem dL_law_1432 : decode cL_law 1432 = .ok (.iadd, 1) := dk_96 (dk_at dksL_law_57 8 rfl rfl)
theorem dL_law_1433 : decode cL_law 1433 = .ok (.iaload, 1) := dk_46 (dk_at dksL_law_57 9 rfl rfl)
theorem dL_law_1434 : decode cL_law 1434 = .ok (.aload_n 0, 1) := dk_42 (dk_at dksL_law_57 10 rfl rfl)
theorem dL_law_1435 : decode cL_law 1435 = .ok (.iload 4, 2) := dk_21 4 (dk_at dksL_law_57 11 rfl rfl)
theorem dL_law_1437 : decode cL_law 1437 = .ok (.iconst 2, 1) := dk_5 (dk_at dksL_law_57 13 rfl rfl)
theorem dL_law_1438 : decode cL_law 1438 = .ok (.iadd, 1) := dk_96 (dk_at dksL_law_57 14 rfl rfl)
theorem dL_law_1439 : decode cL_law 1439 = .ok (.iaload, 1) := dk_46 (dk_at dksL_law_57 15 rfl rfl)
theorem dL_law_1440 : decode cL_law 1440 = .ok (.aload_n 0, 1) := dk_42 (dk_at dksL_law_57 16 rfl rfl)
theorem dL_law_1441 : decode cL_law 1441 = .ok (.iload 4, 2) := dk_21 4 (dk_at dksL_law_57 17 rfl rfl)
theorem dL_law_1443 : decode cL_law 1443 = .ok (.iconst 3, 1) := dk_6 (dk_at dksL_law_57 19 rfl rfl)
theorem dL_law_1444 : decode cL_law 1444 = .ok (.iadd, 1) := dk_96 (dk_at dksL_law_57 20 rfl rfl)
theorem dL_law_1445 : decode cL_law 1445 = .ok (.iaload, 1) := dk_46 (dk_at dksL_law_57 21 rfl rfl)
theorem dL_law_1446 : decode cL_law 1446 = .ok (.aload_n 3, 1) := dk_45 (dk_at dksL_law_57 22 rfl rfl)
theorem dL_law_1447 : decode cL_law 1447 = .ok (.invokestatic 172, 3) := dk_184 0 172 (dk_at dksL_law_58 0 rfl rfl)
theorem dL_law_1450 : decode cL_law 1450 = .ok (.istore 5, 2) := dk_54 5 (dk_at dksL_law_58 3 rfl rfl)
theorem dL_law_1452 : decode cL_law 1452 = .ok (.aload_n 2, 1) := dk_44 (dk_at dksL_law_58 5 rfl rfl)
theorem dL_law_1453 : decode cL_law 1453 = .ok (.aload_n 0, 1) := dk_42 (dk_at dksL_law_58 6 rfl rfl)
theorem dL_law_1454 : decode cL_law 1454 = .ok (.iload 4, 2) := dk_21 4 (dk_at dksL_law_58 7 rfl rfl)
theorem dL_law_1456 : decode cL_law 1456 = .ok (.iconst 1, 1) := dk_4 (dk_at dksL_law_58 9 rfl rfl)
theorem dL_law_1457 : decode cL_law 1457 = .ok (.iadd, 1) := dk_96 (dk_at dksL_law_58 10 rfl rfl)
theorem dL_law_1458 : decode cL_law 1458 = .ok (.iaload, 1) := dk_46 (dk_at dksL_law_58 11 rfl rfl)
theorem dL_law_1459 : decode cL_law 1459 = .ok (.aload_n 0, 1) := dk_42 (dk_at dksL_law_58 12 rfl rfl)
theorem dL_law_1460 : decode cL_law 1460 = .ok (.iload 4, 2) := dk_21 4 (dk_at dksL_law_58 13 rfl rfl)
theorem dL_law_1462 : decode cL_law 1462 = .ok (.iconst 2, 1) := dk_5 (dk_at dksL_law_58 15 rfl rfl)
theorem dL_law_1463 : decode cL_law 1463 = .ok (.iadd, 1) := dk_96 (dk_at dksL_law_58 16 rfl rfl)
theorem dL_law_1464 : decode cL_law 1464 = .ok (.iaload, 1) := dk_46 (dk_at dksL_law_58 17 rfl rfl)
theorem dL_law_1465 : decode cL_law 1465 = .ok (.aload_n 0, 1) := dk_42 (dk_at dksL_law_58 18 rfl rfl)
theorem dL_law_1466 : decode cL_law 1466 = .ok (.iload 4, 2) := dk_21 4 (dk_at dksL_law_58 19 rfl rfl)
theorem dL_law_1468 : decode cL_law 1468 = .ok (.iconst 3, 1) := dk_6 (dk_at dksL_law_58 21 rfl rfl)
theorem dL_law_1469 : decode cL_law 1469 = .ok (.iadd, 1) := dk_96 (dk_at dksL_law_58 22 rfl rfl)
theorem dL_law_1470 : decode cL_law 1470 = .ok (.iaload, 1) := dk_46 (dk_at dksL_law_58 23 rfl rfl)
theorem dL_law_1471 : decode cL_law 1471 = .ok (.invokevirtual 174, 3) := dk_182 0 174 (dk_at dksL_law_59 0 rfl rfl)
theorem dL_law_1474 : decode cL_law 1474 = .ok (.istore 6, 2) := dk_54 6 (dk_at dksL_law_59 3 rfl rfl)
theorem dL_law_1476 : decode cL_law 1476 = .ok (.aload_n 2, 1) := dk_44 (dk_at dksL_law_59 5 rfl rfl)
theorem dL_law_1477 : decode cL_law 1477 = .ok (.invokevirtual 120, 3) := dk_182 0 120 (dk_at dksL_law_59 6 rfl rfl)
theorem dL_law_1480 : decode cL_law 1480 = .ok (.iload 5, 2) := dk_21 5 (dk_at dksL_law_59 9 rfl rfl)
theorem dL_law_1482 : decode cL_law 1482 = .ok (.if_icmp .eq 5, 3) := dk_159 0 5 (dk_at dksL_law_59 11 rfl rfl)
theorem dL_law_1485 : decode cL_law 1485 = .ok (.iconst 0, 1) := dk_3 (dk_at dksL_law_59 14 rfl rfl)
theorem dL_law_1486 : decode cL_law 1486 = .ok (.ireturn, 1) := dk_172 (dk_at dksL_law_59 15 rfl rfl)
theorem dL_law_1487 : decode cL_law 1487 = .ok (.iload 5, 2) := dk_21 5 (dk_at dksL_law_59 16 rfl rfl)
theorem dL_law_1489 : decode cL_law 1489 = .ok (.ifCond .ne 16, 3) := dk_154 0 16 (dk_at dksL_law_59 18 rfl rfl)
theorem dL_law_1492 : decode cL_law 1492 = .ok (.aload_n 3, 1) := dk_45 (dk_at dksL_law_59 21 rfl rfl)
theorem dL_law_1493 : decode cL_law 1493 = .ok (.getfield 13, 3) := dk_180 0 13 (dk_at dksL_law_60 0 rfl rfl)
theorem dL_law_1496 : decode cL_law 1496 = .ok (.iload 6, 2) := dk_21 6 (dk_at dksL_law_60 3 rfl rfl)
theorem dL_law_1498 : decode cL_law 1498 = .ok (.i2l, 1) := dk_133 (dk_at dksL_law_60 5 rfl rfl)
theorem dL_law_1499 : decode cL_law 1499 = .ok (.lcmp, 1) := dk_148 (dk_at dksL_law_60 6 rfl rfl)
theorem dL_law_1500 : decode cL_law 1500 = .ok (.ifCond .eq 5, 3) := dk_153 0 5 (dk_at dksL_law_60 7 rfl rfl)
theorem dL_law_1503 : decode cL_law 1503 = .ok (.iconst 0, 1) := dk_3 (dk_at dksL_law_60 10 rfl rfl)
theorem dL_law_1504 : decode cL_law 1504 = .ok (.ireturn, 1) := dk_172 (dk_at dksL_law_60 11 rfl rfl)
theorem dL_law_1505 : decode cL_law 1505 = .ok (.goto 680, 3) := dk_167 2 168 (dk_at dksL_law_60 12 rfl rfl)
theorem dL_law_1508 : decode cL_law 1508 = .ok (.aload_n 1, 1) := dk_43 (dk_at dksL_law_60 15 rfl rfl)
theorem dL_law_1509 : decode cL_law 1509 = .ok (.aload_n 0, 1) := dk_42 (dk_at dksL_law_60 16 rfl rfl)
theorem dL_law_1510 : decode cL_law 1510 = .ok (.iload 4, 2) := dk_21 4 (dk_at dksL_law_60 17 rfl rfl)
theorem dL_law_1512 : decode cL_law 1512 = .ok (.iconst 1, 1) := dk_4 (dk_at dksL_law_60 19 rfl rfl)
theorem dL_law_1513 : decode cL_law 1513 = .ok (.iadd, 1) := dk_96 (dk_at dksL_law_60 20 rfl rfl)
theorem dL_law_1514 : decode cL_law 1514 = .ok (.iaload, 1) := dk_46 (dk_at dksL_law_60 21 rfl rfl)
theorem dL_law_1515 : decode cL_law 1515 = .ok (.aload_n 0, 1) := dk_42 (dk_at dksL_law_60 22 rfl rfl)
theorem dL_law_1516 : decode cL_law 1516 = .ok (.iload 4, 2) := dk_21 4 (dk_at dksL_law_61 0 rfl rfl)
theorem dL_law_1518 : decode cL_law 1518 = .ok (.iconst 2, 1) := dk_5 (dk_at dksL_law_61 2 rfl rfl)
theorem dL_law_1519 : decode cL_law 1519 = .ok (.iadd, 1) := dk_96 (dk_at dksL_law_61 3 rfl rfl)
theorem dL_law_1520 : decode cL_law 1520 = .ok (.iaload, 1) := dk_46 (dk_at dksL_law_61 4 rfl rfl)
theorem dL_law_1521 : decode cL_law 1521 = .ok (.aload_n 0, 1) := dk_42 (dk_at dksL_law_61 5 rfl rfl)
theorem dL_law_1522 : decode cL_law 1522 = .ok (.iload 4, 2) := dk_21 4 (dk_at dksL_law_61 6 rfl rfl)
theorem dL_law_1524 : decode cL_law 1524 = .ok (.iconst 3, 1) := dk_6 (dk_at dksL_law_61 8 rfl rfl)
theorem dL_law_1525 : decode cL_law 1525 = .ok (.iadd, 1) := dk_96 (dk_at dksL_law_61 9 rfl rfl)
theorem dL_law_1526 : decode cL_law 1526 = .ok (.iaload, 1) := dk_46 (dk_at dksL_law_61 10 rfl rfl)
theorem dL_law_1527 : decode cL_law 1527 = .ok (.aload_n 3, 1) := dk_45 (dk_at dksL_law_61 11 rfl rfl)
theorem dL_law_1528 : decode cL_law 1528 = .ok (.invokestatic 175, 3) := dk_184 0 175 (dk_at dksL_law_61 12 rfl rfl)
theorem dL_law_1531 : decode cL_law 1531 = .ok (.istore 5, 2) := dk_54 5 (dk_at dksL_law_61 15 rfl rfl)
theorem dL_law_1533 : decode cL_law 1533 = .ok (.aload_n 2, 1) := dk_44 (dk_at dksL_law_61 17 rfl rfl)
theorem dL_law_1534 : decode cL_law 1534 = .ok (.aload_n 0, 1) := dk_42 (dk_at dksL_law_61 18 rfl rfl)
theorem dL_law_1535 : decode cL_law 1535 = .ok (.iload 4, 2) := dk_21 4 (dk_at dksL_law_61 19 rfl rfl)
theorem dL_law_1537 : decode cL_law 1537 = .ok (.iconst 1, 1) := dk_4 (dk_at dksL_law_61 21 rfl rfl)
theorem dL_law_1538 : decode cL_law 1538 = .ok (.iadd, 1) := dk_96 (dk_at dksL_law_61 22 rfl rfl)
theorem dL_law_1539 : decode cL_law 1539 = .ok (.iaload, 1) := dk_46 (dk_at dksL_law_61 23 rfl rfl)
theorem dL_law_1540 : decode cL_law 1540 = .ok (.aload_n 0, 1) := dk_42 (dk_at dksL_law_62 0 rfl rfl)
theorem dL_law_1541 : decode cL_law 1541 = .ok (.iload 4, 2) := dk_21 4 (dk_at dksL_law_62 1 rfl rfl)
theorem dL_law_1543 : decode cL_law 1543 = .ok (.iconst 2, 1) := dk_5 (dk_at dksL_law_62 3 rfl rfl)
theorem dL_law_1544 : decode cL_law 1544 = .ok (.iadd, 1) := dk_96 (dk_at dksL_law_62 4 rfl rfl)
theorem dL_law_1545 : decode cL_law 1545 = .ok (.iaload, 1) := dk_46 (dk_at dksL_law_62 5 rfl rfl)
theorem dL_law_1546 : decode cL_law 1546 = .ok (.aload_n 0, 1) := dk_42 (dk_at dksL_law_62 6 rfl rfl)
theorem dL_law_1547 : decode cL_law 1547 = .ok (.iload 4, 2) := dk_21 4 (dk_at dksL_law_62 7 rfl rfl)
theorem dL_law_1549 : decode cL_law 1549 = .ok (.iconst 3, 1) := dk_6 (dk_at dksL_law_62 9 rfl rfl)
theorem dL_law_1550 : decode cL_law 1550 = .ok (.iadd, 1) := dk_96 (dk_at dksL_law_62 10 rfl rfl)
theorem dL_law_1551 : decode cL_law 1551 = .ok (.iaload, 1) := dk_46 (dk_at dksL_law_62 11 rfl rfl)
theorem dL_law_1552 : decode cL_law 1552 = .ok (.invokevirtual 177, 3) := dk_182 0 177 (dk_at dksL_law_62 12 rfl rfl)
theorem dL_law_1555 : decode cL_law 1555 = .ok (.istore 6, 2) := dk_54 6 (dk_at dksL_law_62 15 rfl rfl)
theorem dL_law_1557 : decode cL_law 1557 = .ok (.aload_n 2, 1) := dk_44 (dk_at dksL_law_62 17 rfl rfl)
theorem dL_law_1558 : decode cL_law 1558 = .ok (.invokevirtual 120, 3) := dk_182 0 120 (dk_at dksL_law_62 18 rfl rfl)
theorem dL_law_1561 : decode cL_law 1561 = .ok (.iload 5, 2) := dk_21 5 (dk_at dksL_law_62 21 rfl rfl)
theorem dL_law_1563 : decode cL_law 1563 = .ok (.if_icmp .eq 5, 3) := dk_159 0 5 (dk_at dksL_law_63 0 rfl rfl)
theorem dL_law_1566 : decode cL_law 1566 = .ok (.iconst 0, 1) := dk_3 (dk_at dksL_law_63 3 rfl rfl)
theorem dL_law_1567 : decode cL_law 1567 = .ok (.ireturn, 1) := dk_172 (dk_at dksL_law_63 4 rfl rfl)
theorem dL_law_1568 : decode cL_law 1568 = .ok (.iload 5, 2) := dk_21 5 (dk_at dksL_law_63 5 rfl rfl)
theorem dL_law_1570 : decode cL_law 1570 = .ok (.ifCond .ne 16, 3) := dk_154 0 16 (dk_at dksL_law_63 7 rfl rfl)
theorem dL_law_1573 : decode cL_law 1573 = .ok (.aload_n 3, 1) := dk_45 (dk_at dksL_law_63 10 rfl rfl)
theorem dL_law_1574 : decode cL_law 1574 = .ok (.getfield 13, 3) := dk_180 0 13 (dk_at dksL_law_63 11 rfl rfl)
theorem dL_law_1577 : decode cL_law 1577 = .ok (.iload 6, 2) := dk_21 6 (dk_at dksL_law_63 14 rfl rfl)
theorem dL_law_1579 : decode cL_law 1579 = .ok (.i2l, 1) := dk_133 (dk_at dksL_law_63 16 rfl rfl)
theorem dL_law_1580 : decode cL_law 1580 = .ok (.lcmp, 1) := dk_148 (dk_at dksL_law_63 17 rfl rfl)
theorem dL_law_1581 : decode cL_law 1581 = .ok (.ifCond .eq 5, 3) := dk_153 0 5 (dk_at dksL_law_63 18 rfl rfl)
theorem dL_law_1584 : decode cL_law 1584 = .ok (.iconst 0, 1) := dk_3 (dk_at dksL_law_63 21 rfl rfl)
theorem dL_law_1585 : decode cL_law 1585 = .ok (.ireturn, 1) := dk_172 (dk_at dksL_law_63 22 rfl rfl)
theorem dL_law_1586 : decode cL_law 1586 = .ok (.goto 599, 3) := dk_167 2 87 (dk_at dksL_law_64 0 rfl rfl)
theorem dL_law_1589 : decode cL_law 1589 = .ok (.aload_n 1, 1) := dk_43 (dk_at dksL_law_64 3 rfl rfl)
theorem dL_law_1590 : decode cL_law 1590 = .ok (.aload_n 0, 1) := dk_42 (dk_at dksL_law_64 4 rfl rfl)
theorem dL_law_1591 : decode cL_law 1591 = .ok (.iload 4, 2) := dk_21 4 (dk_at dksL_law_64 5 rfl rfl)
theorem dL_law_1593 : decode cL_law 1593 = .ok (.iconst 1, 1) := dk_4 (dk_at dksL_law_64 7 rfl rfl)
theorem dL_law_1594 : decode cL_law 1594 = .ok (.iadd, 1) := dk_96 (dk_at dksL_law_64 8 rfl rfl)
theorem dL_law_1595 : decode cL_law 1595 = .ok (.iaload, 1) := dk_46 (dk_at dksL_law_64 9 rfl rfl)
theorem dL_law_1596 : decode cL_law 1596 = .ok (.aload_n 0, 1) := dk_42 (dk_at dksL_law_64 10 rfl rfl)
theorem dL_law_1597 : decode cL_law 1597 = .ok (.iload 4, 2) := dk_21 4 (dk_at dksL_law_64 11 rfl rfl)
theorem dL_law_1599 : decode cL_law 1599 = .ok (.iconst 2, 1) := dk_5 (dk_at dksL_law_64 13 rfl rfl)
theorem dL_law_1600 : decode cL_law 1600 = .ok (.iadd, 1) := dk_96 (dk_at dksL_law_64 14 rfl rfl)
theorem dL_law_1601 : decode cL_law 1601 = .ok (.iaload, 1) := dk_46 (dk_at dksL_law_64 15 rfl rfl)
theorem dL_law_1602 : decode cL_law 1602 = .ok (.aload_n 3, 1) := dk_45 (dk_at dksL_law_64 16 rfl rfl)
theorem dL_law_1603 : decode cL_law 1603 = .ok (.invokestatic 178, 3) := dk_184 0 178 (dk_at dksL_law_64 17 rfl rfl)
theorem dL_law_1606 : decode cL_law 1606 = .ok (.istore 5, 2) := dk_54 5 (dk_at dksL_law_64 20 rfl rfl)
theorem dL_law_1608 : decode cL_law 1608 = .ok (.aload_n 2, 1) := dk_44 (dk_at dksL_law_64 22 rfl rfl)
theorem dL_law_1609 : decode cL_law 1609 = .ok (.aload_n 0, 1) := dk_42 (dk_at dksL_law_64 23 rfl rfl)
theorem dL_law_1610 : decode cL_law 1610 = .ok (.iload 4, 2) := dk_21 4 (dk_at dksL_law_65 0 rfl rfl)
theorem dL_law_1612 : decode cL_law 1612 = .ok (.iconst 1, 1) := dk_4 (dk_at dksL_law_65 2 rfl rfl)
theorem dL_law_1613 : decode cL_law 1613 = .ok (.iadd, 1) := dk_96 (dk_at dksL_law_65 3 rfl rfl)
theorem dL_law_1614 : decode cL_law 1614 = .ok (.iaload, 1) := dk_46 (dk_at dksL_law_65 4 rfl rfl)
theorem dL_law_1615 : decode cL_law 1615 = .ok (.aload_n 0, 1) := dk_42 (dk_at dksL_law_65 5 rfl rfl)
theorem dL_law_1616 : decode cL_law 1616 = .ok (.iload 4, 2) := dk_21 4 (dk_at dksL_law_65 6 rfl rfl)
theorem dL_law_1618 : decode cL_law 1618 = .ok (.iconst 2, 1) := dk_5 (dk_at dksL_law_65 8 rfl rfl)
theorem dL_law_1619 : decode cL_law 1619 = .ok (.iadd, 1) := dk_96 (dk_at dksL_law_65 9 rfl rfl)
theorem dL_law_1620 : decode cL_law 1620 = .ok (.iaload, 1) := dk_46 (dk_at dksL_law_65 10 rfl rfl)
theorem dL_law_1621 : decode cL_law 1621 = .ok (.invokevirtual 180, 3) := dk_182 0 180 (dk_at dksL_law_65 11 rfl rfl)
theorem dL_law_1624 : decode cL_law 1624 = .ok (.istore 6, 2) := dk_54 6 (dk_at dksL_law_65 14 rfl rfl)
theorem dL_law_1626 : decode cL_law 1626 = .ok (.aload_n 2, 1) := dk_44 (dk_at dksL_law_65 16 rfl rfl)
theorem dL_law_1627 : decode cL_law 1627 = .ok (.invokevirtual 120, 3) := dk_182 0 120 (dk_at dksL_law_65 17 rfl rfl)
theorem dL_law_1630 : decode cL_law 1630 = .ok (.iload 5, 2) := dk_21 5 (dk_at dksL_law_65 20 rfl rfl)
theorem dL_law_1632 : decode cL_law 1632 = .ok (.if_icmp .eq 5, 3) := dk_159 0 5 (dk_at dksL_law_66 0 rfl rfl)
theorem dL_law_1635 : decode cL_law 1635 = .ok (.iconst 0, 1) := dk_3 (dk_at dksL_law_66 3 rfl rfl)
theorem dL_law_1636 : decode cL_law 1636 = .ok (.ireturn, 1) := dk_172 (dk_at dksL_law_66 4 rfl rfl)
theorem dL_law_1637 : decode cL_law 1637 = .ok (.iload 5, 2) := dk_21 5 (dk_at dksL_law_66 5 rfl rfl)
theorem dL_law_1639 : decode cL_law 1639 = .ok (.ifCond .ne 16, 3) := dk_154 0 16 (dk_at dksL_law_66 7 rfl rfl)
theorem dL_law_1642 : decode cL_law 1642 = .ok (.aload_n 3, 1) := dk_45 (dk_at dksL_law_66 10 rfl rfl)
theorem dL_law_1643 : decode cL_law 1643 = .ok (.getfield 13, 3) := dk_180 0 13 (dk_at dksL_law_66 11 rfl rfl)
theorem dL_law_1646 : decode cL_law 1646 = .ok (.iload 6, 2) := dk_21 6 (dk_at dksL_law_66 14 rfl rfl)
theorem dL_law_1648 : decode cL_law 1648 = .ok (.i2l, 1) := dk_133 (dk_at dksL_law_66 16 rfl rfl)
theorem dL_law_1649 : decode cL_law 1649 = .ok (.lcmp, 1) := dk_148 (dk_at dksL_law_66 17 rfl rfl)
theorem dL_law_1650 : decode cL_law 1650 = .ok (.ifCond .eq 5, 3) := dk_153 0 5 (dk_at dksL_law_66 18 rfl rfl)
theorem dL_law_1653 : decode cL_law 1653 = .ok (.iconst 0, 1) := dk_3 (dk_at dksL_law_66 21 rfl rfl)
theorem dL_law_1654 : decode cL_law 1654 = .ok (.ireturn, 1) := dk_172 (dk_at dksL_law_66 22 rfl rfl)
theorem dL_law_1655 : decode cL_law 1655 = .ok (.goto 530, 3) := dk_167 2 18 (dk_at dksL_law_67 0 rfl rfl)
theorem dL_law_1658 : decode cL_law 1658 = .ok (.aload_n 1, 1) := dk_43 (dk_at dksL_law_67 3 rfl rfl)
theorem dL_law_1659 : decode cL_law 1659 = .ok (.aload_n 0, 1) := dk_42 (dk_at dksL_law_67 4 rfl rfl)
theorem dL_law_1660 : decode cL_law 1660 = .ok (.iload 4, 2) := dk_21 4 (dk_at dksL_law_67 5 rfl rfl)
theorem dL_law_1662 : decode cL_law 1662 = .ok (.iconst 1, 1) := dk_4 (dk_at dksL_law_67 7 rfl rfl)
theorem dL_law_1663 : decode cL_law 1663 = .ok (.iadd, 1) := dk_96 (dk_at dksL_law_67 8 rfl rfl)
theorem dL_law_1664 : decode cL_law 1664 = .ok (.iaload, 1) := dk_46 (dk_at dksL_law_67 9 rfl rfl)
theorem dL_law_1665 : decode cL_law 1665 = .ok (.aload_n 0, 1) := dk_42 (dk_at dksL_law_67 10 rfl rfl)
theorem dL_law_1666 : decode cL_law 1666 = .ok (.iload 4, 2) := dk_21 4 (dk_at dksL_law_67 11 rfl rfl)
theorem dL_law_1668 : decode cL_law 1668 = .ok (.iconst 2, 1) := dk_5 (dk_at dksL_law_67 13 rfl rfl)
theorem dL_law_1669 : decode cL_law 1669 = .ok (.iadd, 1) := dk_96 (dk_at dksL_law_67 14 rfl rfl)
theorem dL_law_1670 : decode cL_law 1670 = .ok (.iaload, 1) := dk_46 (dk_at dksL_law_67 15 rfl rfl)
theorem dL_law_1671 : decode cL_law 1671 = .ok (.aload_n 3, 1) := dk_45 (dk_at dksL_law_67 16 rfl rfl)
theorem dL_law_1672 : decode cL_law 1672 = .ok (.invokestatic 181, 3) := dk_184 0 181 (dk_at dksL_law_67 17 rfl rfl)
theorem dL_law_1675 : decode cL_law 1675 = .ok (.istore 5, 2) := dk_54 5 (dk_at dksL_law_67 20 rfl rfl)
theorem dL_law_1677 : decode cL_law 1677 = .ok (.aload_n 2, 1) := dk_44 (dk_at dksL_law_67 22 rfl rfl)
theorem dL_law_1678 : decode cL_law 1678 = .ok (.aload_n 0, 1) := dk_42 (dk_at dksL_law_67 23 rfl rfl)
theorem dL_law_1679 : decode cL_law 1679 = .ok (.iload 4, 2) := dk_21 4 (dk_at dksL_law_68 0 rfl rfl)
theorem dL_law_1681 : decode cL_law 1681 = .ok (.iconst 1, 1) := dk_4 (dk_at dksL_law_68 2 rfl rfl)
theorem dL_law_1682 : decode cL_law 1682 = .ok (.iadd, 1) := dk_96 (dk_at dksL_law_68 3 rfl rfl)
theorem dL_law_1683 : decode cL_law 1683 = .ok (.iaload, 1) := dk_46 (dk_at dksL_law_68 4 rfl rfl)
theorem dL_law_1684 : decode cL_law 1684 = .ok (.aload_n 0, 1) := dk_42 (dk_at dksL_law_68 5 rfl rfl)
theorem dL_law_1685 : decode cL_law 1685 = .ok (.iload 4, 2) := dk_21 4 (dk_at dksL_law_68 6 rfl rfl)
theorem dL_law_1687 : decode cL_law 1687 = .ok (.iconst 2, 1) := dk_5 (dk_at dksL_law_68 8 rfl rfl)
theorem dL_law_1688 : decode cL_law 1688 = .ok (.iadd, 1) := dk_96 (dk_at dksL_law_68 9 rfl rfl)
theorem dL_law_1689 : decode cL_law 1689 = .ok (.iaload, 1) := dk_46 (dk_at dksL_law_68 10 rfl rfl)
theorem dL_law_1690 : decode cL_law 1690 = .ok (.invokevirtual 183, 3) := dk_182 0 183 (dk_at dksL_law_68 11 rfl rfl)
theorem dL_law_1693 : decode cL_law 1693 = .ok (.istore 6, 2) := dk_54 6 (dk_at dksL_law_68 14 rfl rfl)
theorem dL_law_1695 : decode cL_law 1695 = .ok (.aload_n 2, 1) := dk_44 (dk_at dksL_law_68 16 rfl rfl)
theorem dL_law_1696 : decode cL_law 1696 = .ok (.invokevirtual 120, 3) := dk_182 0 120 (dk_at dksL_law_68 17 rfl rfl)
theorem dL_law_1699 : decode cL_law 1699 = .ok (.iload 5, 2) := dk_21 5 (dk_at dksL_law_68 20 rfl rfl)
theorem dL_law_1701 : decode cL_law 1701 = .ok (.if_icmp .eq 5, 3) := dk_159 0 5 (dk_at dksL_law_69 0 rfl rfl)
theorem dL_law_1704 : decode cL_law 1704 = .ok (.iconst 0, 1) := dk_3 (dk_at dksL_law_69 3 rfl rfl)
theorem dL_law_1705 : decode cL_law 1705 = .ok (.ireturn, 1) := dk_172 (dk_at dksL_law_69 4 rfl rfl)
theorem dL_law_1706 : decode cL_law 1706 = .ok (.iload 5, 2) := dk_21 5 (dk_at dksL_law_69 5 rfl rfl)
theorem dL_law_1708 : decode cL_law 1708 = .ok (.ifCond .ne 16, 3) := dk_154 0 16 (dk_at dksL_law_69 7 rfl rfl)
theorem dL_law_1711 : decode cL_law 1711 = .ok (.aload_n 3, 1) := dk_45 (dk_at dksL_law_69 10 rfl rfl)
theorem dL_law_1712 : decode cL_law 1712 = .ok (.getfield 13, 3) := dk_180 0 13 (dk_at dksL_law_69 11 rfl rfl)
theorem dL_law_1715 : decode cL_law 1715 = .ok (.iload 6, 2) := dk_21 6 (dk_at dksL_law_69 14 rfl rfl)
theorem dL_law_1717 : decode cL_law 1717 = .ok (.i2l, 1) := dk_133 (dk_at dksL_law_69 16 rfl rfl)
theorem dL_law_1718 : decode cL_law 1718 = .ok (.lcmp, 1) := dk_148 (dk_at dksL_law_69 17 rfl rfl)
theorem dL_law_1719 : decode cL_law 1719 = .ok (.ifCond .eq 5, 3) := dk_153 0 5 (dk_at dksL_law_69 18 rfl rfl)
theorem dL_law_1722 : decode cL_law 1722 = .ok (.iconst 0, 1) := dk_3 (dk_at dksL_law_69 21 rfl rfl)
theorem dL_law_1723 : decode cL_law 1723 = .ok (.ireturn, 1) := dk_172 (dk_at dksL_law_69 22 rfl rfl)
theorem dL_law_1724 : decode cL_law 1724 = .ok (.goto 461, 3) := dk_167 1 205 (dk_at dksL_law_70 0 rfl rfl)
theorem dL_law_1727 : decode cL_law 1727 = .ok (.aload_n 1, 1) := dk_43 (dk_at dksL_law_70 3 rfl rfl)
theorem dL_law_1728 : decode cL_law 1728 = .ok (.aload_n 0, 1) := dk_42 (dk_at dksL_law_70 4 rfl rfl)
theorem dL_law_1729 : decode cL_law 1729 = .ok (.iload 4, 2) := dk_21 4 (dk_at dksL_law_70 5 rfl rfl)
theorem dL_law_1731 : decode cL_law 1731 = .ok (.iconst 1, 1) := dk_4 (dk_at dksL_law_70 7 rfl rfl)
theorem dL_law_1732 : decode cL_law 1732 = .ok (.iadd, 1) := dk_96 (dk_at dksL_law_70 8 rfl rfl)
theorem dL_law_1733 : decode cL_law 1733 = .ok (.iaload, 1) := dk_46 (dk_at dksL_law_70 9 rfl rfl)
theorem dL_law_1734 : decode cL_law 1734 = .ok (.aload_n 3, 1) := dk_45 (dk_at dksL_law_70 10 rfl rfl)
theorem dL_law_1735 : decode cL_law 1735 = .ok (.invokestatic 184, 3) := dk_184 0 184 (dk_at dksL_law_70 11 rfl rfl)
theorem dL_law_1738 : decode cL_law 1738 = .ok (.istore 5, 2) := dk_54 5 (dk_at dksL_law_70 14 rfl rfl)
theorem dL_law_1740 : decode cL_law 1740 = .ok (.aload_n 2, 1) := dk_44 (dk_at dksL_law_70 16 rfl rfl)
theorem dL_law_1741 : decode cL_law 1741 = .ok (.aload_n 0, 1) := dk_42 (dk_at dksL_law_70 17 rfl rfl)
theorem dL_law_1742 : decode cL_law 1742 = .ok (.iload 4, 2) := dk_21 4 (dk_at dksL_law_70 18 rfl rfl)
theorem dL_law_1744 : decode cL_law 1744 = .ok (.iconst 1, 1) := dk_4 (dk_at dksL_law_70 20 rfl rfl)
theorem dL_law_1745 : decode cL_law 1745 = .ok (.iadd, 1) := dk_96 (dk_at dksL_law_70 21 rfl rfl)
theorem dL_law_1746 : decode cL_law 1746 = .ok (.iaload, 1) := dk_46 (dk_at dksL_law_70 22 rfl rfl)
theorem dL_law_1747 : decode cL_law 1747 = .ok (.invokevirtual 186, 3) := dk_182 0 186 (dk_at dksL_law_71 0 rfl rfl)
theorem dL_law_1750 : decode cL_law 1750 = .ok (.istore 6, 2) := dk_54 6 (dk_at dksL_law_71 3 rfl rfl)
theorem dL_law_1752 : decode cL_law 1752 = .ok (.aload_n 2, 1) := dk_44 (dk_at dksL_law_71 5 rfl rfl)
theorem dL_law_1753 : decode cL_law 1753 = .ok (.invokevirtual 120, 3) := dk_182 0 120 (dk_at dksL_law_71 6 rfl rfl)
theorem dL_law_1756 : decode cL_law 1756 = .ok (.iload 5, 2) := dk_21 5 (dk_at dksL_law_71 9 rfl rfl)
theorem dL_law_1758 : decode cL_law 1758 = .ok (.if_icmp .eq 5, 3) := dk_159 0 5 (dk_at dksL_law_71 11 rfl rfl)
theorem dL_law_1761 : decode cL_law 1761 = .ok (.iconst 0, 1) := dk_3 (dk_at dksL_law_71 14 rfl rfl)
theorem dL_law_1762 : decode cL_law 1762 = .ok (.ireturn, 1) := dk_172 (dk_at dksL_law_71 15 rfl rfl)
theorem dL_law_1763 : decode cL_law 1763 = .ok (.iload 5, 2) := dk_21 5 (dk_at dksL_law_71 16 rfl rfl)
theorem dL_law_1765 : decode cL_law 1765 = .ok (.ifCond .ne 16, 3) := dk_154 0 16 (dk_at dksL_law_71 18 rfl rfl)
theorem dL_law_1768 : decode cL_law 1768 = .ok (.aload_n 3, 1) := dk_45 (dk_at dksL_law_71 21 rfl rfl)
theorem dL_law_1769 : decode cL_law 1769 = .ok (.getfield 13, 3) := dk_180 0 13 (dk_at dksL_law_72 0 rfl rfl)
theorem dL_law_1772 : decode cL_law 1772 = .ok (.iload 6, 2) := dk_21 6 (dk_at dksL_law_72 3 rfl rfl)
theorem dL_law_1774 : decode cL_law 1774 = .ok (.i2l, 1) := dk_133 (dk_at dksL_law_72 5 rfl rfl)
theorem dL_law_1775 : decode cL_law 1775 = .ok (.lcmp, 1) := dk_148 (dk_at dksL_law_72 6 rfl rfl)
theorem dL_law_1776 : decode cL_law 1776 = .ok (.ifCond .eq 5, 3) := dk_153 0 5 (dk_at dksL_law_72 7 rfl rfl)
theorem dL_law_1779 : decode cL_law 1779 = .ok (.iconst 0, 1) := dk_3 (dk_at dksL_law_72 10 rfl rfl)
theorem dL_law_1780 : decode cL_law 1780 = .ok (.ireturn, 1) := dk_172 (dk_at dksL_law_72 11 rfl rfl)
theorem dL_law_1781 : decode cL_law 1781 = .ok (.goto 404, 3) := dk_167 1 148 (dk_at dksL_law_72 12 rfl rfl)
theorem dL_law_1784 : decode cL_law 1784 = .ok (.aload_n 1, 1) := dk_43 (dk_at dksL_law_72 15 rfl rfl)
theorem dL_law_1785 : decode cL_law 1785 = .ok (.aload_n 0, 1) := dk_42 (dk_at dksL_law_72 16 rfl rfl)
theorem dL_law_1786 : decode cL_law 1786 = .ok (.iload 4, 2) := dk_21 4 (dk_at dksL_law_72 17 rfl rfl)
theorem dL_law_1788 : decode cL_law 1788 = .ok (.iconst 1, 1) := dk_4 (dk_at dksL_law_72 19 rfl rfl)
theorem dL_law_1789 : decode cL_law 1789 = .ok (.iadd, 1) := dk_96 (dk_at dksL_law_72 20 rfl rfl)
theorem dL_law_1790 : decode cL_law 1790 = .ok (.iaload, 1) := dk_46 (dk_at dksL_law_72 21 rfl rfl)
theorem dL_law_1791 : decode cL_law 1791 = .ok (.aload_n 3, 1) := dk_45 (dk_at dksL_law_72 22 rfl rfl)
theorem dL_law_1792 : decode cL_law 1792 = .ok (.invokestatic 187, 3) := dk_184 0 187 (dk_at dksL_law_73 0 rfl rfl)
theorem dL_law_1795 : decode cL_law 1795 = .ok (.istore 5, 2) := dk_54 5 (dk_at dksL_law_73 3 rfl rfl)
theorem dL_law_1797 : decode cL_law 1797 = .ok (.aload_n 2, 1) := dk_44 (dk_at dksL_law_73 5 rfl rfl)
theorem dL_law_1798 : decode cL_law 1798 = .ok (.aload_n 0, 1) := dk_42 (dk_at dksL_law_73 6 rfl rfl)
theorem dL_law_1799 : decode cL_law 1799 = .ok (.iload 4, 2) := dk_21 4 (dk_at dksL_law_73 7 rfl rfl)
theorem dL_law_1801 : decode cL_law 1801 = .ok (.iconst 1, 1) := dk_4 (dk_at dksL_law_73 9 rfl rfl)
theorem dL_law_1802 : decode cL_law 1802 = .ok (.iadd, 1) := dk_96 (dk_at dksL_law_73 10 rfl rfl)
theorem dL_law_1803 : decode cL_law 1803 = .ok (.iaload, 1) := dk_46 (dk_at dksL_law_73 11 rfl rfl)
theorem dL_law_1804 : decode cL_law 1804 = .ok (.invokevirtual 189, 3) := dk_182 0 189 (dk_at dksL_law_73 12 rfl rfl)
theorem dL_law_1807 : decode cL_law 1807 = .ok (.istore 6, 2) := dk_54 6 (dk_at dksL_law_73 15 rfl rfl)
theorem dL_law_1809 : decode cL_law 1809 = .ok (.aload_n 2, 1) := dk_44 (dk_at dksL_law_73 17 rfl rfl)
theorem dL_law_1810 : decode cL_law 1810 = .ok (.invokevirtual 120, 3) := dk_182 0 120 (dk_at dksL_law_73 18 rfl rfl)
theorem dL_law_1813 : decode cL_law 1813 = .ok (.iload 5, 2) := dk_21 5 (dk_at dksL_law_73 21 rfl rfl)
theorem dL_law_1815 : decode cL_law 1815 = .ok (.if_icmp .eq 5, 3) := dk_159 0 5 (dk_at dksL_law_74 0 rfl rfl)
theorem dL_law_1818 : decode cL_law 1818 = .ok (.iconst 0, 1) := dk_3 (dk_at dksL_law_74 3 rfl rfl)
theorem dL_law_1819 : decode cL_law 1819 = .ok (.ireturn, 1) := dk_172 (dk_at dksL_law_74 4 rfl rfl)
theorem dL_law_1820 : decode cL_law 1820 = .ok (.iload 5, 2) := dk_21 5 (dk_at dksL_law_74 5 rfl rfl)
theorem dL_law_1822 : decode cL_law 1822 = .ok (.ifCond .ne 16, 3) := dk_154 0 16 (dk_at dksL_law_74 7 rfl rfl)
theorem dL_law_1825 : decode cL_law 1825 = .ok (.aload_n 3, 1) := dk_45 (dk_at dksL_law_74 10 rfl rfl)
theorem dL_law_1826 : decode cL_law 1826 = .ok (.getfield 13, 3) := dk_180 0 13 (dk_at dksL_law_74 11 rfl rfl)
theorem dL_law_1829 : decode cL_law 1829 = .ok (.iload 6, 2) := dk_21 6 (dk_at dksL_law_74 14 rfl rfl)
theorem dL_law_1831 : decode cL_law 1831 = .ok (.i2l, 1) := dk_133 (dk_at dksL_law_74 16 rfl rfl)
theorem dL_law_1832 : decode cL_law 1832 = .ok (.lcmp, 1) := dk_148 (dk_at dksL_law_74 17 rfl rfl)
theorem dL_law_1833 : decode cL_law 1833 = .ok (.ifCond .eq 5, 3) := dk_153 0 5 (dk_at dksL_law_74 18 rfl rfl)
theorem dL_law_1836 : decode cL_law 1836 = .ok (.iconst 0, 1) := dk_3 (dk_at dksL_law_74 21 rfl rfl)
theorem dL_law_1837 : decode cL_law 1837 = .ok (.ireturn, 1) := dk_172 (dk_at dksL_law_74 22 rfl rfl)
theorem dL_law_1838 : decode cL_law 1838 = .ok (.goto 347, 3) := dk_167 1 91 (dk_at dksL_law_75 0 rfl rfl)
theorem dL_law_1841 : decode cL_law 1841 = .ok (.aload_n 1, 1) := dk_43 (dk_at dksL_law_75 3 rfl rfl)
theorem dL_law_1842 : decode cL_law 1842 = .ok (.aload_n 0, 1) := dk_42 (dk_at dksL_law_75 4 rfl rfl)
theorem dL_law_1843 : decode cL_law 1843 = .ok (.iload 4, 2) := dk_21 4 (dk_at dksL_law_75 5 rfl rfl)
theorem dL_law_1845 : decode cL_law 1845 = .ok (.iconst 1, 1) := dk_4 (dk_at dksL_law_75 7 rfl rfl)
theorem dL_law_1846 : decode cL_law 1846 = .ok (.iadd, 1) := dk_96 (dk_at dksL_law_75 8 rfl rfl)
theorem dL_law_1847 : decode cL_law 1847 = .ok (.iaload, 1) := dk_46 (dk_at dksL_law_75 9 rfl rfl)
theorem dL_law_1848 : decode cL_law 1848 = .ok (.aload_n 3, 1) := dk_45 (dk_at dksL_law_75 10 rfl rfl)
theorem dL_law_1849 : decode cL_law 1849 = .ok (.invokestatic 190, 3) := dk_184 0 190 (dk_at dksL_law_75 11 rfl rfl)
theorem dL_law_1852 : decode cL_law 1852 = .ok (.istore 5, 2) := dk_54 5 (dk_at dksL_law_75 14 rfl rfl)
theorem dL_law_1854 : decode cL_law 1854 = .ok (.aload_n 2, 1) := dk_44 (dk_at dksL_law_75 16 rfl rfl)
theorem dL_law_1855 : decode cL_law 1855 = .ok (.aload_n 0, 1) := dk_42 (dk_at dksL_law_75 17 rfl rfl)
theorem dL_law_1856 : decode cL_law 1856 = .ok (.iload 4, 2) := dk_21 4 (dk_at dksL_law_75 18 rfl rfl)
theorem dL_law_1858 : decode cL_law 1858 = .ok (.iconst 1, 1) := dk_4 (dk_at dksL_law_75 20 rfl rfl)
theorem dL_law_1859 : decode cL_law 1859 = .ok (.iadd, 1) := dk_96 (dk_at dksL_law_75 21 rfl rfl)
theorem dL_law_1860 : decode cL_law 1860 = .ok (.iaload, 1) := dk_46 (dk_at dksL_law_75 22 rfl rfl)
theorem dL_law_1861 : decode cL_law 1861 = .ok (.invokevirtual 192, 3) := dk_182 0 192 (dk_at dksL_law_76 0 rfl rfl)
theorem dL_law_1864 : decode cL_law 1864 = .ok (.istore 6, 2) := dk_54 6 (dk_at dksL_law_76 3 rfl rfl)
theorem dL_law_1866 : decode cL_law 1866 = .ok (.aload_n 2, 1) := dk_44 (dk_at dksL_law_76 5 rfl rfl)
theorem dL_law_1867 : decode cL_law 1867 = .ok (.invokevirtual 120, 3) := dk_182 0 120 (dk_at dksL_law_76 6 rfl rfl)
theorem dL_law_1870 : decode cL_law 1870 = .ok (.iload 5, 2) := dk_21 5 (dk_at dksL_law_76 9 rfl rfl)
theorem dL_law_1872 : decode cL_law 1872 = .ok (.if_icmp .eq 5, 3) := dk_159 0 5 (dk_at dksL_law_76 11 rfl rfl)
theorem dL_law_1875 : decode cL_law 1875 = .ok (.iconst 0, 1) := dk_3 (dk_at dksL_law_76 14 rfl rfl)
theorem dL_law_1876 : decode cL_law 1876 = .ok (.ireturn, 1) := dk_172 (dk_at dksL_law_76 15 rfl rfl)
theorem dL_law_1877 : decode cL_law 1877 = .ok (.iload 5, 2) := dk_21 5 (dk_at dksL_law_76 16 rfl rfl)
theorem dL_law_1879 : decode cL_law 1879 = .ok (.ifCond .ne 16, 3) := dk_154 0 16 (dk_at dksL_law_76 18 rfl rfl)
theorem dL_law_1882 : decode cL_law 1882 = .ok (.aload_n 3, 1) := dk_45 (dk_at dksL_law_76 21 rfl rfl)
theorem dL_law_1883 : decode cL_law 1883 = .ok (.getfield 13, 3) := dk_180 0 13 (dk_at dksL_law_77 0 rfl rfl)
theorem dL_law_1886 : decode cL_law 1886 = .ok (.iload 6, 2) := dk_21 6 (dk_at dksL_law_77 3 rfl rfl)
theorem dL_law_1888 : decode cL_law 1888 = .ok (.i2l, 1) := dk_133 (dk_at dksL_law_77 5 rfl rfl)
theorem dL_law_1889 : decode cL_law 1889 = .ok (.lcmp, 1) := dk_148 (dk_at dksL_law_77 6 rfl rfl)
theorem dL_law_1890 : decode cL_law 1890 = .ok (.ifCond .eq 5, 3) := dk_153 0 5 (dk_at dksL_law_77 7 rfl rfl)
theorem dL_law_1893 : decode cL_law 1893 = .ok (.iconst 0, 1) := dk_3 (dk_at dksL_law_77 10 rfl rfl)
theorem dL_law_1894 : decode cL_law 1894 = .ok (.ireturn, 1) := dk_172 (dk_at dksL_law_77 11 rfl rfl)
theorem dL_law_1895 : decode cL_law 1895 = .ok (.goto 290, 3) := dk_167 1 34 (dk_at dksL_law_77 12 rfl rfl)
theorem dL_law_1898 : decode cL_law 1898 = .ok (.aload_n 1, 1) := dk_43 (dk_at dksL_law_77 15 rfl rfl)
theorem dL_law_1899 : decode cL_law 1899 = .ok (.aload_n 0, 1) := dk_42 (dk_at dksL_law_77 16 rfl rfl)
theorem dL_law_1900 : decode cL_law 1900 = .ok (.iload 4, 2) := dk_21 4 (dk_at dksL_law_77 17 rfl rfl)
theorem dL_law_1902 : decode cL_law 1902 = .ok (.iconst 1, 1) := dk_4 (dk_at dksL_law_77 19 rfl rfl)
theorem dL_law_1903 : decode cL_law 1903 = .ok (.iadd, 1) := dk_96 (dk_at dksL_law_77 20 rfl rfl)
theorem dL_law_1904 : decode cL_law 1904 = .ok (.iaload, 1) := dk_46 (dk_at dksL_law_77 21 rfl rfl)
theorem dL_law_1905 : decode cL_law 1905 = .ok (.aload_n 3, 1) := dk_45 (dk_at dksL_law_77 22 rfl rfl)
theorem dL_law_1906 : decode cL_law 1906 = .ok (.invokestatic 193, 3) := dk_184 0 193 (dk_at dksL_law_78 0 rfl rfl)
theorem dL_law_1909 : decode cL_law 1909 = .ok (.istore 5, 2) := dk_54 5 (dk_at dksL_law_78 3 rfl rfl)
theorem dL_law_1911 : decode cL_law 1911 = .ok (.aload_n 2, 1) := dk_44 (dk_at dksL_law_78 5 rfl rfl)
theorem dL_law_1912 : decode cL_law 1912 = .ok (.aload_n 0, 1) := dk_42 (dk_at dksL_law_78 6 rfl rfl)
theorem dL_law_1913 : decode cL_law 1913 = .ok (.iload 4, 2) := dk_21 4 (dk_at dksL_law_78 7 rfl rfl)
theorem dL_law_1915 : decode cL_law 1915 = .ok (.iconst 1, 1) := dk_4 (dk_at dksL_law_78 9 rfl rfl)
theorem dL_law_1916 : decode cL_law 1916 = .ok (.iadd, 1) := dk_96 (dk_at dksL_law_78 10 rfl rfl)
theorem dL_law_1917 : decode cL_law 1917 = .ok (.iaload, 1) := dk_46 (dk_at dksL_law_78 11 rfl rfl)
theorem dL_law_1918 : decode cL_law 1918 = .ok (.invokevirtual 195, 3) := dk_182 0 195 (dk_at dksL_law_78 12 rfl rfl)
theorem dL_law_1921 : decode cL_law 1921 = .ok (.astore 6, 2) := dk_58 6 (dk_at dksL_law_78 15 rfl rfl)
theorem dL_law_1923 : decode cL_law 1923 = .ok (.aload_n 2, 1) := dk_44 (dk_at dksL_law_78 17 rfl rfl)
theorem dL_law_1924 : decode cL_law 1924 = .ok (.invokevirtual 120, 3) := dk_182 0 120 (dk_at dksL_law_78 18 rfl rfl)
theorem dL_law_1927 : decode cL_law 1927 = .ok (.iload 5, 2) := dk_21 5 (dk_at dksL_law_78 21 rfl rfl)
theorem dL_law_1929 : decode cL_law 1929 = .ok (.if_icmp .eq 5, 3) := dk_159 0 5 (dk_at dksL_law_79 0 rfl rfl)
theorem dL_law_1932 : decode cL_law 1932 = .ok (.iconst 0, 1) := dk_3 (dk_at dksL_law_79 3 rfl rfl)
theorem dL_law_1933 : decode cL_law 1933 = .ok (.ireturn, 1) := dk_172 (dk_at dksL_law_79 4 rfl rfl)
theorem dL_law_1934 : decode cL_law 1934 = .ok (.iload 5, 2) := dk_21 5 (dk_at dksL_law_79 5 rfl rfl)
theorem dL_law_1936 : decode cL_law 1936 = .ok (.ifCond .ne 17, 3) := dk_154 0 17 (dk_at dksL_law_79 7 rfl rfl)
theorem dL_law_1939 : decode cL_law 1939 = .ok (.aload_n 3, 1) := dk_45 (dk_at dksL_law_79 10 rfl rfl)
theorem dL_law_1940 : decode cL_law 1940 = .ok (.getfield 98, 3) := dk_180 0 98 (dk_at dksL_law_79 11 rfl rfl)
theorem dL_law_1943 : decode cL_law 1943 = .ok (.aload 6, 2) := dk_25 6 (dk_at dksL_law_79 14 rfl rfl)
theorem dL_law_1945 : decode cL_law 1945 = .ok (.invokevirtual 196, 3) := dk_182 0 196 (dk_at dksL_law_79 16 rfl rfl)
theorem dL_law_1948 : decode cL_law 1948 = .ok (.ifCond .ne 5, 3) := dk_154 0 5 (dk_at dksL_law_79 19 rfl rfl)
theorem dL_law_1951 : decode cL_law 1951 = .ok (.iconst 0, 1) := dk_3 (dk_at dksL_law_79 22 rfl rfl)
theorem dL_law_1952 : decode cL_law 1952 = .ok (.ireturn, 1) := dk_172 (dk_at dksL_law_79 23 rfl rfl)
theorem dL_law_1953 : decode cL_law 1953 = .ok (.goto 232, 3) := dk_167 0 232 (dk_at dksL_law_80 0 rfl rfl)
theorem dL_law_1956 : decode cL_law 1956 = .ok (.aload_n 1, 1) := dk_43 (dk_at dksL_law_80 3 rfl rfl)
theorem dL_law_1957 : decode cL_law 1957 = .ok (.aload_n 0, 1) := dk_42 (dk_at dksL_law_80 4 rfl rfl)
theorem dL_law_1958 : decode cL_law 1958 = .ok (.iload 4, 2) := dk_21 4 (dk_at dksL_law_80 5 rfl rfl)
theorem dL_law_1960 : decode cL_law 1960 = .ok (.iconst 1, 1) := dk_4 (dk_at dksL_law_80 7 rfl rfl)
theorem dL_law_1961 : decode cL_law 1961 = .ok (.iadd, 1) := dk_96 (dk_at dksL_law_80 8 rfl rfl)
theorem dL_law_1962 : decode cL_law 1962 = .ok (.iaload, 1) := dk_46 (dk_at dksL_law_80 9 rfl rfl)
theorem dL_law_1963 : decode cL_law 1963 = .ok (.aload_n 0, 1) := dk_42 (dk_at dksL_law_80 10 rfl rfl)
theorem dL_law_1964 : decode cL_law 1964 = .ok (.iload 4, 2) := dk_21 4 (dk_at dksL_law_80 11 rfl rfl)
theorem dL_law_1966 : decode cL_law 1966 = .ok (.iconst 2, 1) := dk_5 (dk_at dksL_law_80 13 rfl rfl)
theorem dL_law_1967 : decode cL_law 1967 = .ok (.iadd, 1) := dk_96 (dk_at dksL_law_80 14 rfl rfl)
theorem dL_law_1968 : decode cL_law 1968 = .ok (.iaload, 1) := dk_46 (dk_at dksL_law_80 15 rfl rfl)
theorem dL_law_1969 : decode cL_law 1969 = .ok (.aload_n 0, 1) := dk_42 (dk_at dksL_law_80 16 rfl rfl)
theorem dL_law_1970 : decode cL_law 1970 = .ok (.iload 4, 2) := dk_21 4 (dk_at dksL_law_80 17 rfl rfl)
theorem dL_law_1972 : decode cL_law 1972 = .ok (.iconst 3, 1) := dk_6 (dk_at dksL_law_80 19 rfl rfl)
theorem dL_law_1973 : decode cL_law 1973 = .ok (.iadd, 1) := dk_96 (dk_at dksL_law_80 20 rfl rfl)
theorem dL_law_1974 : decode cL_law 1974 = .ok (.iaload, 1) := dk_46 (dk_at dksL_law_80 21 rfl rfl)
theorem dL_law_1975 : decode cL_law 1975 = .ok (.ifCond .eq 7, 3) := dk_153 0 7 (dk_at dksL_law_81 0 rfl rfl)
theorem dL_law_1978 : decode cL_law 1978 = .ok (.iconst 1, 1) := dk_4 (dk_at dksL_law_81 3 rfl rfl)
theorem dL_law_1979 : decode cL_law 1979 = .ok (.goto 4, 3) := dk_167 0 4 (dk_at dksL_law_81 4 rfl rfl)
theorem dL_law_1982 : decode cL_law 1982 = .ok (.iconst 0, 1) := dk_3 (dk_at dksL_law_81 7 rfl rfl)
theorem dL_law_1983 : decode cL_law 1983 = .ok (.aload_n 3, 1) := dk_45 (dk_at dksL_law_81 8 rfl rfl)
theorem dL_law_1984 : decode cL_law 1984 = .ok (.invokestatic 202, 3) := dk_184 0 202 (dk_at dksL_law_81 9 rfl rfl)
theorem dL_law_1987 : decode cL_law 1987 = .ok (.istore 5, 2) := dk_54 5 (dk_at dksL_law_81 12 rfl rfl)
theorem dL_law_1989 : decode cL_law 1989 = .ok (.aload_n 2, 1) := dk_44 (dk_at dksL_law_81 14 rfl rfl)
theorem dL_law_1990 : decode cL_law 1990 = .ok (.aload_n 0, 1) := dk_42 (dk_at dksL_law_81 15 rfl rfl)
theorem dL_law_1991 : decode cL_law 1991 = .ok (.iload 4, 2) := dk_21 4 (dk_at dksL_law_81 16 rfl rfl)
theorem dL_law_1993 : decode cL_law 1993 = .ok (.iconst 1, 1) := dk_4 (dk_at dksL_law_81 18 rfl rfl)
theorem dL_law_1994 : decode cL_law 1994 = .ok (.iadd, 1) := dk_96 (dk_at dksL_law_81 19 rfl rfl)
theorem dL_law_1995 : decode cL_law 1995 = .ok (.iaload, 1) := dk_46 (dk_at dksL_law_81 20 rfl rfl)
theorem dL_law_1996 : decode cL_law 1996 = .ok (.aload_n 0, 1) := dk_42 (dk_at dksL_law_81 21 rfl rfl)
theorem dL_law_1997 : decode cL_law 1997 = .ok (.iload 4, 2) := dk_21 4 (dk_at dksL_law_81 22 rfl rfl)
theorem dL_law_1999 : decode cL_law 1999 = .ok (.iconst 2, 1) := dk_5 (dk_at dksL_law_82 0 rfl rfl)
theorem dL_law_2000 : decode cL_law 2000 = .ok (.iadd, 1) := dk_96 (dk_at dksL_law_82 1 rfl rfl)
theorem dL_law_2001 : decode cL_law 2001 = .ok (.iaload, 1) := dk_46 (dk_at dksL_law_82 2 rfl rfl)
theorem dL_law_2002 : decode cL_law 2002 = .ok (.aload_n 0, 1) := dk_42 (dk_at dksL_law_82 3 rfl rfl)
theorem dL_law_2003 : decode cL_law 2003 = .ok (.iload 4, 2) := dk_21 4 (dk_at dksL_law_82 4 rfl rfl)
theorem dL_law_2005 : decode cL_law 2005 = .ok (.iconst 3, 1) := dk_6 (dk_at dksL_law_82 6 rfl rfl)
theorem dL_law_2006 : decode cL_law 2006 = .ok (.iadd, 1) := dk_96 (dk_at dksL_law_82 7 rfl rfl)
theorem dL_law_2007 : decode cL_law 2007 = .ok (.iaload, 1) := dk_46 (dk_at dksL_law_82 8 rfl rfl)
theorem dL_law_2008 : decode cL_law 2008 = .ok (.ifCond .eq 7, 3) := dk_153 0 7 (dk_at dksL_law_82 9 rfl rfl)
theorem dL_law_2011 : decode cL_law 2011 = .ok (.iconst 1, 1) := dk_4 (dk_at dksL_law_82 12 rfl rfl)
theorem dL_law_2012 : decode cL_law 2012 = .ok (.goto 4, 3) := dk_167 0 4 (dk_at dksL_law_82 13 rfl rfl)
theorem dL_law_2015 : decode cL_law 2015 = .ok (.iconst 0, 1) := dk_3 (dk_at dksL_law_82 16 rfl rfl)
theorem dL_law_2016 : decode cL_law 2016 = .ok (.invokevirtual 205, 3) := dk_182 0 205 (dk_at dksL_law_82 17 rfl rfl)
theorem dL_law_2019 : decode cL_law 2019 = .ok (.istore 6, 2) := dk_54 6 (dk_at dksL_law_82 20 rfl rfl)
theorem dL_law_2021 : decode cL_law 2021 = .ok (.aload_n 2, 1) := dk_44 (dk_at dksL_law_82 22 rfl rfl)
theorem dL_law_2022 : decode cL_law 2022 = .ok (.invokevirtual 120, 3) := dk_182 0 120 (dk_at dksL_law_83 0 rfl rfl)
theorem dL_law_2025 : decode cL_law 2025 = .ok (.iload 5, 2) := dk_21 5 (dk_at dksL_law_83 3 rfl rfl)
theorem dL_law_2027 : decode cL_law 2027 = .ok (.if_icmp .eq 5, 3) := dk_159 0 5 (dk_at dksL_law_83 5 rfl rfl)
theorem dL_law_2030 : decode cL_law 2030 = .ok (.iconst 0, 1) := dk_3 (dk_at dksL_law_83 8 rfl rfl)
theorem dL_law_2031 : decode cL_law 2031 = .ok (.ireturn, 1) := dk_172 (dk_at dksL_law_83 9 rfl rfl)
theorem dL_law_2032 : decode cL_law 2032 = .ok (.iload 5, 2) := dk_21 5 (dk_at dksL_law_83 10 rfl rfl)
theorem dL_law_2034 : decode cL_law 2034 = .ok (.ifCond .ne 16, 3) := dk_154 0 16 (dk_at dksL_law_83 12 rfl rfl)
theorem dL_law_2037 : decode cL_law 2037 = .ok (.aload_n 3, 1) := dk_45 (dk_at dksL_law_83 15 rfl rfl)
theorem dL_law_2038 : decode cL_law 2038 = .ok (.getfield 13, 3) := dk_180 0 13 (dk_at dksL_law_83 16 rfl rfl)
theorem dL_law_2041 : decode cL_law 2041 = .ok (.iload 6, 2) := dk_21 6 (dk_at dksL_law_83 19 rfl rfl)
theorem dL_law_2043 : decode cL_law 2043 = .ok (.i2l, 1) := dk_133 (dk_at dksL_law_83 21 rfl rfl)
theorem dL_law_2044 : decode cL_law 2044 = .ok (.lcmp, 1) := dk_148 (dk_at dksL_law_83 22 rfl rfl)
theorem dL_law_2045 : decode cL_law 2045 = .ok (.ifCond .eq 5, 3) := dk_153 0 5 (dk_at dksL_law_84 0 rfl rfl)
theorem dL_law_2048 : decode cL_law 2048 = .ok (.iconst 0, 1) := dk_3 (dk_at dksL_law_84 3 rfl rfl)
theorem dL_law_2049 : decode cL_law 2049 = .ok (.ireturn, 1) := dk_172 (dk_at dksL_law_84 4 rfl rfl)
theorem dL_law_2050 : decode cL_law 2050 = .ok (.goto 135, 3) := dk_167 0 135 (dk_at dksL_law_84 5 rfl rfl)
theorem dL_law_2053 : decode cL_law 2053 = .ok (.aload_n 1, 1) := dk_43 (dk_at dksL_law_84 8 rfl rfl)
theorem dL_law_2054 : decode cL_law 2054 = .ok (.aload_n 0, 1) := dk_42 (dk_at dksL_law_84 9 rfl rfl)
theorem dL_law_2055 : decode cL_law 2055 = .ok (.iload 4, 2) := dk_21 4 (dk_at dksL_law_84 10 rfl rfl)
theorem dL_law_2057 : decode cL_law 2057 = .ok (.iconst 1, 1) := dk_4 (dk_at dksL_law_84 12 rfl rfl)
theorem dL_law_2058 : decode cL_law 2058 = .ok (.iadd, 1) := dk_96 (dk_at dksL_law_84 13 rfl rfl)
theorem dL_law_2059 : decode cL_law 2059 = .ok (.iaload, 1) := dk_46 (dk_at dksL_law_84 14 rfl rfl)
theorem dL_law_2060 : decode cL_law 2060 = .ok (.aload_n 0, 1) := dk_42 (dk_at dksL_law_84 15 rfl rfl)
theorem dL_law_2061 : decode cL_law 2061 = .ok (.iload 4, 2) := dk_21 4 (dk_at dksL_law_84 16 rfl rfl)
theorem dL_law_2063 : decode cL_law 2063 = .ok (.iconst 2, 1) := dk_5 (dk_at dksL_law_84 18 rfl rfl)
theorem dL_law_2064 : decode cL_law 2064 = .ok (.iadd, 1) := dk_96 (dk_at dksL_law_84 19 rfl rfl)
theorem dL_law_2065 : decode cL_law 2065 = .ok (.iaload, 1) := dk_46 (dk_at dksL_law_84 20 rfl rfl)
theorem dL_law_2066 : decode cL_law 2066 = .ok (.aload_n 0, 1) := dk_42 (dk_at dksL_law_84 21 rfl rfl)
theorem dL_law_2067 : decode cL_law 2067 = .ok (.iload 4, 2) := dk_21 4 (dk_at dksL_law_84 22 rfl rfl)
theorem dL_law_2069 : decode cL_law 2069 = .ok (.iconst 3, 1) := dk_6 (dk_at dksL_law_85 0 rfl rfl)
theorem dL_law_2070 : decode cL_law 2070 = .ok (.iadd, 1) := dk_96 (dk_at dksL_law_85 1 rfl rfl)
theorem dL_law_2071 : decode cL_law 2071 = .ok (.iaload, 1) := dk_46 (dk_at dksL_law_85 2 rfl rfl)
theorem dL_law_2072 : decode cL_law 2072 = .ok (.aload_n 0, 1) := dk_42 (dk_at dksL_law_85 3 rfl rfl)
theorem dL_law_2073 : decode cL_law 2073 = .ok (.iload 4, 2) := dk_21 4 (dk_at dksL_law_85 4 rfl rfl)
theorem dL_law_2075 : decode cL_law 2075 = .ok (.iconst 4, 1) := dk_7 (dk_at dksL_law_85 6 rfl rfl)
theorem dL_law_2076 : decode cL_law 2076 = .ok (.iadd, 1) := dk_96 (dk_at dksL_law_85 7 rfl rfl)
theorem dL_law_2077 : decode cL_law 2077 = .ok (.iaload, 1) := dk_46 (dk_at dksL_law_85 8 rfl rfl)
theorem dL_law_2078 : decode cL_law 2078 = .ok (.aload_n 0, 1) := dk_42 (dk_at dksL_law_85 9 rfl rfl)
theorem dL_law_2079 : decode cL_law 2079 = .ok (.iload 4, 2) := dk_21 4 (dk_at dksL_law_85 10 rfl rfl)
theorem dL_law_2081 : decode cL_law 2081 = .ok (.iconst 5, 1) := dk_8 (dk_at dksL_law_85 12 rfl rfl)
theorem dL_law_2082 : decode cL_law 2082 = .ok (.iadd, 1) := dk_96 (dk_at dksL_law_85 13 rfl rfl)
theorem dL_law_2083 : decode cL_law 2083 = .ok (.iaload, 1) := dk_46 (dk_at dksL_law_85 14 rfl rfl)
theorem dL_law_2084 : decode cL_law 2084 = .ok (.aload_n 3, 1) := dk_45 (dk_at dksL_law_85 15 rfl rfl)
theorem dL_law_2085 : decode cL_law 2085 = .ok (.invokestatic 206, 3) := dk_184 0 206 (dk_at dksL_law_85 16 rfl rfl)
theorem dL_law_2088 : decode cL_law 2088 = .ok (.istore 5, 2) := dk_54 5 (dk_at dksL_law_85 19 rfl rfl)
theorem dL_law_2090 : decode cL_law 2090 = .ok (.aload_n 2, 1) := dk_44 (dk_at dksL_law_85 21 rfl rfl)
theorem dL_law_2091 : decode cL_law 2091 = .ok (.aload_n 0, 1) := dk_42 (dk_at dksL_law_85 22 rfl rfl)
theorem dL_law_2092 : decode cL_law 2092 = .ok (.iload 4, 2) := dk_21 4 (dk_at dksL_law_86 0 rfl rfl)
theorem dL_law_2094 : decode cL_law 2094 = .ok (.iconst 1, 1) := dk_4 (dk_at dksL_law_86 2 rfl rfl)
theorem dL_law_2095 : decode cL_law 2095 = .ok (.iadd, 1) := dk_96 (dk_at dksL_law_86 3 rfl rfl)
theorem dL_law_2096 : decode cL_law 2096 = .ok (.iaload, 1) := dk_46 (dk_at dksL_law_86 4 rfl rfl)
theorem dL_law_2097 : decode cL_law 2097 = .ok (.aload_n 0, 1) := dk_42 (dk_at dksL_law_86 5 rfl rfl)
theorem dL_law_2098 : decode cL_law 2098 = .ok (.iload 4, 2) := dk_21 4 (dk_at dksL_law_86 6 rfl rfl)
theorem dL_law_2100 : decode cL_law 2100 = .ok (.iconst 2, 1) := dk_5 (dk_at dksL_law_86 8 rfl rfl)
theorem dL_law_2101 : decode cL_law 2101 = .ok (.iadd, 1) := dk_96 (dk_at dksL_law_86 9 rfl rfl)
theorem dL_law_2102 : decode cL_law 2102 = .ok (.iaload, 1) := dk_46 (dk_at dksL_law_86 10 rfl rfl)
theorem dL_law_2103 : decode cL_law 2103 = .ok (.aload_n 0, 1) := dk_42 (dk_at dksL_law_86 11 rfl rfl)
theorem dL_law_2104 : decode cL_law 2104 = .ok (.iload 4, 2) := dk_21 4 (dk_at dksL_law_86 12 rfl rfl)
theorem dL_law_2106 : decode cL_law 2106 = .ok (.iconst 3, 1) := dk_6 (dk_at dksL_law_86 14 rfl rfl)
theorem dL_law_2107 : decode cL_law 2107 = .ok (.iadd, 1) := dk_96 (dk_at dksL_law_86 15 rfl rfl)
theorem dL_law_2108 : decode cL_law 2108 = .ok (.iaload, 1) := dk_46 (dk_at dksL_law_86 16 rfl rfl)
theorem dL_law_2109 : decode cL_law 2109 = .ok (.aload_n 0, 1) := dk_42 (dk_at dksL_law_86 17 rfl rfl)
theorem dL_law_2110 : decode cL_law 2110 = .ok (.iload 4, 2) := dk_21 4 (dk_at dksL_law_86 18 rfl rfl)
theorem dL_law_2112 : decode cL_law 2112 = .ok (.iconst 4, 1) := dk_7 (dk_at dksL_law_86 20 rfl rfl)
theorem dL_law_2113 : decode cL_law 2113 = .ok (.iadd, 1) := dk_96 (dk_at dksL_law_86 21 rfl rfl)
theorem dL_law_2114 : decode cL_law 2114 = .ok (.iaload, 1) := dk_46 (dk_at dksL_law_86 22 rfl rfl)
theorem dL_law_2115 : decode cL_law 2115 = .ok (.aload_n 0, 1) := dk_42 (dk_at dksL_law_86 23 rfl rfl)
theorem dL_law_2116 : decode cL_law 2116 = .ok (.iload 4, 2) := dk_21 4 (dk_at dksL_law_87 0 rfl rfl)
theorem dL_law_2118 : decode cL_law 2118 = .ok (.iconst 5, 1) := dk_8 (dk_at dksL_law_87 2 rfl rfl)
theorem dL_law_2119 : decode cL_law 2119 = .ok (.iadd, 1) := dk_96 (dk_at dksL_law_87 3 rfl rfl)
theorem dL_law_2120 : decode cL_law 2120 = .ok (.iaload, 1) := dk_46 (dk_at dksL_law_87 4 rfl rfl)
theorem dL_law_2121 : decode cL_law 2121 = .ok (.invokevirtual 208, 3) := dk_182 0 208 (dk_at dksL_law_87 5 rfl rfl)
theorem dL_law_2124 : decode cL_law 2124 = .ok (.istore 6, 2) := dk_54 6 (dk_at dksL_law_87 8 rfl rfl)
theorem dL_law_2126 : decode cL_law 2126 = .ok (.aload_n 2, 1) := dk_44 (dk_at dksL_law_87 10 rfl rfl)
theorem dL_law_2127 : decode cL_law 2127 = .ok (.invokevirtual 120, 3) := dk_182 0 120 (dk_at dksL_law_87 11 rfl rfl)
theorem dL_law_2130 : decode cL_law 2130 = .ok (.iload 5, 2) := dk_21 5 (dk_at dksL_law_87 14 rfl rfl)
theorem dL_law_2132 : decode cL_law 2132 = .ok (.if_icmp .eq 5, 3) := dk_159 0 5 (dk_at dksL_law_87 16 rfl rfl)
theorem dL_law_2135 : decode cL_law 2135 = .ok (.iconst 0, 1) := dk_3 (dk_at dksL_law_87 19 rfl rfl)
theorem dL_law_2136 : decode cL_law 2136 = .ok (.ireturn, 1) := dk_172 (dk_at dksL_law_87 20 rfl rfl)
theorem dL_law_2137 : decode cL_law 2137 = .ok (.iload 5, 2) := dk_21 5 (dk_at dksL_law_87 21 rfl rfl)
theorem dL_law_2139 : decode cL_law 2139 = .ok (.ifCond .ne 16, 3) := dk_154 0 16 (dk_at dksL_law_88 0 rfl rfl)
theorem dL_law_2142 : decode cL_law 2142 = .ok (.aload_n 3, 1) := dk_45 (dk_at dksL_law_88 3 rfl rfl)
theorem dL_law_2143 : decode cL_law 2143 = .ok (.getfield 13, 3) := dk_180 0 13 (dk_at dksL_law_88 4 rfl rfl)
theorem dL_law_2146 : decode cL_law 2146 = .ok (.iload 6, 2) := dk_21 6 (dk_at dksL_law_88 7 rfl rfl)
theorem dL_law_2148 : decode cL_law 2148 = .ok (.i2l, 1) := dk_133 (dk_at dksL_law_88 9 rfl rfl)
theorem dL_law_2149 : decode cL_law 2149 = .ok (.lcmp, 1) := dk_148 (dk_at dksL_law_88 10 rfl rfl)
theorem dL_law_2150 : decode cL_law 2150 = .ok (.ifCond .eq 5, 3) := dk_153 0 5 (dk_at dksL_law_88 11 rfl rfl)
theorem dL_law_2153 : decode cL_law 2153 = .ok (.iconst 0, 1) := dk_3 (dk_at dksL_law_88 14 rfl rfl)
theorem dL_law_2154 : decode cL_law 2154 = .ok (.ireturn, 1) := dk_172 (dk_at dksL_law_88 15 rfl rfl)
theorem dL_law_2155 : decode cL_law 2155 = .ok (.goto 30, 3) := dk_167 0 30 (dk_at dksL_law_88 16 rfl rfl)
theorem dL_law_2158 : decode cL_law 2158 = .ok (.aload_n 1, 1) := dk_43 (dk_at dksL_law_88 19 rfl rfl)
theorem dL_law_2159 : decode cL_law 2159 = .ok (.invokevirtual 209, 3) := dk_182 0 209 (dk_at dksL_law_88 20 rfl rfl)
theorem dL_law_2162 : decode cL_law 2162 = .ok (.aload_n 2, 1) := dk_44 (dk_at dksL_law_88 23 rfl rfl)
theorem dL_law_2163 : decode cL_law 2163 = .ok (.invokevirtual 213, 3) := dk_182 0 213 (dk_at dksL_law_89 0 rfl rfl)
theorem dL_law_2166 : decode cL_law 2166 = .ok (.if_icmp .eq 19, 3) := dk_159 0 19 (dk_at dksL_law_89 3 rfl rfl)
theorem dL_law_2169 : decode cL_law 2169 = .ok (.iconst 0, 1) := dk_3 (dk_at dksL_law_89 6 rfl rfl)
theorem dL_law_2170 : decode cL_law 2170 = .ok (.ireturn, 1) := dk_172 (dk_at dksL_law_89 7 rfl rfl)
theorem dL_law_2171 : decode cL_law 2171 = .ok (.aload_n 1, 1) := dk_43 (dk_at dksL_law_89 8 rfl rfl)
theorem dL_law_2172 : decode cL_law 2172 = .ok (.invokevirtual 214, 3) := dk_182 0 214 (dk_at dksL_law_89 9 rfl rfl)
theorem dL_law_2175 : decode cL_law 2175 = .ok (.aload_n 2, 1) := dk_44 (dk_at dksL_law_89 12 rfl rfl)
theorem dL_law_2176 : decode cL_law 2176 = .ok (.invokevirtual 218, 3) := dk_182 0 218 (dk_at dksL_law_89 13 rfl rfl)
theorem dL_law_2179 : decode cL_law 2179 = .ok (.lcmp, 1) := dk_148 (dk_at dksL_law_89 16 rfl rfl)
theorem dL_law_2180 : decode cL_law 2180 = .ok (.ifCond .eq 5, 3) := dk_153 0 5 (dk_at dksL_law_89 17 rfl rfl)
theorem dL_law_2183 : decode cL_law 2183 = .ok (.iconst 0, 1) := dk_3 (dk_at dksL_law_89 20 rfl rfl)
theorem dL_law_2184 : decode cL_law 2184 = .ok (.ireturn, 1) := dk_172 (dk_at dksL_law_89 21 rfl rfl)
theorem dL_law_2185 : decode cL_law 2185 = .ok (.iinc 4 7, 3) := dk_132 4 7 (dk_at dksL_law_90 0 rfl rfl)
theorem dL_law_2188 : decode cL_law 2188 = .ok (.goto (-2161), 3) := dk_167 247 143 (dk_at dksL_law_90 3 rfl rfl)
theorem dL_law_2191 : decode cL_law 2191 = .ok (.iconst 1, 1) := dk_4 (dk_at dksL_law_90 6 rfl rfl)
theorem dL_law_2192 : decode cL_law 2192 = .ok (.ireturn, 1) := dk_172 (dk_at dksL_law_90 7 rfl rfl)

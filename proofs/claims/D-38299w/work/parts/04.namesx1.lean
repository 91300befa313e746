/-! Rollover -/
set_option maxRecDepth 100000
def RX1 : String := "Rollover"
def TX1 : u_T := fun k => match k with
  | 0 => ("Rollover", "plans", "Ljava/util/List;", true)
  | 1 => ("Rollover", "customers", "Ljava/util/List;", true)
  | 2 => ("Rollover", "tickets", "Ljava/util/List;", true)
  | 3 => ("Rollover", "carriers", "Ljava/util/List;", true)
  | 4 => ("Rollover", "incoming", "[I", true)
  | 5 => ("Rollover", "portings", "I", false)
  | 6 => ("Rollover", "doubled", "I", false)
  | _ => ("Rollover", "today", "I", false)
def tyX1 : Nat → FieldType := fun k => match k with
  | 0 => .object "java/util/List"
  | 1 => .object "java/util/List"
  | 2 => .object "java/util/List"
  | 3 => .object "java/util/List"
  | 4 => .array .int
  | 5 => .int
  | 6 => .int
  | _ => .int
abbrev wsX10 : List Cond := u_ws RX1 TX1 8
theorem nmX1 : ∀ a, a < 8 → ∀ b, b < 8 → a ≠ b → (TX1 a).2.1 ≠ (TX1 b).2.1 := by decide +kernel
theorem tyX1_ok : ∀ k, k < 8 → parseFieldDescriptor (TX1 k).2.2.1 = some (tyX1 k) := by decide +kernel
abbrev cX1_init : ByteArray := prog_1_method_4_code
def yX1_init : MethodName := ⟨RX1, "<init>", "()V"⟩
def dkwX1_init_4 : List UInt8 := [132, 1, 1, 167, 255, 220, 177]
abbrev dktX1_init_4 : List UInt8 := dkwX1_init_4 ++ []
def dkwX1_init_3 : List UInt8 := [183, 0, 31, 77, 44, 3, 27, 7, 112, 182, 0, 32, 42, 180, 0, 22, 44, 185, 0, 36, 2, 0, 87]
abbrev dktX1_init_3 : List UInt8 := dkwX1_init_3 ++ dktX1_init_4
def dkwX1_init_2 : List UInt8 := [181, 0, 22, 42, 7, 188, 10, 181, 0, 25, 3, 60, 27, 16, 16, 162, 0, 36, 187, 0, 29, 89]
abbrev dktX1_init_2 : List UInt8 := dkwX1_init_2 ++ dktX1_init_3
def dkwX1_init_1 : List UInt8 := [181, 0, 16, 42, 187, 0, 7, 89, 183, 0, 9, 181, 0, 19, 42, 187, 0, 7, 89, 183, 0, 9]
abbrev dktX1_init_1 : List UInt8 := dkwX1_init_1 ++ dktX1_init_2
def dkwX1_init_0 : List UInt8 := [42, 183, 0, 1, 42, 187, 0, 7, 89, 183, 0, 9, 181, 0, 10, 42, 187, 0, 7, 89, 183, 0, 9]
abbrev dktX1_init_0 : List UInt8 := dkwX1_init_0 ++ dktX1_init_1
theorem dksX1_init_0 : cX1_init.data.toList.drop 0 = dktX1_init_0 := by decide +kernel
theorem dksX1_init_1 : cX1_init.data.toList.drop 23 = dktX1_init_1 := dk_seg dksX1_init_0 23 rfl rfl
theorem dksX1_init_2 : cX1_init.data.toList.drop 45 = dktX1_init_2 := dk_seg dksX1_init_1 22 rfl rfl
theorem dksX1_init_3 : cX1_init.data.toList.drop 67 = dktX1_init_3 := dk_seg dksX1_init_2 22 rfl rfl
theorem dksX1_init_4 : cX1_init.data.toList.drop 90 = dktX1_init_4 := dk_seg dksX1_init_3 23 rfl rfl
theorem dX1_init_0 : decode cX1_init 0 = .ok (.aload_n 0, 1) := dk_42 (dk_at dksX1_init_0 0 rfl rfl)
theorem dX1_init_1 : decode cX1_init 1 = .ok (.invokespecial 1, 3) := dk_183 0 1 (dk_at dksX1_init_0 1 rfl rfl)
theorem dX1_init_4 : decode cX1_init 4 = .ok (.aload_n 0, 1) := dk_42 (dk_at dksX1_init_0 4 rfl rfl)
theorem dX1_init_5 : decode cX1_init 5 = .ok (.new 7, 3) := dk_187 0 7 (dk_at dksX1_init_0 5 rfl rfl)
theorem dX1_init_8 : decode cX1_init 8 = .ok (.dup, 1) := dk_89 (dk_at dksX1_init_0 8 rfl rfl)
theorem dX1_init_9 : decode cX1_init 9 = .ok (.invokespecial 9, 3) := dk_183 0 9 (dk_at dksX1_init_0 9 rfl rfl)
theorem dX1_init_12 : decode cX1_init 12 = .ok (.putfield 10, 3) := dk_181 0 10 (dk_at dksX1_init_0 12 rfl rfl)
theorem dX1_init_15 : decode cX1_init 15 = .ok (.aload_n 0, 1) := dk_42 (dk_at dksX1_init_0 15 rfl rfl)
theorem dX1_init_16 : decode cX1_init 16 = .ok (.new 7, 3) := dk_187 0 7 (dk_at dksX1_init_0 16 rfl rfl)
theorem dX1_init_19 : decode cX1_init 19 = .ok (.dup, 1) := dk_89 (dk_at dksX1_init_0 19 rfl rfl)
theorem dX1_init_20 : decode cX1_init 20 = .ok (.invokespecial 9, 3) := dk_183 0 9 (dk_at dksX1_init_0 20 rfl rfl)
theorem dX1_init_23 : decode cX1_init 23 = .ok (.putfield 16, 3) := dk_181 0 16 (dk_at dksX1_init_1 0 rfl rfl)
theorem dX1_init_26 : decode cX1_init 26 = .ok (.aload_n 0, 1) := dk_42 (dk_at dksX1_init_1 3 rfl rfl)
theorem dX1_init_27 : decode cX1_init 27 = .ok (.new 7, 3) := dk_187 0 7 (dk_at dksX1_init_1 4 rfl rfl)
theorem dX1_init_30 : decode cX1_init 30 = .ok (.dup, 1) := dk_89 (dk_at dksX1_init_1 7 rfl rfl)
theorem dX1_init_31 : decode cX1_init 31 = .ok (.invokespecial 9, 3) := dk_183 0 9 (dk_at dksX1_init_1 8 rfl rfl)
theorem dX1_init_34 : decode cX1_init 34 = .ok (.putfield 19, 3) := dk_181 0 19 (dk_at dksX1_init_1 11 rfl rfl)
theorem dX1_init_37 : decode cX1_init 37 = .ok (.aload_n 0, 1) := dk_42 (dk_at dksX1_init_1 14 rfl rfl)
theorem dX1_init_38 : decode cX1_init 38 = .ok (.new 7, 3) := dk_187 0 7 (dk_at dksX1_init_1 15 rfl rfl)
theorem dX1_init_41 : decode cX1_init 41 = .ok (.dup, 1) := dk_89 (dk_at dksX1_init_1 18 rfl rfl)
theorem dX1_init_42 : decode cX1_init 42 = .ok (.invokespecial 9, 3) := dk_183 0 9 (dk_at dksX1_init_1 19 rfl rfl)
theorem dX1_init_45 : decode cX1_init 45 = .ok (.putfield 22, 3) := dk_181 0 22 (dk_at dksX1_init_2 0 rfl rfl)
theorem dX1_init_48 : decode cX1_init 48 = .ok (.aload_n 0, 1) := dk_42 (dk_at dksX1_init_2 3 rfl rfl)
theorem dX1_init_49 : decode cX1_init 49 = .ok (.iconst 4, 1) := dk_7 (dk_at dksX1_init_2 4 rfl rfl)
theorem dX1_init_50 : decode cX1_init 50 = .ok (.newarray .int, 2) := dk_188_10 (dk_at dksX1_init_2 5 rfl rfl)
theorem dX1_init_52 : decode cX1_init 52 = .ok (.putfield 25, 3) := dk_181 0 25 (dk_at dksX1_init_2 7 rfl rfl)
theorem dX1_init_55 : decode cX1_init 55 = .ok (.iconst 0, 1) := dk_3 (dk_at dksX1_init_2 10 rfl rfl)
theorem dX1_init_56 : decode cX1_init 56 = .ok (.istore_n 1, 1) := dk_60 (dk_at dksX1_init_2 11 rfl rfl)
theorem dX1_init_57 : decode cX1_init 57 = .ok (.iload_n 1, 1) := dk_27 (dk_at dksX1_init_2 12 rfl rfl)
theorem dX1_init_58 : decode cX1_init 58 = .ok (.bipush 16, 2) := dk_16 16 (dk_at dksX1_init_2 13 rfl rfl)
theorem dX1_init_60 : decode cX1_init 60 = .ok (.if_icmp .ge 36, 3) := dk_162 0 36 (dk_at dksX1_init_2 15 rfl rfl)
theorem dX1_init_63 : decode cX1_init 63 = .ok (.new 29, 3) := dk_187 0 29 (dk_at dksX1_init_2 18 rfl rfl)
theorem dX1_init_66 : decode cX1_init 66 = .ok (.dup, 1) := dk_89 (dk_at dksX1_init_2 21 rfl rfl)
theorem dX1_init_67 : decode cX1_init 67 = .ok (.invokespecial 31, 3) := dk_183 0 31 (dk_at dksX1_init_3 0 rfl rfl)
theorem dX1_init_70 : decode cX1_init 70 = .ok (.astore_n 2, 1) := dk_77 (dk_at dksX1_init_3 3 rfl rfl)
theorem dX1_init_71 : decode cX1_init 71 = .ok (.aload_n 2, 1) := dk_44 (dk_at dksX1_init_3 4 rfl rfl)
theorem dX1_init_72 : decode cX1_init 72 = .ok (.iconst 0, 1) := dk_3 (dk_at dksX1_init_3 5 rfl rfl)
theorem dX1_init_73 : decode cX1_init 73 = .ok (.iload_n 1, 1) := dk_27 (dk_at dksX1_init_3 6 rfl rfl)
theorem dX1_init_74 : decode cX1_init 74 = .ok (.iconst 4, 1) := dk_7 (dk_at dksX1_init_3 7 rfl rfl)
theorem dX1_init_75 : decode cX1_init 75 = .ok (.irem, 1) := dk_112 (dk_at dksX1_init_3 8 rfl rfl)
theorem dX1_init_76 : decode cX1_init 76 = .ok (.invokevirtual 32, 3) := dk_182 0 32 (dk_at dksX1_init_3 9 rfl rfl)
theorem dX1_init_79 : decode cX1_init 79 = .ok (.aload_n 0, 1) := dk_42 (dk_at dksX1_init_3 12 rfl rfl)
theorem dX1_init_80 : decode cX1_init 80 = .ok (.getfield 22, 3) := dk_180 0 22 (dk_at dksX1_init_3 13 rfl rfl)
theorem dX1_init_83 : decode cX1_init 83 = .ok (.aload_n 2, 1) := dk_44 (dk_at dksX1_init_3 16 rfl rfl)
theorem dX1_init_84 : decode cX1_init 84 = .ok (.invokeinterface 36 2, 5) := by decide +kernel
theorem dX1_init_89 : decode cX1_init 89 = .ok (.pop, 1) := dk_87 (dk_at dksX1_init_3 22 rfl rfl)
theorem dX1_init_90 : decode cX1_init 90 = .ok (.iinc 1 1, 3) := dk_132 1 1 (dk_at dksX1_init_4 0 rfl rfl)
theorem dX1_init_93 : decode cX1_init 93 = .ok (.goto (-36), 3) := dk_167 255 220 (dk_at dksX1_init_4 3 rfl rfl)
theorem dX1_init_96 : decode cX1_init 96 = .ok (.return_, 1) := dk_177 (dk_at dksX1_init_4 6 rfl rfl)
abbrev cX1_isSound : ByteArray := prog_1_method_66_code
def yX1_isSound : MethodName := ⟨RX1, "isSound", "()Z"⟩
def dkwX1_isSound_0 : List UInt8 := [42, 42, 182, 0, 200, 182, 1, 160, 172]
abbrev dktX1_isSound_0 : List UInt8 := dkwX1_isSound_0 ++ []
theorem dksX1_isSound_0 : cX1_isSound.data.toList.drop 0 = dktX1_isSound_0 := by decide +kernel
theorem dX1_isSound_0 : decode cX1_isSound 0 = .ok (.aload_n 0, 1) := dk_42 (dk_at dksX1_isSound_0 0 rfl rfl)
theorem dX1_isSound_1 : decode cX1_isSound 1 = .ok (.aload_n 0, 1) := dk_42 (dk_at dksX1_isSound_0 1 rfl rfl)
theorem dX1_isSound_2 : decode cX1_isSound 2 = .ok (.invokevirtual 200, 3) := dk_182 0 200 (dk_at dksX1_isSound_0 2 rfl rfl)
theorem dX1_isSound_5 : decode cX1_isSound 5 = .ok (.invokevirtual 416, 3) := dk_182 1 160 (dk_at dksX1_isSound_0 5 rfl rfl)
theorem dX1_isSound_8 : decode cX1_isSound 8 = .ok (.ireturn, 1) := dk_172 (dk_at dksX1_isSound_0 8 rfl rfl)
abbrev cX1_rating : ByteArray := prog_1_method_15_code
def yX1_rating : MethodName := ⟨RX1, "rating", "()LRollover$Rating;"⟩
def dkwX1_rating_0 : List UInt8 := [187, 0, 78, 89, 42, 42, 180, 0, 80, 2, 2, 183, 0, 84, 176]
abbrev dktX1_rating_0 : List UInt8 := dkwX1_rating_0 ++ []
theorem dksX1_rating_0 : cX1_rating.data.toList.drop 0 = dktX1_rating_0 := by decide +kernel
theorem dX1_rating_0 : decode cX1_rating 0 = .ok (.new 78, 3) := dk_187 0 78 (dk_at dksX1_rating_0 0 rfl rfl)
theorem dX1_rating_3 : decode cX1_rating 3 = .ok (.dup, 1) := dk_89 (dk_at dksX1_rating_0 3 rfl rfl)
theorem dX1_rating_4 : decode cX1_rating 4 = .ok (.aload_n 0, 1) := dk_42 (dk_at dksX1_rating_0 4 rfl rfl)
theorem dX1_rating_5 : decode cX1_rating 5 = .ok (.aload_n 0, 1) := dk_42 (dk_at dksX1_rating_0 5 rfl rfl)
theorem dX1_rating_6 : decode cX1_rating 6 = .ok (.getfield 80, 3) := dk_180 0 80 (dk_at dksX1_rating_0 6 rfl rfl)
theorem dX1_rating_9 : decode cX1_rating 9 = .ok (.iconst (-1), 1) := dk_2 (dk_at dksX1_rating_0 9 rfl rfl)
theorem dX1_rating_10 : decode cX1_rating 10 = .ok (.iconst (-1), 1) := dk_2 (dk_at dksX1_rating_0 10 rfl rfl)
theorem dX1_rating_11 : decode cX1_rating 11 = .ok (.invokespecial 84, 3) := dk_183 0 84 (dk_at dksX1_rating_0 11 rfl rfl)
theorem dX1_rating_14 : decode cX1_rating 14 = .ok (.areturn, 1) := dk_176 (dk_at dksX1_rating_0 14 rfl rfl)
abbrev cX1_inTime : ByteArray := prog_1_method_14_code
def yX1_inTime : MethodName := ⟨RX1, "inTime", "()[I"⟩
def dkwX1_inTime_3 : List UInt8 := [46, 79, 132, 3, 255, 167, 255, 202, 43, 29, 28, 79, 132, 2, 1, 167, 255, 184, 43, 176]
abbrev dktX1_inTime_3 : List UInt8 := dkwX1_inTime_3 ++ []
def dkwX1_inTime_2 : List UInt8 := [180, 0, 19, 28, 185, 0, 61, 2, 0, 192, 0, 69, 182, 0, 75, 164, 0, 17, 43, 29, 43, 29, 4, 100]
abbrev dktX1_inTime_2 : List UInt8 := dkwX1_inTime_2 ++ dktX1_inTime_3
def dkwX1_inTime_1 : List UInt8 := [158, 0, 56, 42, 180, 0, 19, 43, 29, 4, 100, 46, 185, 0, 61, 2, 0, 192, 0, 69, 182, 0, 75, 42]
abbrev dktX1_inTime_1 : List UInt8 := dkwX1_inTime_1 ++ dktX1_inTime_2
def dkwX1_inTime_0 : List UInt8 := [42, 180, 0, 19, 185, 0, 54, 1, 0, 188, 10, 76, 3, 61, 28, 43, 190, 162, 0, 72, 28, 62, 29]
abbrev dktX1_inTime_0 : List UInt8 := dkwX1_inTime_0 ++ dktX1_inTime_1
theorem dksX1_inTime_0 : cX1_inTime.data.toList.drop 0 = dktX1_inTime_0 := by decide +kernel
theorem dksX1_inTime_1 : cX1_inTime.data.toList.drop 23 = dktX1_inTime_1 := dk_seg dksX1_inTime_0 23 rfl rfl
theorem dksX1_inTime_2 : cX1_inTime.data.toList.drop 47 = dktX1_inTime_2 := dk_seg dksX1_inTime_1 24 rfl rfl
theorem dksX1_inTime_3 : cX1_inTime.data.toList.drop 71 = dktX1_inTime_3 := dk_seg dksX1_inTime_2 24 rfl rfl
theorem dX1_inTime_0 : decode cX1_inTime 0 = .ok (.aload_n 0, 1) := dk_42 (dk_at dksX1_inTime_0 0 rfl rfl)
theorem dX1_inTime_1 : decode cX1_inTime 1 = .ok (.getfield 19, 3) := dk_180 0 19 (dk_at dksX1_inTime_0 1 rfl rfl)
theorem dX1_inTime_4 : decode cX1_inTime 4 = .ok (.invokeinterface 54 1, 5) := by decide +kernel
theorem dX1_inTime_9 : decode cX1_inTime 9 = .ok (.newarray .int, 2) := dk_188_10 (dk_at dksX1_inTime_0 9 rfl rfl)
theorem dX1_inTime_11 : decode cX1_inTime 11 = .ok (.astore_n 1, 1) := dk_76 (dk_at dksX1_inTime_0 11 rfl rfl)
theorem dX1_inTime_12 : decode cX1_inTime 12 = .ok (.iconst 0, 1) := dk_3 (dk_at dksX1_inTime_0 12 rfl rfl)
theorem dX1_inTime_13 : decode cX1_inTime 13 = .ok (.istore_n 2, 1) := dk_61 (dk_at dksX1_inTime_0 13 rfl rfl)
theorem dX1_inTime_14 : decode cX1_inTime 14 = .ok (.iload_n 2, 1) := dk_28 (dk_at dksX1_inTime_0 14 rfl rfl)
theorem dX1_inTime_15 : decode cX1_inTime 15 = .ok (.aload_n 1, 1) := dk_43 (dk_at dksX1_inTime_0 15 rfl rfl)
theorem dX1_inTime_16 : decode cX1_inTime 16 = .ok (.arraylength, 1) := dk_190 (dk_at dksX1_inTime_0 16 rfl rfl)
theorem dX1_inTime_17 : decode cX1_inTime 17 = .ok (.if_icmp .ge 72, 3) := dk_162 0 72 (dk_at dksX1_inTime_0 17 rfl rfl)
theorem dX1_inTime_20 : decode cX1_inTime 20 = .ok (.iload_n 2, 1) := dk_28 (dk_at dksX1_inTime_0 20 rfl rfl)
theorem dX1_inTime_21 : decode cX1_inTime 21 = .ok (.istore_n 3, 1) := dk_62 (dk_at dksX1_inTime_0 21 rfl rfl)
theorem dX1_inTime_22 : decode cX1_inTime 22 = .ok (.iload_n 3, 1) := dk_29 (dk_at dksX1_inTime_0 22 rfl rfl)
theorem dX1_inTime_23 : decode cX1_inTime 23 = .ok (.ifCond .le 56, 3) := dk_158 0 56 (dk_at dksX1_inTime_1 0 rfl rfl)
theorem dX1_inTime_26 : decode cX1_inTime 26 = .ok (.aload_n 0, 1) := dk_42 (dk_at dksX1_inTime_1 3 rfl rfl)
theorem dX1_inTime_27 : decode cX1_inTime 27 = .ok (.getfield 19, 3) := dk_180 0 19 (dk_at dksX1_inTime_1 4 rfl rfl)
theorem dX1_inTime_30 : decode cX1_inTime 30 = .ok (.aload_n 1, 1) := dk_43 (dk_at dksX1_inTime_1 7 rfl rfl)
theorem dX1_inTime_31 : decode cX1_inTime 31 = .ok (.iload_n 3, 1) := dk_29 (dk_at dksX1_inTime_1 8 rfl rfl)
theorem dX1_inTime_32 : decode cX1_inTime 32 = .ok (.iconst 1, 1) := dk_4 (dk_at dksX1_inTime_1 9 rfl rfl)
theorem dX1_inTime_33 : decode cX1_inTime 33 = .ok (.isub, 1) := dk_100 (dk_at dksX1_inTime_1 10 rfl rfl)
theorem dX1_inTime_34 : decode cX1_inTime 34 = .ok (.iaload, 1) := dk_46 (dk_at dksX1_inTime_1 11 rfl rfl)
theorem dX1_inTime_35 : decode cX1_inTime 35 = .ok (.invokeinterface 61 2, 5) := by decide +kernel
theorem dX1_inTime_40 : decode cX1_inTime 40 = .ok (.checkcast 69, 3) := dk_192 0 69 (dk_at dksX1_inTime_1 17 rfl rfl)
theorem dX1_inTime_43 : decode cX1_inTime 43 = .ok (.invokevirtual 75, 3) := dk_182 0 75 (dk_at dksX1_inTime_1 20 rfl rfl)
theorem dX1_inTime_46 : decode cX1_inTime 46 = .ok (.aload_n 0, 1) := dk_42 (dk_at dksX1_inTime_1 23 rfl rfl)
theorem dX1_inTime_47 : decode cX1_inTime 47 = .ok (.getfield 19, 3) := dk_180 0 19 (dk_at dksX1_inTime_2 0 rfl rfl)
theorem dX1_inTime_50 : decode cX1_inTime 50 = .ok (.iload_n 2, 1) := dk_28 (dk_at dksX1_inTime_2 3 rfl rfl)
theorem dX1_inTime_51 : decode cX1_inTime 51 = .ok (.invokeinterface 61 2, 5) := by decide +kernel
theorem dX1_inTime_56 : decode cX1_inTime 56 = .ok (.checkcast 69, 3) := dk_192 0 69 (dk_at dksX1_inTime_2 9 rfl rfl)
theorem dX1_inTime_59 : decode cX1_inTime 59 = .ok (.invokevirtual 75, 3) := dk_182 0 75 (dk_at dksX1_inTime_2 12 rfl rfl)
theorem dX1_inTime_62 : decode cX1_inTime 62 = .ok (.if_icmp .le 17, 3) := dk_164 0 17 (dk_at dksX1_inTime_2 15 rfl rfl)
theorem dX1_inTime_65 : decode cX1_inTime 65 = .ok (.aload_n 1, 1) := dk_43 (dk_at dksX1_inTime_2 18 rfl rfl)
theorem dX1_inTime_66 : decode cX1_inTime 66 = .ok (.iload_n 3, 1) := dk_29 (dk_at dksX1_inTime_2 19 rfl rfl)
theorem dX1_inTime_67 : decode cX1_inTime 67 = .ok (.aload_n 1, 1) := dk_43 (dk_at dksX1_inTime_2 20 rfl rfl)
theorem dX1_inTime_68 : decode cX1_inTime 68 = .ok (.iload_n 3, 1) := dk_29 (dk_at dksX1_inTime_2 21 rfl rfl)
theorem dX1_inTime_69 : decode cX1_inTime 69 = .ok (.iconst 1, 1) := dk_4 (dk_at dksX1_inTime_2 22 rfl rfl)
theorem dX1_inTime_70 : decode cX1_inTime 70 = .ok (.isub, 1) := dk_100 (dk_at dksX1_inTime_2 23 rfl rfl)
theorem dX1_inTime_71 : decode cX1_inTime 71 = .ok (.iaload, 1) := dk_46 (dk_at dksX1_inTime_3 0 rfl rfl)
theorem dX1_inTime_72 : decode cX1_inTime 72 = .ok (.iastore, 1) := dk_79 (dk_at dksX1_inTime_3 1 rfl rfl)
theorem dX1_inTime_73 : decode cX1_inTime 73 = .ok (.iinc 3 (-1), 3) := dk_132 3 255 (dk_at dksX1_inTime_3 2 rfl rfl)
theorem dX1_inTime_76 : decode cX1_inTime 76 = .ok (.goto (-54), 3) := dk_167 255 202 (dk_at dksX1_inTime_3 5 rfl rfl)
theorem dX1_inTime_79 : decode cX1_inTime 79 = .ok (.aload_n 1, 1) := dk_43 (dk_at dksX1_inTime_3 8 rfl rfl)
theorem dX1_inTime_80 : decode cX1_inTime 80 = .ok (.iload_n 3, 1) := dk_29 (dk_at dksX1_inTime_3 9 rfl rfl)
theorem dX1_inTime_81 : decode cX1_inTime 81 = .ok (.iload_n 2, 1) := dk_28 (dk_at dksX1_inTime_3 10 rfl rfl)
theorem dX1_inTime_82 : decode cX1_inTime 82 = .ok (.iastore, 1) := dk_79 (dk_at dksX1_inTime_3 11 rfl rfl)
theorem dX1_inTime_83 : decode cX1_inTime 83 = .ok (.iinc 2 1, 3) := dk_132 2 1 (dk_at dksX1_inTime_3 12 rfl rfl)
theorem dX1_inTime_86 : decode cX1_inTime 86 = .ok (.goto (-72), 3) := dk_167 255 184 (dk_at dksX1_inTime_3 15 rfl rfl)
theorem dX1_inTime_89 : decode cX1_inTime 89 = .ok (.aload_n 1, 1) := dk_43 (dk_at dksX1_inTime_3 18 rfl rfl)
theorem dX1_inTime_90 : decode cX1_inTime 90 = .ok (.areturn, 1) := dk_176 (dk_at dksX1_inTime_3 19 rfl rfl)
abbrev cX1_has : ByteArray := prog_1_method_1_code
def yX1_has : MethodName := ⟨RX1, "has", "(II)Z"⟩
def dkwX1_has_0 : List UInt8 := [26, 27, 122, 4, 126, 4, 160, 0, 7, 4, 167, 0, 4, 3, 172]
abbrev dktX1_has_0 : List UInt8 := dkwX1_has_0 ++ []
theorem dksX1_has_0 : cX1_has.data.toList.drop 0 = dktX1_has_0 := by decide +kernel
theorem dX1_has_0 : decode cX1_has 0 = .ok (.iload_n 0, 1) := dk_26 (dk_at dksX1_has_0 0 rfl rfl)
theorem dX1_has_1 : decode cX1_has 1 = .ok (.iload_n 1, 1) := dk_27 (dk_at dksX1_has_0 1 rfl rfl)
theorem dX1_has_2 : decode cX1_has 2 = .ok (.ishr, 1) := dk_122 (dk_at dksX1_has_0 2 rfl rfl)
theorem dX1_has_3 : decode cX1_has 3 = .ok (.iconst 1, 1) := dk_4 (dk_at dksX1_has_0 3 rfl rfl)
theorem dX1_has_4 : decode cX1_has 4 = .ok (.iand, 1) := dk_126 (dk_at dksX1_has_0 4 rfl rfl)
theorem dX1_has_5 : decode cX1_has 5 = .ok (.iconst 1, 1) := dk_4 (dk_at dksX1_has_0 5 rfl rfl)
theorem dX1_has_6 : decode cX1_has 6 = .ok (.if_icmp .ne 7, 3) := dk_160 0 7 (dk_at dksX1_has_0 6 rfl rfl)
theorem dX1_has_9 : decode cX1_has 9 = .ok (.iconst 1, 1) := dk_4 (dk_at dksX1_has_0 9 rfl rfl)
theorem dX1_has_10 : decode cX1_has 10 = .ok (.goto 4, 3) := dk_167 0 4 (dk_at dksX1_has_0 10 rfl rfl)
theorem dX1_has_13 : decode cX1_has 13 = .ok (.iconst 0, 1) := dk_3 (dk_at dksX1_has_0 13 rfl rfl)
theorem dX1_has_14 : decode cX1_has 14 = .ok (.ireturn, 1) := dk_172 (dk_at dksX1_has_0 14 rfl rfl)
abbrev cX1_up : ByteArray := prog_1_method_3_code
def yX1_up : MethodName := ⟨RX1, "up", "(II)I"⟩
def dkwX1_up_0 : List UInt8 := [26, 27, 96, 4, 100, 27, 108, 172]
abbrev dktX1_up_0 : List UInt8 := dkwX1_up_0 ++ []
theorem dksX1_up_0 : cX1_up.data.toList.drop 0 = dktX1_up_0 := by decide +kernel
theorem dX1_up_0 : decode cX1_up 0 = .ok (.iload_n 0, 1) := dk_26 (dk_at dksX1_up_0 0 rfl rfl)
theorem dX1_up_1 : decode cX1_up 1 = .ok (.iload_n 1, 1) := dk_27 (dk_at dksX1_up_0 1 rfl rfl)
theorem dX1_up_2 : decode cX1_up 2 = .ok (.iadd, 1) := dk_96 (dk_at dksX1_up_0 2 rfl rfl)
theorem dX1_up_3 : decode cX1_up 3 = .ok (.iconst 1, 1) := dk_4 (dk_at dksX1_up_0 3 rfl rfl)
theorem dX1_up_4 : decode cX1_up 4 = .ok (.isub, 1) := dk_100 (dk_at dksX1_up_0 4 rfl rfl)
theorem dX1_up_5 : decode cX1_up 5 = .ok (.iload_n 1, 1) := dk_27 (dk_at dksX1_up_0 5 rfl rfl)
theorem dX1_up_6 : decode cX1_up 6 = .ok (.idiv, 1) := dk_108 (dk_at dksX1_up_0 6 rfl rfl)
theorem dX1_up_7 : decode cX1_up 7 = .ok (.ireturn, 1) := dk_172 (dk_at dksX1_up_0 7 rfl rfl)
abbrev cX1_isSoundNow : ByteArray := prog_1_method_65_code
def yX1_isSoundNow : MethodName := ⟨RX1, "isSoundNow", "(LRollover$Rating;)Z"⟩
def dkwX1_isSoundNow_4 : List UInt8 := [172]
abbrev dktX1_isSoundNow_4 : List UInt8 := dkwX1_isSoundNow_4 ++ []
def dkwX1_isSoundNow_3 : List UInt8 := [192, 0, 67, 180, 0, 137, 2, 160, 0, 7, 4, 167, 0, 4, 3, 126, 61, 132, 3, 1, 167, 255, 187, 28]
abbrev dktX1_isSoundNow_3 : List UInt8 := dkwX1_isSoundNow_3 ++ dktX1_isSoundNow_4
def dkwX1_isSoundNow_2 : List UInt8 := [180, 0, 137, 54, 4, 28, 21, 4, 2, 159, 0, 24, 42, 180, 0, 16, 21, 4, 185, 0, 61, 2, 0]
abbrev dktX1_isSoundNow_2 : List UInt8 := dkwX1_isSoundNow_2 ++ dktX1_isSoundNow_3
def dkwX1_isSoundNow_1 : List UInt8 := [180, 0, 16, 185, 0, 54, 1, 0, 162, 0, 62, 42, 180, 0, 16, 29, 185, 0, 61, 2, 0, 192, 0, 67]
abbrev dktX1_isSoundNow_1 : List UInt8 := dkwX1_isSoundNow_1 ++ dktX1_isSoundNow_2
def dkwX1_isSoundNow_0 : List UInt8 := [43, 180, 1, 154, 153, 0, 14, 43, 182, 1, 157, 153, 0, 7, 4, 167, 0, 4, 3, 61, 3, 62, 29, 42]
abbrev dktX1_isSoundNow_0 : List UInt8 := dkwX1_isSoundNow_0 ++ dktX1_isSoundNow_1
theorem dksX1_isSoundNow_0 : cX1_isSoundNow.data.toList.drop 0 = dktX1_isSoundNow_0 := by decide +kernel
theorem dksX1_isSoundNow_1 : cX1_isSoundNow.data.toList.drop 24 = dktX1_isSoundNow_1 := dk_seg dksX1_isSoundNow_0 24 rfl rfl
theorem dksX1_isSoundNow_2 : cX1_isSoundNow.data.toList.drop 48 = dktX1_isSoundNow_2 := dk_seg dksX1_isSoundNow_1 24 rfl rfl
theorem dksX1_isSoundNow_3 : cX1_isSoundNow.data.toList.drop 71 = dktX1_isSoundNow_3 := dk_seg dksX1_isSoundNow_2 23 rfl rfl
theorem dksX1_isSoundNow_4 : cX1_isSoundNow.data.toList.drop 95 = dktX1_isSoundNow_4 := dk_seg dksX1_isSoundNow_3 24 rfl rfl
theorem dX1_isSoundNow_0 : decode cX1_isSoundNow 0 = .ok (.aload_n 1, 1) := dk_43 (dk_at dksX1_isSoundNow_0 0 rfl rfl)
theorem dX1_isSoundNow_1 : decode cX1_isSoundNow 1 = .ok (.getfield 410, 3) := dk_180 1 154 (dk_at dksX1_isSoundNow_0 1 rfl rfl)
theorem dX1_isSoundNow_4 : decode cX1_isSoundNow 4 = .ok (.ifCond .eq 14, 3) := dk_153 0 14 (dk_at dksX1_isSoundNow_0 4 rfl rfl)
theorem dX1_isSoundNow_7 : decode cX1_isSoundNow 7 = .ok (.aload_n 1, 1) := dk_43 (dk_at dksX1_isSoundNow_0 7 rfl rfl)
theorem dX1_isSoundNow_8 : decode cX1_isSoundNow 8 = .ok (.invokevirtual 413, 3) := dk_182 1 157 (dk_at dksX1_isSoundNow_0 8 rfl rfl)
theorem dX1_isSoundNow_11 : decode cX1_isSoundNow 11 = .ok (.ifCond .eq 7, 3) := dk_153 0 7 (dk_at dksX1_isSoundNow_0 11 rfl rfl)
theorem dX1_isSoundNow_14 : decode cX1_isSoundNow 14 = .ok (.iconst 1, 1) := dk_4 (dk_at dksX1_isSoundNow_0 14 rfl rfl)
theorem dX1_isSoundNow_15 : decode cX1_isSoundNow 15 = .ok (.goto 4, 3) := dk_167 0 4 (dk_at dksX1_isSoundNow_0 15 rfl rfl)
theorem dX1_isSoundNow_18 : decode cX1_isSoundNow 18 = .ok (.iconst 0, 1) := dk_3 (dk_at dksX1_isSoundNow_0 18 rfl rfl)
theorem dX1_isSoundNow_19 : decode cX1_isSoundNow 19 = .ok (.istore_n 2, 1) := dk_61 (dk_at dksX1_isSoundNow_0 19 rfl rfl)
theorem dX1_isSoundNow_20 : decode cX1_isSoundNow 20 = .ok (.iconst 0, 1) := dk_3 (dk_at dksX1_isSoundNow_0 20 rfl rfl)
theorem dX1_isSoundNow_21 : decode cX1_isSoundNow 21 = .ok (.istore_n 3, 1) := dk_62 (dk_at dksX1_isSoundNow_0 21 rfl rfl)
theorem dX1_isSoundNow_22 : decode cX1_isSoundNow 22 = .ok (.iload_n 3, 1) := dk_29 (dk_at dksX1_isSoundNow_0 22 rfl rfl)
theorem dX1_isSoundNow_23 : decode cX1_isSoundNow 23 = .ok (.aload_n 0, 1) := dk_42 (dk_at dksX1_isSoundNow_0 23 rfl rfl)
theorem dX1_isSoundNow_24 : decode cX1_isSoundNow 24 = .ok (.getfield 16, 3) := dk_180 0 16 (dk_at dksX1_isSoundNow_1 0 rfl rfl)
theorem dX1_isSoundNow_27 : decode cX1_isSoundNow 27 = .ok (.invokeinterface 54 1, 5) := by decide +kernel
theorem dX1_isSoundNow_32 : decode cX1_isSoundNow 32 = .ok (.if_icmp .ge 62, 3) := dk_162 0 62 (dk_at dksX1_isSoundNow_1 8 rfl rfl)
theorem dX1_isSoundNow_35 : decode cX1_isSoundNow 35 = .ok (.aload_n 0, 1) := dk_42 (dk_at dksX1_isSoundNow_1 11 rfl rfl)
theorem dX1_isSoundNow_36 : decode cX1_isSoundNow 36 = .ok (.getfield 16, 3) := dk_180 0 16 (dk_at dksX1_isSoundNow_1 12 rfl rfl)
theorem dX1_isSoundNow_39 : decode cX1_isSoundNow 39 = .ok (.iload_n 3, 1) := dk_29 (dk_at dksX1_isSoundNow_1 15 rfl rfl)
theorem dX1_isSoundNow_40 : decode cX1_isSoundNow 40 = .ok (.invokeinterface 61 2, 5) := by decide +kernel
theorem dX1_isSoundNow_45 : decode cX1_isSoundNow 45 = .ok (.checkcast 67, 3) := dk_192 0 67 (dk_at dksX1_isSoundNow_1 21 rfl rfl)
theorem dX1_isSoundNow_48 : decode cX1_isSoundNow 48 = .ok (.getfield 137, 3) := dk_180 0 137 (dk_at dksX1_isSoundNow_2 0 rfl rfl)
theorem dX1_isSoundNow_51 : decode cX1_isSoundNow 51 = .ok (.istore 4, 2) := dk_54 4 (dk_at dksX1_isSoundNow_2 3 rfl rfl)
theorem dX1_isSoundNow_53 : decode cX1_isSoundNow 53 = .ok (.iload_n 2, 1) := dk_28 (dk_at dksX1_isSoundNow_2 5 rfl rfl)
theorem dX1_isSoundNow_54 : decode cX1_isSoundNow 54 = .ok (.iload 4, 2) := dk_21 4 (dk_at dksX1_isSoundNow_2 6 rfl rfl)
theorem dX1_isSoundNow_56 : decode cX1_isSoundNow 56 = .ok (.iconst (-1), 1) := dk_2 (dk_at dksX1_isSoundNow_2 8 rfl rfl)
theorem dX1_isSoundNow_57 : decode cX1_isSoundNow 57 = .ok (.if_icmp .eq 24, 3) := dk_159 0 24 (dk_at dksX1_isSoundNow_2 9 rfl rfl)
theorem dX1_isSoundNow_60 : decode cX1_isSoundNow 60 = .ok (.aload_n 0, 1) := dk_42 (dk_at dksX1_isSoundNow_2 12 rfl rfl)
theorem dX1_isSoundNow_61 : decode cX1_isSoundNow 61 = .ok (.getfield 16, 3) := dk_180 0 16 (dk_at dksX1_isSoundNow_2 13 rfl rfl)
theorem dX1_isSoundNow_64 : decode cX1_isSoundNow 64 = .ok (.iload 4, 2) := dk_21 4 (dk_at dksX1_isSoundNow_2 16 rfl rfl)
theorem dX1_isSoundNow_66 : decode cX1_isSoundNow 66 = .ok (.invokeinterface 61 2, 5) := by decide +kernel
theorem dX1_isSoundNow_71 : decode cX1_isSoundNow 71 = .ok (.checkcast 67, 3) := dk_192 0 67 (dk_at dksX1_isSoundNow_3 0 rfl rfl)
theorem dX1_isSoundNow_74 : decode cX1_isSoundNow 74 = .ok (.getfield 137, 3) := dk_180 0 137 (dk_at dksX1_isSoundNow_3 3 rfl rfl)
theorem dX1_isSoundNow_77 : decode cX1_isSoundNow 77 = .ok (.iconst (-1), 1) := dk_2 (dk_at dksX1_isSoundNow_3 6 rfl rfl)
theorem dX1_isSoundNow_78 : decode cX1_isSoundNow 78 = .ok (.if_icmp .ne 7, 3) := dk_160 0 7 (dk_at dksX1_isSoundNow_3 7 rfl rfl)
theorem dX1_isSoundNow_81 : decode cX1_isSoundNow 81 = .ok (.iconst 1, 1) := dk_4 (dk_at dksX1_isSoundNow_3 10 rfl rfl)
theorem dX1_isSoundNow_82 : decode cX1_isSoundNow 82 = .ok (.goto 4, 3) := dk_167 0 4 (dk_at dksX1_isSoundNow_3 11 rfl rfl)
theorem dX1_isSoundNow_85 : decode cX1_isSoundNow 85 = .ok (.iconst 0, 1) := dk_3 (dk_at dksX1_isSoundNow_3 14 rfl rfl)
theorem dX1_isSoundNow_86 : decode cX1_isSoundNow 86 = .ok (.iand, 1) := dk_126 (dk_at dksX1_isSoundNow_3 15 rfl rfl)
theorem dX1_isSoundNow_87 : decode cX1_isSoundNow 87 = .ok (.istore_n 2, 1) := dk_61 (dk_at dksX1_isSoundNow_3 16 rfl rfl)
theorem dX1_isSoundNow_88 : decode cX1_isSoundNow 88 = .ok (.iinc 3 1, 3) := dk_132 3 1 (dk_at dksX1_isSoundNow_3 17 rfl rfl)
theorem dX1_isSoundNow_91 : decode cX1_isSoundNow 91 = .ok (.goto (-69), 3) := dk_167 255 187 (dk_at dksX1_isSoundNow_3 20 rfl rfl)
theorem dX1_isSoundNow_94 : decode cX1_isSoundNow 94 = .ok (.iload_n 2, 1) := dk_28 (dk_at dksX1_isSoundNow_3 23 rfl rfl)
theorem dX1_isSoundNow_95 : decode cX1_isSoundNow 95 = .ok (.ireturn, 1) := dk_172 (dk_at dksX1_isSoundNow_4 0 rfl rfl)
abbrev cX1_digest : ByteArray := prog_1_method_68_code
def yX1_digest : MethodName := ⟨RX1, "digest", "()J"⟩
def dkwX1_digest_9 : List UInt8 := [180, 1, 174, 173]
abbrev dktX1_digest_9 : List UInt8 := dkwX1_digest_9 ++ []
def dkwX1_digest_8 : List UInt8 := [132, 3, 1, 167, 255, 238, 43, 42, 44, 182, 1, 160, 153, 0, 7, 10, 167, 0, 4, 9, 182, 1, 164, 43]
abbrev dktX1_digest_8 : List UInt8 := dkwX1_digest_8 ++ dktX1_digest_9
def dkwX1_digest_7 : List UInt8 := [132, 3, 1, 167, 255, 222, 4, 62, 29, 7, 162, 0, 19, 43, 42, 29, 182, 0, 235, 133, 182, 1, 164]
abbrev dktX1_digest_7 : List UInt8 := dkwX1_digest_7 ++ dktX1_digest_8
def dkwX1_digest_6 : List UInt8 := [42, 180, 0, 22, 29, 185, 0, 61, 2, 0, 192, 0, 29, 42, 180, 0, 80, 182, 0, 127, 133, 182, 1, 164]
abbrev dktX1_digest_6 : List UInt8 := dkwX1_digest_6 ++ dktX1_digest_7
def dkwX1_digest_5 : List UInt8 := [182, 1, 164, 132, 4, 1, 167, 255, 233, 132, 3, 1, 167, 255, 211, 3, 62, 29, 16, 16, 162, 0, 34, 43]
abbrev dktX1_digest_5 : List UInt8 := dkwX1_digest_5 ++ dktX1_digest_6
def dkwX1_digest_4 : List UInt8 := [162, 0, 38, 8, 54, 4, 21, 4, 16, 10, 163, 0, 22, 43, 42, 29, 44, 21, 4, 182, 1, 70, 133]
abbrev dktX1_digest_4 : List UInt8 := dkwX1_digest_4 ++ dktX1_digest_5
def dkwX1_digest_3 : List UInt8 := [29, 182, 1, 170, 132, 3, 1, 167, 255, 233, 3, 62, 29, 42, 180, 0, 19, 185, 0, 54, 1, 0]
abbrev dktX1_digest_3 : List UInt8 := dkwX1_digest_3 ++ dktX1_digest_4
def dkwX1_digest_2 : List UInt8 := [132, 3, 1, 167, 255, 223, 3, 62, 29, 42, 180, 0, 16, 185, 0, 54, 1, 0, 162, 0, 16, 42, 43, 44]
abbrev dktX1_digest_2 : List UInt8 := dkwX1_digest_2 ++ dktX1_digest_3
def dkwX1_digest_1 : List UInt8 := [16, 6, 160, 0, 11, 44, 182, 0, 220, 133, 167, 0, 9, 42, 29, 182, 1, 100, 133, 182, 1, 164]
abbrev dktX1_digest_1 : List UInt8 := dkwX1_digest_1 ++ dktX1_digest_2
def dkwX1_digest_0 : List UInt8 := [187, 1, 165, 89, 183, 1, 169, 76, 42, 182, 0, 200, 77, 3, 62, 29, 16, 9, 163, 0, 33, 43, 29]
abbrev dktX1_digest_0 : List UInt8 := dkwX1_digest_0 ++ dktX1_digest_1
theorem dksX1_digest_0 : cX1_digest.data.toList.drop 0 = dktX1_digest_0 := by decide +kernel
theorem dksX1_digest_1 : cX1_digest.data.toList.drop 23 = dktX1_digest_1 := dk_seg dksX1_digest_0 23 rfl rfl
theorem dksX1_digest_2 : cX1_digest.data.toList.drop 45 = dktX1_digest_2 := dk_seg dksX1_digest_1 22 rfl rfl
theorem dksX1_digest_3 : cX1_digest.data.toList.drop 69 = dktX1_digest_3 := dk_seg dksX1_digest_2 24 rfl rfl
theorem dksX1_digest_4 : cX1_digest.data.toList.drop 91 = dktX1_digest_4 := dk_seg dksX1_digest_3 22 rfl rfl
theorem dksX1_digest_5 : cX1_digest.data.toList.drop 114 = dktX1_digest_5 := dk_seg dksX1_digest_4 23 rfl rfl
theorem dksX1_digest_6 : cX1_digest.data.toList.drop 138 = dktX1_digest_6 := dk_seg dksX1_digest_5 24 rfl rfl
theorem dksX1_digest_7 : cX1_digest.data.toList.drop 162 = dktX1_digest_7 := dk_seg dksX1_digest_6 24 rfl rfl
theorem dksX1_digest_8 : cX1_digest.data.toList.drop 185 = dktX1_digest_8 := dk_seg dksX1_digest_7 23 rfl rfl
theorem dksX1_digest_9 : cX1_digest.data.toList.drop 209 = dktX1_digest_9 := dk_seg dksX1_digest_8 24 rfl rfl
theorem dX1_digest_0 : decode cX1_digest 0 = .ok (.new 421, 3) := dk_187 1 165 (dk_at dksX1_digest_0 0 rfl rfl)
theorem dX1_digest_3 : decode cX1_digest 3 = .ok (.dup, 1) := dk_89 (dk_at dksX1_digest_0 3 rfl rfl)
theorem dX1_digest_4 : decode cX1_digest 4 = .ok (.invokespecial 425, 3) := dk_183 1 169 (dk_at dksX1_digest_0 4 rfl rfl)
theorem dX1_digest_7 : decode cX1_digest 7 = .ok (.astore_n 1, 1) := dk_76 (dk_at dksX1_digest_0 7 rfl rfl)
theorem dX1_digest_8 : decode cX1_digest 8 = .ok (.aload_n 0, 1) := dk_42 (dk_at dksX1_digest_0 8 rfl rfl)
theorem dX1_digest_9 : decode cX1_digest 9 = .ok (.invokevirtual 200, 3) := dk_182 0 200 (dk_at dksX1_digest_0 9 rfl rfl)
theorem dX1_digest_12 : decode cX1_digest 12 = .ok (.astore_n 2, 1) := dk_77 (dk_at dksX1_digest_0 12 rfl rfl)
theorem dX1_digest_13 : decode cX1_digest 13 = .ok (.iconst 0, 1) := dk_3 (dk_at dksX1_digest_0 13 rfl rfl)
theorem dX1_digest_14 : decode cX1_digest 14 = .ok (.istore_n 3, 1) := dk_62 (dk_at dksX1_digest_0 14 rfl rfl)
theorem dX1_digest_15 : decode cX1_digest 15 = .ok (.iload_n 3, 1) := dk_29 (dk_at dksX1_digest_0 15 rfl rfl)
theorem dX1_digest_16 : decode cX1_digest 16 = .ok (.bipush 9, 2) := dk_16 9 (dk_at dksX1_digest_0 16 rfl rfl)
theorem dX1_digest_18 : decode cX1_digest 18 = .ok (.if_icmp .gt 33, 3) := dk_163 0 33 (dk_at dksX1_digest_0 18 rfl rfl)
theorem dX1_digest_21 : decode cX1_digest 21 = .ok (.aload_n 1, 1) := dk_43 (dk_at dksX1_digest_0 21 rfl rfl)
theorem dX1_digest_22 : decode cX1_digest 22 = .ok (.iload_n 3, 1) := dk_29 (dk_at dksX1_digest_0 22 rfl rfl)
theorem dX1_digest_23 : decode cX1_digest 23 = .ok (.bipush 6, 2) := dk_16 6 (dk_at dksX1_digest_1 0 rfl rfl)
theorem dX1_digest_25 : decode cX1_digest 25 = .ok (.if_icmp .ne 11, 3) := dk_160 0 11 (dk_at dksX1_digest_1 2 rfl rfl)
theorem dX1_digest_28 : decode cX1_digest 28 = .ok (.aload_n 2, 1) := dk_44 (dk_at dksX1_digest_1 5 rfl rfl)
theorem dX1_digest_29 : decode cX1_digest 29 = .ok (.invokevirtual 220, 3) := dk_182 0 220 (dk_at dksX1_digest_1 6 rfl rfl)
theorem dX1_digest_32 : decode cX1_digest 32 = .ok (.i2l, 1) := dk_133 (dk_at dksX1_digest_1 9 rfl rfl)
theorem dX1_digest_33 : decode cX1_digest 33 = .ok (.goto 9, 3) := dk_167 0 9 (dk_at dksX1_digest_1 10 rfl rfl)
theorem dX1_digest_36 : decode cX1_digest 36 = .ok (.aload_n 0, 1) := dk_42 (dk_at dksX1_digest_1 13 rfl rfl)
theorem dX1_digest_37 : decode cX1_digest 37 = .ok (.iload_n 3, 1) := dk_29 (dk_at dksX1_digest_1 14 rfl rfl)
theorem dX1_digest_38 : decode cX1_digest 38 = .ok (.invokevirtual 356, 3) := dk_182 1 100 (dk_at dksX1_digest_1 15 rfl rfl)
theorem dX1_digest_41 : decode cX1_digest 41 = .ok (.i2l, 1) := dk_133 (dk_at dksX1_digest_1 18 rfl rfl)
theorem dX1_digest_42 : decode cX1_digest 42 = .ok (.invokevirtual 420, 3) := dk_182 1 164 (dk_at dksX1_digest_1 19 rfl rfl)
theorem dX1_digest_45 : decode cX1_digest 45 = .ok (.iinc 3 1, 3) := dk_132 3 1 (dk_at dksX1_digest_2 0 rfl rfl)
theorem dX1_digest_48 : decode cX1_digest 48 = .ok (.goto (-33), 3) := dk_167 255 223 (dk_at dksX1_digest_2 3 rfl rfl)
theorem dX1_digest_51 : decode cX1_digest 51 = .ok (.iconst 0, 1) := dk_3 (dk_at dksX1_digest_2 6 rfl rfl)
theorem dX1_digest_52 : decode cX1_digest 52 = .ok (.istore_n 3, 1) := dk_62 (dk_at dksX1_digest_2 7 rfl rfl)
theorem dX1_digest_53 : decode cX1_digest 53 = .ok (.iload_n 3, 1) := dk_29 (dk_at dksX1_digest_2 8 rfl rfl)
theorem dX1_digest_54 : decode cX1_digest 54 = .ok (.aload_n 0, 1) := dk_42 (dk_at dksX1_digest_2 9 rfl rfl)
theorem dX1_digest_55 : decode cX1_digest 55 = .ok (.getfield 16, 3) := dk_180 0 16 (dk_at dksX1_digest_2 10 rfl rfl)
theorem dX1_digest_58 : decode cX1_digest 58 = .ok (.invokeinterface 54 1, 5) := by decide +kernel
theorem dX1_digest_63 : decode cX1_digest 63 = .ok (.if_icmp .ge 16, 3) := dk_162 0 16 (dk_at dksX1_digest_2 18 rfl rfl)
theorem dX1_digest_66 : decode cX1_digest 66 = .ok (.aload_n 0, 1) := dk_42 (dk_at dksX1_digest_2 21 rfl rfl)
theorem dX1_digest_67 : decode cX1_digest 67 = .ok (.aload_n 1, 1) := dk_43 (dk_at dksX1_digest_2 22 rfl rfl)
theorem dX1_digest_68 : decode cX1_digest 68 = .ok (.aload_n 2, 1) := dk_44 (dk_at dksX1_digest_2 23 rfl rfl)
theorem dX1_digest_69 : decode cX1_digest 69 = .ok (.iload_n 3, 1) := dk_29 (dk_at dksX1_digest_3 0 rfl rfl)
theorem dX1_digest_70 : decode cX1_digest 70 = .ok (.invokevirtual 426, 3) := dk_182 1 170 (dk_at dksX1_digest_3 1 rfl rfl)
theorem dX1_digest_73 : decode cX1_digest 73 = .ok (.iinc 3 1, 3) := dk_132 3 1 (dk_at dksX1_digest_3 4 rfl rfl)
theorem dX1_digest_76 : decode cX1_digest 76 = .ok (.goto (-23), 3) := dk_167 255 233 (dk_at dksX1_digest_3 7 rfl rfl)
theorem dX1_digest_79 : decode cX1_digest 79 = .ok (.iconst 0, 1) := dk_3 (dk_at dksX1_digest_3 10 rfl rfl)
theorem dX1_digest_80 : decode cX1_digest 80 = .ok (.istore_n 3, 1) := dk_62 (dk_at dksX1_digest_3 11 rfl rfl)
theorem dX1_digest_81 : decode cX1_digest 81 = .ok (.iload_n 3, 1) := dk_29 (dk_at dksX1_digest_3 12 rfl rfl)
theorem dX1_digest_82 : decode cX1_digest 82 = .ok (.aload_n 0, 1) := dk_42 (dk_at dksX1_digest_3 13 rfl rfl)
theorem dX1_digest_83 : decode cX1_digest 83 = .ok (.getfield 19, 3) := dk_180 0 19 (dk_at dksX1_digest_3 14 rfl rfl)
theorem dX1_digest_86 : decode cX1_digest 86 = .ok (.invokeinterface 54 1, 5) := by decide +kernel
theorem dX1_digest_91 : decode cX1_digest 91 = .ok (.if_icmp .ge 38, 3) := dk_162 0 38 (dk_at dksX1_digest_4 0 rfl rfl)
theorem dX1_digest_94 : decode cX1_digest 94 = .ok (.iconst 5, 1) := dk_8 (dk_at dksX1_digest_4 3 rfl rfl)
theorem dX1_digest_95 : decode cX1_digest 95 = .ok (.istore 4, 2) := dk_54 4 (dk_at dksX1_digest_4 4 rfl rfl)
theorem dX1_digest_97 : decode cX1_digest 97 = .ok (.iload 4, 2) := dk_21 4 (dk_at dksX1_digest_4 6 rfl rfl)
theorem dX1_digest_99 : decode cX1_digest 99 = .ok (.bipush 10, 2) := dk_16 10 (dk_at dksX1_digest_4 8 rfl rfl)
theorem dX1_digest_101 : decode cX1_digest 101 = .ok (.if_icmp .gt 22, 3) := dk_163 0 22 (dk_at dksX1_digest_4 10 rfl rfl)
theorem dX1_digest_104 : decode cX1_digest 104 = .ok (.aload_n 1, 1) := dk_43 (dk_at dksX1_digest_4 13 rfl rfl)
theorem dX1_digest_105 : decode cX1_digest 105 = .ok (.aload_n 0, 1) := dk_42 (dk_at dksX1_digest_4 14 rfl rfl)
theorem dX1_digest_106 : decode cX1_digest 106 = .ok (.iload_n 3, 1) := dk_29 (dk_at dksX1_digest_4 15 rfl rfl)
theorem dX1_digest_107 : decode cX1_digest 107 = .ok (.aload_n 2, 1) := dk_44 (dk_at dksX1_digest_4 16 rfl rfl)
theorem dX1_digest_108 : decode cX1_digest 108 = .ok (.iload 4, 2) := dk_21 4 (dk_at dksX1_digest_4 17 rfl rfl)
theorem dX1_digest_110 : decode cX1_digest 110 = .ok (.invokevirtual 326, 3) := dk_182 1 70 (dk_at dksX1_digest_4 19 rfl rfl)
theorem dX1_digest_113 : decode cX1_digest 113 = .ok (.i2l, 1) := dk_133 (dk_at dksX1_digest_4 22 rfl rfl)
theorem dX1_digest_114 : decode cX1_digest 114 = .ok (.invokevirtual 420, 3) := dk_182 1 164 (dk_at dksX1_digest_5 0 rfl rfl)
theorem dX1_digest_117 : decode cX1_digest 117 = .ok (.iinc 4 1, 3) := dk_132 4 1 (dk_at dksX1_digest_5 3 rfl rfl)
theorem dX1_digest_120 : decode cX1_digest 120 = .ok (.goto (-23), 3) := dk_167 255 233 (dk_at dksX1_digest_5 6 rfl rfl)
theorem dX1_digest_123 : decode cX1_digest 123 = .ok (.iinc 3 1, 3) := dk_132 3 1 (dk_at dksX1_digest_5 9 rfl rfl)
theorem dX1_digest_126 : decode cX1_digest 126 = .ok (.goto (-45), 3) := dk_167 255 211 (dk_at dksX1_digest_5 12 rfl rfl)
theorem dX1_digest_129 : decode cX1_digest 129 = .ok (.iconst 0, 1) := dk_3 (dk_at dksX1_digest_5 15 rfl rfl)
theorem dX1_digest_130 : decode cX1_digest 130 = .ok (.istore_n 3, 1) := dk_62 (dk_at dksX1_digest_5 16 rfl rfl)
theorem dX1_digest_131 : decode cX1_digest 131 = .ok (.iload_n 3, 1) := dk_29 (dk_at dksX1_digest_5 17 rfl rfl)
theorem dX1_digest_132 : decode cX1_digest 132 = .ok (.bipush 16, 2) := dk_16 16 (dk_at dksX1_digest_5 18 rfl rfl)
theorem dX1_digest_134 : decode cX1_digest 134 = .ok (.if_icmp .ge 34, 3) := dk_162 0 34 (dk_at dksX1_digest_5 20 rfl rfl)
theorem dX1_digest_137 : decode cX1_digest 137 = .ok (.aload_n 1, 1) := dk_43 (dk_at dksX1_digest_5 23 rfl rfl)
theorem dX1_digest_138 : decode cX1_digest 138 = .ok (.aload_n 0, 1) := dk_42 (dk_at dksX1_digest_6 0 rfl rfl)
theorem dX1_digest_139 : decode cX1_digest 139 = .ok (.getfield 22, 3) := dk_180 0 22 (dk_at dksX1_digest_6 1 rfl rfl)
theorem dX1_digest_142 : decode cX1_digest 142 = .ok (.iload_n 3, 1) := dk_29 (dk_at dksX1_digest_6 4 rfl rfl)
theorem dX1_digest_143 : decode cX1_digest 143 = .ok (.invokeinterface 61 2, 5) := by decide +kernel
theorem dX1_digest_148 : decode cX1_digest 148 = .ok (.checkcast 29, 3) := dk_192 0 29 (dk_at dksX1_digest_6 10 rfl rfl)
theorem dX1_digest_151 : decode cX1_digest 151 = .ok (.aload_n 0, 1) := dk_42 (dk_at dksX1_digest_6 13 rfl rfl)
theorem dX1_digest_152 : decode cX1_digest 152 = .ok (.getfield 80, 3) := dk_180 0 80 (dk_at dksX1_digest_6 14 rfl rfl)
theorem dX1_digest_155 : decode cX1_digest 155 = .ok (.invokevirtual 127, 3) := dk_182 0 127 (dk_at dksX1_digest_6 17 rfl rfl)
theorem dX1_digest_158 : decode cX1_digest 158 = .ok (.i2l, 1) := dk_133 (dk_at dksX1_digest_6 20 rfl rfl)
theorem dX1_digest_159 : decode cX1_digest 159 = .ok (.invokevirtual 420, 3) := dk_182 1 164 (dk_at dksX1_digest_6 21 rfl rfl)
theorem dX1_digest_162 : decode cX1_digest 162 = .ok (.iinc 3 1, 3) := dk_132 3 1 (dk_at dksX1_digest_7 0 rfl rfl)
theorem dX1_digest_165 : decode cX1_digest 165 = .ok (.goto (-34), 3) := dk_167 255 222 (dk_at dksX1_digest_7 3 rfl rfl)
theorem dX1_digest_168 : decode cX1_digest 168 = .ok (.iconst 1, 1) := dk_4 (dk_at dksX1_digest_7 6 rfl rfl)
theorem dX1_digest_169 : decode cX1_digest 169 = .ok (.istore_n 3, 1) := dk_62 (dk_at dksX1_digest_7 7 rfl rfl)
theorem dX1_digest_170 : decode cX1_digest 170 = .ok (.iload_n 3, 1) := dk_29 (dk_at dksX1_digest_7 8 rfl rfl)
theorem dX1_digest_171 : decode cX1_digest 171 = .ok (.iconst 4, 1) := dk_7 (dk_at dksX1_digest_7 9 rfl rfl)
theorem dX1_digest_172 : decode cX1_digest 172 = .ok (.if_icmp .ge 19, 3) := dk_162 0 19 (dk_at dksX1_digest_7 10 rfl rfl)
theorem dX1_digest_175 : decode cX1_digest 175 = .ok (.aload_n 1, 1) := dk_43 (dk_at dksX1_digest_7 13 rfl rfl)
theorem dX1_digest_176 : decode cX1_digest 176 = .ok (.aload_n 0, 1) := dk_42 (dk_at dksX1_digest_7 14 rfl rfl)
theorem dX1_digest_177 : decode cX1_digest 177 = .ok (.iload_n 3, 1) := dk_29 (dk_at dksX1_digest_7 15 rfl rfl)
theorem dX1_digest_178 : decode cX1_digest 178 = .ok (.invokevirtual 235, 3) := dk_182 0 235 (dk_at dksX1_digest_7 16 rfl rfl)
theorem dX1_digest_181 : decode cX1_digest 181 = .ok (.i2l, 1) := dk_133 (dk_at dksX1_digest_7 19 rfl rfl)
theorem dX1_digest_182 : decode cX1_digest 182 = .ok (.invokevirtual 420, 3) := dk_182 1 164 (dk_at dksX1_digest_7 20 rfl rfl)
theorem dX1_digest_185 : decode cX1_digest 185 = .ok (.iinc 3 1, 3) := dk_132 3 1 (dk_at dksX1_digest_8 0 rfl rfl)
theorem dX1_digest_188 : decode cX1_digest 188 = .ok (.goto (-18), 3) := dk_167 255 238 (dk_at dksX1_digest_8 3 rfl rfl)
theorem dX1_digest_191 : decode cX1_digest 191 = .ok (.aload_n 1, 1) := dk_43 (dk_at dksX1_digest_8 6 rfl rfl)
theorem dX1_digest_192 : decode cX1_digest 192 = .ok (.aload_n 0, 1) := dk_42 (dk_at dksX1_digest_8 7 rfl rfl)
theorem dX1_digest_193 : decode cX1_digest 193 = .ok (.aload_n 2, 1) := dk_44 (dk_at dksX1_digest_8 8 rfl rfl)
theorem dX1_digest_194 : decode cX1_digest 194 = .ok (.invokevirtual 416, 3) := dk_182 1 160 (dk_at dksX1_digest_8 9 rfl rfl)
theorem dX1_digest_197 : decode cX1_digest 197 = .ok (.ifCond .eq 7, 3) := dk_153 0 7 (dk_at dksX1_digest_8 12 rfl rfl)
theorem dX1_digest_200 : decode cX1_digest 200 = .ok (.lconst 1, 1) := dk_10 (dk_at dksX1_digest_8 15 rfl rfl)
theorem dX1_digest_201 : decode cX1_digest 201 = .ok (.goto 4, 3) := dk_167 0 4 (dk_at dksX1_digest_8 16 rfl rfl)
theorem dX1_digest_204 : decode cX1_digest 204 = .ok (.lconst 0, 1) := dk_9 (dk_at dksX1_digest_8 19 rfl rfl)
theorem dX1_digest_205 : decode cX1_digest 205 = .ok (.invokevirtual 420, 3) := dk_182 1 164 (dk_at dksX1_digest_8 20 rfl rfl)
theorem dX1_digest_208 : decode cX1_digest 208 = .ok (.aload_n 1, 1) := dk_43 (dk_at dksX1_digest_8 23 rfl rfl)
theorem dX1_digest_209 : decode cX1_digest 209 = .ok (.getfield 430, 3) := dk_180 1 174 (dk_at dksX1_digest_9 0 rfl rfl)
theorem dX1_digest_212 : decode cX1_digest 212 = .ok (.lreturn, 1) := dk_173 (dk_at dksX1_digest_9 3 rfl rfl)
abbrev cX1_houseNow : ByteArray := prog_1_method_59_code
def yX1_houseNow : MethodName := ⟨RX1, "houseNow", "(I)I"⟩
def dkwX1_houseNow_4 : List UInt8 := [182, 0, 200, 182, 0, 220, 172, 42, 180, 0, 223, 172, 42, 182, 1, 94, 172, 42, 182, 1, 97, 172]
abbrev dktX1_houseNow_4 : List UInt8 := dkwX1_houseNow_4 ++ []
def dkwX1_houseNow_3 : List UInt8 := [172, 42, 180, 0, 19, 185, 0, 54, 1, 0, 172, 42, 182, 1, 91, 172, 42, 180, 0, 180, 172, 42]
abbrev dktX1_houseNow_3 : List UInt8 := dkwX1_houseNow_3 ++ dktX1_houseNow_4
def dkwX1_houseNow_2 : List UInt8 := [42, 180, 0, 80, 172, 42, 180, 0, 10, 185, 0, 54, 1, 0, 172, 42, 180, 0, 16, 185, 0, 54, 1, 0]
abbrev dktX1_houseNow_2 : List UInt8 := dkwX1_houseNow_2 ++ dktX1_houseNow_3
def dkwX1_houseNow_1 : List UInt8 := [170, 0, 0, 0, 0, 0, 114, 0, 0, 0, 0, 0, 0, 0, 8, 0, 0, 0, 51, 0, 0, 0, 56, 0, 0, 0, 66, 0, 0, 0, 76, 0, 0, 0, 86, 0, 0, 0, 91, 0, 0, 0, 96, 0, 0, 0, 104, 0, 0, 0, 109]
abbrev dktX1_houseNow_1 : List UInt8 := dkwX1_houseNow_1 ++ dktX1_houseNow_2
def dkwX1_houseNow_0 : List UInt8 := [27]
abbrev dktX1_houseNow_0 : List UInt8 := dkwX1_houseNow_0 ++ dktX1_houseNow_1
theorem dksX1_houseNow_0 : cX1_houseNow.data.toList.drop 0 = dktX1_houseNow_0 := by decide +kernel
theorem dksX1_houseNow_1 : cX1_houseNow.data.toList.drop 1 = dktX1_houseNow_1 := dk_seg dksX1_houseNow_0 1 rfl rfl
theorem dksX1_houseNow_2 : cX1_houseNow.data.toList.drop 52 = dktX1_houseNow_2 := dk_seg dksX1_houseNow_1 51 rfl rfl
theorem dksX1_houseNow_3 : cX1_houseNow.data.toList.drop 76 = dktX1_houseNow_3 := dk_seg dksX1_houseNow_2 24 rfl rfl
theorem dksX1_houseNow_4 : cX1_houseNow.data.toList.drop 98 = dktX1_houseNow_4 := dk_seg dksX1_houseNow_3 22 rfl rfl
theorem dX1_houseNow_0 : decode cX1_houseNow 0 = .ok (.iload_n 1, 1) := dk_27 (dk_at dksX1_houseNow_0 0 rfl rfl)
theorem dX1_houseNow_1 : decode cX1_houseNow 1 = .ok (.tableswitch 114 0 8 #[51, 56, 66, 76, 86, 91, 96, 104, 109], 51) := by decide +kernel
theorem dX1_houseNow_52 : decode cX1_houseNow 52 = .ok (.aload_n 0, 1) := dk_42 (dk_at dksX1_houseNow_2 0 rfl rfl)
theorem dX1_houseNow_53 : decode cX1_houseNow 53 = .ok (.getfield 80, 3) := dk_180 0 80 (dk_at dksX1_houseNow_2 1 rfl rfl)
theorem dX1_houseNow_56 : decode cX1_houseNow 56 = .ok (.ireturn, 1) := dk_172 (dk_at dksX1_houseNow_2 4 rfl rfl)
theorem dX1_houseNow_57 : decode cX1_houseNow 57 = .ok (.aload_n 0, 1) := dk_42 (dk_at dksX1_houseNow_2 5 rfl rfl)
theorem dX1_houseNow_58 : decode cX1_houseNow 58 = .ok (.getfield 10, 3) := dk_180 0 10 (dk_at dksX1_houseNow_2 6 rfl rfl)
theorem dX1_houseNow_61 : decode cX1_houseNow 61 = .ok (.invokeinterface 54 1, 5) := by decide +kernel
theorem dX1_houseNow_66 : decode cX1_houseNow 66 = .ok (.ireturn, 1) := dk_172 (dk_at dksX1_houseNow_2 14 rfl rfl)
theorem dX1_houseNow_67 : decode cX1_houseNow 67 = .ok (.aload_n 0, 1) := dk_42 (dk_at dksX1_houseNow_2 15 rfl rfl)
theorem dX1_houseNow_68 : decode cX1_houseNow 68 = .ok (.getfield 16, 3) := dk_180 0 16 (dk_at dksX1_houseNow_2 16 rfl rfl)
theorem dX1_houseNow_71 : decode cX1_houseNow 71 = .ok (.invokeinterface 54 1, 5) := by decide +kernel
theorem dX1_houseNow_76 : decode cX1_houseNow 76 = .ok (.ireturn, 1) := dk_172 (dk_at dksX1_houseNow_3 0 rfl rfl)
theorem dX1_houseNow_77 : decode cX1_houseNow 77 = .ok (.aload_n 0, 1) := dk_42 (dk_at dksX1_houseNow_3 1 rfl rfl)
theorem dX1_houseNow_78 : decode cX1_houseNow 78 = .ok (.getfield 19, 3) := dk_180 0 19 (dk_at dksX1_houseNow_3 2 rfl rfl)
theorem dX1_houseNow_81 : decode cX1_houseNow 81 = .ok (.invokeinterface 54 1, 5) := by decide +kernel
theorem dX1_houseNow_86 : decode cX1_houseNow 86 = .ok (.ireturn, 1) := dk_172 (dk_at dksX1_houseNow_3 10 rfl rfl)
theorem dX1_houseNow_87 : decode cX1_houseNow 87 = .ok (.aload_n 0, 1) := dk_42 (dk_at dksX1_houseNow_3 11 rfl rfl)
theorem dX1_houseNow_88 : decode cX1_houseNow 88 = .ok (.invokevirtual 347, 3) := dk_182 1 91 (dk_at dksX1_houseNow_3 12 rfl rfl)
theorem dX1_houseNow_91 : decode cX1_houseNow 91 = .ok (.ireturn, 1) := dk_172 (dk_at dksX1_houseNow_3 15 rfl rfl)
theorem dX1_houseNow_92 : decode cX1_houseNow 92 = .ok (.aload_n 0, 1) := dk_42 (dk_at dksX1_houseNow_3 16 rfl rfl)
theorem dX1_houseNow_93 : decode cX1_houseNow 93 = .ok (.getfield 180, 3) := dk_180 0 180 (dk_at dksX1_houseNow_3 17 rfl rfl)
theorem dX1_houseNow_96 : decode cX1_houseNow 96 = .ok (.ireturn, 1) := dk_172 (dk_at dksX1_houseNow_3 20 rfl rfl)
theorem dX1_houseNow_97 : decode cX1_houseNow 97 = .ok (.aload_n 0, 1) := dk_42 (dk_at dksX1_houseNow_3 21 rfl rfl)
theorem dX1_houseNow_98 : decode cX1_houseNow 98 = .ok (.invokevirtual 200, 3) := dk_182 0 200 (dk_at dksX1_houseNow_4 0 rfl rfl)
theorem dX1_houseNow_101 : decode cX1_houseNow 101 = .ok (.invokevirtual 220, 3) := dk_182 0 220 (dk_at dksX1_houseNow_4 3 rfl rfl)
theorem dX1_houseNow_104 : decode cX1_houseNow 104 = .ok (.ireturn, 1) := dk_172 (dk_at dksX1_houseNow_4 6 rfl rfl)
theorem dX1_houseNow_105 : decode cX1_houseNow 105 = .ok (.aload_n 0, 1) := dk_42 (dk_at dksX1_houseNow_4 7 rfl rfl)
theorem dX1_houseNow_106 : decode cX1_houseNow 106 = .ok (.getfield 223, 3) := dk_180 0 223 (dk_at dksX1_houseNow_4 8 rfl rfl)
theorem dX1_houseNow_109 : decode cX1_houseNow 109 = .ok (.ireturn, 1) := dk_172 (dk_at dksX1_houseNow_4 11 rfl rfl)
theorem dX1_houseNow_110 : decode cX1_houseNow 110 = .ok (.aload_n 0, 1) := dk_42 (dk_at dksX1_houseNow_4 12 rfl rfl)
theorem dX1_houseNow_111 : decode cX1_houseNow 111 = .ok (.invokevirtual 350, 3) := dk_182 1 94 (dk_at dksX1_houseNow_4 13 rfl rfl)
theorem dX1_houseNow_114 : decode cX1_houseNow 114 = .ok (.ireturn, 1) := dk_172 (dk_at dksX1_houseNow_4 16 rfl rfl)
theorem dX1_houseNow_115 : decode cX1_houseNow 115 = .ok (.aload_n 0, 1) := dk_42 (dk_at dksX1_houseNow_4 17 rfl rfl)
theorem dX1_houseNow_116 : decode cX1_houseNow 116 = .ok (.invokevirtual 353, 3) := dk_182 1 97 (dk_at dksX1_houseNow_4 18 rfl rfl)
theorem dX1_houseNow_119 : decode cX1_houseNow 119 = .ok (.ireturn, 1) := dk_172 (dk_at dksX1_houseNow_4 21 rfl rfl)
abbrev cX1_voids : ByteArray := prog_1_method_56_code
def yX1_voids : MethodName := ⟨RX1, "voids", "()I"⟩
def dkwX1_voids_2 : List UInt8 := [167, 255, 213, 27, 172]
abbrev dktX1_voids_2 : List UInt8 := dkwX1_voids_2 ++ []
def dkwX1_voids_1 : List UInt8 := [185, 0, 61, 2, 0, 192, 0, 69, 180, 0, 217, 153, 0, 7, 4, 167, 0, 4, 3, 96, 60, 132, 2, 1]
abbrev dktX1_voids_1 : List UInt8 := dkwX1_voids_1 ++ dktX1_voids_2
def dkwX1_voids_0 : List UInt8 := [3, 60, 3, 61, 28, 42, 180, 0, 19, 185, 0, 54, 1, 0, 162, 0, 36, 27, 42, 180, 0, 19, 28]
abbrev dktX1_voids_0 : List UInt8 := dkwX1_voids_0 ++ dktX1_voids_1
theorem dksX1_voids_0 : cX1_voids.data.toList.drop 0 = dktX1_voids_0 := by decide +kernel
theorem dksX1_voids_1 : cX1_voids.data.toList.drop 23 = dktX1_voids_1 := dk_seg dksX1_voids_0 23 rfl rfl
theorem dksX1_voids_2 : cX1_voids.data.toList.drop 47 = dktX1_voids_2 := dk_seg dksX1_voids_1 24 rfl rfl
theorem dX1_voids_0 : decode cX1_voids 0 = .ok (.iconst 0, 1) := dk_3 (dk_at dksX1_voids_0 0 rfl rfl)
theorem dX1_voids_1 : decode cX1_voids 1 = .ok (.istore_n 1, 1) := dk_60 (dk_at dksX1_voids_0 1 rfl rfl)
theorem dX1_voids_2 : decode cX1_voids 2 = .ok (.iconst 0, 1) := dk_3 (dk_at dksX1_voids_0 2 rfl rfl)
theorem dX1_voids_3 : decode cX1_voids 3 = .ok (.istore_n 2, 1) := dk_61 (dk_at dksX1_voids_0 3 rfl rfl)
theorem dX1_voids_4 : decode cX1_voids 4 = .ok (.iload_n 2, 1) := dk_28 (dk_at dksX1_voids_0 4 rfl rfl)
theorem dX1_voids_5 : decode cX1_voids 5 = .ok (.aload_n 0, 1) := dk_42 (dk_at dksX1_voids_0 5 rfl rfl)
theorem dX1_voids_6 : decode cX1_voids 6 = .ok (.getfield 19, 3) := dk_180 0 19 (dk_at dksX1_voids_0 6 rfl rfl)
theorem dX1_voids_9 : decode cX1_voids 9 = .ok (.invokeinterface 54 1, 5) := by decide +kernel
theorem dX1_voids_14 : decode cX1_voids 14 = .ok (.if_icmp .ge 36, 3) := dk_162 0 36 (dk_at dksX1_voids_0 14 rfl rfl)
theorem dX1_voids_17 : decode cX1_voids 17 = .ok (.iload_n 1, 1) := dk_27 (dk_at dksX1_voids_0 17 rfl rfl)
theorem dX1_voids_18 : decode cX1_voids 18 = .ok (.aload_n 0, 1) := dk_42 (dk_at dksX1_voids_0 18 rfl rfl)
theorem dX1_voids_19 : decode cX1_voids 19 = .ok (.getfield 19, 3) := dk_180 0 19 (dk_at dksX1_voids_0 19 rfl rfl)
theorem dX1_voids_22 : decode cX1_voids 22 = .ok (.iload_n 2, 1) := dk_28 (dk_at dksX1_voids_0 22 rfl rfl)
theorem dX1_voids_23 : decode cX1_voids 23 = .ok (.invokeinterface 61 2, 5) := by decide +kernel
theorem dX1_voids_28 : decode cX1_voids 28 = .ok (.checkcast 69, 3) := dk_192 0 69 (dk_at dksX1_voids_1 5 rfl rfl)
theorem dX1_voids_31 : decode cX1_voids 31 = .ok (.getfield 217, 3) := dk_180 0 217 (dk_at dksX1_voids_1 8 rfl rfl)
theorem dX1_voids_34 : decode cX1_voids 34 = .ok (.ifCond .eq 7, 3) := dk_153 0 7 (dk_at dksX1_voids_1 11 rfl rfl)
theorem dX1_voids_37 : decode cX1_voids 37 = .ok (.iconst 1, 1) := dk_4 (dk_at dksX1_voids_1 14 rfl rfl)
theorem dX1_voids_38 : decode cX1_voids 38 = .ok (.goto 4, 3) := dk_167 0 4 (dk_at dksX1_voids_1 15 rfl rfl)
theorem dX1_voids_41 : decode cX1_voids 41 = .ok (.iconst 0, 1) := dk_3 (dk_at dksX1_voids_1 18 rfl rfl)
theorem dX1_voids_42 : decode cX1_voids 42 = .ok (.iadd, 1) := dk_96 (dk_at dksX1_voids_1 19 rfl rfl)
theorem dX1_voids_43 : decode cX1_voids 43 = .ok (.istore_n 1, 1) := dk_60 (dk_at dksX1_voids_1 20 rfl rfl)
theorem dX1_voids_44 : decode cX1_voids 44 = .ok (.iinc 2 1, 3) := dk_132 2 1 (dk_at dksX1_voids_1 21 rfl rfl)
theorem dX1_voids_47 : decode cX1_voids 47 = .ok (.goto (-43), 3) := dk_167 255 213 (dk_at dksX1_voids_2 0 rfl rfl)
theorem dX1_voids_50 : decode cX1_voids 50 = .ok (.iload_n 1, 1) := dk_27 (dk_at dksX1_voids_2 3 rfl rfl)
theorem dX1_voids_51 : decode cX1_voids 51 = .ok (.ireturn, 1) := dk_172 (dk_at dksX1_voids_2 4 rfl rfl)
abbrev cX1_settlements : ByteArray := prog_1_method_57_code
def yX1_settlements : MethodName := ⟨RX1, "settlements", "()I"⟩
def dkwX1_settlements_1 : List UInt8 := [172]
abbrev dktX1_settlements_1 : List UInt8 := dkwX1_settlements_1 ++ []
def dkwX1_settlements_0 : List UInt8 := [3, 60, 4, 61, 28, 7, 162, 0, 17, 27, 42, 28, 182, 0, 235, 96, 60, 132, 2, 1, 167, 255, 240, 27]
abbrev dktX1_settlements_0 : List UInt8 := dkwX1_settlements_0 ++ dktX1_settlements_1
theorem dksX1_settlements_0 : cX1_settlements.data.toList.drop 0 = dktX1_settlements_0 := by decide +kernel
theorem dksX1_settlements_1 : cX1_settlements.data.toList.drop 24 = dktX1_settlements_1 := dk_seg dksX1_settlements_0 24 rfl rfl
theorem dX1_settlements_0 : decode cX1_settlements 0 = .ok (.iconst 0, 1) := dk_3 (dk_at dksX1_settlements_0 0 rfl rfl)
theorem dX1_settlements_1 : decode cX1_settlements 1 = .ok (.istore_n 1, 1) := dk_60 (dk_at dksX1_settlements_0 1 rfl rfl)
theorem dX1_settlements_2 : decode cX1_settlements 2 = .ok (.iconst 1, 1) := dk_4 (dk_at dksX1_settlements_0 2 rfl rfl)
theorem dX1_settlements_3 : decode cX1_settlements 3 = .ok (.istore_n 2, 1) := dk_61 (dk_at dksX1_settlements_0 3 rfl rfl)
theorem dX1_settlements_4 : decode cX1_settlements 4 = .ok (.iload_n 2, 1) := dk_28 (dk_at dksX1_settlements_0 4 rfl rfl)
theorem dX1_settlements_5 : decode cX1_settlements 5 = .ok (.iconst 4, 1) := dk_7 (dk_at dksX1_settlements_0 5 rfl rfl)
theorem dX1_settlements_6 : decode cX1_settlements 6 = .ok (.if_icmp .ge 17, 3) := dk_162 0 17 (dk_at dksX1_settlements_0 6 rfl rfl)
theorem dX1_settlements_9 : decode cX1_settlements 9 = .ok (.iload_n 1, 1) := dk_27 (dk_at dksX1_settlements_0 9 rfl rfl)
theorem dX1_settlements_10 : decode cX1_settlements 10 = .ok (.aload_n 0, 1) := dk_42 (dk_at dksX1_settlements_0 10 rfl rfl)
theorem dX1_settlements_11 : decode cX1_settlements 11 = .ok (.iload_n 2, 1) := dk_28 (dk_at dksX1_settlements_0 11 rfl rfl)
theorem dX1_settlements_12 : decode cX1_settlements 12 = .ok (.invokevirtual 235, 3) := dk_182 0 235 (dk_at dksX1_settlements_0 12 rfl rfl)
theorem dX1_settlements_15 : decode cX1_settlements 15 = .ok (.iadd, 1) := dk_96 (dk_at dksX1_settlements_0 15 rfl rfl)
theorem dX1_settlements_16 : decode cX1_settlements 16 = .ok (.istore_n 1, 1) := dk_60 (dk_at dksX1_settlements_0 16 rfl rfl)
theorem dX1_settlements_17 : decode cX1_settlements 17 = .ok (.iinc 2 1, 3) := dk_132 2 1 (dk_at dksX1_settlements_0 17 rfl rfl)
theorem dX1_settlements_20 : decode cX1_settlements 20 = .ok (.goto (-16), 3) := dk_167 255 240 (dk_at dksX1_settlements_0 20 rfl rfl)
theorem dX1_settlements_23 : decode cX1_settlements 23 = .ok (.iload_n 1, 1) := dk_27 (dk_at dksX1_settlements_0 23 rfl rfl)
theorem dX1_settlements_24 : decode cX1_settlements 24 = .ok (.ireturn, 1) := dk_172 (dk_at dksX1_settlements_1 0 rfl rfl)
abbrev cX1_settlementNow : ByteArray := prog_1_method_35_code
def yX1_settlementNow : MethodName := ⟨RX1, "settlementNow", "(I)I"⟩
def dkwX1_settlementNow_4 : List UInt8 := [167, 0, 4, 3, 96, 61, 132, 3, 1, 167, 255, 159, 28, 42, 180, 0, 25, 27, 46, 100, 172]
abbrev dktX1_settlementNow_4 : List UInt8 := dkwX1_settlementNow_4 ++ []
def dkwX1_settlementNow_3 : List UInt8 := [167, 0, 4, 3, 54, 5, 28, 21, 5, 153, 0, 16, 25, 4, 180, 0, 214, 16, 60, 184, 0, 229]
abbrev dktX1_settlementNow_3 : List UInt8 := dkwX1_settlementNow_3 ++ dktX1_settlementNow_4
def dkwX1_settlementNow_2 : List UInt8 := [180, 0, 226, 185, 0, 61, 2, 0, 192, 0, 29, 25, 4, 180, 0, 207, 182, 0, 127, 27, 160, 0, 7, 4]
abbrev dktX1_settlementNow_2 : List UInt8 := dkwX1_settlementNow_2 ++ dktX1_settlementNow_3
def dkwX1_settlementNow_1 : List UInt8 := [185, 0, 61, 2, 0, 192, 0, 69, 58, 4, 25, 4, 182, 0, 196, 153, 0, 36, 42, 180, 0, 22, 25, 4]
abbrev dktX1_settlementNow_1 : List UInt8 := dkwX1_settlementNow_1 ++ dktX1_settlementNow_2
def dkwX1_settlementNow_0 : List UInt8 := [3, 61, 3, 62, 29, 42, 180, 0, 19, 185, 0, 54, 1, 0, 162, 0, 90, 42, 180, 0, 19, 29]
abbrev dktX1_settlementNow_0 : List UInt8 := dkwX1_settlementNow_0 ++ dktX1_settlementNow_1
theorem dksX1_settlementNow_0 : cX1_settlementNow.data.toList.drop 0 = dktX1_settlementNow_0 := by decide +kernel
theorem dksX1_settlementNow_1 : cX1_settlementNow.data.toList.drop 22 = dktX1_settlementNow_1 := dk_seg dksX1_settlementNow_0 22 rfl rfl
theorem dksX1_settlementNow_2 : cX1_settlementNow.data.toList.drop 46 = dktX1_settlementNow_2 := dk_seg dksX1_settlementNow_1 24 rfl rfl
theorem dksX1_settlementNow_3 : cX1_settlementNow.data.toList.drop 70 = dktX1_settlementNow_3 := dk_seg dksX1_settlementNow_2 24 rfl rfl
theorem dksX1_settlementNow_4 : cX1_settlementNow.data.toList.drop 92 = dktX1_settlementNow_4 := dk_seg dksX1_settlementNow_3 22 rfl rfl
theorem dX1_settlementNow_0 : decode cX1_settlementNow 0 = .ok (.iconst 0, 1) := dk_3 (dk_at dksX1_settlementNow_0 0 rfl rfl)
theorem dX1_settlementNow_1 : decode cX1_settlementNow 1 = .ok (.istore_n 2, 1) := dk_61 (dk_at dksX1_settlementNow_0 1 rfl rfl)
theorem dX1_settlementNow_2 : decode cX1_settlementNow 2 = .ok (.iconst 0, 1) := dk_3 (dk_at dksX1_settlementNow_0 2 rfl rfl)
theorem dX1_settlementNow_3 : decode cX1_settlementNow 3 = .ok (.istore_n 3, 1) := dk_62 (dk_at dksX1_settlementNow_0 3 rfl rfl)
theorem dX1_settlementNow_4 : decode cX1_settlementNow 4 = .ok (.iload_n 3, 1) := dk_29 (dk_at dksX1_settlementNow_0 4 rfl rfl)
theorem dX1_settlementNow_5 : decode cX1_settlementNow 5 = .ok (.aload_n 0, 1) := dk_42 (dk_at dksX1_settlementNow_0 5 rfl rfl)
theorem dX1_settlementNow_6 : decode cX1_settlementNow 6 = .ok (.getfield 19, 3) := dk_180 0 19 (dk_at dksX1_settlementNow_0 6 rfl rfl)
theorem dX1_settlementNow_9 : decode cX1_settlementNow 9 = .ok (.invokeinterface 54 1, 5) := by decide +kernel
theorem dX1_settlementNow_14 : decode cX1_settlementNow 14 = .ok (.if_icmp .ge 90, 3) := dk_162 0 90 (dk_at dksX1_settlementNow_0 14 rfl rfl)
theorem dX1_settlementNow_17 : decode cX1_settlementNow 17 = .ok (.aload_n 0, 1) := dk_42 (dk_at dksX1_settlementNow_0 17 rfl rfl)
theorem dX1_settlementNow_18 : decode cX1_settlementNow 18 = .ok (.getfield 19, 3) := dk_180 0 19 (dk_at dksX1_settlementNow_0 18 rfl rfl)
theorem dX1_settlementNow_21 : decode cX1_settlementNow 21 = .ok (.iload_n 3, 1) := dk_29 (dk_at dksX1_settlementNow_0 21 rfl rfl)
theorem dX1_settlementNow_22 : decode cX1_settlementNow 22 = .ok (.invokeinterface 61 2, 5) := by decide +kernel
theorem dX1_settlementNow_27 : decode cX1_settlementNow 27 = .ok (.checkcast 69, 3) := dk_192 0 69 (dk_at dksX1_settlementNow_1 5 rfl rfl)
theorem dX1_settlementNow_30 : decode cX1_settlementNow 30 = .ok (.astore 4, 2) := dk_58 4 (dk_at dksX1_settlementNow_1 8 rfl rfl)
theorem dX1_settlementNow_32 : decode cX1_settlementNow 32 = .ok (.aload 4, 2) := dk_25 4 (dk_at dksX1_settlementNow_1 10 rfl rfl)
theorem dX1_settlementNow_34 : decode cX1_settlementNow 34 = .ok (.invokevirtual 196, 3) := dk_182 0 196 (dk_at dksX1_settlementNow_1 12 rfl rfl)
theorem dX1_settlementNow_37 : decode cX1_settlementNow 37 = .ok (.ifCond .eq 36, 3) := dk_153 0 36 (dk_at dksX1_settlementNow_1 15 rfl rfl)
theorem dX1_settlementNow_40 : decode cX1_settlementNow 40 = .ok (.aload_n 0, 1) := dk_42 (dk_at dksX1_settlementNow_1 18 rfl rfl)
theorem dX1_settlementNow_41 : decode cX1_settlementNow 41 = .ok (.getfield 22, 3) := dk_180 0 22 (dk_at dksX1_settlementNow_1 19 rfl rfl)
theorem dX1_settlementNow_44 : decode cX1_settlementNow 44 = .ok (.aload 4, 2) := dk_25 4 (dk_at dksX1_settlementNow_1 22 rfl rfl)
theorem dX1_settlementNow_46 : decode cX1_settlementNow 46 = .ok (.getfield 226, 3) := dk_180 0 226 (dk_at dksX1_settlementNow_2 0 rfl rfl)
theorem dX1_settlementNow_49 : decode cX1_settlementNow 49 = .ok (.invokeinterface 61 2, 5) := by decide +kernel
theorem dX1_settlementNow_54 : decode cX1_settlementNow 54 = .ok (.checkcast 29, 3) := dk_192 0 29 (dk_at dksX1_settlementNow_2 8 rfl rfl)
theorem dX1_settlementNow_57 : decode cX1_settlementNow 57 = .ok (.aload 4, 2) := dk_25 4 (dk_at dksX1_settlementNow_2 11 rfl rfl)
theorem dX1_settlementNow_59 : decode cX1_settlementNow 59 = .ok (.getfield 207, 3) := dk_180 0 207 (dk_at dksX1_settlementNow_2 13 rfl rfl)
theorem dX1_settlementNow_62 : decode cX1_settlementNow 62 = .ok (.invokevirtual 127, 3) := dk_182 0 127 (dk_at dksX1_settlementNow_2 16 rfl rfl)
theorem dX1_settlementNow_65 : decode cX1_settlementNow 65 = .ok (.iload_n 1, 1) := dk_27 (dk_at dksX1_settlementNow_2 19 rfl rfl)
theorem dX1_settlementNow_66 : decode cX1_settlementNow 66 = .ok (.if_icmp .ne 7, 3) := dk_160 0 7 (dk_at dksX1_settlementNow_2 20 rfl rfl)
theorem dX1_settlementNow_69 : decode cX1_settlementNow 69 = .ok (.iconst 1, 1) := dk_4 (dk_at dksX1_settlementNow_2 23 rfl rfl)
theorem dX1_settlementNow_70 : decode cX1_settlementNow 70 = .ok (.goto 4, 3) := dk_167 0 4 (dk_at dksX1_settlementNow_3 0 rfl rfl)
theorem dX1_settlementNow_73 : decode cX1_settlementNow 73 = .ok (.iconst 0, 1) := dk_3 (dk_at dksX1_settlementNow_3 3 rfl rfl)
theorem dX1_settlementNow_74 : decode cX1_settlementNow 74 = .ok (.istore 5, 2) := dk_54 5 (dk_at dksX1_settlementNow_3 4 rfl rfl)
theorem dX1_settlementNow_76 : decode cX1_settlementNow 76 = .ok (.iload_n 2, 1) := dk_28 (dk_at dksX1_settlementNow_3 6 rfl rfl)
theorem dX1_settlementNow_77 : decode cX1_settlementNow 77 = .ok (.iload 5, 2) := dk_21 5 (dk_at dksX1_settlementNow_3 7 rfl rfl)
theorem dX1_settlementNow_79 : decode cX1_settlementNow 79 = .ok (.ifCond .eq 16, 3) := dk_153 0 16 (dk_at dksX1_settlementNow_3 9 rfl rfl)
theorem dX1_settlementNow_82 : decode cX1_settlementNow 82 = .ok (.aload 4, 2) := dk_25 4 (dk_at dksX1_settlementNow_3 12 rfl rfl)
theorem dX1_settlementNow_84 : decode cX1_settlementNow 84 = .ok (.getfield 214, 3) := dk_180 0 214 (dk_at dksX1_settlementNow_3 14 rfl rfl)
theorem dX1_settlementNow_87 : decode cX1_settlementNow 87 = .ok (.bipush 60, 2) := dk_16 60 (dk_at dksX1_settlementNow_3 17 rfl rfl)
theorem dX1_settlementNow_89 : decode cX1_settlementNow 89 = .ok (.invokestatic 229, 3) := dk_184 0 229 (dk_at dksX1_settlementNow_3 19 rfl rfl)
theorem dX1_settlementNow_92 : decode cX1_settlementNow 92 = .ok (.goto 4, 3) := dk_167 0 4 (dk_at dksX1_settlementNow_4 0 rfl rfl)
theorem dX1_settlementNow_95 : decode cX1_settlementNow 95 = .ok (.iconst 0, 1) := dk_3 (dk_at dksX1_settlementNow_4 3 rfl rfl)
theorem dX1_settlementNow_96 : decode cX1_settlementNow 96 = .ok (.iadd, 1) := dk_96 (dk_at dksX1_settlementNow_4 4 rfl rfl)
theorem dX1_settlementNow_97 : decode cX1_settlementNow 97 = .ok (.istore_n 2, 1) := dk_61 (dk_at dksX1_settlementNow_4 5 rfl rfl)
theorem dX1_settlementNow_98 : decode cX1_settlementNow 98 = .ok (.iinc 3 1, 3) := dk_132 3 1 (dk_at dksX1_settlementNow_4 6 rfl rfl)
theorem dX1_settlementNow_101 : decode cX1_settlementNow 101 = .ok (.goto (-97), 3) := dk_167 255 159 (dk_at dksX1_settlementNow_4 9 rfl rfl)
theorem dX1_settlementNow_104 : decode cX1_settlementNow 104 = .ok (.iload_n 2, 1) := dk_28 (dk_at dksX1_settlementNow_4 12 rfl rfl)
theorem dX1_settlementNow_105 : decode cX1_settlementNow 105 = .ok (.aload_n 0, 1) := dk_42 (dk_at dksX1_settlementNow_4 13 rfl rfl)
theorem dX1_settlementNow_106 : decode cX1_settlementNow 106 = .ok (.getfield 25, 3) := dk_180 0 25 (dk_at dksX1_settlementNow_4 14 rfl rfl)
theorem dX1_settlementNow_109 : decode cX1_settlementNow 109 = .ok (.iload_n 1, 1) := dk_27 (dk_at dksX1_settlementNow_4 17 rfl rfl)
theorem dX1_settlementNow_110 : decode cX1_settlementNow 110 = .ok (.iaload, 1) := dk_46 (dk_at dksX1_settlementNow_4 18 rfl rfl)
theorem dX1_settlementNow_111 : decode cX1_settlementNow 111 = .ok (.isub, 1) := dk_100 (dk_at dksX1_settlementNow_4 19 rfl rfl)
theorem dX1_settlementNow_112 : decode cX1_settlementNow 112 = .ok (.ireturn, 1) := dk_172 (dk_at dksX1_settlementNow_4 20 rfl rfl)
abbrev cX1_suspects : ByteArray := prog_1_method_58_code
def yX1_suspects : MethodName := ⟨RX1, "suspects", "()I"⟩
def dkwX1_suspects_1 : List UInt8 := [158, 0, 7, 4, 167, 0, 4, 3, 96, 60, 132, 2, 1, 167, 255, 224, 27, 172]
abbrev dktX1_suspects_1 : List UInt8 := dkwX1_suspects_1 ++ []
def dkwX1_suspects_0 : List UInt8 := [3, 60, 3, 61, 28, 42, 180, 0, 16, 185, 0, 54, 1, 0, 162, 0, 25, 27, 42, 28, 182, 1, 88]
abbrev dktX1_suspects_0 : List UInt8 := dkwX1_suspects_0 ++ dktX1_suspects_1
theorem dksX1_suspects_0 : cX1_suspects.data.toList.drop 0 = dktX1_suspects_0 := by decide +kernel
theorem dksX1_suspects_1 : cX1_suspects.data.toList.drop 23 = dktX1_suspects_1 := dk_seg dksX1_suspects_0 23 rfl rfl
theorem dX1_suspects_0 : decode cX1_suspects 0 = .ok (.iconst 0, 1) := dk_3 (dk_at dksX1_suspects_0 0 rfl rfl)
theorem dX1_suspects_1 : decode cX1_suspects 1 = .ok (.istore_n 1, 1) := dk_60 (dk_at dksX1_suspects_0 1 rfl rfl)
theorem dX1_suspects_2 : decode cX1_suspects 2 = .ok (.iconst 0, 1) := dk_3 (dk_at dksX1_suspects_0 2 rfl rfl)
theorem dX1_suspects_3 : decode cX1_suspects 3 = .ok (.istore_n 2, 1) := dk_61 (dk_at dksX1_suspects_0 3 rfl rfl)
theorem dX1_suspects_4 : decode cX1_suspects 4 = .ok (.iload_n 2, 1) := dk_28 (dk_at dksX1_suspects_0 4 rfl rfl)
theorem dX1_suspects_5 : decode cX1_suspects 5 = .ok (.aload_n 0, 1) := dk_42 (dk_at dksX1_suspects_0 5 rfl rfl)
theorem dX1_suspects_6 : decode cX1_suspects 6 = .ok (.getfield 16, 3) := dk_180 0 16 (dk_at dksX1_suspects_0 6 rfl rfl)
theorem dX1_suspects_9 : decode cX1_suspects 9 = .ok (.invokeinterface 54 1, 5) := by decide +kernel
theorem dX1_suspects_14 : decode cX1_suspects 14 = .ok (.if_icmp .ge 25, 3) := dk_162 0 25 (dk_at dksX1_suspects_0 14 rfl rfl)
theorem dX1_suspects_17 : decode cX1_suspects 17 = .ok (.iload_n 1, 1) := dk_27 (dk_at dksX1_suspects_0 17 rfl rfl)
theorem dX1_suspects_18 : decode cX1_suspects 18 = .ok (.aload_n 0, 1) := dk_42 (dk_at dksX1_suspects_0 18 rfl rfl)
theorem dX1_suspects_19 : decode cX1_suspects 19 = .ok (.iload_n 2, 1) := dk_28 (dk_at dksX1_suspects_0 19 rfl rfl)
theorem dX1_suspects_20 : decode cX1_suspects 20 = .ok (.invokevirtual 344, 3) := dk_182 1 88 (dk_at dksX1_suspects_0 20 rfl rfl)
theorem dX1_suspects_23 : decode cX1_suspects 23 = .ok (.ifCond .le 7, 3) := dk_158 0 7 (dk_at dksX1_suspects_1 0 rfl rfl)
theorem dX1_suspects_26 : decode cX1_suspects 26 = .ok (.iconst 1, 1) := dk_4 (dk_at dksX1_suspects_1 3 rfl rfl)
theorem dX1_suspects_27 : decode cX1_suspects 27 = .ok (.goto 4, 3) := dk_167 0 4 (dk_at dksX1_suspects_1 4 rfl rfl)
theorem dX1_suspects_30 : decode cX1_suspects 30 = .ok (.iconst 0, 1) := dk_3 (dk_at dksX1_suspects_1 7 rfl rfl)
theorem dX1_suspects_31 : decode cX1_suspects 31 = .ok (.iadd, 1) := dk_96 (dk_at dksX1_suspects_1 8 rfl rfl)
theorem dX1_suspects_32 : decode cX1_suspects 32 = .ok (.istore_n 1, 1) := dk_60 (dk_at dksX1_suspects_1 9 rfl rfl)
theorem dX1_suspects_33 : decode cX1_suspects 33 = .ok (.iinc 2 1, 3) := dk_132 2 1 (dk_at dksX1_suspects_1 10 rfl rfl)
theorem dX1_suspects_36 : decode cX1_suspects 36 = .ok (.goto (-32), 3) := dk_167 255 224 (dk_at dksX1_suspects_1 13 rfl rfl)
theorem dX1_suspects_39 : decode cX1_suspects 39 = .ok (.iload_n 1, 1) := dk_27 (dk_at dksX1_suspects_1 16 rfl rfl)
theorem dX1_suspects_40 : decode cX1_suspects 40 = .ok (.ireturn, 1) := dk_172 (dk_at dksX1_suspects_1 17 rfl rfl)
abbrev cX1_suspectNow : ByteArray := prog_1_method_54_code
def yX1_suspectNow : MethodName := ⟨RX1, "suspectNow", "(I)I"⟩
def dkwX1_suspectNow_1 : List UInt8 := [167, 0, 4, 3, 128, 42, 27, 182, 1, 85, 153, 0, 7, 7, 167, 0, 4, 3, 128, 172]
abbrev dktX1_suspectNow_1 : List UInt8 := dkwX1_suspectNow_1 ++ []
def dkwX1_suspectNow_0 : List UInt8 := [42, 27, 182, 1, 79, 153, 0, 7, 4, 167, 0, 4, 3, 42, 27, 182, 1, 82, 153, 0, 7, 5]
abbrev dktX1_suspectNow_0 : List UInt8 := dkwX1_suspectNow_0 ++ dktX1_suspectNow_1
theorem dksX1_suspectNow_0 : cX1_suspectNow.data.toList.drop 0 = dktX1_suspectNow_0 := by decide +kernel
theorem dksX1_suspectNow_1 : cX1_suspectNow.data.toList.drop 22 = dktX1_suspectNow_1 := dk_seg dksX1_suspectNow_0 22 rfl rfl
theorem dX1_suspectNow_0 : decode cX1_suspectNow 0 = .ok (.aload_n 0, 1) := dk_42 (dk_at dksX1_suspectNow_0 0 rfl rfl)
theorem dX1_suspectNow_1 : decode cX1_suspectNow 1 = .ok (.iload_n 1, 1) := dk_27 (dk_at dksX1_suspectNow_0 1 rfl rfl)
theorem dX1_suspectNow_2 : decode cX1_suspectNow 2 = .ok (.invokevirtual 335, 3) := dk_182 1 79 (dk_at dksX1_suspectNow_0 2 rfl rfl)
theorem dX1_suspectNow_5 : decode cX1_suspectNow 5 = .ok (.ifCond .eq 7, 3) := dk_153 0 7 (dk_at dksX1_suspectNow_0 5 rfl rfl)
theorem dX1_suspectNow_8 : decode cX1_suspectNow 8 = .ok (.iconst 1, 1) := dk_4 (dk_at dksX1_suspectNow_0 8 rfl rfl)
theorem dX1_suspectNow_9 : decode cX1_suspectNow 9 = .ok (.goto 4, 3) := dk_167 0 4 (dk_at dksX1_suspectNow_0 9 rfl rfl)
theorem dX1_suspectNow_12 : decode cX1_suspectNow 12 = .ok (.iconst 0, 1) := dk_3 (dk_at dksX1_suspectNow_0 12 rfl rfl)
theorem dX1_suspectNow_13 : decode cX1_suspectNow 13 = .ok (.aload_n 0, 1) := dk_42 (dk_at dksX1_suspectNow_0 13 rfl rfl)
theorem dX1_suspectNow_14 : decode cX1_suspectNow 14 = .ok (.iload_n 1, 1) := dk_27 (dk_at dksX1_suspectNow_0 14 rfl rfl)
theorem dX1_suspectNow_15 : decode cX1_suspectNow 15 = .ok (.invokevirtual 338, 3) := dk_182 1 82 (dk_at dksX1_suspectNow_0 15 rfl rfl)
theorem dX1_suspectNow_18 : decode cX1_suspectNow 18 = .ok (.ifCond .eq 7, 3) := dk_153 0 7 (dk_at dksX1_suspectNow_0 18 rfl rfl)
theorem dX1_suspectNow_21 : decode cX1_suspectNow 21 = .ok (.iconst 2, 1) := dk_5 (dk_at dksX1_suspectNow_0 21 rfl rfl)
theorem dX1_suspectNow_22 : decode cX1_suspectNow 22 = .ok (.goto 4, 3) := dk_167 0 4 (dk_at dksX1_suspectNow_1 0 rfl rfl)
theorem dX1_suspectNow_25 : decode cX1_suspectNow 25 = .ok (.iconst 0, 1) := dk_3 (dk_at dksX1_suspectNow_1 3 rfl rfl)
theorem dX1_suspectNow_26 : decode cX1_suspectNow 26 = .ok (.ior, 1) := dk_128 (dk_at dksX1_suspectNow_1 4 rfl rfl)
theorem dX1_suspectNow_27 : decode cX1_suspectNow 27 = .ok (.aload_n 0, 1) := dk_42 (dk_at dksX1_suspectNow_1 5 rfl rfl)
theorem dX1_suspectNow_28 : decode cX1_suspectNow 28 = .ok (.iload_n 1, 1) := dk_27 (dk_at dksX1_suspectNow_1 6 rfl rfl)
theorem dX1_suspectNow_29 : decode cX1_suspectNow 29 = .ok (.invokevirtual 341, 3) := dk_182 1 85 (dk_at dksX1_suspectNow_1 7 rfl rfl)
theorem dX1_suspectNow_32 : decode cX1_suspectNow 32 = .ok (.ifCond .eq 7, 3) := dk_153 0 7 (dk_at dksX1_suspectNow_1 10 rfl rfl)
theorem dX1_suspectNow_35 : decode cX1_suspectNow 35 = .ok (.iconst 4, 1) := dk_7 (dk_at dksX1_suspectNow_1 13 rfl rfl)
theorem dX1_suspectNow_36 : decode cX1_suspectNow 36 = .ok (.goto 4, 3) := dk_167 0 4 (dk_at dksX1_suspectNow_1 14 rfl rfl)
theorem dX1_suspectNow_39 : decode cX1_suspectNow 39 = .ok (.iconst 0, 1) := dk_3 (dk_at dksX1_suspectNow_1 17 rfl rfl)
theorem dX1_suspectNow_40 : decode cX1_suspectNow 40 = .ok (.ior, 1) := dk_128 (dk_at dksX1_suspectNow_1 18 rfl rfl)
theorem dX1_suspectNow_41 : decode cX1_suspectNow 41 = .ok (.ireturn, 1) := dk_172 (dk_at dksX1_suspectNow_1 19 rfl rfl)
abbrev cX1_overlaps : ByteArray := prog_1_method_51_code
def yX1_overlaps : MethodName := ⟨RX1, "overlaps", "(I)Z"⟩
def dkwX1_overlaps_5 : List UInt8 := [182, 1, 73, 153, 0, 5, 4, 172, 132, 3, 1, 167, 255, 147, 132, 2, 1, 167, 255, 126, 3, 172]
abbrev dktX1_overlaps_5 : List UInt8 := dkwX1_overlaps_5 ++ []
def dkwX1_overlaps_4 : List UInt8 := [180, 0, 204, 27, 160, 0, 7, 4, 167, 0, 4, 3, 54, 6, 21, 6, 153, 0, 15, 25, 4, 25, 5]
abbrev dktX1_overlaps_4 : List UInt8 := dkwX1_overlaps_4 ++ dktX1_overlaps_5
def dkwX1_overlaps_3 : List UInt8 := [153, 0, 33, 25, 5, 182, 0, 196, 153, 0, 25, 25, 4, 180, 0, 204, 27, 160, 0, 16, 25, 5]
abbrev dktX1_overlaps_3 : List UInt8 := dkwX1_overlaps_3 ++ dktX1_overlaps_4
def dkwX1_overlaps_2 : List UInt8 := [180, 0, 19, 29, 185, 0, 61, 2, 0, 192, 0, 69, 58, 5, 28, 29, 159, 0, 41, 25, 4, 182, 0, 196]
abbrev dktX1_overlaps_2 : List UInt8 := dkwX1_overlaps_2 ++ dktX1_overlaps_3
def dkwX1_overlaps_1 : List UInt8 := [185, 0, 54, 1, 0, 162, 0, 102, 42, 180, 0, 19, 28, 185, 0, 61, 2, 0, 192, 0, 69, 58, 4, 42]
abbrev dktX1_overlaps_1 : List UInt8 := dkwX1_overlaps_1 ++ dktX1_overlaps_2
def dkwX1_overlaps_0 : List UInt8 := [3, 61, 28, 42, 180, 0, 19, 185, 0, 54, 1, 0, 162, 0, 123, 3, 62, 29, 42, 180, 0, 19]
abbrev dktX1_overlaps_0 : List UInt8 := dkwX1_overlaps_0 ++ dktX1_overlaps_1
theorem dksX1_overlaps_0 : cX1_overlaps.data.toList.drop 0 = dktX1_overlaps_0 := by decide +kernel
theorem dksX1_overlaps_1 : cX1_overlaps.data.toList.drop 22 = dktX1_overlaps_1 := dk_seg dksX1_overlaps_0 22 rfl rfl
theorem dksX1_overlaps_2 : cX1_overlaps.data.toList.drop 46 = dktX1_overlaps_2 := dk_seg dksX1_overlaps_1 24 rfl rfl
theorem dksX1_overlaps_3 : cX1_overlaps.data.toList.drop 70 = dktX1_overlaps_3 := dk_seg dksX1_overlaps_2 24 rfl rfl
theorem dksX1_overlaps_4 : cX1_overlaps.data.toList.drop 92 = dktX1_overlaps_4 := dk_seg dksX1_overlaps_3 22 rfl rfl
theorem dksX1_overlaps_5 : cX1_overlaps.data.toList.drop 115 = dktX1_overlaps_5 := dk_seg dksX1_overlaps_4 23 rfl rfl
theorem dX1_overlaps_0 : decode cX1_overlaps 0 = .ok (.iconst 0, 1) := dk_3 (dk_at dksX1_overlaps_0 0 rfl rfl)
theorem dX1_overlaps_1 : decode cX1_overlaps 1 = .ok (.istore_n 2, 1) := dk_61 (dk_at dksX1_overlaps_0 1 rfl rfl)
theorem dX1_overlaps_2 : decode cX1_overlaps 2 = .ok (.iload_n 2, 1) := dk_28 (dk_at dksX1_overlaps_0 2 rfl rfl)
theorem dX1_overlaps_3 : decode cX1_overlaps 3 = .ok (.aload_n 0, 1) := dk_42 (dk_at dksX1_overlaps_0 3 rfl rfl)
theorem dX1_overlaps_4 : decode cX1_overlaps 4 = .ok (.getfield 19, 3) := dk_180 0 19 (dk_at dksX1_overlaps_0 4 rfl rfl)
theorem dX1_overlaps_7 : decode cX1_overlaps 7 = .ok (.invokeinterface 54 1, 5) := by decide +kernel
theorem dX1_overlaps_12 : decode cX1_overlaps 12 = .ok (.if_icmp .ge 123, 3) := dk_162 0 123 (dk_at dksX1_overlaps_0 12 rfl rfl)
theorem dX1_overlaps_15 : decode cX1_overlaps 15 = .ok (.iconst 0, 1) := dk_3 (dk_at dksX1_overlaps_0 15 rfl rfl)
theorem dX1_overlaps_16 : decode cX1_overlaps 16 = .ok (.istore_n 3, 1) := dk_62 (dk_at dksX1_overlaps_0 16 rfl rfl)
theorem dX1_overlaps_17 : decode cX1_overlaps 17 = .ok (.iload_n 3, 1) := dk_29 (dk_at dksX1_overlaps_0 17 rfl rfl)
theorem dX1_overlaps_18 : decode cX1_overlaps 18 = .ok (.aload_n 0, 1) := dk_42 (dk_at dksX1_overlaps_0 18 rfl rfl)
theorem dX1_overlaps_19 : decode cX1_overlaps 19 = .ok (.getfield 19, 3) := dk_180 0 19 (dk_at dksX1_overlaps_0 19 rfl rfl)
theorem dX1_overlaps_22 : decode cX1_overlaps 22 = .ok (.invokeinterface 54 1, 5) := by decide +kernel
theorem dX1_overlaps_27 : decode cX1_overlaps 27 = .ok (.if_icmp .ge 102, 3) := dk_162 0 102 (dk_at dksX1_overlaps_1 5 rfl rfl)
theorem dX1_overlaps_30 : decode cX1_overlaps 30 = .ok (.aload_n 0, 1) := dk_42 (dk_at dksX1_overlaps_1 8 rfl rfl)
theorem dX1_overlaps_31 : decode cX1_overlaps 31 = .ok (.getfield 19, 3) := dk_180 0 19 (dk_at dksX1_overlaps_1 9 rfl rfl)
theorem dX1_overlaps_34 : decode cX1_overlaps 34 = .ok (.iload_n 2, 1) := dk_28 (dk_at dksX1_overlaps_1 12 rfl rfl)
theorem dX1_overlaps_35 : decode cX1_overlaps 35 = .ok (.invokeinterface 61 2, 5) := by decide +kernel
theorem dX1_overlaps_40 : decode cX1_overlaps 40 = .ok (.checkcast 69, 3) := dk_192 0 69 (dk_at dksX1_overlaps_1 18 rfl rfl)
theorem dX1_overlaps_43 : decode cX1_overlaps 43 = .ok (.astore 4, 2) := dk_58 4 (dk_at dksX1_overlaps_1 21 rfl rfl)
theorem dX1_overlaps_45 : decode cX1_overlaps 45 = .ok (.aload_n 0, 1) := dk_42 (dk_at dksX1_overlaps_1 23 rfl rfl)
theorem dX1_overlaps_46 : decode cX1_overlaps 46 = .ok (.getfield 19, 3) := dk_180 0 19 (dk_at dksX1_overlaps_2 0 rfl rfl)
theorem dX1_overlaps_49 : decode cX1_overlaps 49 = .ok (.iload_n 3, 1) := dk_29 (dk_at dksX1_overlaps_2 3 rfl rfl)
theorem dX1_overlaps_50 : decode cX1_overlaps 50 = .ok (.invokeinterface 61 2, 5) := by decide +kernel
theorem dX1_overlaps_55 : decode cX1_overlaps 55 = .ok (.checkcast 69, 3) := dk_192 0 69 (dk_at dksX1_overlaps_2 9 rfl rfl)
theorem dX1_overlaps_58 : decode cX1_overlaps 58 = .ok (.astore 5, 2) := dk_58 5 (dk_at dksX1_overlaps_2 12 rfl rfl)
theorem dX1_overlaps_60 : decode cX1_overlaps 60 = .ok (.iload_n 2, 1) := dk_28 (dk_at dksX1_overlaps_2 14 rfl rfl)
theorem dX1_overlaps_61 : decode cX1_overlaps 61 = .ok (.iload_n 3, 1) := dk_29 (dk_at dksX1_overlaps_2 15 rfl rfl)
theorem dX1_overlaps_62 : decode cX1_overlaps 62 = .ok (.if_icmp .eq 41, 3) := dk_159 0 41 (dk_at dksX1_overlaps_2 16 rfl rfl)
theorem dX1_overlaps_65 : decode cX1_overlaps 65 = .ok (.aload 4, 2) := dk_25 4 (dk_at dksX1_overlaps_2 19 rfl rfl)
theorem dX1_overlaps_67 : decode cX1_overlaps 67 = .ok (.invokevirtual 196, 3) := dk_182 0 196 (dk_at dksX1_overlaps_2 21 rfl rfl)
theorem dX1_overlaps_70 : decode cX1_overlaps 70 = .ok (.ifCond .eq 33, 3) := dk_153 0 33 (dk_at dksX1_overlaps_3 0 rfl rfl)
theorem dX1_overlaps_73 : decode cX1_overlaps 73 = .ok (.aload 5, 2) := dk_25 5 (dk_at dksX1_overlaps_3 3 rfl rfl)
theorem dX1_overlaps_75 : decode cX1_overlaps 75 = .ok (.invokevirtual 196, 3) := dk_182 0 196 (dk_at dksX1_overlaps_3 5 rfl rfl)
theorem dX1_overlaps_78 : decode cX1_overlaps 78 = .ok (.ifCond .eq 25, 3) := dk_153 0 25 (dk_at dksX1_overlaps_3 8 rfl rfl)
theorem dX1_overlaps_81 : decode cX1_overlaps 81 = .ok (.aload 4, 2) := dk_25 4 (dk_at dksX1_overlaps_3 11 rfl rfl)
theorem dX1_overlaps_83 : decode cX1_overlaps 83 = .ok (.getfield 204, 3) := dk_180 0 204 (dk_at dksX1_overlaps_3 13 rfl rfl)
theorem dX1_overlaps_86 : decode cX1_overlaps 86 = .ok (.iload_n 1, 1) := dk_27 (dk_at dksX1_overlaps_3 16 rfl rfl)
theorem dX1_overlaps_87 : decode cX1_overlaps 87 = .ok (.if_icmp .ne 16, 3) := dk_160 0 16 (dk_at dksX1_overlaps_3 17 rfl rfl)
theorem dX1_overlaps_90 : decode cX1_overlaps 90 = .ok (.aload 5, 2) := dk_25 5 (dk_at dksX1_overlaps_3 20 rfl rfl)
theorem dX1_overlaps_92 : decode cX1_overlaps 92 = .ok (.getfield 204, 3) := dk_180 0 204 (dk_at dksX1_overlaps_4 0 rfl rfl)
theorem dX1_overlaps_95 : decode cX1_overlaps 95 = .ok (.iload_n 1, 1) := dk_27 (dk_at dksX1_overlaps_4 3 rfl rfl)
theorem dX1_overlaps_96 : decode cX1_overlaps 96 = .ok (.if_icmp .ne 7, 3) := dk_160 0 7 (dk_at dksX1_overlaps_4 4 rfl rfl)
theorem dX1_overlaps_99 : decode cX1_overlaps 99 = .ok (.iconst 1, 1) := dk_4 (dk_at dksX1_overlaps_4 7 rfl rfl)
theorem dX1_overlaps_100 : decode cX1_overlaps 100 = .ok (.goto 4, 3) := dk_167 0 4 (dk_at dksX1_overlaps_4 8 rfl rfl)
theorem dX1_overlaps_103 : decode cX1_overlaps 103 = .ok (.iconst 0, 1) := dk_3 (dk_at dksX1_overlaps_4 11 rfl rfl)
theorem dX1_overlaps_104 : decode cX1_overlaps 104 = .ok (.istore 6, 2) := dk_54 6 (dk_at dksX1_overlaps_4 12 rfl rfl)
theorem dX1_overlaps_106 : decode cX1_overlaps 106 = .ok (.iload 6, 2) := dk_21 6 (dk_at dksX1_overlaps_4 14 rfl rfl)
theorem dX1_overlaps_108 : decode cX1_overlaps 108 = .ok (.ifCond .eq 15, 3) := dk_153 0 15 (dk_at dksX1_overlaps_4 16 rfl rfl)
theorem dX1_overlaps_111 : decode cX1_overlaps 111 = .ok (.aload 4, 2) := dk_25 4 (dk_at dksX1_overlaps_4 19 rfl rfl)
theorem dX1_overlaps_113 : decode cX1_overlaps 113 = .ok (.aload 5, 2) := dk_25 5 (dk_at dksX1_overlaps_4 21 rfl rfl)
theorem dX1_overlaps_115 : decode cX1_overlaps 115 = .ok (.invokevirtual 329, 3) := dk_182 1 73 (dk_at dksX1_overlaps_5 0 rfl rfl)
theorem dX1_overlaps_118 : decode cX1_overlaps 118 = .ok (.ifCond .eq 5, 3) := dk_153 0 5 (dk_at dksX1_overlaps_5 3 rfl rfl)
theorem dX1_overlaps_121 : decode cX1_overlaps 121 = .ok (.iconst 1, 1) := dk_4 (dk_at dksX1_overlaps_5 6 rfl rfl)
theorem dX1_overlaps_122 : decode cX1_overlaps 122 = .ok (.ireturn, 1) := dk_172 (dk_at dksX1_overlaps_5 7 rfl rfl)
theorem dX1_overlaps_123 : decode cX1_overlaps 123 = .ok (.iinc 3 1, 3) := dk_132 3 1 (dk_at dksX1_overlaps_5 8 rfl rfl)
theorem dX1_overlaps_126 : decode cX1_overlaps 126 = .ok (.goto (-109), 3) := dk_167 255 147 (dk_at dksX1_overlaps_5 11 rfl rfl)
theorem dX1_overlaps_129 : decode cX1_overlaps 129 = .ok (.iinc 2 1, 3) := dk_132 2 1 (dk_at dksX1_overlaps_5 14 rfl rfl)
theorem dX1_overlaps_132 : decode cX1_overlaps 132 = .ok (.goto (-130), 3) := dk_167 255 126 (dk_at dksX1_overlaps_5 17 rfl rfl)
theorem dX1_overlaps_135 : decode cX1_overlaps 135 = .ok (.iconst 0, 1) := dk_3 (dk_at dksX1_overlaps_5 20 rfl rfl)
theorem dX1_overlaps_136 : decode cX1_overlaps 136 = .ok (.ireturn, 1) := dk_172 (dk_at dksX1_overlaps_5 21 rfl rfl)
abbrev cX1_callsMany : ByteArray := prog_1_method_52_code
def yX1_callsMany : MethodName := ⟨RX1, "callsMany", "(I)Z"⟩
def dkwX1_callsMany_3 : List UInt8 := [132, 2, 1, 167, 255, 190, 3, 172]
abbrev dktX1_callsMany_3 : List UInt8 := dkwX1_callsMany_3 ++ []
def dkwX1_callsMany_2 : List UInt8 := [185, 0, 61, 2, 0, 192, 0, 69, 180, 0, 207, 182, 1, 76, 184, 0, 132, 8, 161, 0, 5, 4, 172]
abbrev dktX1_callsMany_2 : List UInt8 := dkwX1_callsMany_2 ++ dktX1_callsMany_3
def dkwX1_callsMany_1 : List UInt8 := [185, 0, 61, 2, 0, 192, 0, 69, 180, 0, 204, 27, 160, 0, 33, 42, 27, 42, 180, 0, 19, 28]
abbrev dktX1_callsMany_1 : List UInt8 := dkwX1_callsMany_1 ++ dktX1_callsMany_2
def dkwX1_callsMany_0 : List UInt8 := [3, 61, 28, 42, 180, 0, 19, 185, 0, 54, 1, 0, 162, 0, 59, 42, 180, 0, 19, 28]
abbrev dktX1_callsMany_0 : List UInt8 := dkwX1_callsMany_0 ++ dktX1_callsMany_1
theorem dksX1_callsMany_0 : cX1_callsMany.data.toList.drop 0 = dktX1_callsMany_0 := by decide +kernel
theorem dksX1_callsMany_1 : cX1_callsMany.data.toList.drop 20 = dktX1_callsMany_1 := dk_seg dksX1_callsMany_0 20 rfl rfl
theorem dksX1_callsMany_2 : cX1_callsMany.data.toList.drop 42 = dktX1_callsMany_2 := dk_seg dksX1_callsMany_1 22 rfl rfl
theorem dksX1_callsMany_3 : cX1_callsMany.data.toList.drop 65 = dktX1_callsMany_3 := dk_seg dksX1_callsMany_2 23 rfl rfl
theorem dX1_callsMany_0 : decode cX1_callsMany 0 = .ok (.iconst 0, 1) := dk_3 (dk_at dksX1_callsMany_0 0 rfl rfl)
theorem dX1_callsMany_1 : decode cX1_callsMany 1 = .ok (.istore_n 2, 1) := dk_61 (dk_at dksX1_callsMany_0 1 rfl rfl)
theorem dX1_callsMany_2 : decode cX1_callsMany 2 = .ok (.iload_n 2, 1) := dk_28 (dk_at dksX1_callsMany_0 2 rfl rfl)
theorem dX1_callsMany_3 : decode cX1_callsMany 3 = .ok (.aload_n 0, 1) := dk_42 (dk_at dksX1_callsMany_0 3 rfl rfl)
theorem dX1_callsMany_4 : decode cX1_callsMany 4 = .ok (.getfield 19, 3) := dk_180 0 19 (dk_at dksX1_callsMany_0 4 rfl rfl)
theorem dX1_callsMany_7 : decode cX1_callsMany 7 = .ok (.invokeinterface 54 1, 5) := by decide +kernel
theorem dX1_callsMany_12 : decode cX1_callsMany 12 = .ok (.if_icmp .ge 59, 3) := dk_162 0 59 (dk_at dksX1_callsMany_0 12 rfl rfl)
theorem dX1_callsMany_15 : decode cX1_callsMany 15 = .ok (.aload_n 0, 1) := dk_42 (dk_at dksX1_callsMany_0 15 rfl rfl)
theorem dX1_callsMany_16 : decode cX1_callsMany 16 = .ok (.getfield 19, 3) := dk_180 0 19 (dk_at dksX1_callsMany_0 16 rfl rfl)
theorem dX1_callsMany_19 : decode cX1_callsMany 19 = .ok (.iload_n 2, 1) := dk_28 (dk_at dksX1_callsMany_0 19 rfl rfl)
theorem dX1_callsMany_20 : decode cX1_callsMany 20 = .ok (.invokeinterface 61 2, 5) := by decide +kernel
theorem dX1_callsMany_25 : decode cX1_callsMany 25 = .ok (.checkcast 69, 3) := dk_192 0 69 (dk_at dksX1_callsMany_1 5 rfl rfl)
theorem dX1_callsMany_28 : decode cX1_callsMany 28 = .ok (.getfield 204, 3) := dk_180 0 204 (dk_at dksX1_callsMany_1 8 rfl rfl)
theorem dX1_callsMany_31 : decode cX1_callsMany 31 = .ok (.iload_n 1, 1) := dk_27 (dk_at dksX1_callsMany_1 11 rfl rfl)
theorem dX1_callsMany_32 : decode cX1_callsMany 32 = .ok (.if_icmp .ne 33, 3) := dk_160 0 33 (dk_at dksX1_callsMany_1 12 rfl rfl)
theorem dX1_callsMany_35 : decode cX1_callsMany 35 = .ok (.aload_n 0, 1) := dk_42 (dk_at dksX1_callsMany_1 15 rfl rfl)
theorem dX1_callsMany_36 : decode cX1_callsMany 36 = .ok (.iload_n 1, 1) := dk_27 (dk_at dksX1_callsMany_1 16 rfl rfl)
theorem dX1_callsMany_37 : decode cX1_callsMany 37 = .ok (.aload_n 0, 1) := dk_42 (dk_at dksX1_callsMany_1 17 rfl rfl)
theorem dX1_callsMany_38 : decode cX1_callsMany 38 = .ok (.getfield 19, 3) := dk_180 0 19 (dk_at dksX1_callsMany_1 18 rfl rfl)
theorem dX1_callsMany_41 : decode cX1_callsMany 41 = .ok (.iload_n 2, 1) := dk_28 (dk_at dksX1_callsMany_1 21 rfl rfl)
theorem dX1_callsMany_42 : decode cX1_callsMany 42 = .ok (.invokeinterface 61 2, 5) := by decide +kernel
theorem dX1_callsMany_47 : decode cX1_callsMany 47 = .ok (.checkcast 69, 3) := dk_192 0 69 (dk_at dksX1_callsMany_2 5 rfl rfl)
theorem dX1_callsMany_50 : decode cX1_callsMany 50 = .ok (.getfield 207, 3) := dk_180 0 207 (dk_at dksX1_callsMany_2 8 rfl rfl)
theorem dX1_callsMany_53 : decode cX1_callsMany 53 = .ok (.invokevirtual 332, 3) := dk_182 1 76 (dk_at dksX1_callsMany_2 11 rfl rfl)
theorem dX1_callsMany_56 : decode cX1_callsMany 56 = .ok (.invokestatic 132, 3) := dk_184 0 132 (dk_at dksX1_callsMany_2 14 rfl rfl)
theorem dX1_callsMany_59 : decode cX1_callsMany 59 = .ok (.iconst 5, 1) := dk_8 (dk_at dksX1_callsMany_2 17 rfl rfl)
theorem dX1_callsMany_60 : decode cX1_callsMany 60 = .ok (.if_icmp .lt 5, 3) := dk_161 0 5 (dk_at dksX1_callsMany_2 18 rfl rfl)
theorem dX1_callsMany_63 : decode cX1_callsMany 63 = .ok (.iconst 1, 1) := dk_4 (dk_at dksX1_callsMany_2 21 rfl rfl)
theorem dX1_callsMany_64 : decode cX1_callsMany 64 = .ok (.ireturn, 1) := dk_172 (dk_at dksX1_callsMany_2 22 rfl rfl)
theorem dX1_callsMany_65 : decode cX1_callsMany 65 = .ok (.iinc 2 1, 3) := dk_132 2 1 (dk_at dksX1_callsMany_3 0 rfl rfl)
theorem dX1_callsMany_68 : decode cX1_callsMany 68 = .ok (.goto (-66), 3) := dk_167 255 190 (dk_at dksX1_callsMany_3 3 rfl rfl)
theorem dX1_callsMany_71 : decode cX1_callsMany 71 = .ok (.iconst 0, 1) := dk_3 (dk_at dksX1_callsMany_3 6 rfl rfl)
theorem dX1_callsMany_72 : decode cX1_callsMany 72 = .ok (.ireturn, 1) := dk_172 (dk_at dksX1_callsMany_3 7 rfl rfl)
abbrev cX1_called : ByteArray := prog_1_method_50_code
def yX1_called : MethodName := ⟨RX1, "called", "(II)I"⟩
def dkwX1_called_4 : List UInt8 := [62, 132, 4, 1, 167, 255, 166, 29, 172]
abbrev dktX1_called_4 : List UInt8 := dkwX1_called_4 ++ []
def dkwX1_called_3 : List UInt8 := [167, 0, 4, 3, 54, 6, 29, 21, 6, 153, 0, 13, 4, 25, 5, 180, 0, 226, 120, 167, 0, 4, 3, 128]
abbrev dktX1_called_3 : List UInt8 := dkwX1_called_3 ++ dktX1_called_4
def dkwX1_called_2 : List UInt8 := [180, 0, 204, 27, 160, 0, 21, 28, 2, 159, 0, 12, 25, 5, 180, 0, 207, 28, 160, 0, 7, 4]
abbrev dktX1_called_2 : List UInt8 := dkwX1_called_2 ++ dktX1_called_3
def dkwX1_called_1 : List UInt8 := [21, 4, 185, 0, 61, 2, 0, 192, 0, 69, 58, 5, 25, 5, 182, 0, 196, 153, 0, 30, 25, 5]
abbrev dktX1_called_1 : List UInt8 := dkwX1_called_1 ++ dktX1_called_2
def dkwX1_called_0 : List UInt8 := [3, 62, 3, 54, 4, 21, 4, 42, 180, 0, 19, 185, 0, 54, 1, 0, 162, 0, 82, 42, 180, 0, 19]
abbrev dktX1_called_0 : List UInt8 := dkwX1_called_0 ++ dktX1_called_1
theorem dksX1_called_0 : cX1_called.data.toList.drop 0 = dktX1_called_0 := by decide +kernel
theorem dksX1_called_1 : cX1_called.data.toList.drop 23 = dktX1_called_1 := dk_seg dksX1_called_0 23 rfl rfl
theorem dksX1_called_2 : cX1_called.data.toList.drop 45 = dktX1_called_2 := dk_seg dksX1_called_1 22 rfl rfl
theorem dksX1_called_3 : cX1_called.data.toList.drop 67 = dktX1_called_3 := dk_seg dksX1_called_2 22 rfl rfl
theorem dksX1_called_4 : cX1_called.data.toList.drop 91 = dktX1_called_4 := dk_seg dksX1_called_3 24 rfl rfl
theorem dX1_called_0 : decode cX1_called 0 = .ok (.iconst 0, 1) := dk_3 (dk_at dksX1_called_0 0 rfl rfl)
theorem dX1_called_1 : decode cX1_called 1 = .ok (.istore_n 3, 1) := dk_62 (dk_at dksX1_called_0 1 rfl rfl)
theorem dX1_called_2 : decode cX1_called 2 = .ok (.iconst 0, 1) := dk_3 (dk_at dksX1_called_0 2 rfl rfl)
theorem dX1_called_3 : decode cX1_called 3 = .ok (.istore 4, 2) := dk_54 4 (dk_at dksX1_called_0 3 rfl rfl)
theorem dX1_called_5 : decode cX1_called 5 = .ok (.iload 4, 2) := dk_21 4 (dk_at dksX1_called_0 5 rfl rfl)
theorem dX1_called_7 : decode cX1_called 7 = .ok (.aload_n 0, 1) := dk_42 (dk_at dksX1_called_0 7 rfl rfl)
theorem dX1_called_8 : decode cX1_called 8 = .ok (.getfield 19, 3) := dk_180 0 19 (dk_at dksX1_called_0 8 rfl rfl)
theorem dX1_called_11 : decode cX1_called 11 = .ok (.invokeinterface 54 1, 5) := by decide +kernel
theorem dX1_called_16 : decode cX1_called 16 = .ok (.if_icmp .ge 82, 3) := dk_162 0 82 (dk_at dksX1_called_0 16 rfl rfl)
theorem dX1_called_19 : decode cX1_called 19 = .ok (.aload_n 0, 1) := dk_42 (dk_at dksX1_called_0 19 rfl rfl)
theorem dX1_called_20 : decode cX1_called 20 = .ok (.getfield 19, 3) := dk_180 0 19 (dk_at dksX1_called_0 20 rfl rfl)
theorem dX1_called_23 : decode cX1_called 23 = .ok (.iload 4, 2) := dk_21 4 (dk_at dksX1_called_1 0 rfl rfl)
theorem dX1_called_25 : decode cX1_called 25 = .ok (.invokeinterface 61 2, 5) := by decide +kernel
theorem dX1_called_30 : decode cX1_called 30 = .ok (.checkcast 69, 3) := dk_192 0 69 (dk_at dksX1_called_1 7 rfl rfl)
theorem dX1_called_33 : decode cX1_called 33 = .ok (.astore 5, 2) := dk_58 5 (dk_at dksX1_called_1 10 rfl rfl)
theorem dX1_called_35 : decode cX1_called 35 = .ok (.aload 5, 2) := dk_25 5 (dk_at dksX1_called_1 12 rfl rfl)
theorem dX1_called_37 : decode cX1_called 37 = .ok (.invokevirtual 196, 3) := dk_182 0 196 (dk_at dksX1_called_1 14 rfl rfl)
theorem dX1_called_40 : decode cX1_called 40 = .ok (.ifCond .eq 30, 3) := dk_153 0 30 (dk_at dksX1_called_1 17 rfl rfl)
theorem dX1_called_43 : decode cX1_called 43 = .ok (.aload 5, 2) := dk_25 5 (dk_at dksX1_called_1 20 rfl rfl)
theorem dX1_called_45 : decode cX1_called 45 = .ok (.getfield 204, 3) := dk_180 0 204 (dk_at dksX1_called_2 0 rfl rfl)
theorem dX1_called_48 : decode cX1_called 48 = .ok (.iload_n 1, 1) := dk_27 (dk_at dksX1_called_2 3 rfl rfl)
theorem dX1_called_49 : decode cX1_called 49 = .ok (.if_icmp .ne 21, 3) := dk_160 0 21 (dk_at dksX1_called_2 4 rfl rfl)
theorem dX1_called_52 : decode cX1_called 52 = .ok (.iload_n 2, 1) := dk_28 (dk_at dksX1_called_2 7 rfl rfl)
theorem dX1_called_53 : decode cX1_called 53 = .ok (.iconst (-1), 1) := dk_2 (dk_at dksX1_called_2 8 rfl rfl)
theorem dX1_called_54 : decode cX1_called 54 = .ok (.if_icmp .eq 12, 3) := dk_159 0 12 (dk_at dksX1_called_2 9 rfl rfl)
theorem dX1_called_57 : decode cX1_called 57 = .ok (.aload 5, 2) := dk_25 5 (dk_at dksX1_called_2 12 rfl rfl)
theorem dX1_called_59 : decode cX1_called 59 = .ok (.getfield 207, 3) := dk_180 0 207 (dk_at dksX1_called_2 14 rfl rfl)
theorem dX1_called_62 : decode cX1_called 62 = .ok (.iload_n 2, 1) := dk_28 (dk_at dksX1_called_2 17 rfl rfl)
theorem dX1_called_63 : decode cX1_called 63 = .ok (.if_icmp .ne 7, 3) := dk_160 0 7 (dk_at dksX1_called_2 18 rfl rfl)
theorem dX1_called_66 : decode cX1_called 66 = .ok (.iconst 1, 1) := dk_4 (dk_at dksX1_called_2 21 rfl rfl)
theorem dX1_called_67 : decode cX1_called 67 = .ok (.goto 4, 3) := dk_167 0 4 (dk_at dksX1_called_3 0 rfl rfl)
theorem dX1_called_70 : decode cX1_called 70 = .ok (.iconst 0, 1) := dk_3 (dk_at dksX1_called_3 3 rfl rfl)
theorem dX1_called_71 : decode cX1_called 71 = .ok (.istore 6, 2) := dk_54 6 (dk_at dksX1_called_3 4 rfl rfl)
theorem dX1_called_73 : decode cX1_called 73 = .ok (.iload_n 3, 1) := dk_29 (dk_at dksX1_called_3 6 rfl rfl)
theorem dX1_called_74 : decode cX1_called 74 = .ok (.iload 6, 2) := dk_21 6 (dk_at dksX1_called_3 7 rfl rfl)
theorem dX1_called_76 : decode cX1_called 76 = .ok (.ifCond .eq 13, 3) := dk_153 0 13 (dk_at dksX1_called_3 9 rfl rfl)
theorem dX1_called_79 : decode cX1_called 79 = .ok (.iconst 1, 1) := dk_4 (dk_at dksX1_called_3 12 rfl rfl)
theorem dX1_called_80 : decode cX1_called 80 = .ok (.aload 5, 2) := dk_25 5 (dk_at dksX1_called_3 13 rfl rfl)
theorem dX1_called_82 : decode cX1_called 82 = .ok (.getfield 226, 3) := dk_180 0 226 (dk_at dksX1_called_3 15 rfl rfl)
theorem dX1_called_85 : decode cX1_called 85 = .ok (.ishl, 1) := dk_120 (dk_at dksX1_called_3 18 rfl rfl)
theorem dX1_called_86 : decode cX1_called 86 = .ok (.goto 4, 3) := dk_167 0 4 (dk_at dksX1_called_3 19 rfl rfl)
theorem dX1_called_89 : decode cX1_called 89 = .ok (.iconst 0, 1) := dk_3 (dk_at dksX1_called_3 22 rfl rfl)
theorem dX1_called_90 : decode cX1_called 90 = .ok (.ior, 1) := dk_128 (dk_at dksX1_called_3 23 rfl rfl)
theorem dX1_called_91 : decode cX1_called 91 = .ok (.istore_n 3, 1) := dk_62 (dk_at dksX1_called_4 0 rfl rfl)
theorem dX1_called_92 : decode cX1_called 92 = .ok (.iinc 4 1, 3) := dk_132 4 1 (dk_at dksX1_called_4 1 rfl rfl)
theorem dX1_called_95 : decode cX1_called 95 = .ok (.goto (-90), 3) := dk_167 255 166 (dk_at dksX1_called_4 4 rfl rfl)
theorem dX1_called_98 : decode cX1_called 98 = .ok (.iload_n 3, 1) := dk_29 (dk_at dksX1_called_4 7 rfl rfl)
theorem dX1_called_99 : decode cX1_called 99 = .ok (.ireturn, 1) := dk_172 (dk_at dksX1_called_4 8 rfl rfl)
abbrev cX1_size : ByteArray := prog_1_method_2_code
def yX1_size : MethodName := ⟨RX1, "size", "(I)I"⟩
def dkwX1_size_0 : List UInt8 := [3, 60, 26, 61, 28, 153, 0, 15, 132, 1, 1, 28, 28, 4, 100, 126, 61, 167, 255, 243, 27, 172]
abbrev dktX1_size_0 : List UInt8 := dkwX1_size_0 ++ []
theorem dksX1_size_0 : cX1_size.data.toList.drop 0 = dktX1_size_0 := by decide +kernel
theorem dX1_size_0 : decode cX1_size 0 = .ok (.iconst 0, 1) := dk_3 (dk_at dksX1_size_0 0 rfl rfl)
theorem dX1_size_1 : decode cX1_size 1 = .ok (.istore_n 1, 1) := dk_60 (dk_at dksX1_size_0 1 rfl rfl)
theorem dX1_size_2 : decode cX1_size 2 = .ok (.iload_n 0, 1) := dk_26 (dk_at dksX1_size_0 2 rfl rfl)
theorem dX1_size_3 : decode cX1_size 3 = .ok (.istore_n 2, 1) := dk_61 (dk_at dksX1_size_0 3 rfl rfl)
theorem dX1_size_4 : decode cX1_size 4 = .ok (.iload_n 2, 1) := dk_28 (dk_at dksX1_size_0 4 rfl rfl)
theorem dX1_size_5 : decode cX1_size 5 = .ok (.ifCond .eq 15, 3) := dk_153 0 15 (dk_at dksX1_size_0 5 rfl rfl)
theorem dX1_size_8 : decode cX1_size 8 = .ok (.iinc 1 1, 3) := dk_132 1 1 (dk_at dksX1_size_0 8 rfl rfl)
theorem dX1_size_11 : decode cX1_size 11 = .ok (.iload_n 2, 1) := dk_28 (dk_at dksX1_size_0 11 rfl rfl)
theorem dX1_size_12 : decode cX1_size 12 = .ok (.iload_n 2, 1) := dk_28 (dk_at dksX1_size_0 12 rfl rfl)
theorem dX1_size_13 : decode cX1_size 13 = .ok (.iconst 1, 1) := dk_4 (dk_at dksX1_size_0 13 rfl rfl)
theorem dX1_size_14 : decode cX1_size 14 = .ok (.isub, 1) := dk_100 (dk_at dksX1_size_0 14 rfl rfl)
theorem dX1_size_15 : decode cX1_size 15 = .ok (.iand, 1) := dk_126 (dk_at dksX1_size_0 15 rfl rfl)
theorem dX1_size_16 : decode cX1_size 16 = .ok (.istore_n 2, 1) := dk_61 (dk_at dksX1_size_0 16 rfl rfl)
theorem dX1_size_17 : decode cX1_size 17 = .ok (.goto (-13), 3) := dk_167 255 243 (dk_at dksX1_size_0 17 rfl rfl)
theorem dX1_size_20 : decode cX1_size 20 = .ok (.iload_n 1, 1) := dk_27 (dk_at dksX1_size_0 20 rfl rfl)
theorem dX1_size_21 : decode cX1_size 21 = .ok (.ireturn, 1) := dk_172 (dk_at dksX1_size_0 21 rfl rfl)
abbrev cX1_isLikeAnother : ByteArray := prog_1_method_53_code
def yX1_isLikeAnother : MethodName := ⟨RX1, "isLikeAnother", "(I)Z"⟩
def dkwX1_isLikeAnother_2 : List UInt8 := [167, 255, 213, 3, 172]
abbrev dktX1_isLikeAnother_2 : List UInt8 := dkwX1_isLikeAnother_2 ++ []
def dkwX1_isLikeAnother_1 : List UInt8 := [182, 1, 76, 42, 27, 2, 182, 1, 76, 126, 184, 0, 132, 6, 161, 0, 5, 4, 172, 132, 2, 1]
abbrev dktX1_isLikeAnother_1 : List UInt8 := dkwX1_isLikeAnother_1 ++ dktX1_isLikeAnother_2
def dkwX1_isLikeAnother_0 : List UInt8 := [3, 61, 28, 42, 180, 0, 16, 185, 0, 54, 1, 0, 162, 0, 36, 28, 27, 159, 0, 25, 42, 28, 2]
abbrev dktX1_isLikeAnother_0 : List UInt8 := dkwX1_isLikeAnother_0 ++ dktX1_isLikeAnother_1
theorem dksX1_isLikeAnother_0 : cX1_isLikeAnother.data.toList.drop 0 = dktX1_isLikeAnother_0 := by decide +kernel
theorem dksX1_isLikeAnother_1 : cX1_isLikeAnother.data.toList.drop 23 = dktX1_isLikeAnother_1 := dk_seg dksX1_isLikeAnother_0 23 rfl rfl
theorem dksX1_isLikeAnother_2 : cX1_isLikeAnother.data.toList.drop 45 = dktX1_isLikeAnother_2 := dk_seg dksX1_isLikeAnother_1 22 rfl rfl
theorem dX1_isLikeAnother_0 : decode cX1_isLikeAnother 0 = .ok (.iconst 0, 1) := dk_3 (dk_at dksX1_isLikeAnother_0 0 rfl rfl)
theorem dX1_isLikeAnother_1 : decode cX1_isLikeAnother 1 = .ok (.istore_n 2, 1) := dk_61 (dk_at dksX1_isLikeAnother_0 1 rfl rfl)
theorem dX1_isLikeAnother_2 : decode cX1_isLikeAnother 2 = .ok (.iload_n 2, 1) := dk_28 (dk_at dksX1_isLikeAnother_0 2 rfl rfl)
theorem dX1_isLikeAnother_3 : decode cX1_isLikeAnother 3 = .ok (.aload_n 0, 1) := dk_42 (dk_at dksX1_isLikeAnother_0 3 rfl rfl)
theorem dX1_isLikeAnother_4 : decode cX1_isLikeAnother 4 = .ok (.getfield 16, 3) := dk_180 0 16 (dk_at dksX1_isLikeAnother_0 4 rfl rfl)
theorem dX1_isLikeAnother_7 : decode cX1_isLikeAnother 7 = .ok (.invokeinterface 54 1, 5) := by decide +kernel
theorem dX1_isLikeAnother_12 : decode cX1_isLikeAnother 12 = .ok (.if_icmp .ge 36, 3) := dk_162 0 36 (dk_at dksX1_isLikeAnother_0 12 rfl rfl)
theorem dX1_isLikeAnother_15 : decode cX1_isLikeAnother 15 = .ok (.iload_n 2, 1) := dk_28 (dk_at dksX1_isLikeAnother_0 15 rfl rfl)
theorem dX1_isLikeAnother_16 : decode cX1_isLikeAnother 16 = .ok (.iload_n 1, 1) := dk_27 (dk_at dksX1_isLikeAnother_0 16 rfl rfl)
theorem dX1_isLikeAnother_17 : decode cX1_isLikeAnother 17 = .ok (.if_icmp .eq 25, 3) := dk_159 0 25 (dk_at dksX1_isLikeAnother_0 17 rfl rfl)
theorem dX1_isLikeAnother_20 : decode cX1_isLikeAnother 20 = .ok (.aload_n 0, 1) := dk_42 (dk_at dksX1_isLikeAnother_0 20 rfl rfl)
theorem dX1_isLikeAnother_21 : decode cX1_isLikeAnother 21 = .ok (.iload_n 2, 1) := dk_28 (dk_at dksX1_isLikeAnother_0 21 rfl rfl)
theorem dX1_isLikeAnother_22 : decode cX1_isLikeAnother 22 = .ok (.iconst (-1), 1) := dk_2 (dk_at dksX1_isLikeAnother_0 22 rfl rfl)
theorem dX1_isLikeAnother_23 : decode cX1_isLikeAnother 23 = .ok (.invokevirtual 332, 3) := dk_182 1 76 (dk_at dksX1_isLikeAnother_1 0 rfl rfl)
theorem dX1_isLikeAnother_26 : decode cX1_isLikeAnother 26 = .ok (.aload_n 0, 1) := dk_42 (dk_at dksX1_isLikeAnother_1 3 rfl rfl)
theorem dX1_isLikeAnother_27 : decode cX1_isLikeAnother 27 = .ok (.iload_n 1, 1) := dk_27 (dk_at dksX1_isLikeAnother_1 4 rfl rfl)
theorem dX1_isLikeAnother_28 : decode cX1_isLikeAnother 28 = .ok (.iconst (-1), 1) := dk_2 (dk_at dksX1_isLikeAnother_1 5 rfl rfl)
theorem dX1_isLikeAnother_29 : decode cX1_isLikeAnother 29 = .ok (.invokevirtual 332, 3) := dk_182 1 76 (dk_at dksX1_isLikeAnother_1 6 rfl rfl)
theorem dX1_isLikeAnother_32 : decode cX1_isLikeAnother 32 = .ok (.iand, 1) := dk_126 (dk_at dksX1_isLikeAnother_1 9 rfl rfl)
theorem dX1_isLikeAnother_33 : decode cX1_isLikeAnother 33 = .ok (.invokestatic 132, 3) := dk_184 0 132 (dk_at dksX1_isLikeAnother_1 10 rfl rfl)
theorem dX1_isLikeAnother_36 : decode cX1_isLikeAnother 36 = .ok (.iconst 3, 1) := dk_6 (dk_at dksX1_isLikeAnother_1 13 rfl rfl)
theorem dX1_isLikeAnother_37 : decode cX1_isLikeAnother 37 = .ok (.if_icmp .lt 5, 3) := dk_161 0 5 (dk_at dksX1_isLikeAnother_1 14 rfl rfl)
theorem dX1_isLikeAnother_40 : decode cX1_isLikeAnother 40 = .ok (.iconst 1, 1) := dk_4 (dk_at dksX1_isLikeAnother_1 17 rfl rfl)
theorem dX1_isLikeAnother_41 : decode cX1_isLikeAnother 41 = .ok (.ireturn, 1) := dk_172 (dk_at dksX1_isLikeAnother_1 18 rfl rfl)
theorem dX1_isLikeAnother_42 : decode cX1_isLikeAnother 42 = .ok (.iinc 2 1, 3) := dk_132 2 1 (dk_at dksX1_isLikeAnother_1 19 rfl rfl)
theorem dX1_isLikeAnother_45 : decode cX1_isLikeAnother 45 = .ok (.goto (-43), 3) := dk_167 255 213 (dk_at dksX1_isLikeAnother_2 0 rfl rfl)
theorem dX1_isLikeAnother_48 : decode cX1_isLikeAnother 48 = .ok (.iconst 0, 1) := dk_3 (dk_at dksX1_isLikeAnother_2 3 rfl rfl)
theorem dX1_isLikeAnother_49 : decode cX1_isLikeAnother 49 = .ok (.ireturn, 1) := dk_172 (dk_at dksX1_isLikeAnother_2 4 rfl rfl)
abbrev cX1_sumCustomer : ByteArray := prog_1_method_67_code
def yX1_sumCustomer : MethodName := ⟨RX1, "sumCustomer", "(LRollover$Sum;LRollover$Rating;I)V"⟩
def dkwX1_sumCustomer_3 : List UInt8 := [132, 5, 1, 167, 255, 232, 132, 4, 1, 167, 255, 211, 177]
abbrev dktX1_sumCustomer_3 : List UInt8 := dkwX1_sumCustomer_3 ++ []
def dkwX1_sumCustomer_2 : List UInt8 := [3, 54, 5, 21, 5, 16, 7, 163, 0, 23, 43, 44, 29, 21, 4, 21, 5, 184, 1, 30, 133, 182, 1, 164]
abbrev dktX1_sumCustomer_2 : List UInt8 := dkwX1_sumCustomer_2 ++ dktX1_sumCustomer_3
def dkwX1_sumCustomer_1 : List UInt8 := [182, 1, 164, 132, 4, 1, 167, 255, 230, 3, 54, 4, 21, 4, 42, 180, 0, 80, 16, 30, 108, 163, 0, 39]
abbrev dktX1_sumCustomer_1 : List UInt8 := dkwX1_sumCustomer_1 ++ dktX1_sumCustomer_2
def dkwX1_sumCustomer_0 : List UInt8 := [3, 54, 4, 21, 4, 6, 163, 0, 26, 43, 42, 29, 44, 42, 180, 0, 80, 21, 4, 182, 0, 251, 133]
abbrev dktX1_sumCustomer_0 : List UInt8 := dkwX1_sumCustomer_0 ++ dktX1_sumCustomer_1
theorem dksX1_sumCustomer_0 : cX1_sumCustomer.data.toList.drop 0 = dktX1_sumCustomer_0 := by decide +kernel
theorem dksX1_sumCustomer_1 : cX1_sumCustomer.data.toList.drop 23 = dktX1_sumCustomer_1 := dk_seg dksX1_sumCustomer_0 23 rfl rfl
theorem dksX1_sumCustomer_2 : cX1_sumCustomer.data.toList.drop 47 = dktX1_sumCustomer_2 := dk_seg dksX1_sumCustomer_1 24 rfl rfl
theorem dksX1_sumCustomer_3 : cX1_sumCustomer.data.toList.drop 71 = dktX1_sumCustomer_3 := dk_seg dksX1_sumCustomer_2 24 rfl rfl
theorem dX1_sumCustomer_0 : decode cX1_sumCustomer 0 = .ok (.iconst 0, 1) := dk_3 (dk_at dksX1_sumCustomer_0 0 rfl rfl)
theorem dX1_sumCustomer_1 : decode cX1_sumCustomer 1 = .ok (.istore 4, 2) := dk_54 4 (dk_at dksX1_sumCustomer_0 1 rfl rfl)
theorem dX1_sumCustomer_3 : decode cX1_sumCustomer 3 = .ok (.iload 4, 2) := dk_21 4 (dk_at dksX1_sumCustomer_0 3 rfl rfl)
theorem dX1_sumCustomer_5 : decode cX1_sumCustomer 5 = .ok (.iconst 3, 1) := dk_6 (dk_at dksX1_sumCustomer_0 5 rfl rfl)
theorem dX1_sumCustomer_6 : decode cX1_sumCustomer 6 = .ok (.if_icmp .gt 26, 3) := dk_163 0 26 (dk_at dksX1_sumCustomer_0 6 rfl rfl)
theorem dX1_sumCustomer_9 : decode cX1_sumCustomer 9 = .ok (.aload_n 1, 1) := dk_43 (dk_at dksX1_sumCustomer_0 9 rfl rfl)
theorem dX1_sumCustomer_10 : decode cX1_sumCustomer 10 = .ok (.aload_n 0, 1) := dk_42 (dk_at dksX1_sumCustomer_0 10 rfl rfl)
theorem dX1_sumCustomer_11 : decode cX1_sumCustomer 11 = .ok (.iload_n 3, 1) := dk_29 (dk_at dksX1_sumCustomer_0 11 rfl rfl)
theorem dX1_sumCustomer_12 : decode cX1_sumCustomer 12 = .ok (.aload_n 2, 1) := dk_44 (dk_at dksX1_sumCustomer_0 12 rfl rfl)
theorem dX1_sumCustomer_13 : decode cX1_sumCustomer 13 = .ok (.aload_n 0, 1) := dk_42 (dk_at dksX1_sumCustomer_0 13 rfl rfl)
theorem dX1_sumCustomer_14 : decode cX1_sumCustomer 14 = .ok (.getfield 80, 3) := dk_180 0 80 (dk_at dksX1_sumCustomer_0 14 rfl rfl)
theorem dX1_sumCustomer_17 : decode cX1_sumCustomer 17 = .ok (.iload 4, 2) := dk_21 4 (dk_at dksX1_sumCustomer_0 17 rfl rfl)
theorem dX1_sumCustomer_19 : decode cX1_sumCustomer 19 = .ok (.invokevirtual 251, 3) := dk_182 0 251 (dk_at dksX1_sumCustomer_0 19 rfl rfl)
theorem dX1_sumCustomer_22 : decode cX1_sumCustomer 22 = .ok (.i2l, 1) := dk_133 (dk_at dksX1_sumCustomer_0 22 rfl rfl)
theorem dX1_sumCustomer_23 : decode cX1_sumCustomer 23 = .ok (.invokevirtual 420, 3) := dk_182 1 164 (dk_at dksX1_sumCustomer_1 0 rfl rfl)
theorem dX1_sumCustomer_26 : decode cX1_sumCustomer 26 = .ok (.iinc 4 1, 3) := dk_132 4 1 (dk_at dksX1_sumCustomer_1 3 rfl rfl)
theorem dX1_sumCustomer_29 : decode cX1_sumCustomer 29 = .ok (.goto (-26), 3) := dk_167 255 230 (dk_at dksX1_sumCustomer_1 6 rfl rfl)
theorem dX1_sumCustomer_32 : decode cX1_sumCustomer 32 = .ok (.iconst 0, 1) := dk_3 (dk_at dksX1_sumCustomer_1 9 rfl rfl)
theorem dX1_sumCustomer_33 : decode cX1_sumCustomer 33 = .ok (.istore 4, 2) := dk_54 4 (dk_at dksX1_sumCustomer_1 10 rfl rfl)
theorem dX1_sumCustomer_35 : decode cX1_sumCustomer 35 = .ok (.iload 4, 2) := dk_21 4 (dk_at dksX1_sumCustomer_1 12 rfl rfl)
theorem dX1_sumCustomer_37 : decode cX1_sumCustomer 37 = .ok (.aload_n 0, 1) := dk_42 (dk_at dksX1_sumCustomer_1 14 rfl rfl)
theorem dX1_sumCustomer_38 : decode cX1_sumCustomer 38 = .ok (.getfield 80, 3) := dk_180 0 80 (dk_at dksX1_sumCustomer_1 15 rfl rfl)
theorem dX1_sumCustomer_41 : decode cX1_sumCustomer 41 = .ok (.bipush 30, 2) := dk_16 30 (dk_at dksX1_sumCustomer_1 18 rfl rfl)
theorem dX1_sumCustomer_43 : decode cX1_sumCustomer 43 = .ok (.idiv, 1) := dk_108 (dk_at dksX1_sumCustomer_1 20 rfl rfl)
theorem dX1_sumCustomer_44 : decode cX1_sumCustomer 44 = .ok (.if_icmp .gt 39, 3) := dk_163 0 39 (dk_at dksX1_sumCustomer_1 21 rfl rfl)
theorem dX1_sumCustomer_47 : decode cX1_sumCustomer 47 = .ok (.iconst 0, 1) := dk_3 (dk_at dksX1_sumCustomer_2 0 rfl rfl)
theorem dX1_sumCustomer_48 : decode cX1_sumCustomer 48 = .ok (.istore 5, 2) := dk_54 5 (dk_at dksX1_sumCustomer_2 1 rfl rfl)
theorem dX1_sumCustomer_50 : decode cX1_sumCustomer 50 = .ok (.iload 5, 2) := dk_21 5 (dk_at dksX1_sumCustomer_2 3 rfl rfl)
theorem dX1_sumCustomer_52 : decode cX1_sumCustomer 52 = .ok (.bipush 7, 2) := dk_16 7 (dk_at dksX1_sumCustomer_2 5 rfl rfl)
theorem dX1_sumCustomer_54 : decode cX1_sumCustomer 54 = .ok (.if_icmp .gt 23, 3) := dk_163 0 23 (dk_at dksX1_sumCustomer_2 7 rfl rfl)
theorem dX1_sumCustomer_57 : decode cX1_sumCustomer 57 = .ok (.aload_n 1, 1) := dk_43 (dk_at dksX1_sumCustomer_2 10 rfl rfl)
theorem dX1_sumCustomer_58 : decode cX1_sumCustomer 58 = .ok (.aload_n 2, 1) := dk_44 (dk_at dksX1_sumCustomer_2 11 rfl rfl)
theorem dX1_sumCustomer_59 : decode cX1_sumCustomer 59 = .ok (.iload_n 3, 1) := dk_29 (dk_at dksX1_sumCustomer_2 12 rfl rfl)
theorem dX1_sumCustomer_60 : decode cX1_sumCustomer 60 = .ok (.iload 4, 2) := dk_21 4 (dk_at dksX1_sumCustomer_2 13 rfl rfl)
theorem dX1_sumCustomer_62 : decode cX1_sumCustomer 62 = .ok (.iload 5, 2) := dk_21 5 (dk_at dksX1_sumCustomer_2 15 rfl rfl)
theorem dX1_sumCustomer_64 : decode cX1_sumCustomer 64 = .ok (.invokestatic 286, 3) := dk_184 1 30 (dk_at dksX1_sumCustomer_2 17 rfl rfl)
theorem dX1_sumCustomer_67 : decode cX1_sumCustomer 67 = .ok (.i2l, 1) := dk_133 (dk_at dksX1_sumCustomer_2 20 rfl rfl)
theorem dX1_sumCustomer_68 : decode cX1_sumCustomer 68 = .ok (.invokevirtual 420, 3) := dk_182 1 164 (dk_at dksX1_sumCustomer_2 21 rfl rfl)
theorem dX1_sumCustomer_71 : decode cX1_sumCustomer 71 = .ok (.iinc 5 1, 3) := dk_132 5 1 (dk_at dksX1_sumCustomer_3 0 rfl rfl)
theorem dX1_sumCustomer_74 : decode cX1_sumCustomer 74 = .ok (.goto (-24), 3) := dk_167 255 232 (dk_at dksX1_sumCustomer_3 3 rfl rfl)
theorem dX1_sumCustomer_77 : decode cX1_sumCustomer 77 = .ok (.iinc 4 1, 3) := dk_132 4 1 (dk_at dksX1_sumCustomer_3 6 rfl rfl)
theorem dX1_sumCustomer_80 : decode cX1_sumCustomer 80 = .ok (.goto (-45), 3) := dk_167 255 211 (dk_at dksX1_sumCustomer_3 9 rfl rfl)
theorem dX1_sumCustomer_83 : decode cX1_sumCustomer 83 = .ok (.return_, 1) := dk_177 (dk_at dksX1_sumCustomer_3 12 rfl rfl)
abbrev cX1_dayNow : ByteArray := prog_1_method_38_code
def yX1_dayNow : MethodName := ⟨RX1, "dayNow", "(ILRollover$Rating;II)I"⟩
def dkwX1_dayNow_3 : List UInt8 := [182, 0, 243, 172, 25, 5, 29, 182, 0, 245, 172, 25, 5, 29, 182, 0, 248, 172]
abbrev dktX1_dayNow_3 : List UInt8 := dkwX1_dayNow_3 ++ []
def dkwX1_dayNow_2 : List UInt8 := [42, 180, 0, 16, 27, 185, 0, 61, 2, 0, 192, 0, 67, 180, 0, 124, 29, 182, 0, 127, 172, 25, 5, 29]
abbrev dktX1_dayNow_2 : List UInt8 := dkwX1_dayNow_2 ++ dktX1_dayNow_3
def dkwX1_dayNow_1 : List UInt8 := [170, 0, 0, 0, 0, 0, 62, 0, 0, 0, 0, 0, 0, 0, 2, 0, 0, 0, 27, 0, 0, 0, 48, 0, 0, 0, 55]
abbrev dktX1_dayNow_1 : List UInt8 := dkwX1_dayNow_1 ++ dktX1_dayNow_2
def dkwX1_dayNow_0 : List UInt8 := [44, 180, 0, 238, 27, 185, 0, 61, 2, 0, 192, 0, 241, 58, 5, 21, 4]
abbrev dktX1_dayNow_0 : List UInt8 := dkwX1_dayNow_0 ++ dktX1_dayNow_1
theorem dksX1_dayNow_0 : cX1_dayNow.data.toList.drop 0 = dktX1_dayNow_0 := by decide +kernel
theorem dksX1_dayNow_1 : cX1_dayNow.data.toList.drop 17 = dktX1_dayNow_1 := dk_seg dksX1_dayNow_0 17 rfl rfl
theorem dksX1_dayNow_2 : cX1_dayNow.data.toList.drop 44 = dktX1_dayNow_2 := dk_seg dksX1_dayNow_1 27 rfl rfl
theorem dksX1_dayNow_3 : cX1_dayNow.data.toList.drop 68 = dktX1_dayNow_3 := dk_seg dksX1_dayNow_2 24 rfl rfl
theorem dX1_dayNow_0 : decode cX1_dayNow 0 = .ok (.aload_n 2, 1) := dk_44 (dk_at dksX1_dayNow_0 0 rfl rfl)
theorem dX1_dayNow_1 : decode cX1_dayNow 1 = .ok (.getfield 238, 3) := dk_180 0 238 (dk_at dksX1_dayNow_0 1 rfl rfl)
theorem dX1_dayNow_4 : decode cX1_dayNow 4 = .ok (.iload_n 1, 1) := dk_27 (dk_at dksX1_dayNow_0 4 rfl rfl)
theorem dX1_dayNow_5 : decode cX1_dayNow 5 = .ok (.invokeinterface 61 2, 5) := by decide +kernel
theorem dX1_dayNow_10 : decode cX1_dayNow 10 = .ok (.checkcast 241, 3) := dk_192 0 241 (dk_at dksX1_dayNow_0 10 rfl rfl)
theorem dX1_dayNow_13 : decode cX1_dayNow 13 = .ok (.astore 5, 2) := dk_58 5 (dk_at dksX1_dayNow_0 13 rfl rfl)
theorem dX1_dayNow_15 : decode cX1_dayNow 15 = .ok (.iload 4, 2) := dk_21 4 (dk_at dksX1_dayNow_0 15 rfl rfl)
theorem dX1_dayNow_17 : decode cX1_dayNow 17 = .ok (.tableswitch 62 0 2 #[27, 48, 55], 27) := by decide +kernel
theorem dX1_dayNow_44 : decode cX1_dayNow 44 = .ok (.aload_n 0, 1) := dk_42 (dk_at dksX1_dayNow_2 0 rfl rfl)
theorem dX1_dayNow_45 : decode cX1_dayNow 45 = .ok (.getfield 16, 3) := dk_180 0 16 (dk_at dksX1_dayNow_2 1 rfl rfl)
theorem dX1_dayNow_48 : decode cX1_dayNow 48 = .ok (.iload_n 1, 1) := dk_27 (dk_at dksX1_dayNow_2 4 rfl rfl)
theorem dX1_dayNow_49 : decode cX1_dayNow 49 = .ok (.invokeinterface 61 2, 5) := by decide +kernel
theorem dX1_dayNow_54 : decode cX1_dayNow 54 = .ok (.checkcast 67, 3) := dk_192 0 67 (dk_at dksX1_dayNow_2 10 rfl rfl)
theorem dX1_dayNow_57 : decode cX1_dayNow 57 = .ok (.getfield 124, 3) := dk_180 0 124 (dk_at dksX1_dayNow_2 13 rfl rfl)
theorem dX1_dayNow_60 : decode cX1_dayNow 60 = .ok (.iload_n 3, 1) := dk_29 (dk_at dksX1_dayNow_2 16 rfl rfl)
theorem dX1_dayNow_61 : decode cX1_dayNow 61 = .ok (.invokevirtual 127, 3) := dk_182 0 127 (dk_at dksX1_dayNow_2 17 rfl rfl)
theorem dX1_dayNow_64 : decode cX1_dayNow 64 = .ok (.ireturn, 1) := dk_172 (dk_at dksX1_dayNow_2 20 rfl rfl)
theorem dX1_dayNow_65 : decode cX1_dayNow 65 = .ok (.aload 5, 2) := dk_25 5 (dk_at dksX1_dayNow_2 21 rfl rfl)
theorem dX1_dayNow_67 : decode cX1_dayNow 67 = .ok (.iload_n 3, 1) := dk_29 (dk_at dksX1_dayNow_2 23 rfl rfl)
theorem dX1_dayNow_68 : decode cX1_dayNow 68 = .ok (.invokevirtual 243, 3) := dk_182 0 243 (dk_at dksX1_dayNow_3 0 rfl rfl)
theorem dX1_dayNow_71 : decode cX1_dayNow 71 = .ok (.ireturn, 1) := dk_172 (dk_at dksX1_dayNow_3 3 rfl rfl)
theorem dX1_dayNow_72 : decode cX1_dayNow 72 = .ok (.aload 5, 2) := dk_25 5 (dk_at dksX1_dayNow_3 4 rfl rfl)
theorem dX1_dayNow_74 : decode cX1_dayNow 74 = .ok (.iload_n 3, 1) := dk_29 (dk_at dksX1_dayNow_3 6 rfl rfl)
theorem dX1_dayNow_75 : decode cX1_dayNow 75 = .ok (.invokevirtual 245, 3) := dk_182 0 245 (dk_at dksX1_dayNow_3 7 rfl rfl)
theorem dX1_dayNow_78 : decode cX1_dayNow 78 = .ok (.ireturn, 1) := dk_172 (dk_at dksX1_dayNow_3 10 rfl rfl)
theorem dX1_dayNow_79 : decode cX1_dayNow 79 = .ok (.aload 5, 2) := dk_25 5 (dk_at dksX1_dayNow_3 11 rfl rfl)
theorem dX1_dayNow_81 : decode cX1_dayNow 81 = .ok (.iload_n 3, 1) := dk_29 (dk_at dksX1_dayNow_3 13 rfl rfl)
theorem dX1_dayNow_82 : decode cX1_dayNow 82 = .ok (.invokevirtual 248, 3) := dk_182 0 248 (dk_at dksX1_dayNow_3 14 rfl rfl)
theorem dX1_dayNow_85 : decode cX1_dayNow 85 = .ok (.ireturn, 1) := dk_172 (dk_at dksX1_dayNow_3 17 rfl rfl)
abbrev cX1_cycleNow : ByteArray := prog_1_method_41_code
def yX1_cycleNow : MethodName := ⟨RX1, "cycleNow", "(LRollover$Rating;III)I"⟩
def dkwX1_cycleNow_0 : List UInt8 := [29, 154, 0, 12, 42, 27, 28, 182, 0, 210, 167, 0, 13, 42, 27, 28, 182, 1, 22, 29, 184, 1, 26, 172]
abbrev dktX1_cycleNow_0 : List UInt8 := dkwX1_cycleNow_0 ++ []
theorem dksX1_cycleNow_0 : cX1_cycleNow.data.toList.drop 0 = dktX1_cycleNow_0 := by decide +kernel
theorem dX1_cycleNow_0 : decode cX1_cycleNow 0 = .ok (.iload_n 3, 1) := dk_29 (dk_at dksX1_cycleNow_0 0 rfl rfl)
theorem dX1_cycleNow_1 : decode cX1_cycleNow 1 = .ok (.ifCond .ne 12, 3) := dk_154 0 12 (dk_at dksX1_cycleNow_0 1 rfl rfl)
theorem dX1_cycleNow_4 : decode cX1_cycleNow 4 = .ok (.aload_n 0, 1) := dk_42 (dk_at dksX1_cycleNow_0 4 rfl rfl)
theorem dX1_cycleNow_5 : decode cX1_cycleNow 5 = .ok (.iload_n 1, 1) := dk_27 (dk_at dksX1_cycleNow_0 5 rfl rfl)
theorem dX1_cycleNow_6 : decode cX1_cycleNow 6 = .ok (.iload_n 2, 1) := dk_28 (dk_at dksX1_cycleNow_0 6 rfl rfl)
theorem dX1_cycleNow_7 : decode cX1_cycleNow 7 = .ok (.invokevirtual 210, 3) := dk_182 0 210 (dk_at dksX1_cycleNow_0 7 rfl rfl)
theorem dX1_cycleNow_10 : decode cX1_cycleNow 10 = .ok (.goto 13, 3) := dk_167 0 13 (dk_at dksX1_cycleNow_0 10 rfl rfl)
theorem dX1_cycleNow_13 : decode cX1_cycleNow 13 = .ok (.aload_n 0, 1) := dk_42 (dk_at dksX1_cycleNow_0 13 rfl rfl)
theorem dX1_cycleNow_14 : decode cX1_cycleNow 14 = .ok (.iload_n 1, 1) := dk_27 (dk_at dksX1_cycleNow_0 14 rfl rfl)
theorem dX1_cycleNow_15 : decode cX1_cycleNow 15 = .ok (.iload_n 2, 1) := dk_28 (dk_at dksX1_cycleNow_0 15 rfl rfl)
theorem dX1_cycleNow_16 : decode cX1_cycleNow 16 = .ok (.invokevirtual 278, 3) := dk_182 1 22 (dk_at dksX1_cycleNow_0 16 rfl rfl)
theorem dX1_cycleNow_19 : decode cX1_cycleNow 19 = .ok (.iload_n 3, 1) := dk_29 (dk_at dksX1_cycleNow_0 19 rfl rfl)
theorem dX1_cycleNow_20 : decode cX1_cycleNow 20 = .ok (.invokestatic 282, 3) := dk_184 1 26 (dk_at dksX1_cycleNow_0 20 rfl rfl)
theorem dX1_cycleNow_23 : decode cX1_cycleNow 23 = .ok (.ireturn, 1) := dk_172 (dk_at dksX1_cycleNow_0 23 rfl rfl)
abbrev cX1_accountNow : ByteArray := prog_1_method_40_code
def yX1_accountNow : MethodName := ⟨RX1, "accountNow", "(LRollover$Account;I)I"⟩
def dkwX1_accountNow_3 : List UInt8 := [172, 42, 180, 1, 16, 172, 42, 180, 1, 19, 172]
abbrev dktX1_accountNow_3 : List UInt8 := dkwX1_accountNow_3 ++ []
def dkwX1_accountNow_2 : List UInt8 := [42, 180, 0, 255, 172, 42, 180, 1, 4, 172, 42, 180, 1, 7, 172, 42, 180, 1, 10, 172, 42, 180, 1, 13]
abbrev dktX1_accountNow_2 : List UInt8 := dkwX1_accountNow_2 ++ dktX1_accountNow_3
def dkwX1_accountNow_1 : List UInt8 := [170, 0, 0, 0, 0, 0, 69, 0, 0, 0, 1, 0, 0, 0, 6, 0, 0, 0, 39, 0, 0, 0, 44, 0, 0, 0, 49, 0, 0, 0, 54, 0, 0, 0, 59, 0, 0, 0, 64]
abbrev dktX1_accountNow_1 : List UInt8 := dkwX1_accountNow_1 ++ dktX1_accountNow_2
def dkwX1_accountNow_0 : List UInt8 := [27]
abbrev dktX1_accountNow_0 : List UInt8 := dkwX1_accountNow_0 ++ dktX1_accountNow_1
theorem dksX1_accountNow_0 : cX1_accountNow.data.toList.drop 0 = dktX1_accountNow_0 := by decide +kernel
theorem dksX1_accountNow_1 : cX1_accountNow.data.toList.drop 1 = dktX1_accountNow_1 := dk_seg dksX1_accountNow_0 1 rfl rfl
theorem dksX1_accountNow_2 : cX1_accountNow.data.toList.drop 40 = dktX1_accountNow_2 := dk_seg dksX1_accountNow_1 39 rfl rfl
theorem dksX1_accountNow_3 : cX1_accountNow.data.toList.drop 64 = dktX1_accountNow_3 := dk_seg dksX1_accountNow_2 24 rfl rfl
theorem dX1_accountNow_0 : decode cX1_accountNow 0 = .ok (.iload_n 1, 1) := dk_27 (dk_at dksX1_accountNow_0 0 rfl rfl)
theorem dX1_accountNow_1 : decode cX1_accountNow 1 = .ok (.tableswitch 69 1 6 #[39, 44, 49, 54, 59, 64], 39) := by decide +kernel
theorem dX1_accountNow_40 : decode cX1_accountNow 40 = .ok (.aload_n 0, 1) := dk_42 (dk_at dksX1_accountNow_2 0 rfl rfl)
theorem dX1_accountNow_41 : decode cX1_accountNow 41 = .ok (.getfield 255, 3) := dk_180 0 255 (dk_at dksX1_accountNow_2 1 rfl rfl)
theorem dX1_accountNow_44 : decode cX1_accountNow 44 = .ok (.ireturn, 1) := dk_172 (dk_at dksX1_accountNow_2 4 rfl rfl)
theorem dX1_accountNow_45 : decode cX1_accountNow 45 = .ok (.aload_n 0, 1) := dk_42 (dk_at dksX1_accountNow_2 5 rfl rfl)
theorem dX1_accountNow_46 : decode cX1_accountNow 46 = .ok (.getfield 260, 3) := dk_180 1 4 (dk_at dksX1_accountNow_2 6 rfl rfl)
theorem dX1_accountNow_49 : decode cX1_accountNow 49 = .ok (.ireturn, 1) := dk_172 (dk_at dksX1_accountNow_2 9 rfl rfl)
theorem dX1_accountNow_50 : decode cX1_accountNow 50 = .ok (.aload_n 0, 1) := dk_42 (dk_at dksX1_accountNow_2 10 rfl rfl)
theorem dX1_accountNow_51 : decode cX1_accountNow 51 = .ok (.getfield 263, 3) := dk_180 1 7 (dk_at dksX1_accountNow_2 11 rfl rfl)
theorem dX1_accountNow_54 : decode cX1_accountNow 54 = .ok (.ireturn, 1) := dk_172 (dk_at dksX1_accountNow_2 14 rfl rfl)
theorem dX1_accountNow_55 : decode cX1_accountNow 55 = .ok (.aload_n 0, 1) := dk_42 (dk_at dksX1_accountNow_2 15 rfl rfl)
theorem dX1_accountNow_56 : decode cX1_accountNow 56 = .ok (.getfield 266, 3) := dk_180 1 10 (dk_at dksX1_accountNow_2 16 rfl rfl)
theorem dX1_accountNow_59 : decode cX1_accountNow 59 = .ok (.ireturn, 1) := dk_172 (dk_at dksX1_accountNow_2 19 rfl rfl)
theorem dX1_accountNow_60 : decode cX1_accountNow 60 = .ok (.aload_n 0, 1) := dk_42 (dk_at dksX1_accountNow_2 20 rfl rfl)
theorem dX1_accountNow_61 : decode cX1_accountNow 61 = .ok (.getfield 269, 3) := dk_180 1 13 (dk_at dksX1_accountNow_2 21 rfl rfl)
theorem dX1_accountNow_64 : decode cX1_accountNow 64 = .ok (.ireturn, 1) := dk_172 (dk_at dksX1_accountNow_3 0 rfl rfl)
theorem dX1_accountNow_65 : decode cX1_accountNow 65 = .ok (.aload_n 0, 1) := dk_42 (dk_at dksX1_accountNow_3 1 rfl rfl)
theorem dX1_accountNow_66 : decode cX1_accountNow 66 = .ok (.getfield 272, 3) := dk_180 1 16 (dk_at dksX1_accountNow_3 2 rfl rfl)
theorem dX1_accountNow_69 : decode cX1_accountNow 69 = .ok (.ireturn, 1) := dk_172 (dk_at dksX1_accountNow_3 5 rfl rfl)
theorem dX1_accountNow_70 : decode cX1_accountNow 70 = .ok (.aload_n 0, 1) := dk_42 (dk_at dksX1_accountNow_3 6 rfl rfl)
theorem dX1_accountNow_71 : decode cX1_accountNow 71 = .ok (.getfield 275, 3) := dk_180 1 19 (dk_at dksX1_accountNow_3 7 rfl rfl)
theorem dX1_accountNow_74 : decode cX1_accountNow 74 = .ok (.ireturn, 1) := dk_172 (dk_at dksX1_accountNow_3 10 rfl rfl)
abbrev cX1_ticketNow : ByteArray := prog_1_method_46_code
def yX1_ticketNow : MethodName := ⟨RX1, "ticketNow", "(ILRollover$Rating;I)I"⟩
def dkwX1_ticketNow_1 : List UInt8 := [192, 1, 51, 29, 184, 1, 63, 167, 0, 9, 42, 27, 29, 182, 1, 67, 172]
abbrev dktX1_ticketNow_1 : List UInt8 := dkwX1_ticketNow_1 ++ []
def dkwX1_ticketNow_0 : List UInt8 := [29, 16, 6, 161, 0, 29, 29, 16, 9, 163, 0, 23, 44, 180, 1, 60, 27, 185, 0, 61, 2, 0]
abbrev dktX1_ticketNow_0 : List UInt8 := dkwX1_ticketNow_0 ++ dktX1_ticketNow_1
theorem dksX1_ticketNow_0 : cX1_ticketNow.data.toList.drop 0 = dktX1_ticketNow_0 := by decide +kernel
theorem dksX1_ticketNow_1 : cX1_ticketNow.data.toList.drop 22 = dktX1_ticketNow_1 := dk_seg dksX1_ticketNow_0 22 rfl rfl
theorem dX1_ticketNow_0 : decode cX1_ticketNow 0 = .ok (.iload_n 3, 1) := dk_29 (dk_at dksX1_ticketNow_0 0 rfl rfl)
theorem dX1_ticketNow_1 : decode cX1_ticketNow 1 = .ok (.bipush 6, 2) := dk_16 6 (dk_at dksX1_ticketNow_0 1 rfl rfl)
theorem dX1_ticketNow_3 : decode cX1_ticketNow 3 = .ok (.if_icmp .lt 29, 3) := dk_161 0 29 (dk_at dksX1_ticketNow_0 3 rfl rfl)
theorem dX1_ticketNow_6 : decode cX1_ticketNow 6 = .ok (.iload_n 3, 1) := dk_29 (dk_at dksX1_ticketNow_0 6 rfl rfl)
theorem dX1_ticketNow_7 : decode cX1_ticketNow 7 = .ok (.bipush 9, 2) := dk_16 9 (dk_at dksX1_ticketNow_0 7 rfl rfl)
theorem dX1_ticketNow_9 : decode cX1_ticketNow 9 = .ok (.if_icmp .gt 23, 3) := dk_163 0 23 (dk_at dksX1_ticketNow_0 9 rfl rfl)
theorem dX1_ticketNow_12 : decode cX1_ticketNow 12 = .ok (.aload_n 2, 1) := dk_44 (dk_at dksX1_ticketNow_0 12 rfl rfl)
theorem dX1_ticketNow_13 : decode cX1_ticketNow 13 = .ok (.getfield 316, 3) := dk_180 1 60 (dk_at dksX1_ticketNow_0 13 rfl rfl)
theorem dX1_ticketNow_16 : decode cX1_ticketNow 16 = .ok (.iload_n 1, 1) := dk_27 (dk_at dksX1_ticketNow_0 16 rfl rfl)
theorem dX1_ticketNow_17 : decode cX1_ticketNow 17 = .ok (.invokeinterface 61 2, 5) := by decide +kernel
theorem dX1_ticketNow_22 : decode cX1_ticketNow 22 = .ok (.checkcast 307, 3) := dk_192 1 51 (dk_at dksX1_ticketNow_1 0 rfl rfl)
theorem dX1_ticketNow_25 : decode cX1_ticketNow 25 = .ok (.iload_n 3, 1) := dk_29 (dk_at dksX1_ticketNow_1 3 rfl rfl)
theorem dX1_ticketNow_26 : decode cX1_ticketNow 26 = .ok (.invokestatic 319, 3) := dk_184 1 63 (dk_at dksX1_ticketNow_1 4 rfl rfl)
theorem dX1_ticketNow_29 : decode cX1_ticketNow 29 = .ok (.goto 9, 3) := dk_167 0 9 (dk_at dksX1_ticketNow_1 7 rfl rfl)
theorem dX1_ticketNow_32 : decode cX1_ticketNow 32 = .ok (.aload_n 0, 1) := dk_42 (dk_at dksX1_ticketNow_1 10 rfl rfl)
theorem dX1_ticketNow_33 : decode cX1_ticketNow 33 = .ok (.iload_n 1, 1) := dk_27 (dk_at dksX1_ticketNow_1 11 rfl rfl)
theorem dX1_ticketNow_34 : decode cX1_ticketNow 34 = .ok (.iload_n 3, 1) := dk_29 (dk_at dksX1_ticketNow_1 12 rfl rfl)
theorem dX1_ticketNow_35 : decode cX1_ticketNow 35 = .ok (.invokevirtual 323, 3) := dk_182 1 67 (dk_at dksX1_ticketNow_1 13 rfl rfl)
theorem dX1_ticketNow_38 : decode cX1_ticketNow 38 = .ok (.ireturn, 1) := dk_172 (dk_at dksX1_ticketNow_1 16 rfl rfl)
abbrev cX1_lineNow : ByteArray := prog_1_method_45_code
def yX1_lineNow : MethodName := ⟨RX1, "lineNow", "(LRollover$Line;I)I"⟩
def dkwX1_lineNow_2 : List UInt8 := [42, 180, 1, 50, 172, 42, 180, 1, 55, 172, 42, 180, 1, 56, 172, 42, 180, 1, 57, 172]
abbrev dktX1_lineNow_2 : List UInt8 := dkwX1_lineNow_2 ++ []
def dkwX1_lineNow_1 : List UInt8 := [170, 0, 0, 0, 0, 0, 42, 0, 0, 0, 6, 0, 0, 0, 8, 0, 0, 0, 27, 0, 0, 0, 32, 0, 0, 0, 37]
abbrev dktX1_lineNow_1 : List UInt8 := dkwX1_lineNow_1 ++ dktX1_lineNow_2
def dkwX1_lineNow_0 : List UInt8 := [27]
abbrev dktX1_lineNow_0 : List UInt8 := dkwX1_lineNow_0 ++ dktX1_lineNow_1
theorem dksX1_lineNow_0 : cX1_lineNow.data.toList.drop 0 = dktX1_lineNow_0 := by decide +kernel
theorem dksX1_lineNow_1 : cX1_lineNow.data.toList.drop 1 = dktX1_lineNow_1 := dk_seg dksX1_lineNow_0 1 rfl rfl
theorem dksX1_lineNow_2 : cX1_lineNow.data.toList.drop 28 = dktX1_lineNow_2 := dk_seg dksX1_lineNow_1 27 rfl rfl
theorem dX1_lineNow_0 : decode cX1_lineNow 0 = .ok (.iload_n 1, 1) := dk_27 (dk_at dksX1_lineNow_0 0 rfl rfl)
theorem dX1_lineNow_1 : decode cX1_lineNow 1 = .ok (.tableswitch 42 6 8 #[27, 32, 37], 27) := by decide +kernel
theorem dX1_lineNow_28 : decode cX1_lineNow 28 = .ok (.aload_n 0, 1) := dk_42 (dk_at dksX1_lineNow_2 0 rfl rfl)
theorem dX1_lineNow_29 : decode cX1_lineNow 29 = .ok (.getfield 306, 3) := dk_180 1 50 (dk_at dksX1_lineNow_2 1 rfl rfl)
theorem dX1_lineNow_32 : decode cX1_lineNow 32 = .ok (.ireturn, 1) := dk_172 (dk_at dksX1_lineNow_2 4 rfl rfl)
theorem dX1_lineNow_33 : decode cX1_lineNow 33 = .ok (.aload_n 0, 1) := dk_42 (dk_at dksX1_lineNow_2 5 rfl rfl)
theorem dX1_lineNow_34 : decode cX1_lineNow 34 = .ok (.getfield 311, 3) := dk_180 1 55 (dk_at dksX1_lineNow_2 6 rfl rfl)
theorem dX1_lineNow_37 : decode cX1_lineNow 37 = .ok (.ireturn, 1) := dk_172 (dk_at dksX1_lineNow_2 9 rfl rfl)
theorem dX1_lineNow_38 : decode cX1_lineNow 38 = .ok (.aload_n 0, 1) := dk_42 (dk_at dksX1_lineNow_2 10 rfl rfl)
theorem dX1_lineNow_39 : decode cX1_lineNow 39 = .ok (.getfield 312, 3) := dk_180 1 56 (dk_at dksX1_lineNow_2 11 rfl rfl)
theorem dX1_lineNow_42 : decode cX1_lineNow 42 = .ok (.ireturn, 1) := dk_172 (dk_at dksX1_lineNow_2 14 rfl rfl)
theorem dX1_lineNow_43 : decode cX1_lineNow 43 = .ok (.aload_n 0, 1) := dk_42 (dk_at dksX1_lineNow_2 15 rfl rfl)
theorem dX1_lineNow_44 : decode cX1_lineNow 44 = .ok (.getfield 313, 3) := dk_180 1 57 (dk_at dksX1_lineNow_2 16 rfl rfl)
theorem dX1_lineNow_47 : decode cX1_lineNow 47 = .ok (.ireturn, 1) := dk_172 (dk_at dksX1_lineNow_2 19 rfl rfl)
abbrev cX1_ticketNow_2 : ByteArray := prog_1_method_44_code
def yX1_ticketNow_2 : MethodName := ⟨RX1, "ticketNow", "(II)I"⟩
def dkwX1_ticketNow_2_3 : List UInt8 := [180, 0, 214, 172, 45, 180, 0, 217, 153, 0, 7, 4, 167, 0, 4, 3, 172, 42, 27, 182, 1, 47, 172]
abbrev dktX1_ticketNow_2_3 : List UInt8 := dkwX1_ticketNow_2_3 ++ []
def dkwX1_ticketNow_2_2 : List UInt8 := [45, 180, 1, 38, 182, 1, 41, 172, 45, 180, 0, 204, 172, 45, 180, 0, 207, 172, 45, 180, 1, 44, 172, 45]
abbrev dktX1_ticketNow_2_2 : List UInt8 := dkwX1_ticketNow_2_2 ++ dktX1_ticketNow_2_3
def dkwX1_ticketNow_2_1 : List UInt8 := [170, 0, 0, 0, 78, 0, 0, 0, 0, 0, 0, 0, 5, 0, 0, 0, 37, 0, 0, 0, 45, 0, 0, 0, 50, 0, 0, 0, 55, 0, 0, 0, 60, 0, 0, 0, 65]
abbrev dktX1_ticketNow_2_1 : List UInt8 := dkwX1_ticketNow_2_1 ++ dktX1_ticketNow_2_2
def dkwX1_ticketNow_2_0 : List UInt8 := [42, 180, 0, 19, 27, 185, 0, 61, 2, 0, 192, 0, 69, 78, 28]
abbrev dktX1_ticketNow_2_0 : List UInt8 := dkwX1_ticketNow_2_0 ++ dktX1_ticketNow_2_1
theorem dksX1_ticketNow_2_0 : cX1_ticketNow_2.data.toList.drop 0 = dktX1_ticketNow_2_0 := by decide +kernel
theorem dksX1_ticketNow_2_1 : cX1_ticketNow_2.data.toList.drop 15 = dktX1_ticketNow_2_1 := dk_seg dksX1_ticketNow_2_0 15 rfl rfl
theorem dksX1_ticketNow_2_2 : cX1_ticketNow_2.data.toList.drop 52 = dktX1_ticketNow_2_2 := dk_seg dksX1_ticketNow_2_1 37 rfl rfl
theorem dksX1_ticketNow_2_3 : cX1_ticketNow_2.data.toList.drop 76 = dktX1_ticketNow_2_3 := dk_seg dksX1_ticketNow_2_2 24 rfl rfl
theorem dX1_ticketNow_2_0 : decode cX1_ticketNow_2 0 = .ok (.aload_n 0, 1) := dk_42 (dk_at dksX1_ticketNow_2_0 0 rfl rfl)
theorem dX1_ticketNow_2_1 : decode cX1_ticketNow_2 1 = .ok (.getfield 19, 3) := dk_180 0 19 (dk_at dksX1_ticketNow_2_0 1 rfl rfl)
theorem dX1_ticketNow_2_4 : decode cX1_ticketNow_2 4 = .ok (.iload_n 1, 1) := dk_27 (dk_at dksX1_ticketNow_2_0 4 rfl rfl)
theorem dX1_ticketNow_2_5 : decode cX1_ticketNow_2 5 = .ok (.invokeinterface 61 2, 5) := by decide +kernel
theorem dX1_ticketNow_2_10 : decode cX1_ticketNow_2 10 = .ok (.checkcast 69, 3) := dk_192 0 69 (dk_at dksX1_ticketNow_2_0 10 rfl rfl)
theorem dX1_ticketNow_2_13 : decode cX1_ticketNow_2 13 = .ok (.astore_n 3, 1) := dk_78 (dk_at dksX1_ticketNow_2_0 13 rfl rfl)
theorem dX1_ticketNow_2_14 : decode cX1_ticketNow_2 14 = .ok (.iload_n 2, 1) := dk_28 (dk_at dksX1_ticketNow_2_0 14 rfl rfl)
theorem dX1_ticketNow_2_15 : decode cX1_ticketNow_2 15 = .ok (.tableswitch 78 0 5 #[37, 45, 50, 55, 60, 65], 37) := by decide +kernel
theorem dX1_ticketNow_2_52 : decode cX1_ticketNow_2 52 = .ok (.aload_n 3, 1) := dk_45 (dk_at dksX1_ticketNow_2_2 0 rfl rfl)
theorem dX1_ticketNow_2_53 : decode cX1_ticketNow_2 53 = .ok (.getfield 294, 3) := dk_180 1 38 (dk_at dksX1_ticketNow_2_2 1 rfl rfl)
theorem dX1_ticketNow_2_56 : decode cX1_ticketNow_2 56 = .ok (.invokevirtual 297, 3) := dk_182 1 41 (dk_at dksX1_ticketNow_2_2 4 rfl rfl)
theorem dX1_ticketNow_2_59 : decode cX1_ticketNow_2 59 = .ok (.ireturn, 1) := dk_172 (dk_at dksX1_ticketNow_2_2 7 rfl rfl)
theorem dX1_ticketNow_2_60 : decode cX1_ticketNow_2 60 = .ok (.aload_n 3, 1) := dk_45 (dk_at dksX1_ticketNow_2_2 8 rfl rfl)
theorem dX1_ticketNow_2_61 : decode cX1_ticketNow_2 61 = .ok (.getfield 204, 3) := dk_180 0 204 (dk_at dksX1_ticketNow_2_2 9 rfl rfl)
theorem dX1_ticketNow_2_64 : decode cX1_ticketNow_2 64 = .ok (.ireturn, 1) := dk_172 (dk_at dksX1_ticketNow_2_2 12 rfl rfl)
theorem dX1_ticketNow_2_65 : decode cX1_ticketNow_2 65 = .ok (.aload_n 3, 1) := dk_45 (dk_at dksX1_ticketNow_2_2 13 rfl rfl)
theorem dX1_ticketNow_2_66 : decode cX1_ticketNow_2 66 = .ok (.getfield 207, 3) := dk_180 0 207 (dk_at dksX1_ticketNow_2_2 14 rfl rfl)
theorem dX1_ticketNow_2_69 : decode cX1_ticketNow_2 69 = .ok (.ireturn, 1) := dk_172 (dk_at dksX1_ticketNow_2_2 17 rfl rfl)
theorem dX1_ticketNow_2_70 : decode cX1_ticketNow_2 70 = .ok (.aload_n 3, 1) := dk_45 (dk_at dksX1_ticketNow_2_2 18 rfl rfl)
theorem dX1_ticketNow_2_71 : decode cX1_ticketNow_2 71 = .ok (.getfield 300, 3) := dk_180 1 44 (dk_at dksX1_ticketNow_2_2 19 rfl rfl)
theorem dX1_ticketNow_2_74 : decode cX1_ticketNow_2 74 = .ok (.ireturn, 1) := dk_172 (dk_at dksX1_ticketNow_2_2 22 rfl rfl)
theorem dX1_ticketNow_2_75 : decode cX1_ticketNow_2 75 = .ok (.aload_n 3, 1) := dk_45 (dk_at dksX1_ticketNow_2_2 23 rfl rfl)
theorem dX1_ticketNow_2_76 : decode cX1_ticketNow_2 76 = .ok (.getfield 214, 3) := dk_180 0 214 (dk_at dksX1_ticketNow_2_3 0 rfl rfl)
theorem dX1_ticketNow_2_79 : decode cX1_ticketNow_2 79 = .ok (.ireturn, 1) := dk_172 (dk_at dksX1_ticketNow_2_3 3 rfl rfl)
theorem dX1_ticketNow_2_80 : decode cX1_ticketNow_2 80 = .ok (.aload_n 3, 1) := dk_45 (dk_at dksX1_ticketNow_2_3 4 rfl rfl)
theorem dX1_ticketNow_2_81 : decode cX1_ticketNow_2 81 = .ok (.getfield 217, 3) := dk_180 0 217 (dk_at dksX1_ticketNow_2_3 5 rfl rfl)
theorem dX1_ticketNow_2_84 : decode cX1_ticketNow_2 84 = .ok (.ifCond .eq 7, 3) := dk_153 0 7 (dk_at dksX1_ticketNow_2_3 8 rfl rfl)
theorem dX1_ticketNow_2_87 : decode cX1_ticketNow_2 87 = .ok (.iconst 1, 1) := dk_4 (dk_at dksX1_ticketNow_2_3 11 rfl rfl)
theorem dX1_ticketNow_2_88 : decode cX1_ticketNow_2 88 = .ok (.goto 4, 3) := dk_167 0 4 (dk_at dksX1_ticketNow_2_3 12 rfl rfl)
theorem dX1_ticketNow_2_91 : decode cX1_ticketNow_2 91 = .ok (.iconst 0, 1) := dk_3 (dk_at dksX1_ticketNow_2_3 15 rfl rfl)
theorem dX1_ticketNow_2_92 : decode cX1_ticketNow_2 92 = .ok (.ireturn, 1) := dk_172 (dk_at dksX1_ticketNow_2_3 16 rfl rfl)
theorem dX1_ticketNow_2_93 : decode cX1_ticketNow_2 93 = .ok (.aload_n 0, 1) := dk_42 (dk_at dksX1_ticketNow_2_3 17 rfl rfl)
theorem dX1_ticketNow_2_94 : decode cX1_ticketNow_2 94 = .ok (.iload_n 1, 1) := dk_27 (dk_at dksX1_ticketNow_2_3 18 rfl rfl)
theorem dX1_ticketNow_2_95 : decode cX1_ticketNow_2 95 = .ok (.invokevirtual 303, 3) := dk_182 1 47 (dk_at dksX1_ticketNow_2_3 19 rfl rfl)
theorem dX1_ticketNow_2_98 : decode cX1_ticketNow_2 98 = .ok (.ireturn, 1) := dk_172 (dk_at dksX1_ticketNow_2_3 22 rfl rfl)
abbrev cX1_place : ByteArray := prog_1_method_43_code
def yX1_place : MethodName := ⟨RX1, "place", "(I)I"⟩
def dkwX1_place_0 : List UInt8 := [42, 182, 1, 34, 77, 3, 62, 44, 29, 46, 27, 159, 0, 9, 132, 3, 1, 167, 255, 246, 29, 172]
abbrev dktX1_place_0 : List UInt8 := dkwX1_place_0 ++ []
theorem dksX1_place_0 : cX1_place.data.toList.drop 0 = dktX1_place_0 := by decide +kernel
theorem dX1_place_0 : decode cX1_place 0 = .ok (.aload_n 0, 1) := dk_42 (dk_at dksX1_place_0 0 rfl rfl)
theorem dX1_place_1 : decode cX1_place 1 = .ok (.invokevirtual 290, 3) := dk_182 1 34 (dk_at dksX1_place_0 1 rfl rfl)
theorem dX1_place_4 : decode cX1_place 4 = .ok (.astore_n 2, 1) := dk_77 (dk_at dksX1_place_0 4 rfl rfl)
theorem dX1_place_5 : decode cX1_place 5 = .ok (.iconst 0, 1) := dk_3 (dk_at dksX1_place_0 5 rfl rfl)
theorem dX1_place_6 : decode cX1_place 6 = .ok (.istore_n 3, 1) := dk_62 (dk_at dksX1_place_0 6 rfl rfl)
theorem dX1_place_7 : decode cX1_place 7 = .ok (.aload_n 2, 1) := dk_44 (dk_at dksX1_place_0 7 rfl rfl)
theorem dX1_place_8 : decode cX1_place 8 = .ok (.iload_n 3, 1) := dk_29 (dk_at dksX1_place_0 8 rfl rfl)
theorem dX1_place_9 : decode cX1_place 9 = .ok (.iaload, 1) := dk_46 (dk_at dksX1_place_0 9 rfl rfl)
theorem dX1_place_10 : decode cX1_place 10 = .ok (.iload_n 1, 1) := dk_27 (dk_at dksX1_place_0 10 rfl rfl)
theorem dX1_place_11 : decode cX1_place 11 = .ok (.if_icmp .eq 9, 3) := dk_159 0 9 (dk_at dksX1_place_0 11 rfl rfl)
theorem dX1_place_14 : decode cX1_place 14 = .ok (.iinc 3 1, 3) := dk_132 3 1 (dk_at dksX1_place_0 14 rfl rfl)
theorem dX1_place_17 : decode cX1_place 17 = .ok (.goto (-10), 3) := dk_167 255 246 (dk_at dksX1_place_0 17 rfl rfl)
theorem dX1_place_20 : decode cX1_place 20 = .ok (.iload_n 3, 1) := dk_29 (dk_at dksX1_place_0 20 rfl rfl)
theorem dX1_place_21 : decode cX1_place 21 = .ok (.ireturn, 1) := dk_172 (dk_at dksX1_place_0 21 rfl rfl)
abbrev cX1_plan : ByteArray := prog_1_method_16_code
def yX1_plan : MethodName := ⟨RX1, "plan", "(III)I"⟩
def dkwX1_plan_3 : List UInt8 := [185, 0, 54, 1, 0, 4, 100, 172]
abbrev dktX1_plan_3 : List UInt8 := dkwX1_plan_3 ++ []
def dkwX1_plan_2 : List UInt8 := [187, 0, 65, 89, 27, 28, 29, 183, 0, 90, 185, 0, 36, 2, 0, 87, 42, 180, 0, 10]
abbrev dktX1_plan_2 : List UInt8 := dkwX1_plan_2 ++ dktX1_plan_3
def dkwX1_plan_1 : List UInt8 := [180, 0, 10, 185, 0, 54, 1, 0, 8, 162, 0, 7, 4, 167, 0, 4, 3, 184, 0, 87, 42, 180, 0, 10]
abbrev dktX1_plan_1 : List UInt8 := dkwX1_plan_1 ++ dktX1_plan_2
def dkwX1_plan_0 : List UInt8 := [27, 3, 16, 99, 184, 0, 71, 29, 3, 16, 99, 184, 0, 71, 28, 3, 17, 39, 15, 184, 0, 71, 42]
abbrev dktX1_plan_0 : List UInt8 := dkwX1_plan_0 ++ dktX1_plan_1
theorem dksX1_plan_0 : cX1_plan.data.toList.drop 0 = dktX1_plan_0 := by decide +kernel
theorem dksX1_plan_1 : cX1_plan.data.toList.drop 23 = dktX1_plan_1 := dk_seg dksX1_plan_0 23 rfl rfl
theorem dksX1_plan_2 : cX1_plan.data.toList.drop 47 = dktX1_plan_2 := dk_seg dksX1_plan_1 24 rfl rfl
theorem dksX1_plan_3 : cX1_plan.data.toList.drop 67 = dktX1_plan_3 := dk_seg dksX1_plan_2 20 rfl rfl
theorem dX1_plan_0 : decode cX1_plan 0 = .ok (.iload_n 1, 1) := dk_27 (dk_at dksX1_plan_0 0 rfl rfl)
theorem dX1_plan_1 : decode cX1_plan 1 = .ok (.iconst 0, 1) := dk_3 (dk_at dksX1_plan_0 1 rfl rfl)
theorem dX1_plan_2 : decode cX1_plan 2 = .ok (.bipush 99, 2) := dk_16 99 (dk_at dksX1_plan_0 2 rfl rfl)
theorem dX1_plan_4 : decode cX1_plan 4 = .ok (.invokestatic 71, 3) := dk_184 0 71 (dk_at dksX1_plan_0 4 rfl rfl)
theorem dX1_plan_7 : decode cX1_plan 7 = .ok (.iload_n 3, 1) := dk_29 (dk_at dksX1_plan_0 7 rfl rfl)
theorem dX1_plan_8 : decode cX1_plan 8 = .ok (.iconst 0, 1) := dk_3 (dk_at dksX1_plan_0 8 rfl rfl)
theorem dX1_plan_9 : decode cX1_plan 9 = .ok (.bipush 99, 2) := dk_16 99 (dk_at dksX1_plan_0 9 rfl rfl)
theorem dX1_plan_11 : decode cX1_plan 11 = .ok (.invokestatic 71, 3) := dk_184 0 71 (dk_at dksX1_plan_0 11 rfl rfl)
theorem dX1_plan_14 : decode cX1_plan 14 = .ok (.iload_n 2, 1) := dk_28 (dk_at dksX1_plan_0 14 rfl rfl)
theorem dX1_plan_15 : decode cX1_plan 15 = .ok (.iconst 0, 1) := dk_3 (dk_at dksX1_plan_0 15 rfl rfl)
theorem dX1_plan_16 : decode cX1_plan 16 = .ok (.sipush 9999, 3) := dk_17 39 15 (dk_at dksX1_plan_0 16 rfl rfl)
theorem dX1_plan_19 : decode cX1_plan 19 = .ok (.invokestatic 71, 3) := dk_184 0 71 (dk_at dksX1_plan_0 19 rfl rfl)
theorem dX1_plan_22 : decode cX1_plan 22 = .ok (.aload_n 0, 1) := dk_42 (dk_at dksX1_plan_0 22 rfl rfl)
theorem dX1_plan_23 : decode cX1_plan 23 = .ok (.getfield 10, 3) := dk_180 0 10 (dk_at dksX1_plan_1 0 rfl rfl)
theorem dX1_plan_26 : decode cX1_plan 26 = .ok (.invokeinterface 54 1, 5) := by decide +kernel
theorem dX1_plan_31 : decode cX1_plan 31 = .ok (.iconst 5, 1) := dk_8 (dk_at dksX1_plan_1 8 rfl rfl)
theorem dX1_plan_32 : decode cX1_plan 32 = .ok (.if_icmp .ge 7, 3) := dk_162 0 7 (dk_at dksX1_plan_1 9 rfl rfl)
theorem dX1_plan_35 : decode cX1_plan 35 = .ok (.iconst 1, 1) := dk_4 (dk_at dksX1_plan_1 12 rfl rfl)
theorem dX1_plan_36 : decode cX1_plan 36 = .ok (.goto 4, 3) := dk_167 0 4 (dk_at dksX1_plan_1 13 rfl rfl)
theorem dX1_plan_39 : decode cX1_plan 39 = .ok (.iconst 0, 1) := dk_3 (dk_at dksX1_plan_1 16 rfl rfl)
theorem dX1_plan_40 : decode cX1_plan 40 = .ok (.invokestatic 87, 3) := dk_184 0 87 (dk_at dksX1_plan_1 17 rfl rfl)
theorem dX1_plan_43 : decode cX1_plan 43 = .ok (.aload_n 0, 1) := dk_42 (dk_at dksX1_plan_1 20 rfl rfl)
theorem dX1_plan_44 : decode cX1_plan 44 = .ok (.getfield 10, 3) := dk_180 0 10 (dk_at dksX1_plan_1 21 rfl rfl)
theorem dX1_plan_47 : decode cX1_plan 47 = .ok (.new 65, 3) := dk_187 0 65 (dk_at dksX1_plan_2 0 rfl rfl)
theorem dX1_plan_50 : decode cX1_plan 50 = .ok (.dup, 1) := dk_89 (dk_at dksX1_plan_2 3 rfl rfl)
theorem dX1_plan_51 : decode cX1_plan 51 = .ok (.iload_n 1, 1) := dk_27 (dk_at dksX1_plan_2 4 rfl rfl)
theorem dX1_plan_52 : decode cX1_plan 52 = .ok (.iload_n 2, 1) := dk_28 (dk_at dksX1_plan_2 5 rfl rfl)
theorem dX1_plan_53 : decode cX1_plan 53 = .ok (.iload_n 3, 1) := dk_29 (dk_at dksX1_plan_2 6 rfl rfl)
theorem dX1_plan_54 : decode cX1_plan 54 = .ok (.invokespecial 90, 3) := dk_183 0 90 (dk_at dksX1_plan_2 7 rfl rfl)
theorem dX1_plan_57 : decode cX1_plan 57 = .ok (.invokeinterface 36 2, 5) := by decide +kernel
theorem dX1_plan_62 : decode cX1_plan 62 = .ok (.pop, 1) := dk_87 (dk_at dksX1_plan_2 15 rfl rfl)
theorem dX1_plan_63 : decode cX1_plan 63 = .ok (.aload_n 0, 1) := dk_42 (dk_at dksX1_plan_2 16 rfl rfl)
theorem dX1_plan_64 : decode cX1_plan 64 = .ok (.getfield 10, 3) := dk_180 0 10 (dk_at dksX1_plan_2 17 rfl rfl)
theorem dX1_plan_67 : decode cX1_plan 67 = .ok (.invokeinterface 54 1, 5) := by decide +kernel
theorem dX1_plan_72 : decode cX1_plan 72 = .ok (.iconst 1, 1) := dk_4 (dk_at dksX1_plan_3 5 rfl rfl)
theorem dX1_plan_73 : decode cX1_plan 73 = .ok (.isub, 1) := dk_100 (dk_at dksX1_plan_3 6 rfl rfl)
theorem dX1_plan_74 : decode cX1_plan 74 = .ok (.ireturn, 1) := dk_172 (dk_at dksX1_plan_3 7 rfl rfl)
abbrev cX1_mustBeIn : ByteArray := prog_1_method_6_code
def yX1_mustBeIn : MethodName := ⟨RX1, "mustBeIn", "(III)V"⟩
def dkwX1_mustBeIn_0 : List UInt8 := [26, 27, 161, 0, 12, 26, 28, 163, 0, 7, 4, 167, 0, 4, 3, 184, 0, 44, 177]
abbrev dktX1_mustBeIn_0 : List UInt8 := dkwX1_mustBeIn_0 ++ []
theorem dksX1_mustBeIn_0 : cX1_mustBeIn.data.toList.drop 0 = dktX1_mustBeIn_0 := by decide +kernel
theorem dX1_mustBeIn_0 : decode cX1_mustBeIn 0 = .ok (.iload_n 0, 1) := dk_26 (dk_at dksX1_mustBeIn_0 0 rfl rfl)
theorem dX1_mustBeIn_1 : decode cX1_mustBeIn 1 = .ok (.iload_n 1, 1) := dk_27 (dk_at dksX1_mustBeIn_0 1 rfl rfl)
theorem dX1_mustBeIn_2 : decode cX1_mustBeIn 2 = .ok (.if_icmp .lt 12, 3) := dk_161 0 12 (dk_at dksX1_mustBeIn_0 2 rfl rfl)
theorem dX1_mustBeIn_5 : decode cX1_mustBeIn 5 = .ok (.iload_n 0, 1) := dk_26 (dk_at dksX1_mustBeIn_0 5 rfl rfl)
theorem dX1_mustBeIn_6 : decode cX1_mustBeIn 6 = .ok (.iload_n 2, 1) := dk_28 (dk_at dksX1_mustBeIn_0 6 rfl rfl)
theorem dX1_mustBeIn_7 : decode cX1_mustBeIn 7 = .ok (.if_icmp .gt 7, 3) := dk_163 0 7 (dk_at dksX1_mustBeIn_0 7 rfl rfl)
theorem dX1_mustBeIn_10 : decode cX1_mustBeIn 10 = .ok (.iconst 1, 1) := dk_4 (dk_at dksX1_mustBeIn_0 10 rfl rfl)
theorem dX1_mustBeIn_11 : decode cX1_mustBeIn 11 = .ok (.goto 4, 3) := dk_167 0 4 (dk_at dksX1_mustBeIn_0 11 rfl rfl)
theorem dX1_mustBeIn_14 : decode cX1_mustBeIn 14 = .ok (.iconst 0, 1) := dk_3 (dk_at dksX1_mustBeIn_0 14 rfl rfl)
theorem dX1_mustBeIn_15 : decode cX1_mustBeIn 15 = .ok (.invokestatic 44, 3) := dk_184 0 44 (dk_at dksX1_mustBeIn_0 15 rfl rfl)
theorem dX1_mustBeIn_18 : decode cX1_mustBeIn 18 = .ok (.return_, 1) := dk_177 (dk_at dksX1_mustBeIn_0 18 rfl rfl)
abbrev cX1_must : ByteArray := prog_1_method_5_code
def yX1_must : MethodName := ⟨RX1, "must", "(Z)V"⟩
def dkwX1_must_0 : List UInt8 := [26, 154, 0, 11, 187, 0, 41, 89, 183, 0, 43, 191, 177]
abbrev dktX1_must_0 : List UInt8 := dkwX1_must_0 ++ []
theorem dksX1_must_0 : cX1_must.data.toList.drop 0 = dktX1_must_0 := by decide +kernel
theorem dX1_must_0 : decode cX1_must 0 = .ok (.iload_n 0, 1) := dk_26 (dk_at dksX1_must_0 0 rfl rfl)
theorem dX1_must_1 : decode cX1_must 1 = .ok (.ifCond .ne 11, 3) := dk_154 0 11 (dk_at dksX1_must_0 1 rfl rfl)
theorem dX1_must_4 : decode cX1_must 4 = .ok (.new 41, 3) := dk_187 0 41 (dk_at dksX1_must_0 4 rfl rfl)
theorem dX1_must_7 : decode cX1_must 7 = .ok (.dup, 1) := dk_89 (dk_at dksX1_must_0 7 rfl rfl)
theorem dX1_must_8 : decode cX1_must 8 = .ok (.invokespecial 43, 3) := dk_183 0 43 (dk_at dksX1_must_0 8 rfl rfl)
theorem dX1_must_11 : decode cX1_must 11 = .ok (.athrow, 1) := dk_191 (dk_at dksX1_must_0 11 rfl rfl)
theorem dX1_must_12 : decode cX1_must 12 = .ok (.return_, 1) := dk_177 (dk_at dksX1_must_0 12 rfl rfl)
abbrev cX1_checkState : ByteArray := prog_1_method_7_code
def yX1_checkState : MethodName := ⟨RX1, "checkState", "(Z)V"⟩
def dkwX1_checkState_0 : List UInt8 := [26, 154, 0, 11, 187, 0, 48, 89, 183, 0, 50, 191, 177]
abbrev dktX1_checkState_0 : List UInt8 := dkwX1_checkState_0 ++ []
theorem dksX1_checkState_0 : cX1_checkState.data.toList.drop 0 = dktX1_checkState_0 := by decide +kernel
theorem dX1_checkState_0 : decode cX1_checkState 0 = .ok (.iload_n 0, 1) := dk_26 (dk_at dksX1_checkState_0 0 rfl rfl)
theorem dX1_checkState_1 : decode cX1_checkState 1 = .ok (.ifCond .ne 11, 3) := dk_154 0 11 (dk_at dksX1_checkState_0 1 rfl rfl)
theorem dX1_checkState_4 : decode cX1_checkState 4 = .ok (.new 48, 3) := dk_187 0 48 (dk_at dksX1_checkState_0 4 rfl rfl)
theorem dX1_checkState_7 : decode cX1_checkState 7 = .ok (.dup, 1) := dk_89 (dk_at dksX1_checkState_0 7 rfl rfl)
theorem dX1_checkState_8 : decode cX1_checkState 8 = .ok (.invokespecial 50, 3) := dk_183 0 50 (dk_at dksX1_checkState_0 8 rfl rfl)
theorem dX1_checkState_11 : decode cX1_checkState 11 = .ok (.athrow, 1) := dk_191 (dk_at dksX1_checkState_0 11 rfl rfl)
theorem dX1_checkState_12 : decode cX1_checkState 12 = .ok (.return_, 1) := dk_177 (dk_at dksX1_checkState_0 12 rfl rfl)
abbrev cX1_units : ByteArray := prog_1_method_17_code
def yX1_units : MethodName := ⟨RX1, "units", "(IIIIZ)I"⟩
def dkwX1_units_2 : List UInt8 := [25, 6, 21, 4, 181, 0, 96, 25, 6, 21, 5, 181, 0, 105, 21, 7, 172]
abbrev dktX1_units_2 : List UInt8 := dkwX1_units_2 ++ []
def dkwX1_units_1 : List UInt8 := [16, 120, 184, 0, 71, 25, 6, 180, 0, 96, 54, 7, 25, 6, 28, 181, 0, 99, 25, 6, 29, 181, 0, 102]
abbrev dktX1_units_1 : List UInt8 := dkwX1_units_1 ++ dktX1_units_2
def dkwX1_units_0 : List UInt8 := [42, 27, 182, 0, 92, 58, 6, 28, 3, 6, 184, 0, 71, 29, 4, 16, 120, 184, 0, 71, 21, 4, 16, 6]
abbrev dktX1_units_0 : List UInt8 := dkwX1_units_0 ++ dktX1_units_1
theorem dksX1_units_0 : cX1_units.data.toList.drop 0 = dktX1_units_0 := by decide +kernel
theorem dksX1_units_1 : cX1_units.data.toList.drop 24 = dktX1_units_1 := dk_seg dksX1_units_0 24 rfl rfl
theorem dksX1_units_2 : cX1_units.data.toList.drop 48 = dktX1_units_2 := dk_seg dksX1_units_1 24 rfl rfl
theorem dX1_units_0 : decode cX1_units 0 = .ok (.aload_n 0, 1) := dk_42 (dk_at dksX1_units_0 0 rfl rfl)
theorem dX1_units_1 : decode cX1_units 1 = .ok (.iload_n 1, 1) := dk_27 (dk_at dksX1_units_0 1 rfl rfl)
theorem dX1_units_2 : decode cX1_units 2 = .ok (.invokevirtual 92, 3) := dk_182 0 92 (dk_at dksX1_units_0 2 rfl rfl)
theorem dX1_units_5 : decode cX1_units 5 = .ok (.astore 6, 2) := dk_58 6 (dk_at dksX1_units_0 5 rfl rfl)
theorem dX1_units_7 : decode cX1_units 7 = .ok (.iload_n 2, 1) := dk_28 (dk_at dksX1_units_0 7 rfl rfl)
theorem dX1_units_8 : decode cX1_units 8 = .ok (.iconst 0, 1) := dk_3 (dk_at dksX1_units_0 8 rfl rfl)
theorem dX1_units_9 : decode cX1_units 9 = .ok (.iconst 3, 1) := dk_6 (dk_at dksX1_units_0 9 rfl rfl)
theorem dX1_units_10 : decode cX1_units 10 = .ok (.invokestatic 71, 3) := dk_184 0 71 (dk_at dksX1_units_0 10 rfl rfl)
theorem dX1_units_13 : decode cX1_units 13 = .ok (.iload_n 3, 1) := dk_29 (dk_at dksX1_units_0 13 rfl rfl)
theorem dX1_units_14 : decode cX1_units 14 = .ok (.iconst 1, 1) := dk_4 (dk_at dksX1_units_0 14 rfl rfl)
theorem dX1_units_15 : decode cX1_units 15 = .ok (.bipush 120, 2) := dk_16 120 (dk_at dksX1_units_0 15 rfl rfl)
theorem dX1_units_17 : decode cX1_units 17 = .ok (.invokestatic 71, 3) := dk_184 0 71 (dk_at dksX1_units_0 17 rfl rfl)
theorem dX1_units_20 : decode cX1_units 20 = .ok (.iload 4, 2) := dk_21 4 (dk_at dksX1_units_0 20 rfl rfl)
theorem dX1_units_22 : decode cX1_units 22 = .ok (.bipush 6, 2) := dk_16 6 (dk_at dksX1_units_0 22 rfl rfl)
theorem dX1_units_24 : decode cX1_units 24 = .ok (.bipush 120, 2) := dk_16 120 (dk_at dksX1_units_1 0 rfl rfl)
theorem dX1_units_26 : decode cX1_units 26 = .ok (.invokestatic 71, 3) := dk_184 0 71 (dk_at dksX1_units_1 2 rfl rfl)
theorem dX1_units_29 : decode cX1_units 29 = .ok (.aload 6, 2) := dk_25 6 (dk_at dksX1_units_1 5 rfl rfl)
theorem dX1_units_31 : decode cX1_units 31 = .ok (.getfield 96, 3) := dk_180 0 96 (dk_at dksX1_units_1 7 rfl rfl)
theorem dX1_units_34 : decode cX1_units 34 = .ok (.istore 7, 2) := dk_54 7 (dk_at dksX1_units_1 10 rfl rfl)
theorem dX1_units_36 : decode cX1_units 36 = .ok (.aload 6, 2) := dk_25 6 (dk_at dksX1_units_1 12 rfl rfl)
theorem dX1_units_38 : decode cX1_units 38 = .ok (.iload_n 2, 1) := dk_28 (dk_at dksX1_units_1 14 rfl rfl)
theorem dX1_units_39 : decode cX1_units 39 = .ok (.putfield 99, 3) := dk_181 0 99 (dk_at dksX1_units_1 15 rfl rfl)
theorem dX1_units_42 : decode cX1_units 42 = .ok (.aload 6, 2) := dk_25 6 (dk_at dksX1_units_1 18 rfl rfl)
theorem dX1_units_44 : decode cX1_units 44 = .ok (.iload_n 3, 1) := dk_29 (dk_at dksX1_units_1 20 rfl rfl)
theorem dX1_units_45 : decode cX1_units 45 = .ok (.putfield 102, 3) := dk_181 0 102 (dk_at dksX1_units_1 21 rfl rfl)
theorem dX1_units_48 : decode cX1_units 48 = .ok (.aload 6, 2) := dk_25 6 (dk_at dksX1_units_2 0 rfl rfl)
theorem dX1_units_50 : decode cX1_units 50 = .ok (.iload 4, 2) := dk_21 4 (dk_at dksX1_units_2 2 rfl rfl)
theorem dX1_units_52 : decode cX1_units 52 = .ok (.putfield 96, 3) := dk_181 0 96 (dk_at dksX1_units_2 4 rfl rfl)
theorem dX1_units_55 : decode cX1_units 55 = .ok (.aload 6, 2) := dk_25 6 (dk_at dksX1_units_2 7 rfl rfl)
theorem dX1_units_57 : decode cX1_units 57 = .ok (.iload 5, 2) := dk_21 5 (dk_at dksX1_units_2 9 rfl rfl)
theorem dX1_units_59 : decode cX1_units 59 = .ok (.putfield 105, 3) := dk_181 0 105 (dk_at dksX1_units_2 11 rfl rfl)
theorem dX1_units_62 : decode cX1_units 62 = .ok (.iload 7, 2) := dk_21 7 (dk_at dksX1_units_2 14 rfl rfl)
theorem dX1_units_64 : decode cX1_units 64 = .ok (.ireturn, 1) := dk_172 (dk_at dksX1_units_2 16 rfl rfl)
abbrev cX1_planAt : ByteArray := prog_1_method_9_code
def yX1_planAt : MethodName := ⟨RX1, "planAt", "(I)LRollover$Plan;"⟩
def dkwX1_planAt_1 : List UInt8 := [192, 0, 65, 176]
abbrev dktX1_planAt_1 : List UInt8 := dkwX1_planAt_1 ++ []
def dkwX1_planAt_0 : List UInt8 := [27, 42, 180, 0, 10, 185, 0, 54, 1, 0, 184, 0, 58, 42, 180, 0, 10, 27, 185, 0, 61, 2, 0]
abbrev dktX1_planAt_0 : List UInt8 := dkwX1_planAt_0 ++ dktX1_planAt_1
theorem dksX1_planAt_0 : cX1_planAt.data.toList.drop 0 = dktX1_planAt_0 := by decide +kernel
theorem dksX1_planAt_1 : cX1_planAt.data.toList.drop 23 = dktX1_planAt_1 := dk_seg dksX1_planAt_0 23 rfl rfl
theorem dX1_planAt_0 : decode cX1_planAt 0 = .ok (.iload_n 1, 1) := dk_27 (dk_at dksX1_planAt_0 0 rfl rfl)
theorem dX1_planAt_1 : decode cX1_planAt 1 = .ok (.aload_n 0, 1) := dk_42 (dk_at dksX1_planAt_0 1 rfl rfl)
theorem dX1_planAt_2 : decode cX1_planAt 2 = .ok (.getfield 10, 3) := dk_180 0 10 (dk_at dksX1_planAt_0 2 rfl rfl)
theorem dX1_planAt_5 : decode cX1_planAt 5 = .ok (.invokeinterface 54 1, 5) := by decide +kernel
theorem dX1_planAt_10 : decode cX1_planAt 10 = .ok (.invokestatic 58, 3) := dk_184 0 58 (dk_at dksX1_planAt_0 10 rfl rfl)
theorem dX1_planAt_13 : decode cX1_planAt 13 = .ok (.aload_n 0, 1) := dk_42 (dk_at dksX1_planAt_0 13 rfl rfl)
theorem dX1_planAt_14 : decode cX1_planAt 14 = .ok (.getfield 10, 3) := dk_180 0 10 (dk_at dksX1_planAt_0 14 rfl rfl)
theorem dX1_planAt_17 : decode cX1_planAt 17 = .ok (.iload_n 1, 1) := dk_27 (dk_at dksX1_planAt_0 17 rfl rfl)
theorem dX1_planAt_18 : decode cX1_planAt 18 = .ok (.invokeinterface 61 2, 5) := by decide +kernel
theorem dX1_planAt_23 : decode cX1_planAt 23 = .ok (.checkcast 65, 3) := dk_192 0 65 (dk_at dksX1_planAt_1 0 rfl rfl)
theorem dX1_planAt_26 : decode cX1_planAt 26 = .ok (.areturn, 1) := dk_176 (dk_at dksX1_planAt_1 3 rfl rfl)
abbrev cX1_checkPlace : ByteArray := prog_1_method_8_code
def yX1_checkPlace : MethodName := ⟨RX1, "checkPlace", "(II)V"⟩
def dkwX1_checkPlace_0 : List UInt8 := [26, 155, 0, 8, 26, 27, 161, 0, 11, 187, 0, 51, 89, 183, 0, 53, 191, 177]
abbrev dktX1_checkPlace_0 : List UInt8 := dkwX1_checkPlace_0 ++ []
theorem dksX1_checkPlace_0 : cX1_checkPlace.data.toList.drop 0 = dktX1_checkPlace_0 := by decide +kernel
theorem dX1_checkPlace_0 : decode cX1_checkPlace 0 = .ok (.iload_n 0, 1) := dk_26 (dk_at dksX1_checkPlace_0 0 rfl rfl)
theorem dX1_checkPlace_1 : decode cX1_checkPlace 1 = .ok (.ifCond .lt 8, 3) := dk_155 0 8 (dk_at dksX1_checkPlace_0 1 rfl rfl)
theorem dX1_checkPlace_4 : decode cX1_checkPlace 4 = .ok (.iload_n 0, 1) := dk_26 (dk_at dksX1_checkPlace_0 4 rfl rfl)
theorem dX1_checkPlace_5 : decode cX1_checkPlace 5 = .ok (.iload_n 1, 1) := dk_27 (dk_at dksX1_checkPlace_0 5 rfl rfl)
theorem dX1_checkPlace_6 : decode cX1_checkPlace 6 = .ok (.if_icmp .lt 11, 3) := dk_161 0 11 (dk_at dksX1_checkPlace_0 6 rfl rfl)
theorem dX1_checkPlace_9 : decode cX1_checkPlace 9 = .ok (.new 51, 3) := dk_187 0 51 (dk_at dksX1_checkPlace_0 9 rfl rfl)
theorem dX1_checkPlace_12 : decode cX1_checkPlace 12 = .ok (.dup, 1) := dk_89 (dk_at dksX1_checkPlace_0 12 rfl rfl)
theorem dX1_checkPlace_13 : decode cX1_checkPlace 13 = .ok (.invokespecial 53, 3) := dk_183 0 53 (dk_at dksX1_checkPlace_0 13 rfl rfl)
theorem dX1_checkPlace_16 : decode cX1_checkPlace 16 = .ok (.athrow, 1) := dk_191 (dk_at dksX1_checkPlace_0 16 rfl rfl)
theorem dX1_checkPlace_17 : decode cX1_checkPlace 17 = .ok (.return_, 1) := dk_177 (dk_at dksX1_checkPlace_0 17 rfl rfl)
abbrev cX1_steps : ByteArray := prog_1_method_18_code
def yX1_steps : MethodName := ⟨RX1, "steps", "(IIII)I"⟩
def dkwX1_steps_2 : List UInt8 := [181, 0, 115, 25, 5, 21, 4, 181, 0, 109, 21, 6, 172]
abbrev dktX1_steps_2 : List UInt8 := dkwX1_steps_2 ++ []
def dkwX1_steps_1 : List UInt8 := [3, 17, 3, 231, 184, 0, 71, 25, 5, 180, 0, 109, 54, 6, 25, 5, 28, 181, 0, 112, 25, 5, 29]
abbrev dktX1_steps_1 : List UInt8 := dkwX1_steps_1 ++ dktX1_steps_2
def dkwX1_steps_0 : List UInt8 := [42, 27, 182, 0, 92, 58, 5, 28, 3, 17, 39, 15, 184, 0, 71, 29, 3, 16, 99, 184, 0, 71, 21, 4]
abbrev dktX1_steps_0 : List UInt8 := dkwX1_steps_0 ++ dktX1_steps_1
theorem dksX1_steps_0 : cX1_steps.data.toList.drop 0 = dktX1_steps_0 := by decide +kernel
theorem dksX1_steps_1 : cX1_steps.data.toList.drop 24 = dktX1_steps_1 := dk_seg dksX1_steps_0 24 rfl rfl
theorem dksX1_steps_2 : cX1_steps.data.toList.drop 47 = dktX1_steps_2 := dk_seg dksX1_steps_1 23 rfl rfl
theorem dX1_steps_0 : decode cX1_steps 0 = .ok (.aload_n 0, 1) := dk_42 (dk_at dksX1_steps_0 0 rfl rfl)
theorem dX1_steps_1 : decode cX1_steps 1 = .ok (.iload_n 1, 1) := dk_27 (dk_at dksX1_steps_0 1 rfl rfl)
theorem dX1_steps_2 : decode cX1_steps 2 = .ok (.invokevirtual 92, 3) := dk_182 0 92 (dk_at dksX1_steps_0 2 rfl rfl)
theorem dX1_steps_5 : decode cX1_steps 5 = .ok (.astore 5, 2) := dk_58 5 (dk_at dksX1_steps_0 5 rfl rfl)
theorem dX1_steps_7 : decode cX1_steps 7 = .ok (.iload_n 2, 1) := dk_28 (dk_at dksX1_steps_0 7 rfl rfl)
theorem dX1_steps_8 : decode cX1_steps 8 = .ok (.iconst 0, 1) := dk_3 (dk_at dksX1_steps_0 8 rfl rfl)
theorem dX1_steps_9 : decode cX1_steps 9 = .ok (.sipush 9999, 3) := dk_17 39 15 (dk_at dksX1_steps_0 9 rfl rfl)
theorem dX1_steps_12 : decode cX1_steps 12 = .ok (.invokestatic 71, 3) := dk_184 0 71 (dk_at dksX1_steps_0 12 rfl rfl)
theorem dX1_steps_15 : decode cX1_steps 15 = .ok (.iload_n 3, 1) := dk_29 (dk_at dksX1_steps_0 15 rfl rfl)
theorem dX1_steps_16 : decode cX1_steps 16 = .ok (.iconst 0, 1) := dk_3 (dk_at dksX1_steps_0 16 rfl rfl)
theorem dX1_steps_17 : decode cX1_steps 17 = .ok (.bipush 99, 2) := dk_16 99 (dk_at dksX1_steps_0 17 rfl rfl)
theorem dX1_steps_19 : decode cX1_steps 19 = .ok (.invokestatic 71, 3) := dk_184 0 71 (dk_at dksX1_steps_0 19 rfl rfl)
theorem dX1_steps_22 : decode cX1_steps 22 = .ok (.iload 4, 2) := dk_21 4 (dk_at dksX1_steps_0 22 rfl rfl)
theorem dX1_steps_24 : decode cX1_steps 24 = .ok (.iconst 0, 1) := dk_3 (dk_at dksX1_steps_1 0 rfl rfl)
theorem dX1_steps_25 : decode cX1_steps 25 = .ok (.sipush 999, 3) := dk_17 3 231 (dk_at dksX1_steps_1 1 rfl rfl)
theorem dX1_steps_28 : decode cX1_steps 28 = .ok (.invokestatic 71, 3) := dk_184 0 71 (dk_at dksX1_steps_1 4 rfl rfl)
theorem dX1_steps_31 : decode cX1_steps 31 = .ok (.aload 5, 2) := dk_25 5 (dk_at dksX1_steps_1 7 rfl rfl)
theorem dX1_steps_33 : decode cX1_steps 33 = .ok (.getfield 109, 3) := dk_180 0 109 (dk_at dksX1_steps_1 9 rfl rfl)
theorem dX1_steps_36 : decode cX1_steps 36 = .ok (.istore 6, 2) := dk_54 6 (dk_at dksX1_steps_1 12 rfl rfl)
theorem dX1_steps_38 : decode cX1_steps 38 = .ok (.aload 5, 2) := dk_25 5 (dk_at dksX1_steps_1 14 rfl rfl)
theorem dX1_steps_40 : decode cX1_steps 40 = .ok (.iload_n 2, 1) := dk_28 (dk_at dksX1_steps_1 16 rfl rfl)
theorem dX1_steps_41 : decode cX1_steps 41 = .ok (.putfield 112, 3) := dk_181 0 112 (dk_at dksX1_steps_1 17 rfl rfl)
theorem dX1_steps_44 : decode cX1_steps 44 = .ok (.aload 5, 2) := dk_25 5 (dk_at dksX1_steps_1 20 rfl rfl)
theorem dX1_steps_46 : decode cX1_steps 46 = .ok (.iload_n 3, 1) := dk_29 (dk_at dksX1_steps_1 22 rfl rfl)
theorem dX1_steps_47 : decode cX1_steps 47 = .ok (.putfield 115, 3) := dk_181 0 115 (dk_at dksX1_steps_2 0 rfl rfl)
theorem dX1_steps_50 : decode cX1_steps 50 = .ok (.aload 5, 2) := dk_25 5 (dk_at dksX1_steps_2 3 rfl rfl)
theorem dX1_steps_52 : decode cX1_steps 52 = .ok (.iload 4, 2) := dk_21 4 (dk_at dksX1_steps_2 5 rfl rfl)
theorem dX1_steps_54 : decode cX1_steps 54 = .ok (.putfield 109, 3) := dk_181 0 109 (dk_at dksX1_steps_2 7 rfl rfl)
theorem dX1_steps_57 : decode cX1_steps 57 = .ok (.iload 6, 2) := dk_21 6 (dk_at dksX1_steps_2 10 rfl rfl)
theorem dX1_steps_59 : decode cX1_steps 59 = .ok (.ireturn, 1) := dk_172 (dk_at dksX1_steps_2 12 rfl rfl)
abbrev cX1_join : ByteArray := prog_1_method_19_code
def yX1_join : MethodName := ⟨RX1, "join", "(II)I"⟩
def dkwX1_join_3 : List UInt8 := [4, 100, 172]
abbrev dktX1_join_3 : List UInt8 := dkwX1_join_3 ++ []
def dkwX1_join_2 : List UInt8 := [180, 0, 80, 28, 100, 27, 183, 0, 118, 185, 0, 36, 2, 0, 87, 42, 180, 0, 16, 185, 0, 54, 1, 0]
abbrev dktX1_join_2 : List UInt8 := dkwX1_join_2 ++ dktX1_join_3
def dkwX1_join_1 : List UInt8 := [16, 8, 162, 0, 7, 4, 167, 0, 4, 3, 184, 0, 87, 42, 180, 0, 16, 187, 0, 67, 89, 42]
abbrev dktX1_join_1 : List UInt8 := dkwX1_join_1 ++ dktX1_join_2
def dkwX1_join_0 : List UInt8 := [42, 27, 182, 0, 92, 87, 28, 3, 42, 180, 0, 80, 184, 0, 71, 42, 180, 0, 16, 185, 0, 54, 1, 0]
abbrev dktX1_join_0 : List UInt8 := dkwX1_join_0 ++ dktX1_join_1
theorem dksX1_join_0 : cX1_join.data.toList.drop 0 = dktX1_join_0 := by decide +kernel
theorem dksX1_join_1 : cX1_join.data.toList.drop 24 = dktX1_join_1 := dk_seg dksX1_join_0 24 rfl rfl
theorem dksX1_join_2 : cX1_join.data.toList.drop 46 = dktX1_join_2 := dk_seg dksX1_join_1 22 rfl rfl
theorem dksX1_join_3 : cX1_join.data.toList.drop 70 = dktX1_join_3 := dk_seg dksX1_join_2 24 rfl rfl
theorem dX1_join_0 : decode cX1_join 0 = .ok (.aload_n 0, 1) := dk_42 (dk_at dksX1_join_0 0 rfl rfl)
theorem dX1_join_1 : decode cX1_join 1 = .ok (.iload_n 1, 1) := dk_27 (dk_at dksX1_join_0 1 rfl rfl)
theorem dX1_join_2 : decode cX1_join 2 = .ok (.invokevirtual 92, 3) := dk_182 0 92 (dk_at dksX1_join_0 2 rfl rfl)
theorem dX1_join_5 : decode cX1_join 5 = .ok (.pop, 1) := dk_87 (dk_at dksX1_join_0 5 rfl rfl)
theorem dX1_join_6 : decode cX1_join 6 = .ok (.iload_n 2, 1) := dk_28 (dk_at dksX1_join_0 6 rfl rfl)
theorem dX1_join_7 : decode cX1_join 7 = .ok (.iconst 0, 1) := dk_3 (dk_at dksX1_join_0 7 rfl rfl)
theorem dX1_join_8 : decode cX1_join 8 = .ok (.aload_n 0, 1) := dk_42 (dk_at dksX1_join_0 8 rfl rfl)
theorem dX1_join_9 : decode cX1_join 9 = .ok (.getfield 80, 3) := dk_180 0 80 (dk_at dksX1_join_0 9 rfl rfl)
theorem dX1_join_12 : decode cX1_join 12 = .ok (.invokestatic 71, 3) := dk_184 0 71 (dk_at dksX1_join_0 12 rfl rfl)
theorem dX1_join_15 : decode cX1_join 15 = .ok (.aload_n 0, 1) := dk_42 (dk_at dksX1_join_0 15 rfl rfl)
theorem dX1_join_16 : decode cX1_join 16 = .ok (.getfield 16, 3) := dk_180 0 16 (dk_at dksX1_join_0 16 rfl rfl)
theorem dX1_join_19 : decode cX1_join 19 = .ok (.invokeinterface 54 1, 5) := by decide +kernel
theorem dX1_join_24 : decode cX1_join 24 = .ok (.bipush 8, 2) := dk_16 8 (dk_at dksX1_join_1 0 rfl rfl)
theorem dX1_join_26 : decode cX1_join 26 = .ok (.if_icmp .ge 7, 3) := dk_162 0 7 (dk_at dksX1_join_1 2 rfl rfl)
theorem dX1_join_29 : decode cX1_join 29 = .ok (.iconst 1, 1) := dk_4 (dk_at dksX1_join_1 5 rfl rfl)
theorem dX1_join_30 : decode cX1_join 30 = .ok (.goto 4, 3) := dk_167 0 4 (dk_at dksX1_join_1 6 rfl rfl)
theorem dX1_join_33 : decode cX1_join 33 = .ok (.iconst 0, 1) := dk_3 (dk_at dksX1_join_1 9 rfl rfl)
theorem dX1_join_34 : decode cX1_join 34 = .ok (.invokestatic 87, 3) := dk_184 0 87 (dk_at dksX1_join_1 10 rfl rfl)
theorem dX1_join_37 : decode cX1_join 37 = .ok (.aload_n 0, 1) := dk_42 (dk_at dksX1_join_1 13 rfl rfl)
theorem dX1_join_38 : decode cX1_join 38 = .ok (.getfield 16, 3) := dk_180 0 16 (dk_at dksX1_join_1 14 rfl rfl)
theorem dX1_join_41 : decode cX1_join 41 = .ok (.new 67, 3) := dk_187 0 67 (dk_at dksX1_join_1 17 rfl rfl)
theorem dX1_join_44 : decode cX1_join 44 = .ok (.dup, 1) := dk_89 (dk_at dksX1_join_1 20 rfl rfl)
theorem dX1_join_45 : decode cX1_join 45 = .ok (.aload_n 0, 1) := dk_42 (dk_at dksX1_join_1 21 rfl rfl)
theorem dX1_join_46 : decode cX1_join 46 = .ok (.getfield 80, 3) := dk_180 0 80 (dk_at dksX1_join_2 0 rfl rfl)
theorem dX1_join_49 : decode cX1_join 49 = .ok (.iload_n 2, 1) := dk_28 (dk_at dksX1_join_2 3 rfl rfl)
theorem dX1_join_50 : decode cX1_join 50 = .ok (.isub, 1) := dk_100 (dk_at dksX1_join_2 4 rfl rfl)
theorem dX1_join_51 : decode cX1_join 51 = .ok (.iload_n 1, 1) := dk_27 (dk_at dksX1_join_2 5 rfl rfl)
theorem dX1_join_52 : decode cX1_join 52 = .ok (.invokespecial 118, 3) := dk_183 0 118 (dk_at dksX1_join_2 6 rfl rfl)
theorem dX1_join_55 : decode cX1_join 55 = .ok (.invokeinterface 36 2, 5) := by decide +kernel
theorem dX1_join_60 : decode cX1_join 60 = .ok (.pop, 1) := dk_87 (dk_at dksX1_join_2 14 rfl rfl)
theorem dX1_join_61 : decode cX1_join 61 = .ok (.aload_n 0, 1) := dk_42 (dk_at dksX1_join_2 15 rfl rfl)
theorem dX1_join_62 : decode cX1_join 62 = .ok (.getfield 16, 3) := dk_180 0 16 (dk_at dksX1_join_2 16 rfl rfl)
theorem dX1_join_65 : decode cX1_join 65 = .ok (.invokeinterface 54 1, 5) := by decide +kernel
theorem dX1_join_70 : decode cX1_join 70 = .ok (.iconst 1, 1) := dk_4 (dk_at dksX1_join_3 0 rfl rfl)
theorem dX1_join_71 : decode cX1_join 71 = .ok (.isub, 1) := dk_100 (dk_at dksX1_join_3 1 rfl rfl)
theorem dX1_join_72 : decode cX1_join 72 = .ok (.ireturn, 1) := dk_172 (dk_at dksX1_join_3 2 rfl rfl)
abbrev cX1_change : ByteArray := prog_1_method_20_code
def yX1_change : MethodName := ⟨RX1, "change", "(II)I"⟩
def dkwX1_change_1 : List UInt8 := [54, 4, 45, 180, 0, 124, 42, 180, 0, 80, 28, 182, 0, 32, 21, 4, 172]
abbrev dktX1_change_1 : List UInt8 := dkwX1_change_1 ++ []
def dkwX1_change_0 : List UInt8 := [42, 27, 182, 0, 120, 78, 42, 28, 182, 0, 92, 87, 45, 180, 0, 124, 42, 180, 0, 80, 182, 0, 127]
abbrev dktX1_change_0 : List UInt8 := dkwX1_change_0 ++ dktX1_change_1
theorem dksX1_change_0 : cX1_change.data.toList.drop 0 = dktX1_change_0 := by decide +kernel
theorem dksX1_change_1 : cX1_change.data.toList.drop 23 = dktX1_change_1 := dk_seg dksX1_change_0 23 rfl rfl
theorem dX1_change_0 : decode cX1_change 0 = .ok (.aload_n 0, 1) := dk_42 (dk_at dksX1_change_0 0 rfl rfl)
theorem dX1_change_1 : decode cX1_change 1 = .ok (.iload_n 1, 1) := dk_27 (dk_at dksX1_change_0 1 rfl rfl)
theorem dX1_change_2 : decode cX1_change 2 = .ok (.invokevirtual 120, 3) := dk_182 0 120 (dk_at dksX1_change_0 2 rfl rfl)
theorem dX1_change_5 : decode cX1_change 5 = .ok (.astore_n 3, 1) := dk_78 (dk_at dksX1_change_0 5 rfl rfl)
theorem dX1_change_6 : decode cX1_change 6 = .ok (.aload_n 0, 1) := dk_42 (dk_at dksX1_change_0 6 rfl rfl)
theorem dX1_change_7 : decode cX1_change 7 = .ok (.iload_n 2, 1) := dk_28 (dk_at dksX1_change_0 7 rfl rfl)
theorem dX1_change_8 : decode cX1_change 8 = .ok (.invokevirtual 92, 3) := dk_182 0 92 (dk_at dksX1_change_0 8 rfl rfl)
theorem dX1_change_11 : decode cX1_change 11 = .ok (.pop, 1) := dk_87 (dk_at dksX1_change_0 11 rfl rfl)
theorem dX1_change_12 : decode cX1_change 12 = .ok (.aload_n 3, 1) := dk_45 (dk_at dksX1_change_0 12 rfl rfl)
theorem dX1_change_13 : decode cX1_change 13 = .ok (.getfield 124, 3) := dk_180 0 124 (dk_at dksX1_change_0 13 rfl rfl)
theorem dX1_change_16 : decode cX1_change 16 = .ok (.aload_n 0, 1) := dk_42 (dk_at dksX1_change_0 16 rfl rfl)
theorem dX1_change_17 : decode cX1_change 17 = .ok (.getfield 80, 3) := dk_180 0 80 (dk_at dksX1_change_0 17 rfl rfl)
theorem dX1_change_20 : decode cX1_change 20 = .ok (.invokevirtual 127, 3) := dk_182 0 127 (dk_at dksX1_change_0 20 rfl rfl)
theorem dX1_change_23 : decode cX1_change 23 = .ok (.istore 4, 2) := dk_54 4 (dk_at dksX1_change_1 0 rfl rfl)
theorem dX1_change_25 : decode cX1_change 25 = .ok (.aload_n 3, 1) := dk_45 (dk_at dksX1_change_1 2 rfl rfl)
theorem dX1_change_26 : decode cX1_change 26 = .ok (.getfield 124, 3) := dk_180 0 124 (dk_at dksX1_change_1 3 rfl rfl)
theorem dX1_change_29 : decode cX1_change 29 = .ok (.aload_n 0, 1) := dk_42 (dk_at dksX1_change_1 6 rfl rfl)
theorem dX1_change_30 : decode cX1_change 30 = .ok (.getfield 80, 3) := dk_180 0 80 (dk_at dksX1_change_1 7 rfl rfl)
theorem dX1_change_33 : decode cX1_change 33 = .ok (.iload_n 2, 1) := dk_28 (dk_at dksX1_change_1 10 rfl rfl)
theorem dX1_change_34 : decode cX1_change 34 = .ok (.invokevirtual 32, 3) := dk_182 0 32 (dk_at dksX1_change_1 11 rfl rfl)
theorem dX1_change_37 : decode cX1_change 37 = .ok (.iload 4, 2) := dk_21 4 (dk_at dksX1_change_1 14 rfl rfl)
theorem dX1_change_39 : decode cX1_change 39 = .ok (.ireturn, 1) := dk_172 (dk_at dksX1_change_1 16 rfl rfl)
abbrev cX1_customerAt : ByteArray := prog_1_method_10_code
def yX1_customerAt : MethodName := ⟨RX1, "customerAt", "(I)LRollover$Customer;"⟩
def dkwX1_customerAt_1 : List UInt8 := [192, 0, 67, 176]
abbrev dktX1_customerAt_1 : List UInt8 := dkwX1_customerAt_1 ++ []
def dkwX1_customerAt_0 : List UInt8 := [27, 42, 180, 0, 16, 185, 0, 54, 1, 0, 184, 0, 58, 42, 180, 0, 16, 27, 185, 0, 61, 2, 0]
abbrev dktX1_customerAt_0 : List UInt8 := dkwX1_customerAt_0 ++ dktX1_customerAt_1
theorem dksX1_customerAt_0 : cX1_customerAt.data.toList.drop 0 = dktX1_customerAt_0 := by decide +kernel
theorem dksX1_customerAt_1 : cX1_customerAt.data.toList.drop 23 = dktX1_customerAt_1 := dk_seg dksX1_customerAt_0 23 rfl rfl
theorem dX1_customerAt_0 : decode cX1_customerAt 0 = .ok (.iload_n 1, 1) := dk_27 (dk_at dksX1_customerAt_0 0 rfl rfl)
theorem dX1_customerAt_1 : decode cX1_customerAt 1 = .ok (.aload_n 0, 1) := dk_42 (dk_at dksX1_customerAt_0 1 rfl rfl)
theorem dX1_customerAt_2 : decode cX1_customerAt 2 = .ok (.getfield 16, 3) := dk_180 0 16 (dk_at dksX1_customerAt_0 2 rfl rfl)
theorem dX1_customerAt_5 : decode cX1_customerAt 5 = .ok (.invokeinterface 54 1, 5) := by decide +kernel
theorem dX1_customerAt_10 : decode cX1_customerAt 10 = .ok (.invokestatic 58, 3) := dk_184 0 58 (dk_at dksX1_customerAt_0 10 rfl rfl)
theorem dX1_customerAt_13 : decode cX1_customerAt 13 = .ok (.aload_n 0, 1) := dk_42 (dk_at dksX1_customerAt_0 13 rfl rfl)
theorem dX1_customerAt_14 : decode cX1_customerAt 14 = .ok (.getfield 16, 3) := dk_180 0 16 (dk_at dksX1_customerAt_0 14 rfl rfl)
theorem dX1_customerAt_17 : decode cX1_customerAt 17 = .ok (.iload_n 1, 1) := dk_27 (dk_at dksX1_customerAt_0 17 rfl rfl)
theorem dX1_customerAt_18 : decode cX1_customerAt 18 = .ok (.invokeinterface 61 2, 5) := by decide +kernel
theorem dX1_customerAt_23 : decode cX1_customerAt 23 = .ok (.checkcast 67, 3) := dk_192 0 67 (dk_at dksX1_customerAt_1 0 rfl rfl)
theorem dX1_customerAt_26 : decode cX1_customerAt 26 = .ok (.areturn, 1) := dk_176 (dk_at dksX1_customerAt_1 3 rfl rfl)
abbrev cX1_circle : ByteArray := prog_1_method_21_code
def yX1_circle : MethodName := ⟨RX1, "circle", "(II)I"⟩
def dkwX1_circle_1 : List UInt8 := [167, 0, 4, 3, 184, 0, 44, 45, 28, 181, 0, 134, 28, 184, 0, 132, 172]
abbrev dktX1_circle_1 : List UInt8 := dkwX1_circle_1 ++ []
def dkwX1_circle_0 : List UInt8 := [42, 27, 182, 0, 120, 78, 28, 3, 18, 131, 184, 0, 71, 28, 184, 0, 132, 7, 163, 0, 7, 4]
abbrev dktX1_circle_0 : List UInt8 := dkwX1_circle_0 ++ dktX1_circle_1
theorem dksX1_circle_0 : cX1_circle.data.toList.drop 0 = dktX1_circle_0 := by decide +kernel
theorem dksX1_circle_1 : cX1_circle.data.toList.drop 22 = dktX1_circle_1 := dk_seg dksX1_circle_0 22 rfl rfl
theorem dX1_circle_0 : decode cX1_circle 0 = .ok (.aload_n 0, 1) := dk_42 (dk_at dksX1_circle_0 0 rfl rfl)
theorem dX1_circle_1 : decode cX1_circle 1 = .ok (.iload_n 1, 1) := dk_27 (dk_at dksX1_circle_0 1 rfl rfl)
theorem dX1_circle_2 : decode cX1_circle 2 = .ok (.invokevirtual 120, 3) := dk_182 0 120 (dk_at dksX1_circle_0 2 rfl rfl)
theorem dX1_circle_5 : decode cX1_circle 5 = .ok (.astore_n 3, 1) := dk_78 (dk_at dksX1_circle_0 5 rfl rfl)
theorem dX1_circle_6 : decode cX1_circle 6 = .ok (.iload_n 2, 1) := dk_28 (dk_at dksX1_circle_0 6 rfl rfl)
theorem dX1_circle_7 : decode cX1_circle 7 = .ok (.iconst 0, 1) := dk_3 (dk_at dksX1_circle_0 7 rfl rfl)
theorem dX1_circle_8 : decode cX1_circle 8 = .ok (.ldc 131, 2) := dk_18 131 (dk_at dksX1_circle_0 8 rfl rfl)
theorem dX1_circle_10 : decode cX1_circle 10 = .ok (.invokestatic 71, 3) := dk_184 0 71 (dk_at dksX1_circle_0 10 rfl rfl)
theorem dX1_circle_13 : decode cX1_circle 13 = .ok (.iload_n 2, 1) := dk_28 (dk_at dksX1_circle_0 13 rfl rfl)
theorem dX1_circle_14 : decode cX1_circle 14 = .ok (.invokestatic 132, 3) := dk_184 0 132 (dk_at dksX1_circle_0 14 rfl rfl)
theorem dX1_circle_17 : decode cX1_circle 17 = .ok (.iconst 4, 1) := dk_7 (dk_at dksX1_circle_0 17 rfl rfl)
theorem dX1_circle_18 : decode cX1_circle 18 = .ok (.if_icmp .gt 7, 3) := dk_163 0 7 (dk_at dksX1_circle_0 18 rfl rfl)
theorem dX1_circle_21 : decode cX1_circle 21 = .ok (.iconst 1, 1) := dk_4 (dk_at dksX1_circle_0 21 rfl rfl)
theorem dX1_circle_22 : decode cX1_circle 22 = .ok (.goto 4, 3) := dk_167 0 4 (dk_at dksX1_circle_1 0 rfl rfl)
theorem dX1_circle_25 : decode cX1_circle 25 = .ok (.iconst 0, 1) := dk_3 (dk_at dksX1_circle_1 3 rfl rfl)
theorem dX1_circle_26 : decode cX1_circle 26 = .ok (.invokestatic 44, 3) := dk_184 0 44 (dk_at dksX1_circle_1 4 rfl rfl)
theorem dX1_circle_29 : decode cX1_circle 29 = .ok (.aload_n 3, 1) := dk_45 (dk_at dksX1_circle_1 7 rfl rfl)
theorem dX1_circle_30 : decode cX1_circle 30 = .ok (.iload_n 2, 1) := dk_28 (dk_at dksX1_circle_1 8 rfl rfl)
theorem dX1_circle_31 : decode cX1_circle 31 = .ok (.putfield 134, 3) := dk_181 0 134 (dk_at dksX1_circle_1 9 rfl rfl)
theorem dX1_circle_34 : decode cX1_circle 34 = .ok (.iload_n 2, 1) := dk_28 (dk_at dksX1_circle_1 12 rfl rfl)
theorem dX1_circle_35 : decode cX1_circle 35 = .ok (.invokestatic 132, 3) := dk_184 0 132 (dk_at dksX1_circle_1 13 rfl rfl)
theorem dX1_circle_38 : decode cX1_circle 38 = .ok (.ireturn, 1) := dk_172 (dk_at dksX1_circle_1 16 rfl rfl)
abbrev cX1_child : ByteArray := prog_1_method_23_code
def yX1_child : MethodName := ⟨RX1, "child", "(III)I"⟩
def dkwX1_child_4 : List UInt8 := [181, 0, 144, 21, 5, 172]
abbrev dktX1_child_4 : List UInt8 := dkwX1_child_4 ++ []
def dkwX1_child_3 : List UInt8 := [4, 167, 0, 4, 3, 184, 0, 87, 25, 4, 180, 0, 137, 54, 5, 25, 4, 28, 181, 0, 137, 25, 4, 29]
abbrev dktX1_child_3 : List UInt8 := dkwX1_child_3 ++ dktX1_child_4
def dkwX1_child_2 : List UInt8 := [28, 185, 0, 61, 2, 0, 192, 0, 67, 180, 0, 137, 2, 160, 0, 15, 42, 27, 182, 0, 140, 154, 0, 7]
abbrev dktX1_child_2 : List UInt8 := dkwX1_child_2 ++ dktX1_child_3
def dkwX1_child_1 : List UInt8 := [167, 0, 4, 3, 184, 0, 44, 29, 3, 17, 39, 15, 184, 0, 71, 28, 2, 159, 0, 31, 42, 180, 0, 16]
abbrev dktX1_child_1 : List UInt8 := dkwX1_child_1 ++ dktX1_child_2
def dkwX1_child_0 : List UInt8 := [42, 27, 182, 0, 120, 58, 4, 28, 2, 159, 0, 9, 42, 28, 182, 0, 120, 87, 27, 28, 159, 0, 7, 4]
abbrev dktX1_child_0 : List UInt8 := dkwX1_child_0 ++ dktX1_child_1
theorem dksX1_child_0 : cX1_child.data.toList.drop 0 = dktX1_child_0 := by decide +kernel
theorem dksX1_child_1 : cX1_child.data.toList.drop 24 = dktX1_child_1 := dk_seg dksX1_child_0 24 rfl rfl
theorem dksX1_child_2 : cX1_child.data.toList.drop 48 = dktX1_child_2 := dk_seg dksX1_child_1 24 rfl rfl
theorem dksX1_child_3 : cX1_child.data.toList.drop 72 = dktX1_child_3 := dk_seg dksX1_child_2 24 rfl rfl
theorem dksX1_child_4 : cX1_child.data.toList.drop 96 = dktX1_child_4 := dk_seg dksX1_child_3 24 rfl rfl
theorem dX1_child_0 : decode cX1_child 0 = .ok (.aload_n 0, 1) := dk_42 (dk_at dksX1_child_0 0 rfl rfl)
theorem dX1_child_1 : decode cX1_child 1 = .ok (.iload_n 1, 1) := dk_27 (dk_at dksX1_child_0 1 rfl rfl)
theorem dX1_child_2 : decode cX1_child 2 = .ok (.invokevirtual 120, 3) := dk_182 0 120 (dk_at dksX1_child_0 2 rfl rfl)
theorem dX1_child_5 : decode cX1_child 5 = .ok (.astore 4, 2) := dk_58 4 (dk_at dksX1_child_0 5 rfl rfl)
theorem dX1_child_7 : decode cX1_child 7 = .ok (.iload_n 2, 1) := dk_28 (dk_at dksX1_child_0 7 rfl rfl)
theorem dX1_child_8 : decode cX1_child 8 = .ok (.iconst (-1), 1) := dk_2 (dk_at dksX1_child_0 8 rfl rfl)
theorem dX1_child_9 : decode cX1_child 9 = .ok (.if_icmp .eq 9, 3) := dk_159 0 9 (dk_at dksX1_child_0 9 rfl rfl)
theorem dX1_child_12 : decode cX1_child 12 = .ok (.aload_n 0, 1) := dk_42 (dk_at dksX1_child_0 12 rfl rfl)
theorem dX1_child_13 : decode cX1_child 13 = .ok (.iload_n 2, 1) := dk_28 (dk_at dksX1_child_0 13 rfl rfl)
theorem dX1_child_14 : decode cX1_child 14 = .ok (.invokevirtual 120, 3) := dk_182 0 120 (dk_at dksX1_child_0 14 rfl rfl)
theorem dX1_child_17 : decode cX1_child 17 = .ok (.pop, 1) := dk_87 (dk_at dksX1_child_0 17 rfl rfl)
theorem dX1_child_18 : decode cX1_child 18 = .ok (.iload_n 1, 1) := dk_27 (dk_at dksX1_child_0 18 rfl rfl)
theorem dX1_child_19 : decode cX1_child 19 = .ok (.iload_n 2, 1) := dk_28 (dk_at dksX1_child_0 19 rfl rfl)
theorem dX1_child_20 : decode cX1_child 20 = .ok (.if_icmp .eq 7, 3) := dk_159 0 7 (dk_at dksX1_child_0 20 rfl rfl)
theorem dX1_child_23 : decode cX1_child 23 = .ok (.iconst 1, 1) := dk_4 (dk_at dksX1_child_0 23 rfl rfl)
theorem dX1_child_24 : decode cX1_child 24 = .ok (.goto 4, 3) := dk_167 0 4 (dk_at dksX1_child_1 0 rfl rfl)
theorem dX1_child_27 : decode cX1_child 27 = .ok (.iconst 0, 1) := dk_3 (dk_at dksX1_child_1 3 rfl rfl)
theorem dX1_child_28 : decode cX1_child 28 = .ok (.invokestatic 44, 3) := dk_184 0 44 (dk_at dksX1_child_1 4 rfl rfl)
theorem dX1_child_31 : decode cX1_child 31 = .ok (.iload_n 3, 1) := dk_29 (dk_at dksX1_child_1 7 rfl rfl)
theorem dX1_child_32 : decode cX1_child 32 = .ok (.iconst 0, 1) := dk_3 (dk_at dksX1_child_1 8 rfl rfl)
theorem dX1_child_33 : decode cX1_child 33 = .ok (.sipush 9999, 3) := dk_17 39 15 (dk_at dksX1_child_1 9 rfl rfl)
theorem dX1_child_36 : decode cX1_child 36 = .ok (.invokestatic 71, 3) := dk_184 0 71 (dk_at dksX1_child_1 12 rfl rfl)
theorem dX1_child_39 : decode cX1_child 39 = .ok (.iload_n 2, 1) := dk_28 (dk_at dksX1_child_1 15 rfl rfl)
theorem dX1_child_40 : decode cX1_child 40 = .ok (.iconst (-1), 1) := dk_2 (dk_at dksX1_child_1 16 rfl rfl)
theorem dX1_child_41 : decode cX1_child 41 = .ok (.if_icmp .eq 31, 3) := dk_159 0 31 (dk_at dksX1_child_1 17 rfl rfl)
theorem dX1_child_44 : decode cX1_child 44 = .ok (.aload_n 0, 1) := dk_42 (dk_at dksX1_child_1 20 rfl rfl)
theorem dX1_child_45 : decode cX1_child 45 = .ok (.getfield 16, 3) := dk_180 0 16 (dk_at dksX1_child_1 21 rfl rfl)
theorem dX1_child_48 : decode cX1_child 48 = .ok (.iload_n 2, 1) := dk_28 (dk_at dksX1_child_2 0 rfl rfl)
theorem dX1_child_49 : decode cX1_child 49 = .ok (.invokeinterface 61 2, 5) := by decide +kernel
theorem dX1_child_54 : decode cX1_child 54 = .ok (.checkcast 67, 3) := dk_192 0 67 (dk_at dksX1_child_2 6 rfl rfl)
theorem dX1_child_57 : decode cX1_child 57 = .ok (.getfield 137, 3) := dk_180 0 137 (dk_at dksX1_child_2 9 rfl rfl)
theorem dX1_child_60 : decode cX1_child 60 = .ok (.iconst (-1), 1) := dk_2 (dk_at dksX1_child_2 12 rfl rfl)
theorem dX1_child_61 : decode cX1_child 61 = .ok (.if_icmp .ne 15, 3) := dk_160 0 15 (dk_at dksX1_child_2 13 rfl rfl)
theorem dX1_child_64 : decode cX1_child 64 = .ok (.aload_n 0, 1) := dk_42 (dk_at dksX1_child_2 16 rfl rfl)
theorem dX1_child_65 : decode cX1_child 65 = .ok (.iload_n 1, 1) := dk_27 (dk_at dksX1_child_2 17 rfl rfl)
theorem dX1_child_66 : decode cX1_child 66 = .ok (.invokevirtual 140, 3) := dk_182 0 140 (dk_at dksX1_child_2 18 rfl rfl)
theorem dX1_child_69 : decode cX1_child 69 = .ok (.ifCond .ne 7, 3) := dk_154 0 7 (dk_at dksX1_child_2 21 rfl rfl)
theorem dX1_child_72 : decode cX1_child 72 = .ok (.iconst 1, 1) := dk_4 (dk_at dksX1_child_3 0 rfl rfl)
theorem dX1_child_73 : decode cX1_child 73 = .ok (.goto 4, 3) := dk_167 0 4 (dk_at dksX1_child_3 1 rfl rfl)
theorem dX1_child_76 : decode cX1_child 76 = .ok (.iconst 0, 1) := dk_3 (dk_at dksX1_child_3 4 rfl rfl)
theorem dX1_child_77 : decode cX1_child 77 = .ok (.invokestatic 87, 3) := dk_184 0 87 (dk_at dksX1_child_3 5 rfl rfl)
theorem dX1_child_80 : decode cX1_child 80 = .ok (.aload 4, 2) := dk_25 4 (dk_at dksX1_child_3 8 rfl rfl)
theorem dX1_child_82 : decode cX1_child 82 = .ok (.getfield 137, 3) := dk_180 0 137 (dk_at dksX1_child_3 10 rfl rfl)
theorem dX1_child_85 : decode cX1_child 85 = .ok (.istore 5, 2) := dk_54 5 (dk_at dksX1_child_3 13 rfl rfl)
theorem dX1_child_87 : decode cX1_child 87 = .ok (.aload 4, 2) := dk_25 4 (dk_at dksX1_child_3 15 rfl rfl)
theorem dX1_child_89 : decode cX1_child 89 = .ok (.iload_n 2, 1) := dk_28 (dk_at dksX1_child_3 17 rfl rfl)
theorem dX1_child_90 : decode cX1_child 90 = .ok (.putfield 137, 3) := dk_181 0 137 (dk_at dksX1_child_3 18 rfl rfl)
theorem dX1_child_93 : decode cX1_child 93 = .ok (.aload 4, 2) := dk_25 4 (dk_at dksX1_child_3 21 rfl rfl)
theorem dX1_child_95 : decode cX1_child 95 = .ok (.iload_n 3, 1) := dk_29 (dk_at dksX1_child_3 23 rfl rfl)
theorem dX1_child_96 : decode cX1_child 96 = .ok (.putfield 144, 3) := dk_181 0 144 (dk_at dksX1_child_4 0 rfl rfl)
theorem dX1_child_99 : decode cX1_child 99 = .ok (.iload 5, 2) := dk_21 5 (dk_at dksX1_child_4 3 rfl rfl)
theorem dX1_child_101 : decode cX1_child 101 = .ok (.ireturn, 1) := dk_172 (dk_at dksX1_child_4 5 rfl rfl)
abbrev cX1_hasChild : ByteArray := prog_1_method_22_code
def yX1_hasChild : MethodName := ⟨RX1, "hasChild", "(I)Z"⟩
def dkwX1_hasChild_2 : List UInt8 := [172]
abbrev dktX1_hasChild_2 : List UInt8 := dkwX1_hasChild_2 ++ []
def dkwX1_hasChild_1 : List UInt8 := [185, 0, 61, 2, 0, 192, 0, 67, 180, 0, 137, 27, 160, 0, 5, 4, 172, 132, 2, 1, 167, 255, 218, 3]
abbrev dktX1_hasChild_1 : List UInt8 := dkwX1_hasChild_1 ++ dktX1_hasChild_2
def dkwX1_hasChild_0 : List UInt8 := [3, 61, 28, 42, 180, 0, 16, 185, 0, 54, 1, 0, 162, 0, 31, 42, 180, 0, 16, 28]
abbrev dktX1_hasChild_0 : List UInt8 := dkwX1_hasChild_0 ++ dktX1_hasChild_1
theorem dksX1_hasChild_0 : cX1_hasChild.data.toList.drop 0 = dktX1_hasChild_0 := by decide +kernel
theorem dksX1_hasChild_1 : cX1_hasChild.data.toList.drop 20 = dktX1_hasChild_1 := dk_seg dksX1_hasChild_0 20 rfl rfl
theorem dksX1_hasChild_2 : cX1_hasChild.data.toList.drop 44 = dktX1_hasChild_2 := dk_seg dksX1_hasChild_1 24 rfl rfl
theorem dX1_hasChild_0 : decode cX1_hasChild 0 = .ok (.iconst 0, 1) := dk_3 (dk_at dksX1_hasChild_0 0 rfl rfl)
theorem dX1_hasChild_1 : decode cX1_hasChild 1 = .ok (.istore_n 2, 1) := dk_61 (dk_at dksX1_hasChild_0 1 rfl rfl)
theorem dX1_hasChild_2 : decode cX1_hasChild 2 = .ok (.iload_n 2, 1) := dk_28 (dk_at dksX1_hasChild_0 2 rfl rfl)
theorem dX1_hasChild_3 : decode cX1_hasChild 3 = .ok (.aload_n 0, 1) := dk_42 (dk_at dksX1_hasChild_0 3 rfl rfl)
theorem dX1_hasChild_4 : decode cX1_hasChild 4 = .ok (.getfield 16, 3) := dk_180 0 16 (dk_at dksX1_hasChild_0 4 rfl rfl)
theorem dX1_hasChild_7 : decode cX1_hasChild 7 = .ok (.invokeinterface 54 1, 5) := by decide +kernel
theorem dX1_hasChild_12 : decode cX1_hasChild 12 = .ok (.if_icmp .ge 31, 3) := dk_162 0 31 (dk_at dksX1_hasChild_0 12 rfl rfl)
theorem dX1_hasChild_15 : decode cX1_hasChild 15 = .ok (.aload_n 0, 1) := dk_42 (dk_at dksX1_hasChild_0 15 rfl rfl)
theorem dX1_hasChild_16 : decode cX1_hasChild 16 = .ok (.getfield 16, 3) := dk_180 0 16 (dk_at dksX1_hasChild_0 16 rfl rfl)
theorem dX1_hasChild_19 : decode cX1_hasChild 19 = .ok (.iload_n 2, 1) := dk_28 (dk_at dksX1_hasChild_0 19 rfl rfl)
theorem dX1_hasChild_20 : decode cX1_hasChild 20 = .ok (.invokeinterface 61 2, 5) := by decide +kernel
theorem dX1_hasChild_25 : decode cX1_hasChild 25 = .ok (.checkcast 67, 3) := dk_192 0 67 (dk_at dksX1_hasChild_1 5 rfl rfl)
theorem dX1_hasChild_28 : decode cX1_hasChild 28 = .ok (.getfield 137, 3) := dk_180 0 137 (dk_at dksX1_hasChild_1 8 rfl rfl)
theorem dX1_hasChild_31 : decode cX1_hasChild 31 = .ok (.iload_n 1, 1) := dk_27 (dk_at dksX1_hasChild_1 11 rfl rfl)
theorem dX1_hasChild_32 : decode cX1_hasChild 32 = .ok (.if_icmp .ne 5, 3) := dk_160 0 5 (dk_at dksX1_hasChild_1 12 rfl rfl)
theorem dX1_hasChild_35 : decode cX1_hasChild 35 = .ok (.iconst 1, 1) := dk_4 (dk_at dksX1_hasChild_1 15 rfl rfl)
theorem dX1_hasChild_36 : decode cX1_hasChild 36 = .ok (.ireturn, 1) := dk_172 (dk_at dksX1_hasChild_1 16 rfl rfl)
theorem dX1_hasChild_37 : decode cX1_hasChild 37 = .ok (.iinc 2 1, 3) := dk_132 2 1 (dk_at dksX1_hasChild_1 17 rfl rfl)
theorem dX1_hasChild_40 : decode cX1_hasChild 40 = .ok (.goto (-38), 3) := dk_167 255 218 (dk_at dksX1_hasChild_1 20 rfl rfl)
theorem dX1_hasChild_43 : decode cX1_hasChild 43 = .ok (.iconst 0, 1) := dk_3 (dk_at dksX1_hasChild_1 23 rfl rfl)
theorem dX1_hasChild_44 : decode cX1_hasChild 44 = .ok (.ireturn, 1) := dk_172 (dk_at dksX1_hasChild_2 0 rfl rfl)
abbrev cX1_pass : ByteArray := prog_1_method_24_code
def yX1_pass : MethodName := ⟨RX1, "pass", "(I)I"⟩
def dkwX1_pass_1 : List UInt8 := [184, 0, 87, 42, 89, 180, 0, 80, 27, 96, 181, 0, 80, 42, 180, 0, 80, 172]
abbrev dktX1_pass_1 : List UInt8 := dkwX1_pass_1 ++ []
def dkwX1_pass_0 : List UInt8 := [27, 4, 16, 120, 184, 0, 71, 42, 180, 0, 80, 27, 96, 17, 1, 103, 163, 0, 7, 4, 167, 0, 4, 3]
abbrev dktX1_pass_0 : List UInt8 := dkwX1_pass_0 ++ dktX1_pass_1
theorem dksX1_pass_0 : cX1_pass.data.toList.drop 0 = dktX1_pass_0 := by decide +kernel
theorem dksX1_pass_1 : cX1_pass.data.toList.drop 24 = dktX1_pass_1 := dk_seg dksX1_pass_0 24 rfl rfl
theorem dX1_pass_0 : decode cX1_pass 0 = .ok (.iload_n 1, 1) := dk_27 (dk_at dksX1_pass_0 0 rfl rfl)
theorem dX1_pass_1 : decode cX1_pass 1 = .ok (.iconst 1, 1) := dk_4 (dk_at dksX1_pass_0 1 rfl rfl)
theorem dX1_pass_2 : decode cX1_pass 2 = .ok (.bipush 120, 2) := dk_16 120 (dk_at dksX1_pass_0 2 rfl rfl)
theorem dX1_pass_4 : decode cX1_pass 4 = .ok (.invokestatic 71, 3) := dk_184 0 71 (dk_at dksX1_pass_0 4 rfl rfl)
theorem dX1_pass_7 : decode cX1_pass 7 = .ok (.aload_n 0, 1) := dk_42 (dk_at dksX1_pass_0 7 rfl rfl)
theorem dX1_pass_8 : decode cX1_pass 8 = .ok (.getfield 80, 3) := dk_180 0 80 (dk_at dksX1_pass_0 8 rfl rfl)
theorem dX1_pass_11 : decode cX1_pass 11 = .ok (.iload_n 1, 1) := dk_27 (dk_at dksX1_pass_0 11 rfl rfl)
theorem dX1_pass_12 : decode cX1_pass 12 = .ok (.iadd, 1) := dk_96 (dk_at dksX1_pass_0 12 rfl rfl)
theorem dX1_pass_13 : decode cX1_pass 13 = .ok (.sipush 359, 3) := dk_17 1 103 (dk_at dksX1_pass_0 13 rfl rfl)
theorem dX1_pass_16 : decode cX1_pass 16 = .ok (.if_icmp .gt 7, 3) := dk_163 0 7 (dk_at dksX1_pass_0 16 rfl rfl)
theorem dX1_pass_19 : decode cX1_pass 19 = .ok (.iconst 1, 1) := dk_4 (dk_at dksX1_pass_0 19 rfl rfl)
theorem dX1_pass_20 : decode cX1_pass 20 = .ok (.goto 4, 3) := dk_167 0 4 (dk_at dksX1_pass_0 20 rfl rfl)
theorem dX1_pass_23 : decode cX1_pass 23 = .ok (.iconst 0, 1) := dk_3 (dk_at dksX1_pass_0 23 rfl rfl)
theorem dX1_pass_24 : decode cX1_pass 24 = .ok (.invokestatic 87, 3) := dk_184 0 87 (dk_at dksX1_pass_1 0 rfl rfl)
theorem dX1_pass_27 : decode cX1_pass 27 = .ok (.aload_n 0, 1) := dk_42 (dk_at dksX1_pass_1 3 rfl rfl)
theorem dX1_pass_28 : decode cX1_pass 28 = .ok (.dup, 1) := dk_89 (dk_at dksX1_pass_1 4 rfl rfl)
theorem dX1_pass_29 : decode cX1_pass 29 = .ok (.getfield 80, 3) := dk_180 0 80 (dk_at dksX1_pass_1 5 rfl rfl)
theorem dX1_pass_32 : decode cX1_pass 32 = .ok (.iload_n 1, 1) := dk_27 (dk_at dksX1_pass_1 8 rfl rfl)
theorem dX1_pass_33 : decode cX1_pass 33 = .ok (.iadd, 1) := dk_96 (dk_at dksX1_pass_1 9 rfl rfl)
theorem dX1_pass_34 : decode cX1_pass 34 = .ok (.putfield 80, 3) := dk_181 0 80 (dk_at dksX1_pass_1 10 rfl rfl)
theorem dX1_pass_37 : decode cX1_pass 37 = .ok (.aload_n 0, 1) := dk_42 (dk_at dksX1_pass_1 13 rfl rfl)
theorem dX1_pass_38 : decode cX1_pass 38 = .ok (.getfield 80, 3) := dk_180 0 80 (dk_at dksX1_pass_1 14 rfl rfl)
theorem dX1_pass_41 : decode cX1_pass 41 = .ok (.ireturn, 1) := dk_172 (dk_at dksX1_pass_1 17 rfl rfl)
abbrev cX1_call : ByteArray := prog_1_method_29_code
def yX1_call : MethodName := ⟨RX1, "call", "(IIIIII)I"⟩
def dkwX1_call_4 : List UInt8 := [96, 181, 0, 180, 2, 172, 42, 25, 7, 182, 0, 183, 172]
abbrev dktX1_call_4 : List UInt8 := dkwX1_call_4 ++ []
def dkwX1_call_3 : List UInt8 := [21, 5, 21, 6, 183, 0, 174, 58, 7, 42, 25, 7, 182, 0, 177, 153, 0, 15, 42, 89, 180, 0, 180, 4]
abbrev dktX1_call_3 : List UInt8 := dkwX1_call_3 ++ dktX1_call_4
def dkwX1_call_2 : List UInt8 := [167, 0, 4, 3, 184, 0, 87, 187, 0, 69, 89, 178, 0, 168, 27, 42, 180, 0, 80, 28, 100, 29, 21, 4]
abbrev dktX1_call_2 : List UInt8 := dkwX1_call_2 ++ dktX1_call_3
def dkwX1_call_1 : List UInt8 := [21, 5, 21, 6, 184, 0, 165, 42, 180, 0, 19, 185, 0, 54, 1, 0, 16, 48, 162, 0, 7, 4]
abbrev dktX1_call_1 : List UInt8 := dkwX1_call_1 ++ dktX1_call_2
def dkwX1_call_0 : List UInt8 := [42, 27, 182, 0, 120, 87, 21, 4, 16, 16, 184, 0, 58, 42, 28, 27, 182, 0, 161, 184, 0, 44, 29]
abbrev dktX1_call_0 : List UInt8 := dkwX1_call_0 ++ dktX1_call_1
theorem dksX1_call_0 : cX1_call.data.toList.drop 0 = dktX1_call_0 := by decide +kernel
theorem dksX1_call_1 : cX1_call.data.toList.drop 23 = dktX1_call_1 := dk_seg dksX1_call_0 23 rfl rfl
theorem dksX1_call_2 : cX1_call.data.toList.drop 45 = dktX1_call_2 := dk_seg dksX1_call_1 22 rfl rfl
theorem dksX1_call_3 : cX1_call.data.toList.drop 69 = dktX1_call_3 := dk_seg dksX1_call_2 24 rfl rfl
theorem dksX1_call_4 : cX1_call.data.toList.drop 93 = dktX1_call_4 := dk_seg dksX1_call_3 24 rfl rfl
theorem dX1_call_0 : decode cX1_call 0 = .ok (.aload_n 0, 1) := dk_42 (dk_at dksX1_call_0 0 rfl rfl)
theorem dX1_call_1 : decode cX1_call 1 = .ok (.iload_n 1, 1) := dk_27 (dk_at dksX1_call_0 1 rfl rfl)
theorem dX1_call_2 : decode cX1_call 2 = .ok (.invokevirtual 120, 3) := dk_182 0 120 (dk_at dksX1_call_0 2 rfl rfl)
theorem dX1_call_5 : decode cX1_call 5 = .ok (.pop, 1) := dk_87 (dk_at dksX1_call_0 5 rfl rfl)
theorem dX1_call_6 : decode cX1_call 6 = .ok (.iload 4, 2) := dk_21 4 (dk_at dksX1_call_0 6 rfl rfl)
theorem dX1_call_8 : decode cX1_call 8 = .ok (.bipush 16, 2) := dk_16 16 (dk_at dksX1_call_0 8 rfl rfl)
theorem dX1_call_10 : decode cX1_call 10 = .ok (.invokestatic 58, 3) := dk_184 0 58 (dk_at dksX1_call_0 10 rfl rfl)
theorem dX1_call_13 : decode cX1_call 13 = .ok (.aload_n 0, 1) := dk_42 (dk_at dksX1_call_0 13 rfl rfl)
theorem dX1_call_14 : decode cX1_call 14 = .ok (.iload_n 2, 1) := dk_28 (dk_at dksX1_call_0 14 rfl rfl)
theorem dX1_call_15 : decode cX1_call 15 = .ok (.iload_n 1, 1) := dk_27 (dk_at dksX1_call_0 15 rfl rfl)
theorem dX1_call_16 : decode cX1_call 16 = .ok (.invokevirtual 161, 3) := dk_182 0 161 (dk_at dksX1_call_0 16 rfl rfl)
theorem dX1_call_19 : decode cX1_call 19 = .ok (.invokestatic 44, 3) := dk_184 0 44 (dk_at dksX1_call_0 19 rfl rfl)
theorem dX1_call_22 : decode cX1_call 22 = .ok (.iload_n 3, 1) := dk_29 (dk_at dksX1_call_0 22 rfl rfl)
theorem dX1_call_23 : decode cX1_call 23 = .ok (.iload 5, 2) := dk_21 5 (dk_at dksX1_call_1 0 rfl rfl)
theorem dX1_call_25 : decode cX1_call 25 = .ok (.iload 6, 2) := dk_21 6 (dk_at dksX1_call_1 2 rfl rfl)
theorem dX1_call_27 : decode cX1_call 27 = .ok (.invokestatic 165, 3) := dk_184 0 165 (dk_at dksX1_call_1 4 rfl rfl)
theorem dX1_call_30 : decode cX1_call 30 = .ok (.aload_n 0, 1) := dk_42 (dk_at dksX1_call_1 7 rfl rfl)
theorem dX1_call_31 : decode cX1_call 31 = .ok (.getfield 19, 3) := dk_180 0 19 (dk_at dksX1_call_1 8 rfl rfl)
theorem dX1_call_34 : decode cX1_call 34 = .ok (.invokeinterface 54 1, 5) := by decide +kernel
theorem dX1_call_39 : decode cX1_call 39 = .ok (.bipush 48, 2) := dk_16 48 (dk_at dksX1_call_1 16 rfl rfl)
theorem dX1_call_41 : decode cX1_call 41 = .ok (.if_icmp .ge 7, 3) := dk_162 0 7 (dk_at dksX1_call_1 18 rfl rfl)
theorem dX1_call_44 : decode cX1_call 44 = .ok (.iconst 1, 1) := dk_4 (dk_at dksX1_call_1 21 rfl rfl)
theorem dX1_call_45 : decode cX1_call 45 = .ok (.goto 4, 3) := dk_167 0 4 (dk_at dksX1_call_2 0 rfl rfl)
theorem dX1_call_48 : decode cX1_call 48 = .ok (.iconst 0, 1) := dk_3 (dk_at dksX1_call_2 3 rfl rfl)
theorem dX1_call_49 : decode cX1_call 49 = .ok (.invokestatic 87, 3) := dk_184 0 87 (dk_at dksX1_call_2 4 rfl rfl)
theorem dX1_call_52 : decode cX1_call 52 = .ok (.new 69, 3) := dk_187 0 69 (dk_at dksX1_call_2 7 rfl rfl)
theorem dX1_call_55 : decode cX1_call 55 = .ok (.dup, 1) := dk_89 (dk_at dksX1_call_2 10 rfl rfl)
theorem dX1_call_56 : decode cX1_call 56 = .ok (.getstatic 168, 3) := dk_178 0 168 (dk_at dksX1_call_2 11 rfl rfl)
theorem dX1_call_59 : decode cX1_call 59 = .ok (.iload_n 1, 1) := dk_27 (dk_at dksX1_call_2 14 rfl rfl)
theorem dX1_call_60 : decode cX1_call 60 = .ok (.aload_n 0, 1) := dk_42 (dk_at dksX1_call_2 15 rfl rfl)
theorem dX1_call_61 : decode cX1_call 61 = .ok (.getfield 80, 3) := dk_180 0 80 (dk_at dksX1_call_2 16 rfl rfl)
theorem dX1_call_64 : decode cX1_call 64 = .ok (.iload_n 2, 1) := dk_28 (dk_at dksX1_call_2 19 rfl rfl)
theorem dX1_call_65 : decode cX1_call 65 = .ok (.isub, 1) := dk_100 (dk_at dksX1_call_2 20 rfl rfl)
theorem dX1_call_66 : decode cX1_call 66 = .ok (.iload_n 3, 1) := dk_29 (dk_at dksX1_call_2 21 rfl rfl)
theorem dX1_call_67 : decode cX1_call 67 = .ok (.iload 4, 2) := dk_21 4 (dk_at dksX1_call_2 22 rfl rfl)
theorem dX1_call_69 : decode cX1_call 69 = .ok (.iload 5, 2) := dk_21 5 (dk_at dksX1_call_3 0 rfl rfl)
theorem dX1_call_71 : decode cX1_call 71 = .ok (.iload 6, 2) := dk_21 6 (dk_at dksX1_call_3 2 rfl rfl)
theorem dX1_call_73 : decode cX1_call 73 = .ok (.invokespecial 174, 3) := dk_183 0 174 (dk_at dksX1_call_3 4 rfl rfl)
theorem dX1_call_76 : decode cX1_call 76 = .ok (.astore 7, 2) := dk_58 7 (dk_at dksX1_call_3 7 rfl rfl)
theorem dX1_call_78 : decode cX1_call 78 = .ok (.aload_n 0, 1) := dk_42 (dk_at dksX1_call_3 9 rfl rfl)
theorem dX1_call_79 : decode cX1_call 79 = .ok (.aload 7, 2) := dk_25 7 (dk_at dksX1_call_3 10 rfl rfl)
theorem dX1_call_81 : decode cX1_call 81 = .ok (.invokevirtual 177, 3) := dk_182 0 177 (dk_at dksX1_call_3 12 rfl rfl)
theorem dX1_call_84 : decode cX1_call 84 = .ok (.ifCond .eq 15, 3) := dk_153 0 15 (dk_at dksX1_call_3 15 rfl rfl)
theorem dX1_call_87 : decode cX1_call 87 = .ok (.aload_n 0, 1) := dk_42 (dk_at dksX1_call_3 18 rfl rfl)
theorem dX1_call_88 : decode cX1_call 88 = .ok (.dup, 1) := dk_89 (dk_at dksX1_call_3 19 rfl rfl)
theorem dX1_call_89 : decode cX1_call 89 = .ok (.getfield 180, 3) := dk_180 0 180 (dk_at dksX1_call_3 20 rfl rfl)
theorem dX1_call_92 : decode cX1_call 92 = .ok (.iconst 1, 1) := dk_4 (dk_at dksX1_call_3 23 rfl rfl)
theorem dX1_call_93 : decode cX1_call 93 = .ok (.iadd, 1) := dk_96 (dk_at dksX1_call_4 0 rfl rfl)
theorem dX1_call_94 : decode cX1_call 94 = .ok (.putfield 180, 3) := dk_181 0 180 (dk_at dksX1_call_4 1 rfl rfl)
theorem dX1_call_97 : decode cX1_call 97 = .ok (.iconst (-1), 1) := dk_2 (dk_at dksX1_call_4 4 rfl rfl)
theorem dX1_call_98 : decode cX1_call 98 = .ok (.ireturn, 1) := dk_172 (dk_at dksX1_call_4 5 rfl rfl)
theorem dX1_call_99 : decode cX1_call 99 = .ok (.aload_n 0, 1) := dk_42 (dk_at dksX1_call_4 6 rfl rfl)
theorem dX1_call_100 : decode cX1_call 100 = .ok (.aload 7, 2) := dk_25 7 (dk_at dksX1_call_4 7 rfl rfl)
theorem dX1_call_102 : decode cX1_call 102 = .ok (.invokevirtual 183, 3) := dk_182 0 183 (dk_at dksX1_call_4 9 rfl rfl)
theorem dX1_call_105 : decode cX1_call 105 = .ok (.ireturn, 1) := dk_172 (dk_at dksX1_call_4 12 rfl rfl)
abbrev cX1_isDay : ByteArray := prog_1_method_25_code
def yX1_isDay : MethodName := ⟨RX1, "isDay", "(II)Z"⟩
def dkwX1_isDay_1 : List UInt8 := [180, 0, 147, 161, 0, 7, 4, 167, 0, 4, 3, 172]
abbrev dktX1_isDay_1 : List UInt8 := dkwX1_isDay_1 ++ []
def dkwX1_isDay_0 : List UInt8 := [27, 155, 0, 32, 42, 180, 0, 80, 27, 100, 42, 180, 0, 16, 28, 185, 0, 61, 2, 0, 192, 0, 67]
abbrev dktX1_isDay_0 : List UInt8 := dkwX1_isDay_0 ++ dktX1_isDay_1
theorem dksX1_isDay_0 : cX1_isDay.data.toList.drop 0 = dktX1_isDay_0 := by decide +kernel
theorem dksX1_isDay_1 : cX1_isDay.data.toList.drop 23 = dktX1_isDay_1 := dk_seg dksX1_isDay_0 23 rfl rfl
theorem dX1_isDay_0 : decode cX1_isDay 0 = .ok (.iload_n 1, 1) := dk_27 (dk_at dksX1_isDay_0 0 rfl rfl)
theorem dX1_isDay_1 : decode cX1_isDay 1 = .ok (.ifCond .lt 32, 3) := dk_155 0 32 (dk_at dksX1_isDay_0 1 rfl rfl)
theorem dX1_isDay_4 : decode cX1_isDay 4 = .ok (.aload_n 0, 1) := dk_42 (dk_at dksX1_isDay_0 4 rfl rfl)
theorem dX1_isDay_5 : decode cX1_isDay 5 = .ok (.getfield 80, 3) := dk_180 0 80 (dk_at dksX1_isDay_0 5 rfl rfl)
theorem dX1_isDay_8 : decode cX1_isDay 8 = .ok (.iload_n 1, 1) := dk_27 (dk_at dksX1_isDay_0 8 rfl rfl)
theorem dX1_isDay_9 : decode cX1_isDay 9 = .ok (.isub, 1) := dk_100 (dk_at dksX1_isDay_0 9 rfl rfl)
theorem dX1_isDay_10 : decode cX1_isDay 10 = .ok (.aload_n 0, 1) := dk_42 (dk_at dksX1_isDay_0 10 rfl rfl)
theorem dX1_isDay_11 : decode cX1_isDay 11 = .ok (.getfield 16, 3) := dk_180 0 16 (dk_at dksX1_isDay_0 11 rfl rfl)
theorem dX1_isDay_14 : decode cX1_isDay 14 = .ok (.iload_n 2, 1) := dk_28 (dk_at dksX1_isDay_0 14 rfl rfl)
theorem dX1_isDay_15 : decode cX1_isDay 15 = .ok (.invokeinterface 61 2, 5) := by decide +kernel
theorem dX1_isDay_20 : decode cX1_isDay 20 = .ok (.checkcast 67, 3) := dk_192 0 67 (dk_at dksX1_isDay_0 20 rfl rfl)
theorem dX1_isDay_23 : decode cX1_isDay 23 = .ok (.getfield 147, 3) := dk_180 0 147 (dk_at dksX1_isDay_1 0 rfl rfl)
theorem dX1_isDay_26 : decode cX1_isDay 26 = .ok (.if_icmp .lt 7, 3) := dk_161 0 7 (dk_at dksX1_isDay_1 3 rfl rfl)
theorem dX1_isDay_29 : decode cX1_isDay 29 = .ok (.iconst 1, 1) := dk_4 (dk_at dksX1_isDay_1 6 rfl rfl)
theorem dX1_isDay_30 : decode cX1_isDay 30 = .ok (.goto 4, 3) := dk_167 0 4 (dk_at dksX1_isDay_1 7 rfl rfl)
theorem dX1_isDay_33 : decode cX1_isDay 33 = .ok (.iconst 0, 1) := dk_3 (dk_at dksX1_isDay_1 10 rfl rfl)
theorem dX1_isDay_34 : decode cX1_isDay 34 = .ok (.ireturn, 1) := dk_172 (dk_at dksX1_isDay_1 11 rfl rfl)
abbrev cX1_mustBeCall : ByteArray := prog_1_method_26_code
def yX1_mustBeCall : MethodName := ⟨RX1, "mustBeCall", "(III)V"⟩
def dkwX1_mustBeCall_0 : List UInt8 := [26, 184, 0, 150, 27, 3, 6, 184, 0, 71, 28, 184, 0, 154, 177]
abbrev dktX1_mustBeCall_0 : List UInt8 := dkwX1_mustBeCall_0 ++ []
theorem dksX1_mustBeCall_0 : cX1_mustBeCall.data.toList.drop 0 = dktX1_mustBeCall_0 := by decide +kernel
theorem dX1_mustBeCall_0 : decode cX1_mustBeCall 0 = .ok (.iload_n 0, 1) := dk_26 (dk_at dksX1_mustBeCall_0 0 rfl rfl)
theorem dX1_mustBeCall_1 : decode cX1_mustBeCall 1 = .ok (.invokestatic 150, 3) := dk_184 0 150 (dk_at dksX1_mustBeCall_0 1 rfl rfl)
theorem dX1_mustBeCall_4 : decode cX1_mustBeCall 4 = .ok (.iload_n 1, 1) := dk_27 (dk_at dksX1_mustBeCall_0 4 rfl rfl)
theorem dX1_mustBeCall_5 : decode cX1_mustBeCall 5 = .ok (.iconst 0, 1) := dk_3 (dk_at dksX1_mustBeCall_0 5 rfl rfl)
theorem dX1_mustBeCall_6 : decode cX1_mustBeCall 6 = .ok (.iconst 3, 1) := dk_6 (dk_at dksX1_mustBeCall_0 6 rfl rfl)
theorem dX1_mustBeCall_7 : decode cX1_mustBeCall 7 = .ok (.invokestatic 71, 3) := dk_184 0 71 (dk_at dksX1_mustBeCall_0 7 rfl rfl)
theorem dX1_mustBeCall_10 : decode cX1_mustBeCall 10 = .ok (.iload_n 2, 1) := dk_28 (dk_at dksX1_mustBeCall_0 10 rfl rfl)
theorem dX1_mustBeCall_11 : decode cX1_mustBeCall 11 = .ok (.invokestatic 154, 3) := dk_184 0 154 (dk_at dksX1_mustBeCall_0 11 rfl rfl)
theorem dX1_mustBeCall_14 : decode cX1_mustBeCall 14 = .ok (.return_, 1) := dk_177 (dk_at dksX1_mustBeCall_0 14 rfl rfl)
abbrev cX1_mustBeMinute : ByteArray := prog_1_method_12_code
def yX1_mustBeMinute : MethodName := ⟨RX1, "mustBeMinute", "(I)V"⟩
def dkwX1_mustBeMinute_0 : List UInt8 := [26, 3, 17, 5, 159, 184, 0, 71, 177]
abbrev dktX1_mustBeMinute_0 : List UInt8 := dkwX1_mustBeMinute_0 ++ []
theorem dksX1_mustBeMinute_0 : cX1_mustBeMinute.data.toList.drop 0 = dktX1_mustBeMinute_0 := by decide +kernel
theorem dX1_mustBeMinute_0 : decode cX1_mustBeMinute 0 = .ok (.iload_n 0, 1) := dk_26 (dk_at dksX1_mustBeMinute_0 0 rfl rfl)
theorem dX1_mustBeMinute_1 : decode cX1_mustBeMinute 1 = .ok (.iconst 0, 1) := dk_3 (dk_at dksX1_mustBeMinute_0 1 rfl rfl)
theorem dX1_mustBeMinute_2 : decode cX1_mustBeMinute 2 = .ok (.sipush 1439, 3) := dk_17 5 159 (dk_at dksX1_mustBeMinute_0 2 rfl rfl)
theorem dX1_mustBeMinute_5 : decode cX1_mustBeMinute 5 = .ok (.invokestatic 71, 3) := dk_184 0 71 (dk_at dksX1_mustBeMinute_0 5 rfl rfl)
theorem dX1_mustBeMinute_8 : decode cX1_mustBeMinute 8 = .ok (.return_, 1) := dk_177 (dk_at dksX1_mustBeMinute_0 8 rfl rfl)
abbrev cX1_mustBeSeconds : ByteArray := prog_1_method_13_code
def yX1_mustBeSeconds : MethodName := ⟨RX1, "mustBeSeconds", "(I)V"⟩
def dkwX1_mustBeSeconds_0 : List UInt8 := [26, 4, 17, 39, 15, 184, 0, 71, 177]
abbrev dktX1_mustBeSeconds_0 : List UInt8 := dkwX1_mustBeSeconds_0 ++ []
theorem dksX1_mustBeSeconds_0 : cX1_mustBeSeconds.data.toList.drop 0 = dktX1_mustBeSeconds_0 := by decide +kernel
theorem dX1_mustBeSeconds_0 : decode cX1_mustBeSeconds 0 = .ok (.iload_n 0, 1) := dk_26 (dk_at dksX1_mustBeSeconds_0 0 rfl rfl)
theorem dX1_mustBeSeconds_1 : decode cX1_mustBeSeconds 1 = .ok (.iconst 1, 1) := dk_4 (dk_at dksX1_mustBeSeconds_0 1 rfl rfl)
theorem dX1_mustBeSeconds_2 : decode cX1_mustBeSeconds 2 = .ok (.sipush 9999, 3) := dk_17 39 15 (dk_at dksX1_mustBeSeconds_0 2 rfl rfl)
theorem dX1_mustBeSeconds_5 : decode cX1_mustBeSeconds 5 = .ok (.invokestatic 71, 3) := dk_184 0 71 (dk_at dksX1_mustBeSeconds_0 5 rfl rfl)
theorem dX1_mustBeSeconds_8 : decode cX1_mustBeSeconds 8 = .ok (.return_, 1) := dk_177 (dk_at dksX1_mustBeSeconds_0 8 rfl rfl)
abbrev cX1_isDoubled : ByteArray := prog_1_method_28_code
def yX1_isDoubled : MethodName := ⟨RX1, "isDoubled", "(LRollover$Ticket;)Z"⟩
def dkwX1_isDoubled_2 : List UInt8 := [172]
abbrev dktX1_isDoubled_2 : List UInt8 := dkwX1_isDoubled_2 ++ []
def dkwX1_isDoubled_1 : List UInt8 := [185, 0, 61, 2, 0, 192, 0, 69, 43, 182, 0, 157, 153, 0, 5, 4, 172, 132, 2, 1, 167, 255, 218, 3]
abbrev dktX1_isDoubled_1 : List UInt8 := dkwX1_isDoubled_1 ++ dktX1_isDoubled_2
def dkwX1_isDoubled_0 : List UInt8 := [3, 61, 28, 42, 180, 0, 19, 185, 0, 54, 1, 0, 162, 0, 31, 42, 180, 0, 19, 28]
abbrev dktX1_isDoubled_0 : List UInt8 := dkwX1_isDoubled_0 ++ dktX1_isDoubled_1
theorem dksX1_isDoubled_0 : cX1_isDoubled.data.toList.drop 0 = dktX1_isDoubled_0 := by decide +kernel
theorem dksX1_isDoubled_1 : cX1_isDoubled.data.toList.drop 20 = dktX1_isDoubled_1 := dk_seg dksX1_isDoubled_0 20 rfl rfl
theorem dksX1_isDoubled_2 : cX1_isDoubled.data.toList.drop 44 = dktX1_isDoubled_2 := dk_seg dksX1_isDoubled_1 24 rfl rfl
theorem dX1_isDoubled_0 : decode cX1_isDoubled 0 = .ok (.iconst 0, 1) := dk_3 (dk_at dksX1_isDoubled_0 0 rfl rfl)
theorem dX1_isDoubled_1 : decode cX1_isDoubled 1 = .ok (.istore_n 2, 1) := dk_61 (dk_at dksX1_isDoubled_0 1 rfl rfl)
theorem dX1_isDoubled_2 : decode cX1_isDoubled 2 = .ok (.iload_n 2, 1) := dk_28 (dk_at dksX1_isDoubled_0 2 rfl rfl)
theorem dX1_isDoubled_3 : decode cX1_isDoubled 3 = .ok (.aload_n 0, 1) := dk_42 (dk_at dksX1_isDoubled_0 3 rfl rfl)
theorem dX1_isDoubled_4 : decode cX1_isDoubled 4 = .ok (.getfield 19, 3) := dk_180 0 19 (dk_at dksX1_isDoubled_0 4 rfl rfl)
theorem dX1_isDoubled_7 : decode cX1_isDoubled 7 = .ok (.invokeinterface 54 1, 5) := by decide +kernel
theorem dX1_isDoubled_12 : decode cX1_isDoubled 12 = .ok (.if_icmp .ge 31, 3) := dk_162 0 31 (dk_at dksX1_isDoubled_0 12 rfl rfl)
theorem dX1_isDoubled_15 : decode cX1_isDoubled 15 = .ok (.aload_n 0, 1) := dk_42 (dk_at dksX1_isDoubled_0 15 rfl rfl)
theorem dX1_isDoubled_16 : decode cX1_isDoubled 16 = .ok (.getfield 19, 3) := dk_180 0 19 (dk_at dksX1_isDoubled_0 16 rfl rfl)
theorem dX1_isDoubled_19 : decode cX1_isDoubled 19 = .ok (.iload_n 2, 1) := dk_28 (dk_at dksX1_isDoubled_0 19 rfl rfl)
theorem dX1_isDoubled_20 : decode cX1_isDoubled 20 = .ok (.invokeinterface 61 2, 5) := by decide +kernel
theorem dX1_isDoubled_25 : decode cX1_isDoubled 25 = .ok (.checkcast 69, 3) := dk_192 0 69 (dk_at dksX1_isDoubled_1 5 rfl rfl)
theorem dX1_isDoubled_28 : decode cX1_isDoubled 28 = .ok (.aload_n 1, 1) := dk_43 (dk_at dksX1_isDoubled_1 8 rfl rfl)
theorem dX1_isDoubled_29 : decode cX1_isDoubled 29 = .ok (.invokevirtual 157, 3) := dk_182 0 157 (dk_at dksX1_isDoubled_1 9 rfl rfl)
theorem dX1_isDoubled_32 : decode cX1_isDoubled 32 = .ok (.ifCond .eq 5, 3) := dk_153 0 5 (dk_at dksX1_isDoubled_1 12 rfl rfl)
theorem dX1_isDoubled_35 : decode cX1_isDoubled 35 = .ok (.iconst 1, 1) := dk_4 (dk_at dksX1_isDoubled_1 15 rfl rfl)
theorem dX1_isDoubled_36 : decode cX1_isDoubled 36 = .ok (.ireturn, 1) := dk_172 (dk_at dksX1_isDoubled_1 16 rfl rfl)
theorem dX1_isDoubled_37 : decode cX1_isDoubled 37 = .ok (.iinc 2 1, 3) := dk_132 2 1 (dk_at dksX1_isDoubled_1 17 rfl rfl)
theorem dX1_isDoubled_40 : decode cX1_isDoubled 40 = .ok (.goto (-38), 3) := dk_167 255 218 (dk_at dksX1_isDoubled_1 20 rfl rfl)
theorem dX1_isDoubled_43 : decode cX1_isDoubled 43 = .ok (.iconst 0, 1) := dk_3 (dk_at dksX1_isDoubled_1 23 rfl rfl)
theorem dX1_isDoubled_44 : decode cX1_isDoubled 44 = .ok (.ireturn, 1) := dk_172 (dk_at dksX1_isDoubled_2 0 rfl rfl)
abbrev cX1_add : ByteArray := prog_1_method_27_code
def yX1_add : MethodName := ⟨RX1, "add", "(LRollover$Ticket;)I"⟩
def dkwX1_add_0 : List UInt8 := [42, 180, 0, 19, 43, 185, 0, 36, 2, 0, 87, 42, 180, 0, 19, 185, 0, 54, 1, 0, 4, 100, 172]
abbrev dktX1_add_0 : List UInt8 := dkwX1_add_0 ++ []
theorem dksX1_add_0 : cX1_add.data.toList.drop 0 = dktX1_add_0 := by decide +kernel
theorem dX1_add_0 : decode cX1_add 0 = .ok (.aload_n 0, 1) := dk_42 (dk_at dksX1_add_0 0 rfl rfl)
theorem dX1_add_1 : decode cX1_add 1 = .ok (.getfield 19, 3) := dk_180 0 19 (dk_at dksX1_add_0 1 rfl rfl)
theorem dX1_add_4 : decode cX1_add 4 = .ok (.aload_n 1, 1) := dk_43 (dk_at dksX1_add_0 4 rfl rfl)
theorem dX1_add_5 : decode cX1_add 5 = .ok (.invokeinterface 36 2, 5) := by decide +kernel
theorem dX1_add_10 : decode cX1_add 10 = .ok (.pop, 1) := dk_87 (dk_at dksX1_add_0 10 rfl rfl)
theorem dX1_add_11 : decode cX1_add 11 = .ok (.aload_n 0, 1) := dk_42 (dk_at dksX1_add_0 11 rfl rfl)
theorem dX1_add_12 : decode cX1_add 12 = .ok (.getfield 19, 3) := dk_180 0 19 (dk_at dksX1_add_0 12 rfl rfl)
theorem dX1_add_15 : decode cX1_add 15 = .ok (.invokeinterface 54 1, 5) := by decide +kernel
theorem dX1_add_20 : decode cX1_add 20 = .ok (.iconst 1, 1) := dk_4 (dk_at dksX1_add_0 20 rfl rfl)
theorem dX1_add_21 : decode cX1_add 21 = .ok (.isub, 1) := dk_100 (dk_at dksX1_add_0 21 rfl rfl)
theorem dX1_add_22 : decode cX1_add 22 = .ok (.ireturn, 1) := dk_172 (dk_at dksX1_add_0 22 rfl rfl)
abbrev cX1_gift : ByteArray := prog_1_method_30_code
def yX1_gift : MethodName := ⟨RX1, "gift", "(IIIII)I"⟩
def dkwX1_gift_4 : List UInt8 := [28, 3, 21, 5, 183, 0, 174, 182, 0, 183, 172]
abbrev dktX1_gift_4 : List UInt8 := dkwX1_gift_4 ++ []
def dkwX1_gift_3 : List UInt8 := [167, 0, 4, 3, 184, 0, 87, 42, 187, 0, 69, 89, 178, 0, 186, 27, 42, 180, 0, 80, 29, 100, 21, 4]
abbrev dktX1_gift_3 : List UInt8 := dkwX1_gift_3 ++ dktX1_gift_4
def dkwX1_gift_2 : List UInt8 := [184, 0, 150, 21, 5, 184, 0, 154, 42, 180, 0, 19, 185, 0, 54, 1, 0, 16, 48, 162, 0, 7, 4]
abbrev dktX1_gift_2 : List UInt8 := dkwX1_gift_2 ++ dktX1_gift_3
def dkwX1_gift_1 : List UInt8 := [153, 0, 16, 42, 29, 28, 182, 0, 161, 153, 0, 7, 4, 167, 0, 4, 3, 184, 0, 44, 21, 4]
abbrev dktX1_gift_1 : List UInt8 := dkwX1_gift_1 ++ dktX1_gift_2
def dkwX1_gift_0 : List UInt8 := [42, 27, 182, 0, 120, 87, 42, 28, 182, 0, 120, 87, 27, 28, 159, 0, 25, 42, 29, 27, 182, 0, 161]
abbrev dktX1_gift_0 : List UInt8 := dkwX1_gift_0 ++ dktX1_gift_1
theorem dksX1_gift_0 : cX1_gift.data.toList.drop 0 = dktX1_gift_0 := by decide +kernel
theorem dksX1_gift_1 : cX1_gift.data.toList.drop 23 = dktX1_gift_1 := dk_seg dksX1_gift_0 23 rfl rfl
theorem dksX1_gift_2 : cX1_gift.data.toList.drop 45 = dktX1_gift_2 := dk_seg dksX1_gift_1 22 rfl rfl
theorem dksX1_gift_3 : cX1_gift.data.toList.drop 68 = dktX1_gift_3 := dk_seg dksX1_gift_2 23 rfl rfl
theorem dksX1_gift_4 : cX1_gift.data.toList.drop 92 = dktX1_gift_4 := dk_seg dksX1_gift_3 24 rfl rfl
theorem dX1_gift_0 : decode cX1_gift 0 = .ok (.aload_n 0, 1) := dk_42 (dk_at dksX1_gift_0 0 rfl rfl)
theorem dX1_gift_1 : decode cX1_gift 1 = .ok (.iload_n 1, 1) := dk_27 (dk_at dksX1_gift_0 1 rfl rfl)
theorem dX1_gift_2 : decode cX1_gift 2 = .ok (.invokevirtual 120, 3) := dk_182 0 120 (dk_at dksX1_gift_0 2 rfl rfl)
theorem dX1_gift_5 : decode cX1_gift 5 = .ok (.pop, 1) := dk_87 (dk_at dksX1_gift_0 5 rfl rfl)
theorem dX1_gift_6 : decode cX1_gift 6 = .ok (.aload_n 0, 1) := dk_42 (dk_at dksX1_gift_0 6 rfl rfl)
theorem dX1_gift_7 : decode cX1_gift 7 = .ok (.iload_n 2, 1) := dk_28 (dk_at dksX1_gift_0 7 rfl rfl)
theorem dX1_gift_8 : decode cX1_gift 8 = .ok (.invokevirtual 120, 3) := dk_182 0 120 (dk_at dksX1_gift_0 8 rfl rfl)
theorem dX1_gift_11 : decode cX1_gift 11 = .ok (.pop, 1) := dk_87 (dk_at dksX1_gift_0 11 rfl rfl)
theorem dX1_gift_12 : decode cX1_gift 12 = .ok (.iload_n 1, 1) := dk_27 (dk_at dksX1_gift_0 12 rfl rfl)
theorem dX1_gift_13 : decode cX1_gift 13 = .ok (.iload_n 2, 1) := dk_28 (dk_at dksX1_gift_0 13 rfl rfl)
theorem dX1_gift_14 : decode cX1_gift 14 = .ok (.if_icmp .eq 25, 3) := dk_159 0 25 (dk_at dksX1_gift_0 14 rfl rfl)
theorem dX1_gift_17 : decode cX1_gift 17 = .ok (.aload_n 0, 1) := dk_42 (dk_at dksX1_gift_0 17 rfl rfl)
theorem dX1_gift_18 : decode cX1_gift 18 = .ok (.iload_n 3, 1) := dk_29 (dk_at dksX1_gift_0 18 rfl rfl)
theorem dX1_gift_19 : decode cX1_gift 19 = .ok (.iload_n 1, 1) := dk_27 (dk_at dksX1_gift_0 19 rfl rfl)
theorem dX1_gift_20 : decode cX1_gift 20 = .ok (.invokevirtual 161, 3) := dk_182 0 161 (dk_at dksX1_gift_0 20 rfl rfl)
theorem dX1_gift_23 : decode cX1_gift 23 = .ok (.ifCond .eq 16, 3) := dk_153 0 16 (dk_at dksX1_gift_1 0 rfl rfl)
theorem dX1_gift_26 : decode cX1_gift 26 = .ok (.aload_n 0, 1) := dk_42 (dk_at dksX1_gift_1 3 rfl rfl)
theorem dX1_gift_27 : decode cX1_gift 27 = .ok (.iload_n 3, 1) := dk_29 (dk_at dksX1_gift_1 4 rfl rfl)
theorem dX1_gift_28 : decode cX1_gift 28 = .ok (.iload_n 2, 1) := dk_28 (dk_at dksX1_gift_1 5 rfl rfl)
theorem dX1_gift_29 : decode cX1_gift 29 = .ok (.invokevirtual 161, 3) := dk_182 0 161 (dk_at dksX1_gift_1 6 rfl rfl)
theorem dX1_gift_32 : decode cX1_gift 32 = .ok (.ifCond .eq 7, 3) := dk_153 0 7 (dk_at dksX1_gift_1 9 rfl rfl)
theorem dX1_gift_35 : decode cX1_gift 35 = .ok (.iconst 1, 1) := dk_4 (dk_at dksX1_gift_1 12 rfl rfl)
theorem dX1_gift_36 : decode cX1_gift 36 = .ok (.goto 4, 3) := dk_167 0 4 (dk_at dksX1_gift_1 13 rfl rfl)
theorem dX1_gift_39 : decode cX1_gift 39 = .ok (.iconst 0, 1) := dk_3 (dk_at dksX1_gift_1 16 rfl rfl)
theorem dX1_gift_40 : decode cX1_gift 40 = .ok (.invokestatic 44, 3) := dk_184 0 44 (dk_at dksX1_gift_1 17 rfl rfl)
theorem dX1_gift_43 : decode cX1_gift 43 = .ok (.iload 4, 2) := dk_21 4 (dk_at dksX1_gift_1 20 rfl rfl)
theorem dX1_gift_45 : decode cX1_gift 45 = .ok (.invokestatic 150, 3) := dk_184 0 150 (dk_at dksX1_gift_2 0 rfl rfl)
theorem dX1_gift_48 : decode cX1_gift 48 = .ok (.iload 5, 2) := dk_21 5 (dk_at dksX1_gift_2 3 rfl rfl)
theorem dX1_gift_50 : decode cX1_gift 50 = .ok (.invokestatic 154, 3) := dk_184 0 154 (dk_at dksX1_gift_2 5 rfl rfl)
theorem dX1_gift_53 : decode cX1_gift 53 = .ok (.aload_n 0, 1) := dk_42 (dk_at dksX1_gift_2 8 rfl rfl)
theorem dX1_gift_54 : decode cX1_gift 54 = .ok (.getfield 19, 3) := dk_180 0 19 (dk_at dksX1_gift_2 9 rfl rfl)
theorem dX1_gift_57 : decode cX1_gift 57 = .ok (.invokeinterface 54 1, 5) := by decide +kernel
theorem dX1_gift_62 : decode cX1_gift 62 = .ok (.bipush 48, 2) := dk_16 48 (dk_at dksX1_gift_2 17 rfl rfl)
theorem dX1_gift_64 : decode cX1_gift 64 = .ok (.if_icmp .ge 7, 3) := dk_162 0 7 (dk_at dksX1_gift_2 19 rfl rfl)
theorem dX1_gift_67 : decode cX1_gift 67 = .ok (.iconst 1, 1) := dk_4 (dk_at dksX1_gift_2 22 rfl rfl)
theorem dX1_gift_68 : decode cX1_gift 68 = .ok (.goto 4, 3) := dk_167 0 4 (dk_at dksX1_gift_3 0 rfl rfl)
theorem dX1_gift_71 : decode cX1_gift 71 = .ok (.iconst 0, 1) := dk_3 (dk_at dksX1_gift_3 3 rfl rfl)
theorem dX1_gift_72 : decode cX1_gift 72 = .ok (.invokestatic 87, 3) := dk_184 0 87 (dk_at dksX1_gift_3 4 rfl rfl)
theorem dX1_gift_75 : decode cX1_gift 75 = .ok (.aload_n 0, 1) := dk_42 (dk_at dksX1_gift_3 7 rfl rfl)
theorem dX1_gift_76 : decode cX1_gift 76 = .ok (.new 69, 3) := dk_187 0 69 (dk_at dksX1_gift_3 8 rfl rfl)
theorem dX1_gift_79 : decode cX1_gift 79 = .ok (.dup, 1) := dk_89 (dk_at dksX1_gift_3 11 rfl rfl)
theorem dX1_gift_80 : decode cX1_gift 80 = .ok (.getstatic 186, 3) := dk_178 0 186 (dk_at dksX1_gift_3 12 rfl rfl)
theorem dX1_gift_83 : decode cX1_gift 83 = .ok (.iload_n 1, 1) := dk_27 (dk_at dksX1_gift_3 15 rfl rfl)
theorem dX1_gift_84 : decode cX1_gift 84 = .ok (.aload_n 0, 1) := dk_42 (dk_at dksX1_gift_3 16 rfl rfl)
theorem dX1_gift_85 : decode cX1_gift 85 = .ok (.getfield 80, 3) := dk_180 0 80 (dk_at dksX1_gift_3 17 rfl rfl)
theorem dX1_gift_88 : decode cX1_gift 88 = .ok (.iload_n 3, 1) := dk_29 (dk_at dksX1_gift_3 20 rfl rfl)
theorem dX1_gift_89 : decode cX1_gift 89 = .ok (.isub, 1) := dk_100 (dk_at dksX1_gift_3 21 rfl rfl)
theorem dX1_gift_90 : decode cX1_gift 90 = .ok (.iload 4, 2) := dk_21 4 (dk_at dksX1_gift_3 22 rfl rfl)
theorem dX1_gift_92 : decode cX1_gift 92 = .ok (.iload_n 2, 1) := dk_28 (dk_at dksX1_gift_4 0 rfl rfl)
theorem dX1_gift_93 : decode cX1_gift 93 = .ok (.iconst 0, 1) := dk_3 (dk_at dksX1_gift_4 1 rfl rfl)
theorem dX1_gift_94 : decode cX1_gift 94 = .ok (.iload 5, 2) := dk_21 5 (dk_at dksX1_gift_4 2 rfl rfl)
theorem dX1_gift_96 : decode cX1_gift 96 = .ok (.invokespecial 174, 3) := dk_183 0 174 (dk_at dksX1_gift_4 4 rfl rfl)
theorem dX1_gift_99 : decode cX1_gift 99 = .ok (.invokevirtual 183, 3) := dk_182 0 183 (dk_at dksX1_gift_4 7 rfl rfl)
theorem dX1_gift_102 : decode cX1_gift 102 = .ok (.ireturn, 1) := dk_172 (dk_at dksX1_gift_4 10 rfl rfl)
abbrev cX1_addOn : ByteArray := prog_1_method_31_code
def yX1_addOn : MethodName := ⟨RX1, "addOn", "(IIIIII)I"⟩
def dkwX1_addOn_3 : List UInt8 := [178, 0, 189, 27, 42, 180, 0, 80, 28, 100, 29, 21, 5, 21, 6, 21, 4, 183, 0, 174, 182, 0, 183, 172]
abbrev dktX1_addOn_3 : List UInt8 := dkwX1_addOn_3 ++ []
def dkwX1_addOn_2 : List UInt8 := [185, 0, 54, 1, 0, 16, 48, 162, 0, 7, 4, 167, 0, 4, 3, 184, 0, 87, 42, 187, 0, 69, 89]
abbrev dktX1_addOn_2 : List UInt8 := dkwX1_addOn_2 ++ dktX1_addOn_3
def dkwX1_addOn_1 : List UInt8 := [21, 5, 4, 16, 90, 184, 0, 71, 21, 6, 3, 16, 99, 184, 0, 71, 42, 180, 0, 19]
abbrev dktX1_addOn_1 : List UInt8 := dkwX1_addOn_1 ++ dktX1_addOn_2
def dkwX1_addOn_0 : List UInt8 := [42, 27, 182, 0, 120, 87, 42, 28, 27, 182, 0, 161, 184, 0, 44, 29, 184, 0, 150, 21, 4, 184, 0, 154]
abbrev dktX1_addOn_0 : List UInt8 := dkwX1_addOn_0 ++ dktX1_addOn_1
theorem dksX1_addOn_0 : cX1_addOn.data.toList.drop 0 = dktX1_addOn_0 := by decide +kernel
theorem dksX1_addOn_1 : cX1_addOn.data.toList.drop 24 = dktX1_addOn_1 := dk_seg dksX1_addOn_0 24 rfl rfl
theorem dksX1_addOn_2 : cX1_addOn.data.toList.drop 44 = dktX1_addOn_2 := dk_seg dksX1_addOn_1 20 rfl rfl
theorem dksX1_addOn_3 : cX1_addOn.data.toList.drop 67 = dktX1_addOn_3 := dk_seg dksX1_addOn_2 23 rfl rfl
theorem dX1_addOn_0 : decode cX1_addOn 0 = .ok (.aload_n 0, 1) := dk_42 (dk_at dksX1_addOn_0 0 rfl rfl)
theorem dX1_addOn_1 : decode cX1_addOn 1 = .ok (.iload_n 1, 1) := dk_27 (dk_at dksX1_addOn_0 1 rfl rfl)
theorem dX1_addOn_2 : decode cX1_addOn 2 = .ok (.invokevirtual 120, 3) := dk_182 0 120 (dk_at dksX1_addOn_0 2 rfl rfl)
theorem dX1_addOn_5 : decode cX1_addOn 5 = .ok (.pop, 1) := dk_87 (dk_at dksX1_addOn_0 5 rfl rfl)
theorem dX1_addOn_6 : decode cX1_addOn 6 = .ok (.aload_n 0, 1) := dk_42 (dk_at dksX1_addOn_0 6 rfl rfl)
theorem dX1_addOn_7 : decode cX1_addOn 7 = .ok (.iload_n 2, 1) := dk_28 (dk_at dksX1_addOn_0 7 rfl rfl)
theorem dX1_addOn_8 : decode cX1_addOn 8 = .ok (.iload_n 1, 1) := dk_27 (dk_at dksX1_addOn_0 8 rfl rfl)
theorem dX1_addOn_9 : decode cX1_addOn 9 = .ok (.invokevirtual 161, 3) := dk_182 0 161 (dk_at dksX1_addOn_0 9 rfl rfl)
theorem dX1_addOn_12 : decode cX1_addOn 12 = .ok (.invokestatic 44, 3) := dk_184 0 44 (dk_at dksX1_addOn_0 12 rfl rfl)
theorem dX1_addOn_15 : decode cX1_addOn 15 = .ok (.iload_n 3, 1) := dk_29 (dk_at dksX1_addOn_0 15 rfl rfl)
theorem dX1_addOn_16 : decode cX1_addOn 16 = .ok (.invokestatic 150, 3) := dk_184 0 150 (dk_at dksX1_addOn_0 16 rfl rfl)
theorem dX1_addOn_19 : decode cX1_addOn 19 = .ok (.iload 4, 2) := dk_21 4 (dk_at dksX1_addOn_0 19 rfl rfl)
theorem dX1_addOn_21 : decode cX1_addOn 21 = .ok (.invokestatic 154, 3) := dk_184 0 154 (dk_at dksX1_addOn_0 21 rfl rfl)
theorem dX1_addOn_24 : decode cX1_addOn 24 = .ok (.iload 5, 2) := dk_21 5 (dk_at dksX1_addOn_1 0 rfl rfl)
theorem dX1_addOn_26 : decode cX1_addOn 26 = .ok (.iconst 1, 1) := dk_4 (dk_at dksX1_addOn_1 2 rfl rfl)
theorem dX1_addOn_27 : decode cX1_addOn 27 = .ok (.bipush 90, 2) := dk_16 90 (dk_at dksX1_addOn_1 3 rfl rfl)
theorem dX1_addOn_29 : decode cX1_addOn 29 = .ok (.invokestatic 71, 3) := dk_184 0 71 (dk_at dksX1_addOn_1 5 rfl rfl)
theorem dX1_addOn_32 : decode cX1_addOn 32 = .ok (.iload 6, 2) := dk_21 6 (dk_at dksX1_addOn_1 8 rfl rfl)
theorem dX1_addOn_34 : decode cX1_addOn 34 = .ok (.iconst 0, 1) := dk_3 (dk_at dksX1_addOn_1 10 rfl rfl)
theorem dX1_addOn_35 : decode cX1_addOn 35 = .ok (.bipush 99, 2) := dk_16 99 (dk_at dksX1_addOn_1 11 rfl rfl)
theorem dX1_addOn_37 : decode cX1_addOn 37 = .ok (.invokestatic 71, 3) := dk_184 0 71 (dk_at dksX1_addOn_1 13 rfl rfl)
theorem dX1_addOn_40 : decode cX1_addOn 40 = .ok (.aload_n 0, 1) := dk_42 (dk_at dksX1_addOn_1 16 rfl rfl)
theorem dX1_addOn_41 : decode cX1_addOn 41 = .ok (.getfield 19, 3) := dk_180 0 19 (dk_at dksX1_addOn_1 17 rfl rfl)
theorem dX1_addOn_44 : decode cX1_addOn 44 = .ok (.invokeinterface 54 1, 5) := by decide +kernel
theorem dX1_addOn_49 : decode cX1_addOn 49 = .ok (.bipush 48, 2) := dk_16 48 (dk_at dksX1_addOn_2 5 rfl rfl)
theorem dX1_addOn_51 : decode cX1_addOn 51 = .ok (.if_icmp .ge 7, 3) := dk_162 0 7 (dk_at dksX1_addOn_2 7 rfl rfl)
theorem dX1_addOn_54 : decode cX1_addOn 54 = .ok (.iconst 1, 1) := dk_4 (dk_at dksX1_addOn_2 10 rfl rfl)
theorem dX1_addOn_55 : decode cX1_addOn 55 = .ok (.goto 4, 3) := dk_167 0 4 (dk_at dksX1_addOn_2 11 rfl rfl)
theorem dX1_addOn_58 : decode cX1_addOn 58 = .ok (.iconst 0, 1) := dk_3 (dk_at dksX1_addOn_2 14 rfl rfl)
theorem dX1_addOn_59 : decode cX1_addOn 59 = .ok (.invokestatic 87, 3) := dk_184 0 87 (dk_at dksX1_addOn_2 15 rfl rfl)
theorem dX1_addOn_62 : decode cX1_addOn 62 = .ok (.aload_n 0, 1) := dk_42 (dk_at dksX1_addOn_2 18 rfl rfl)
theorem dX1_addOn_63 : decode cX1_addOn 63 = .ok (.new 69, 3) := dk_187 0 69 (dk_at dksX1_addOn_2 19 rfl rfl)
theorem dX1_addOn_66 : decode cX1_addOn 66 = .ok (.dup, 1) := dk_89 (dk_at dksX1_addOn_2 22 rfl rfl)
theorem dX1_addOn_67 : decode cX1_addOn 67 = .ok (.getstatic 189, 3) := dk_178 0 189 (dk_at dksX1_addOn_3 0 rfl rfl)
theorem dX1_addOn_70 : decode cX1_addOn 70 = .ok (.iload_n 1, 1) := dk_27 (dk_at dksX1_addOn_3 3 rfl rfl)
theorem dX1_addOn_71 : decode cX1_addOn 71 = .ok (.aload_n 0, 1) := dk_42 (dk_at dksX1_addOn_3 4 rfl rfl)
theorem dX1_addOn_72 : decode cX1_addOn 72 = .ok (.getfield 80, 3) := dk_180 0 80 (dk_at dksX1_addOn_3 5 rfl rfl)
theorem dX1_addOn_75 : decode cX1_addOn 75 = .ok (.iload_n 2, 1) := dk_28 (dk_at dksX1_addOn_3 8 rfl rfl)
theorem dX1_addOn_76 : decode cX1_addOn 76 = .ok (.isub, 1) := dk_100 (dk_at dksX1_addOn_3 9 rfl rfl)
theorem dX1_addOn_77 : decode cX1_addOn 77 = .ok (.iload_n 3, 1) := dk_29 (dk_at dksX1_addOn_3 10 rfl rfl)
theorem dX1_addOn_78 : decode cX1_addOn 78 = .ok (.iload 5, 2) := dk_21 5 (dk_at dksX1_addOn_3 11 rfl rfl)
theorem dX1_addOn_80 : decode cX1_addOn 80 = .ok (.iload 6, 2) := dk_21 6 (dk_at dksX1_addOn_3 13 rfl rfl)
theorem dX1_addOn_82 : decode cX1_addOn 82 = .ok (.iload 4, 2) := dk_21 4 (dk_at dksX1_addOn_3 15 rfl rfl)
theorem dX1_addOn_84 : decode cX1_addOn 84 = .ok (.invokespecial 174, 3) := dk_183 0 174 (dk_at dksX1_addOn_3 17 rfl rfl)
theorem dX1_addOn_87 : decode cX1_addOn 87 = .ok (.invokevirtual 183, 3) := dk_182 0 183 (dk_at dksX1_addOn_3 20 rfl rfl)
theorem dX1_addOn_90 : decode cX1_addOn 90 = .ok (.ireturn, 1) := dk_172 (dk_at dksX1_addOn_3 23 rfl rfl)
abbrev cX1_correct : ByteArray := prog_1_method_32_code
def yX1_correct : MethodName := ⟨RX1, "correct", "(II)I"⟩
def dkwX1_correct_2 : List UInt8 := [45, 180, 0, 204, 45, 180, 0, 207, 16, 30, 108, 182, 0, 210, 21, 4, 100, 172]
abbrev dktX1_correct_2 : List UInt8 := dkwX1_correct_2 ++ []
def dkwX1_correct_1 : List UInt8 := [180, 0, 204, 45, 180, 0, 207, 16, 30, 108, 182, 0, 210, 54, 4, 45, 28, 181, 0, 214, 42, 182, 0, 200]
abbrev dktX1_correct_1 : List UInt8 := dkwX1_correct_1 ++ dktX1_correct_2
def dkwX1_correct_0 : List UInt8 := [42, 27, 182, 0, 192, 78, 28, 184, 0, 154, 45, 182, 0, 196, 184, 0, 87, 42, 182, 0, 200, 45]
abbrev dktX1_correct_0 : List UInt8 := dkwX1_correct_0 ++ dktX1_correct_1
theorem dksX1_correct_0 : cX1_correct.data.toList.drop 0 = dktX1_correct_0 := by decide +kernel
theorem dksX1_correct_1 : cX1_correct.data.toList.drop 22 = dktX1_correct_1 := dk_seg dksX1_correct_0 22 rfl rfl
theorem dksX1_correct_2 : cX1_correct.data.toList.drop 46 = dktX1_correct_2 := dk_seg dksX1_correct_1 24 rfl rfl
theorem dX1_correct_0 : decode cX1_correct 0 = .ok (.aload_n 0, 1) := dk_42 (dk_at dksX1_correct_0 0 rfl rfl)
theorem dX1_correct_1 : decode cX1_correct 1 = .ok (.iload_n 1, 1) := dk_27 (dk_at dksX1_correct_0 1 rfl rfl)
theorem dX1_correct_2 : decode cX1_correct 2 = .ok (.invokevirtual 192, 3) := dk_182 0 192 (dk_at dksX1_correct_0 2 rfl rfl)
theorem dX1_correct_5 : decode cX1_correct 5 = .ok (.astore_n 3, 1) := dk_78 (dk_at dksX1_correct_0 5 rfl rfl)
theorem dX1_correct_6 : decode cX1_correct 6 = .ok (.iload_n 2, 1) := dk_28 (dk_at dksX1_correct_0 6 rfl rfl)
theorem dX1_correct_7 : decode cX1_correct 7 = .ok (.invokestatic 154, 3) := dk_184 0 154 (dk_at dksX1_correct_0 7 rfl rfl)
theorem dX1_correct_10 : decode cX1_correct 10 = .ok (.aload_n 3, 1) := dk_45 (dk_at dksX1_correct_0 10 rfl rfl)
theorem dX1_correct_11 : decode cX1_correct 11 = .ok (.invokevirtual 196, 3) := dk_182 0 196 (dk_at dksX1_correct_0 11 rfl rfl)
theorem dX1_correct_14 : decode cX1_correct 14 = .ok (.invokestatic 87, 3) := dk_184 0 87 (dk_at dksX1_correct_0 14 rfl rfl)
theorem dX1_correct_17 : decode cX1_correct 17 = .ok (.aload_n 0, 1) := dk_42 (dk_at dksX1_correct_0 17 rfl rfl)
theorem dX1_correct_18 : decode cX1_correct 18 = .ok (.invokevirtual 200, 3) := dk_182 0 200 (dk_at dksX1_correct_0 18 rfl rfl)
theorem dX1_correct_21 : decode cX1_correct 21 = .ok (.aload_n 3, 1) := dk_45 (dk_at dksX1_correct_0 21 rfl rfl)
theorem dX1_correct_22 : decode cX1_correct 22 = .ok (.getfield 204, 3) := dk_180 0 204 (dk_at dksX1_correct_1 0 rfl rfl)
theorem dX1_correct_25 : decode cX1_correct 25 = .ok (.aload_n 3, 1) := dk_45 (dk_at dksX1_correct_1 3 rfl rfl)
theorem dX1_correct_26 : decode cX1_correct 26 = .ok (.getfield 207, 3) := dk_180 0 207 (dk_at dksX1_correct_1 4 rfl rfl)
theorem dX1_correct_29 : decode cX1_correct 29 = .ok (.bipush 30, 2) := dk_16 30 (dk_at dksX1_correct_1 7 rfl rfl)
theorem dX1_correct_31 : decode cX1_correct 31 = .ok (.idiv, 1) := dk_108 (dk_at dksX1_correct_1 9 rfl rfl)
theorem dX1_correct_32 : decode cX1_correct 32 = .ok (.invokevirtual 210, 3) := dk_182 0 210 (dk_at dksX1_correct_1 10 rfl rfl)
theorem dX1_correct_35 : decode cX1_correct 35 = .ok (.istore 4, 2) := dk_54 4 (dk_at dksX1_correct_1 13 rfl rfl)
theorem dX1_correct_37 : decode cX1_correct 37 = .ok (.aload_n 3, 1) := dk_45 (dk_at dksX1_correct_1 15 rfl rfl)
theorem dX1_correct_38 : decode cX1_correct 38 = .ok (.iload_n 2, 1) := dk_28 (dk_at dksX1_correct_1 16 rfl rfl)
theorem dX1_correct_39 : decode cX1_correct 39 = .ok (.putfield 214, 3) := dk_181 0 214 (dk_at dksX1_correct_1 17 rfl rfl)
theorem dX1_correct_42 : decode cX1_correct 42 = .ok (.aload_n 0, 1) := dk_42 (dk_at dksX1_correct_1 20 rfl rfl)
theorem dX1_correct_43 : decode cX1_correct 43 = .ok (.invokevirtual 200, 3) := dk_182 0 200 (dk_at dksX1_correct_1 21 rfl rfl)
theorem dX1_correct_46 : decode cX1_correct 46 = .ok (.aload_n 3, 1) := dk_45 (dk_at dksX1_correct_2 0 rfl rfl)
theorem dX1_correct_47 : decode cX1_correct 47 = .ok (.getfield 204, 3) := dk_180 0 204 (dk_at dksX1_correct_2 1 rfl rfl)
theorem dX1_correct_50 : decode cX1_correct 50 = .ok (.aload_n 3, 1) := dk_45 (dk_at dksX1_correct_2 4 rfl rfl)
theorem dX1_correct_51 : decode cX1_correct 51 = .ok (.getfield 207, 3) := dk_180 0 207 (dk_at dksX1_correct_2 5 rfl rfl)
theorem dX1_correct_54 : decode cX1_correct 54 = .ok (.bipush 30, 2) := dk_16 30 (dk_at dksX1_correct_2 8 rfl rfl)
theorem dX1_correct_56 : decode cX1_correct 56 = .ok (.idiv, 1) := dk_108 (dk_at dksX1_correct_2 10 rfl rfl)
theorem dX1_correct_57 : decode cX1_correct 57 = .ok (.invokevirtual 210, 3) := dk_182 0 210 (dk_at dksX1_correct_2 11 rfl rfl)
theorem dX1_correct_60 : decode cX1_correct 60 = .ok (.iload 4, 2) := dk_21 4 (dk_at dksX1_correct_2 14 rfl rfl)
theorem dX1_correct_62 : decode cX1_correct 62 = .ok (.isub, 1) := dk_100 (dk_at dksX1_correct_2 16 rfl rfl)
theorem dX1_correct_63 : decode cX1_correct 63 = .ok (.ireturn, 1) := dk_172 (dk_at dksX1_correct_2 17 rfl rfl)
abbrev cX1_ticketAt : ByteArray := prog_1_method_11_code
def yX1_ticketAt : MethodName := ⟨RX1, "ticketAt", "(I)LRollover$Ticket;"⟩
def dkwX1_ticketAt_1 : List UInt8 := [192, 0, 69, 176]
abbrev dktX1_ticketAt_1 : List UInt8 := dkwX1_ticketAt_1 ++ []
def dkwX1_ticketAt_0 : List UInt8 := [27, 42, 180, 0, 19, 185, 0, 54, 1, 0, 184, 0, 58, 42, 180, 0, 19, 27, 185, 0, 61, 2, 0]
abbrev dktX1_ticketAt_0 : List UInt8 := dkwX1_ticketAt_0 ++ dktX1_ticketAt_1
theorem dksX1_ticketAt_0 : cX1_ticketAt.data.toList.drop 0 = dktX1_ticketAt_0 := by decide +kernel
theorem dksX1_ticketAt_1 : cX1_ticketAt.data.toList.drop 23 = dktX1_ticketAt_1 := dk_seg dksX1_ticketAt_0 23 rfl rfl
theorem dX1_ticketAt_0 : decode cX1_ticketAt 0 = .ok (.iload_n 1, 1) := dk_27 (dk_at dksX1_ticketAt_0 0 rfl rfl)
theorem dX1_ticketAt_1 : decode cX1_ticketAt 1 = .ok (.aload_n 0, 1) := dk_42 (dk_at dksX1_ticketAt_0 1 rfl rfl)
theorem dX1_ticketAt_2 : decode cX1_ticketAt 2 = .ok (.getfield 19, 3) := dk_180 0 19 (dk_at dksX1_ticketAt_0 2 rfl rfl)
theorem dX1_ticketAt_5 : decode cX1_ticketAt 5 = .ok (.invokeinterface 54 1, 5) := by decide +kernel
theorem dX1_ticketAt_10 : decode cX1_ticketAt 10 = .ok (.invokestatic 58, 3) := dk_184 0 58 (dk_at dksX1_ticketAt_0 10 rfl rfl)
theorem dX1_ticketAt_13 : decode cX1_ticketAt 13 = .ok (.aload_n 0, 1) := dk_42 (dk_at dksX1_ticketAt_0 13 rfl rfl)
theorem dX1_ticketAt_14 : decode cX1_ticketAt 14 = .ok (.getfield 19, 3) := dk_180 0 19 (dk_at dksX1_ticketAt_0 14 rfl rfl)
theorem dX1_ticketAt_17 : decode cX1_ticketAt 17 = .ok (.iload_n 1, 1) := dk_27 (dk_at dksX1_ticketAt_0 17 rfl rfl)
theorem dX1_ticketAt_18 : decode cX1_ticketAt 18 = .ok (.invokeinterface 61 2, 5) := by decide +kernel
theorem dX1_ticketAt_23 : decode cX1_ticketAt 23 = .ok (.checkcast 69, 3) := dk_192 0 69 (dk_at dksX1_ticketAt_1 0 rfl rfl)
theorem dX1_ticketAt_26 : decode cX1_ticketAt 26 = .ok (.areturn, 1) := dk_176 (dk_at dksX1_ticketAt_1 3 rfl rfl)
abbrev cX1_undo : ByteArray := prog_1_method_33_code
def yX1_undo : MethodName := ⟨RX1, "undo", "(I)I"⟩
def dkwX1_undo_1 : List UInt8 := [182, 0, 200, 182, 0, 220, 62, 44, 4, 181, 0, 217, 42, 182, 0, 200, 182, 0, 220, 29, 100, 172]
abbrev dktX1_undo_1 : List UInt8 := dkwX1_undo_1 ++ []
def dkwX1_undo_0 : List UInt8 := [42, 27, 182, 0, 192, 77, 44, 180, 0, 217, 154, 0, 7, 4, 167, 0, 4, 3, 184, 0, 87, 42]
abbrev dktX1_undo_0 : List UInt8 := dkwX1_undo_0 ++ dktX1_undo_1
theorem dksX1_undo_0 : cX1_undo.data.toList.drop 0 = dktX1_undo_0 := by decide +kernel
theorem dksX1_undo_1 : cX1_undo.data.toList.drop 22 = dktX1_undo_1 := dk_seg dksX1_undo_0 22 rfl rfl
theorem dX1_undo_0 : decode cX1_undo 0 = .ok (.aload_n 0, 1) := dk_42 (dk_at dksX1_undo_0 0 rfl rfl)
theorem dX1_undo_1 : decode cX1_undo 1 = .ok (.iload_n 1, 1) := dk_27 (dk_at dksX1_undo_0 1 rfl rfl)
theorem dX1_undo_2 : decode cX1_undo 2 = .ok (.invokevirtual 192, 3) := dk_182 0 192 (dk_at dksX1_undo_0 2 rfl rfl)
theorem dX1_undo_5 : decode cX1_undo 5 = .ok (.astore_n 2, 1) := dk_77 (dk_at dksX1_undo_0 5 rfl rfl)
theorem dX1_undo_6 : decode cX1_undo 6 = .ok (.aload_n 2, 1) := dk_44 (dk_at dksX1_undo_0 6 rfl rfl)
theorem dX1_undo_7 : decode cX1_undo 7 = .ok (.getfield 217, 3) := dk_180 0 217 (dk_at dksX1_undo_0 7 rfl rfl)
theorem dX1_undo_10 : decode cX1_undo 10 = .ok (.ifCond .ne 7, 3) := dk_154 0 7 (dk_at dksX1_undo_0 10 rfl rfl)
theorem dX1_undo_13 : decode cX1_undo 13 = .ok (.iconst 1, 1) := dk_4 (dk_at dksX1_undo_0 13 rfl rfl)
theorem dX1_undo_14 : decode cX1_undo 14 = .ok (.goto 4, 3) := dk_167 0 4 (dk_at dksX1_undo_0 14 rfl rfl)
theorem dX1_undo_17 : decode cX1_undo 17 = .ok (.iconst 0, 1) := dk_3 (dk_at dksX1_undo_0 17 rfl rfl)
theorem dX1_undo_18 : decode cX1_undo 18 = .ok (.invokestatic 87, 3) := dk_184 0 87 (dk_at dksX1_undo_0 18 rfl rfl)
theorem dX1_undo_21 : decode cX1_undo 21 = .ok (.aload_n 0, 1) := dk_42 (dk_at dksX1_undo_0 21 rfl rfl)
theorem dX1_undo_22 : decode cX1_undo 22 = .ok (.invokevirtual 200, 3) := dk_182 0 200 (dk_at dksX1_undo_1 0 rfl rfl)
theorem dX1_undo_25 : decode cX1_undo 25 = .ok (.invokevirtual 220, 3) := dk_182 0 220 (dk_at dksX1_undo_1 3 rfl rfl)
theorem dX1_undo_28 : decode cX1_undo 28 = .ok (.istore_n 3, 1) := dk_62 (dk_at dksX1_undo_1 6 rfl rfl)
theorem dX1_undo_29 : decode cX1_undo 29 = .ok (.aload_n 2, 1) := dk_44 (dk_at dksX1_undo_1 7 rfl rfl)
theorem dX1_undo_30 : decode cX1_undo 30 = .ok (.iconst 1, 1) := dk_4 (dk_at dksX1_undo_1 8 rfl rfl)
theorem dX1_undo_31 : decode cX1_undo 31 = .ok (.putfield 217, 3) := dk_181 0 217 (dk_at dksX1_undo_1 9 rfl rfl)
theorem dX1_undo_34 : decode cX1_undo 34 = .ok (.aload_n 0, 1) := dk_42 (dk_at dksX1_undo_1 12 rfl rfl)
theorem dX1_undo_35 : decode cX1_undo 35 = .ok (.invokevirtual 200, 3) := dk_182 0 200 (dk_at dksX1_undo_1 13 rfl rfl)
theorem dX1_undo_38 : decode cX1_undo 38 = .ok (.invokevirtual 220, 3) := dk_182 0 220 (dk_at dksX1_undo_1 16 rfl rfl)
theorem dX1_undo_41 : decode cX1_undo 41 = .ok (.iload_n 3, 1) := dk_29 (dk_at dksX1_undo_1 19 rfl rfl)
theorem dX1_undo_42 : decode cX1_undo 42 = .ok (.isub, 1) := dk_100 (dk_at dksX1_undo_1 20 rfl rfl)
theorem dX1_undo_43 : decode cX1_undo 43 = .ok (.ireturn, 1) := dk_172 (dk_at dksX1_undo_1 21 rfl rfl)
abbrev cX1_port : ByteArray := prog_1_method_34_code
def yX1_port : MethodName := ⟨RX1, "port", "(III)I"⟩
def dkwX1_port_4 : List UInt8 := [21, 4, 172]
abbrev dktX1_port_4 : List UInt8 := dkwX1_port_4 ++ []
def dkwX1_port_3 : List UInt8 := [192, 0, 29, 42, 180, 0, 80, 29, 100, 28, 182, 0, 32, 42, 89, 180, 0, 223, 4, 96, 181, 0, 223]
abbrev dktX1_port_3 : List UInt8 := dkwX1_port_3 ++ dktX1_port_4
def dkwX1_port_2 : List UInt8 := [192, 0, 29, 42, 180, 0, 80, 182, 0, 127, 54, 4, 42, 180, 0, 22, 27, 185, 0, 61, 2, 0]
abbrev dktX1_port_2 : List UInt8 := dkwX1_port_2 ++ dktX1_port_3
def dkwX1_port_1 : List UInt8 := [16, 20, 162, 0, 7, 4, 167, 0, 4, 3, 184, 0, 87, 42, 180, 0, 22, 27, 185, 0, 61, 2, 0]
abbrev dktX1_port_1 : List UInt8 := dkwX1_port_1 ++ dktX1_port_2
def dkwX1_port_0 : List UInt8 := [27, 16, 16, 184, 0, 58, 28, 7, 184, 0, 58, 29, 3, 42, 180, 0, 80, 184, 0, 71, 42, 180, 0, 223]
abbrev dktX1_port_0 : List UInt8 := dkwX1_port_0 ++ dktX1_port_1
theorem dksX1_port_0 : cX1_port.data.toList.drop 0 = dktX1_port_0 := by decide +kernel
theorem dksX1_port_1 : cX1_port.data.toList.drop 24 = dktX1_port_1 := dk_seg dksX1_port_0 24 rfl rfl
theorem dksX1_port_2 : cX1_port.data.toList.drop 47 = dktX1_port_2 := dk_seg dksX1_port_1 23 rfl rfl
theorem dksX1_port_3 : cX1_port.data.toList.drop 69 = dktX1_port_3 := dk_seg dksX1_port_2 22 rfl rfl
theorem dksX1_port_4 : cX1_port.data.toList.drop 92 = dktX1_port_4 := dk_seg dksX1_port_3 23 rfl rfl
theorem dX1_port_0 : decode cX1_port 0 = .ok (.iload_n 1, 1) := dk_27 (dk_at dksX1_port_0 0 rfl rfl)
theorem dX1_port_1 : decode cX1_port 1 = .ok (.bipush 16, 2) := dk_16 16 (dk_at dksX1_port_0 1 rfl rfl)
theorem dX1_port_3 : decode cX1_port 3 = .ok (.invokestatic 58, 3) := dk_184 0 58 (dk_at dksX1_port_0 3 rfl rfl)
theorem dX1_port_6 : decode cX1_port 6 = .ok (.iload_n 2, 1) := dk_28 (dk_at dksX1_port_0 6 rfl rfl)
theorem dX1_port_7 : decode cX1_port 7 = .ok (.iconst 4, 1) := dk_7 (dk_at dksX1_port_0 7 rfl rfl)
theorem dX1_port_8 : decode cX1_port 8 = .ok (.invokestatic 58, 3) := dk_184 0 58 (dk_at dksX1_port_0 8 rfl rfl)
theorem dX1_port_11 : decode cX1_port 11 = .ok (.iload_n 3, 1) := dk_29 (dk_at dksX1_port_0 11 rfl rfl)
theorem dX1_port_12 : decode cX1_port 12 = .ok (.iconst 0, 1) := dk_3 (dk_at dksX1_port_0 12 rfl rfl)
theorem dX1_port_13 : decode cX1_port 13 = .ok (.aload_n 0, 1) := dk_42 (dk_at dksX1_port_0 13 rfl rfl)
theorem dX1_port_14 : decode cX1_port 14 = .ok (.getfield 80, 3) := dk_180 0 80 (dk_at dksX1_port_0 14 rfl rfl)
theorem dX1_port_17 : decode cX1_port 17 = .ok (.invokestatic 71, 3) := dk_184 0 71 (dk_at dksX1_port_0 17 rfl rfl)
theorem dX1_port_20 : decode cX1_port 20 = .ok (.aload_n 0, 1) := dk_42 (dk_at dksX1_port_0 20 rfl rfl)
theorem dX1_port_21 : decode cX1_port 21 = .ok (.getfield 223, 3) := dk_180 0 223 (dk_at dksX1_port_0 21 rfl rfl)
theorem dX1_port_24 : decode cX1_port 24 = .ok (.bipush 20, 2) := dk_16 20 (dk_at dksX1_port_1 0 rfl rfl)
theorem dX1_port_26 : decode cX1_port 26 = .ok (.if_icmp .ge 7, 3) := dk_162 0 7 (dk_at dksX1_port_1 2 rfl rfl)
theorem dX1_port_29 : decode cX1_port 29 = .ok (.iconst 1, 1) := dk_4 (dk_at dksX1_port_1 5 rfl rfl)
theorem dX1_port_30 : decode cX1_port 30 = .ok (.goto 4, 3) := dk_167 0 4 (dk_at dksX1_port_1 6 rfl rfl)
theorem dX1_port_33 : decode cX1_port 33 = .ok (.iconst 0, 1) := dk_3 (dk_at dksX1_port_1 9 rfl rfl)
theorem dX1_port_34 : decode cX1_port 34 = .ok (.invokestatic 87, 3) := dk_184 0 87 (dk_at dksX1_port_1 10 rfl rfl)
theorem dX1_port_37 : decode cX1_port 37 = .ok (.aload_n 0, 1) := dk_42 (dk_at dksX1_port_1 13 rfl rfl)
theorem dX1_port_38 : decode cX1_port 38 = .ok (.getfield 22, 3) := dk_180 0 22 (dk_at dksX1_port_1 14 rfl rfl)
theorem dX1_port_41 : decode cX1_port 41 = .ok (.iload_n 1, 1) := dk_27 (dk_at dksX1_port_1 17 rfl rfl)
theorem dX1_port_42 : decode cX1_port 42 = .ok (.invokeinterface 61 2, 5) := by decide +kernel
theorem dX1_port_47 : decode cX1_port 47 = .ok (.checkcast 29, 3) := dk_192 0 29 (dk_at dksX1_port_2 0 rfl rfl)
theorem dX1_port_50 : decode cX1_port 50 = .ok (.aload_n 0, 1) := dk_42 (dk_at dksX1_port_2 3 rfl rfl)
theorem dX1_port_51 : decode cX1_port 51 = .ok (.getfield 80, 3) := dk_180 0 80 (dk_at dksX1_port_2 4 rfl rfl)
theorem dX1_port_54 : decode cX1_port 54 = .ok (.invokevirtual 127, 3) := dk_182 0 127 (dk_at dksX1_port_2 7 rfl rfl)
theorem dX1_port_57 : decode cX1_port 57 = .ok (.istore 4, 2) := dk_54 4 (dk_at dksX1_port_2 10 rfl rfl)
theorem dX1_port_59 : decode cX1_port 59 = .ok (.aload_n 0, 1) := dk_42 (dk_at dksX1_port_2 12 rfl rfl)
theorem dX1_port_60 : decode cX1_port 60 = .ok (.getfield 22, 3) := dk_180 0 22 (dk_at dksX1_port_2 13 rfl rfl)
theorem dX1_port_63 : decode cX1_port 63 = .ok (.iload_n 1, 1) := dk_27 (dk_at dksX1_port_2 16 rfl rfl)
theorem dX1_port_64 : decode cX1_port 64 = .ok (.invokeinterface 61 2, 5) := by decide +kernel
theorem dX1_port_69 : decode cX1_port 69 = .ok (.checkcast 29, 3) := dk_192 0 29 (dk_at dksX1_port_3 0 rfl rfl)
theorem dX1_port_72 : decode cX1_port 72 = .ok (.aload_n 0, 1) := dk_42 (dk_at dksX1_port_3 3 rfl rfl)
theorem dX1_port_73 : decode cX1_port 73 = .ok (.getfield 80, 3) := dk_180 0 80 (dk_at dksX1_port_3 4 rfl rfl)
theorem dX1_port_76 : decode cX1_port 76 = .ok (.iload_n 3, 1) := dk_29 (dk_at dksX1_port_3 7 rfl rfl)
theorem dX1_port_77 : decode cX1_port 77 = .ok (.isub, 1) := dk_100 (dk_at dksX1_port_3 8 rfl rfl)
theorem dX1_port_78 : decode cX1_port 78 = .ok (.iload_n 2, 1) := dk_28 (dk_at dksX1_port_3 9 rfl rfl)
theorem dX1_port_79 : decode cX1_port 79 = .ok (.invokevirtual 32, 3) := dk_182 0 32 (dk_at dksX1_port_3 10 rfl rfl)
theorem dX1_port_82 : decode cX1_port 82 = .ok (.aload_n 0, 1) := dk_42 (dk_at dksX1_port_3 13 rfl rfl)
theorem dX1_port_83 : decode cX1_port 83 = .ok (.dup, 1) := dk_89 (dk_at dksX1_port_3 14 rfl rfl)
theorem dX1_port_84 : decode cX1_port 84 = .ok (.getfield 223, 3) := dk_180 0 223 (dk_at dksX1_port_3 15 rfl rfl)
theorem dX1_port_87 : decode cX1_port 87 = .ok (.iconst 1, 1) := dk_4 (dk_at dksX1_port_3 18 rfl rfl)
theorem dX1_port_88 : decode cX1_port 88 = .ok (.iadd, 1) := dk_96 (dk_at dksX1_port_3 19 rfl rfl)
theorem dX1_port_89 : decode cX1_port 89 = .ok (.putfield 223, 3) := dk_181 0 223 (dk_at dksX1_port_3 20 rfl rfl)
theorem dX1_port_92 : decode cX1_port 92 = .ok (.iload 4, 2) := dk_21 4 (dk_at dksX1_port_4 0 rfl rfl)
theorem dX1_port_94 : decode cX1_port 94 = .ok (.ireturn, 1) := dk_172 (dk_at dksX1_port_4 2 rfl rfl)
abbrev cX1_incoming : ByteArray := prog_1_method_37_code
def yX1_incoming : MethodName := ⟨RX1, "incoming", "(II)I"⟩
def dkwX1_incoming_1 : List UInt8 := [182, 0, 235, 172]
abbrev dktX1_incoming_1 : List UInt8 := dkwX1_incoming_1 ++ []
def dkwX1_incoming_0 : List UInt8 := [27, 184, 0, 232, 28, 3, 17, 39, 15, 184, 0, 71, 42, 180, 0, 25, 27, 92, 46, 28, 96, 79, 42, 27]
abbrev dktX1_incoming_0 : List UInt8 := dkwX1_incoming_0 ++ dktX1_incoming_1
theorem dksX1_incoming_0 : cX1_incoming.data.toList.drop 0 = dktX1_incoming_0 := by decide +kernel
theorem dksX1_incoming_1 : cX1_incoming.data.toList.drop 24 = dktX1_incoming_1 := dk_seg dksX1_incoming_0 24 rfl rfl
theorem dX1_incoming_0 : decode cX1_incoming 0 = .ok (.iload_n 1, 1) := dk_27 (dk_at dksX1_incoming_0 0 rfl rfl)
theorem dX1_incoming_1 : decode cX1_incoming 1 = .ok (.invokestatic 232, 3) := dk_184 0 232 (dk_at dksX1_incoming_0 1 rfl rfl)
theorem dX1_incoming_4 : decode cX1_incoming 4 = .ok (.iload_n 2, 1) := dk_28 (dk_at dksX1_incoming_0 4 rfl rfl)
theorem dX1_incoming_5 : decode cX1_incoming 5 = .ok (.iconst 0, 1) := dk_3 (dk_at dksX1_incoming_0 5 rfl rfl)
theorem dX1_incoming_6 : decode cX1_incoming 6 = .ok (.sipush 9999, 3) := dk_17 39 15 (dk_at dksX1_incoming_0 6 rfl rfl)
theorem dX1_incoming_9 : decode cX1_incoming 9 = .ok (.invokestatic 71, 3) := dk_184 0 71 (dk_at dksX1_incoming_0 9 rfl rfl)
theorem dX1_incoming_12 : decode cX1_incoming 12 = .ok (.aload_n 0, 1) := dk_42 (dk_at dksX1_incoming_0 12 rfl rfl)
theorem dX1_incoming_13 : decode cX1_incoming 13 = .ok (.getfield 25, 3) := dk_180 0 25 (dk_at dksX1_incoming_0 13 rfl rfl)
theorem dX1_incoming_16 : decode cX1_incoming 16 = .ok (.iload_n 1, 1) := dk_27 (dk_at dksX1_incoming_0 16 rfl rfl)
theorem dX1_incoming_17 : decode cX1_incoming 17 = .ok (.dup2, 1) := dk_92 (dk_at dksX1_incoming_0 17 rfl rfl)
theorem dX1_incoming_18 : decode cX1_incoming 18 = .ok (.iaload, 1) := dk_46 (dk_at dksX1_incoming_0 18 rfl rfl)
theorem dX1_incoming_19 : decode cX1_incoming 19 = .ok (.iload_n 2, 1) := dk_28 (dk_at dksX1_incoming_0 19 rfl rfl)
theorem dX1_incoming_20 : decode cX1_incoming 20 = .ok (.iadd, 1) := dk_96 (dk_at dksX1_incoming_0 20 rfl rfl)
theorem dX1_incoming_21 : decode cX1_incoming 21 = .ok (.iastore, 1) := dk_79 (dk_at dksX1_incoming_0 21 rfl rfl)
theorem dX1_incoming_22 : decode cX1_incoming 22 = .ok (.aload_n 0, 1) := dk_42 (dk_at dksX1_incoming_0 22 rfl rfl)
theorem dX1_incoming_23 : decode cX1_incoming 23 = .ok (.iload_n 1, 1) := dk_27 (dk_at dksX1_incoming_0 23 rfl rfl)
theorem dX1_incoming_24 : decode cX1_incoming 24 = .ok (.invokevirtual 235, 3) := dk_182 0 235 (dk_at dksX1_incoming_1 0 rfl rfl)
theorem dX1_incoming_27 : decode cX1_incoming 27 = .ok (.ireturn, 1) := dk_172 (dk_at dksX1_incoming_1 3 rfl rfl)
abbrev cX1_checkOther : ByteArray := prog_1_method_36_code
def yX1_checkOther : MethodName := ⟨RX1, "checkOther", "(I)V"⟩
def dkwX1_checkOther_0 : List UInt8 := [26, 4, 100, 6, 184, 0, 58, 177]
abbrev dktX1_checkOther_0 : List UInt8 := dkwX1_checkOther_0 ++ []
theorem dksX1_checkOther_0 : cX1_checkOther.data.toList.drop 0 = dktX1_checkOther_0 := by decide +kernel
theorem dX1_checkOther_0 : decode cX1_checkOther 0 = .ok (.iload_n 0, 1) := dk_26 (dk_at dksX1_checkOther_0 0 rfl rfl)
theorem dX1_checkOther_1 : decode cX1_checkOther 1 = .ok (.iconst 1, 1) := dk_4 (dk_at dksX1_checkOther_0 1 rfl rfl)
theorem dX1_checkOther_2 : decode cX1_checkOther 2 = .ok (.isub, 1) := dk_100 (dk_at dksX1_checkOther_0 2 rfl rfl)
theorem dX1_checkOther_3 : decode cX1_checkOther 3 = .ok (.iconst 3, 1) := dk_6 (dk_at dksX1_checkOther_0 3 rfl rfl)
theorem dX1_checkOther_4 : decode cX1_checkOther 4 = .ok (.invokestatic 58, 3) := dk_184 0 58 (dk_at dksX1_checkOther_0 4 rfl rfl)
theorem dX1_checkOther_7 : decode cX1_checkOther 7 = .ok (.return_, 1) := dk_177 (dk_at dksX1_checkOther_0 7 rfl rfl)
abbrev cX1_ofDay : ByteArray := prog_1_method_39_code
def yX1_ofDay : MethodName := ⟨RX1, "ofDay", "(III)I"⟩
def dkwX1_ofDay_1 : List UInt8 := [187, 0, 78, 89, 42, 28, 2, 2, 183, 0, 84, 28, 29, 182, 0, 251, 172]
abbrev dktX1_ofDay_1 : List UInt8 := dkwX1_ofDay_1 ++ []
def dkwX1_ofDay_0 : List UInt8 := [42, 27, 182, 0, 120, 87, 28, 3, 42, 180, 0, 80, 184, 0, 71, 29, 3, 6, 184, 0, 71, 42, 27]
abbrev dktX1_ofDay_0 : List UInt8 := dkwX1_ofDay_0 ++ dktX1_ofDay_1
theorem dksX1_ofDay_0 : cX1_ofDay.data.toList.drop 0 = dktX1_ofDay_0 := by decide +kernel
theorem dksX1_ofDay_1 : cX1_ofDay.data.toList.drop 23 = dktX1_ofDay_1 := dk_seg dksX1_ofDay_0 23 rfl rfl
theorem dX1_ofDay_0 : decode cX1_ofDay 0 = .ok (.aload_n 0, 1) := dk_42 (dk_at dksX1_ofDay_0 0 rfl rfl)
theorem dX1_ofDay_1 : decode cX1_ofDay 1 = .ok (.iload_n 1, 1) := dk_27 (dk_at dksX1_ofDay_0 1 rfl rfl)
theorem dX1_ofDay_2 : decode cX1_ofDay 2 = .ok (.invokevirtual 120, 3) := dk_182 0 120 (dk_at dksX1_ofDay_0 2 rfl rfl)
theorem dX1_ofDay_5 : decode cX1_ofDay 5 = .ok (.pop, 1) := dk_87 (dk_at dksX1_ofDay_0 5 rfl rfl)
theorem dX1_ofDay_6 : decode cX1_ofDay 6 = .ok (.iload_n 2, 1) := dk_28 (dk_at dksX1_ofDay_0 6 rfl rfl)
theorem dX1_ofDay_7 : decode cX1_ofDay 7 = .ok (.iconst 0, 1) := dk_3 (dk_at dksX1_ofDay_0 7 rfl rfl)
theorem dX1_ofDay_8 : decode cX1_ofDay 8 = .ok (.aload_n 0, 1) := dk_42 (dk_at dksX1_ofDay_0 8 rfl rfl)
theorem dX1_ofDay_9 : decode cX1_ofDay 9 = .ok (.getfield 80, 3) := dk_180 0 80 (dk_at dksX1_ofDay_0 9 rfl rfl)
theorem dX1_ofDay_12 : decode cX1_ofDay 12 = .ok (.invokestatic 71, 3) := dk_184 0 71 (dk_at dksX1_ofDay_0 12 rfl rfl)
theorem dX1_ofDay_15 : decode cX1_ofDay 15 = .ok (.iload_n 3, 1) := dk_29 (dk_at dksX1_ofDay_0 15 rfl rfl)
theorem dX1_ofDay_16 : decode cX1_ofDay 16 = .ok (.iconst 0, 1) := dk_3 (dk_at dksX1_ofDay_0 16 rfl rfl)
theorem dX1_ofDay_17 : decode cX1_ofDay 17 = .ok (.iconst 3, 1) := dk_6 (dk_at dksX1_ofDay_0 17 rfl rfl)
theorem dX1_ofDay_18 : decode cX1_ofDay 18 = .ok (.invokestatic 71, 3) := dk_184 0 71 (dk_at dksX1_ofDay_0 18 rfl rfl)
theorem dX1_ofDay_21 : decode cX1_ofDay 21 = .ok (.aload_n 0, 1) := dk_42 (dk_at dksX1_ofDay_0 21 rfl rfl)
theorem dX1_ofDay_22 : decode cX1_ofDay 22 = .ok (.iload_n 1, 1) := dk_27 (dk_at dksX1_ofDay_0 22 rfl rfl)
theorem dX1_ofDay_23 : decode cX1_ofDay 23 = .ok (.new 78, 3) := dk_187 0 78 (dk_at dksX1_ofDay_1 0 rfl rfl)
theorem dX1_ofDay_26 : decode cX1_ofDay 26 = .ok (.dup, 1) := dk_89 (dk_at dksX1_ofDay_1 3 rfl rfl)
theorem dX1_ofDay_27 : decode cX1_ofDay 27 = .ok (.aload_n 0, 1) := dk_42 (dk_at dksX1_ofDay_1 4 rfl rfl)
theorem dX1_ofDay_28 : decode cX1_ofDay 28 = .ok (.iload_n 2, 1) := dk_28 (dk_at dksX1_ofDay_1 5 rfl rfl)
theorem dX1_ofDay_29 : decode cX1_ofDay 29 = .ok (.iconst (-1), 1) := dk_2 (dk_at dksX1_ofDay_1 6 rfl rfl)
theorem dX1_ofDay_30 : decode cX1_ofDay 30 = .ok (.iconst (-1), 1) := dk_2 (dk_at dksX1_ofDay_1 7 rfl rfl)
theorem dX1_ofDay_31 : decode cX1_ofDay 31 = .ok (.invokespecial 84, 3) := dk_183 0 84 (dk_at dksX1_ofDay_1 8 rfl rfl)
theorem dX1_ofDay_34 : decode cX1_ofDay 34 = .ok (.iload_n 2, 1) := dk_28 (dk_at dksX1_ofDay_1 11 rfl rfl)
theorem dX1_ofDay_35 : decode cX1_ofDay 35 = .ok (.iload_n 3, 1) := dk_29 (dk_at dksX1_ofDay_1 12 rfl rfl)
theorem dX1_ofDay_36 : decode cX1_ofDay 36 = .ok (.invokevirtual 251, 3) := dk_182 0 251 (dk_at dksX1_ofDay_1 13 rfl rfl)
theorem dX1_ofDay_39 : decode cX1_ofDay 39 = .ok (.ireturn, 1) := dk_172 (dk_at dksX1_ofDay_1 16 rfl rfl)
abbrev cX1_ofCycle : ByteArray := prog_1_method_42_code
def yX1_ofCycle : MethodName := ⟨RX1, "ofCycle", "(III)I"⟩
def dkwX1_ofCycle_1 : List UInt8 := [27, 28, 29, 184, 1, 30, 172]
abbrev dktX1_ofCycle_1 : List UInt8 := dkwX1_ofCycle_1 ++ []
def dkwX1_ofCycle_0 : List UInt8 := [42, 27, 182, 0, 120, 87, 28, 3, 16, 11, 184, 0, 71, 29, 3, 16, 7, 184, 0, 71, 42, 182, 0, 200]
abbrev dktX1_ofCycle_0 : List UInt8 := dkwX1_ofCycle_0 ++ dktX1_ofCycle_1
theorem dksX1_ofCycle_0 : cX1_ofCycle.data.toList.drop 0 = dktX1_ofCycle_0 := by decide +kernel
theorem dksX1_ofCycle_1 : cX1_ofCycle.data.toList.drop 24 = dktX1_ofCycle_1 := dk_seg dksX1_ofCycle_0 24 rfl rfl
theorem dX1_ofCycle_0 : decode cX1_ofCycle 0 = .ok (.aload_n 0, 1) := dk_42 (dk_at dksX1_ofCycle_0 0 rfl rfl)
theorem dX1_ofCycle_1 : decode cX1_ofCycle 1 = .ok (.iload_n 1, 1) := dk_27 (dk_at dksX1_ofCycle_0 1 rfl rfl)
theorem dX1_ofCycle_2 : decode cX1_ofCycle 2 = .ok (.invokevirtual 120, 3) := dk_182 0 120 (dk_at dksX1_ofCycle_0 2 rfl rfl)
theorem dX1_ofCycle_5 : decode cX1_ofCycle 5 = .ok (.pop, 1) := dk_87 (dk_at dksX1_ofCycle_0 5 rfl rfl)
theorem dX1_ofCycle_6 : decode cX1_ofCycle 6 = .ok (.iload_n 2, 1) := dk_28 (dk_at dksX1_ofCycle_0 6 rfl rfl)
theorem dX1_ofCycle_7 : decode cX1_ofCycle 7 = .ok (.iconst 0, 1) := dk_3 (dk_at dksX1_ofCycle_0 7 rfl rfl)
theorem dX1_ofCycle_8 : decode cX1_ofCycle 8 = .ok (.bipush 11, 2) := dk_16 11 (dk_at dksX1_ofCycle_0 8 rfl rfl)
theorem dX1_ofCycle_10 : decode cX1_ofCycle 10 = .ok (.invokestatic 71, 3) := dk_184 0 71 (dk_at dksX1_ofCycle_0 10 rfl rfl)
theorem dX1_ofCycle_13 : decode cX1_ofCycle 13 = .ok (.iload_n 3, 1) := dk_29 (dk_at dksX1_ofCycle_0 13 rfl rfl)
theorem dX1_ofCycle_14 : decode cX1_ofCycle 14 = .ok (.iconst 0, 1) := dk_3 (dk_at dksX1_ofCycle_0 14 rfl rfl)
theorem dX1_ofCycle_15 : decode cX1_ofCycle 15 = .ok (.bipush 7, 2) := dk_16 7 (dk_at dksX1_ofCycle_0 15 rfl rfl)
theorem dX1_ofCycle_17 : decode cX1_ofCycle 17 = .ok (.invokestatic 71, 3) := dk_184 0 71 (dk_at dksX1_ofCycle_0 17 rfl rfl)
theorem dX1_ofCycle_20 : decode cX1_ofCycle 20 = .ok (.aload_n 0, 1) := dk_42 (dk_at dksX1_ofCycle_0 20 rfl rfl)
theorem dX1_ofCycle_21 : decode cX1_ofCycle 21 = .ok (.invokevirtual 200, 3) := dk_182 0 200 (dk_at dksX1_ofCycle_0 21 rfl rfl)
theorem dX1_ofCycle_24 : decode cX1_ofCycle 24 = .ok (.iload_n 1, 1) := dk_27 (dk_at dksX1_ofCycle_1 0 rfl rfl)
theorem dX1_ofCycle_25 : decode cX1_ofCycle 25 = .ok (.iload_n 2, 1) := dk_28 (dk_at dksX1_ofCycle_1 1 rfl rfl)
theorem dX1_ofCycle_26 : decode cX1_ofCycle 26 = .ok (.iload_n 3, 1) := dk_29 (dk_at dksX1_ofCycle_1 2 rfl rfl)
theorem dX1_ofCycle_27 : decode cX1_ofCycle 27 = .ok (.invokestatic 286, 3) := dk_184 1 30 (dk_at dksX1_ofCycle_1 3 rfl rfl)
theorem dX1_ofCycle_30 : decode cX1_ofCycle 30 = .ok (.ireturn, 1) := dk_172 (dk_at dksX1_ofCycle_1 6 rfl rfl)
abbrev cX1_ofTicket : ByteArray := prog_1_method_47_code
def yX1_ofTicket : MethodName := ⟨RX1, "ofTicket", "(II)I"⟩
def dkwX1_ofTicket_0 : List UInt8 := [42, 27, 182, 0, 192, 87, 28, 3, 16, 10, 184, 0, 71, 42, 27, 42, 182, 0, 200, 28, 182, 1, 70, 172]
abbrev dktX1_ofTicket_0 : List UInt8 := dkwX1_ofTicket_0 ++ []
theorem dksX1_ofTicket_0 : cX1_ofTicket.data.toList.drop 0 = dktX1_ofTicket_0 := by decide +kernel
theorem dX1_ofTicket_0 : decode cX1_ofTicket 0 = .ok (.aload_n 0, 1) := dk_42 (dk_at dksX1_ofTicket_0 0 rfl rfl)
theorem dX1_ofTicket_1 : decode cX1_ofTicket 1 = .ok (.iload_n 1, 1) := dk_27 (dk_at dksX1_ofTicket_0 1 rfl rfl)
theorem dX1_ofTicket_2 : decode cX1_ofTicket 2 = .ok (.invokevirtual 192, 3) := dk_182 0 192 (dk_at dksX1_ofTicket_0 2 rfl rfl)
theorem dX1_ofTicket_5 : decode cX1_ofTicket 5 = .ok (.pop, 1) := dk_87 (dk_at dksX1_ofTicket_0 5 rfl rfl)
theorem dX1_ofTicket_6 : decode cX1_ofTicket 6 = .ok (.iload_n 2, 1) := dk_28 (dk_at dksX1_ofTicket_0 6 rfl rfl)
theorem dX1_ofTicket_7 : decode cX1_ofTicket 7 = .ok (.iconst 0, 1) := dk_3 (dk_at dksX1_ofTicket_0 7 rfl rfl)
theorem dX1_ofTicket_8 : decode cX1_ofTicket 8 = .ok (.bipush 10, 2) := dk_16 10 (dk_at dksX1_ofTicket_0 8 rfl rfl)
theorem dX1_ofTicket_10 : decode cX1_ofTicket 10 = .ok (.invokestatic 71, 3) := dk_184 0 71 (dk_at dksX1_ofTicket_0 10 rfl rfl)
theorem dX1_ofTicket_13 : decode cX1_ofTicket 13 = .ok (.aload_n 0, 1) := dk_42 (dk_at dksX1_ofTicket_0 13 rfl rfl)
theorem dX1_ofTicket_14 : decode cX1_ofTicket 14 = .ok (.iload_n 1, 1) := dk_27 (dk_at dksX1_ofTicket_0 14 rfl rfl)
theorem dX1_ofTicket_15 : decode cX1_ofTicket 15 = .ok (.aload_n 0, 1) := dk_42 (dk_at dksX1_ofTicket_0 15 rfl rfl)
theorem dX1_ofTicket_16 : decode cX1_ofTicket 16 = .ok (.invokevirtual 200, 3) := dk_182 0 200 (dk_at dksX1_ofTicket_0 16 rfl rfl)
theorem dX1_ofTicket_19 : decode cX1_ofTicket 19 = .ok (.iload_n 2, 1) := dk_28 (dk_at dksX1_ofTicket_0 19 rfl rfl)
theorem dX1_ofTicket_20 : decode cX1_ofTicket 20 = .ok (.invokevirtual 326, 3) := dk_182 1 70 (dk_at dksX1_ofTicket_0 20 rfl rfl)
theorem dX1_ofTicket_23 : decode cX1_ofTicket 23 = .ok (.ireturn, 1) := dk_172 (dk_at dksX1_ofTicket_0 23 rfl rfl)
abbrev cX1_carrier : ByteArray := prog_1_method_48_code
def yX1_carrier : MethodName := ⟨RX1, "carrier", "(II)I"⟩
def dkwX1_carrier_1 : List UInt8 := [185, 0, 61, 2, 0, 192, 0, 29, 28, 182, 0, 127, 172]
abbrev dktX1_carrier_1 : List UInt8 := dkwX1_carrier_1 ++ []
def dkwX1_carrier_0 : List UInt8 := [27, 16, 16, 184, 0, 58, 28, 3, 42, 180, 0, 80, 184, 0, 71, 42, 180, 0, 22, 27]
abbrev dktX1_carrier_0 : List UInt8 := dkwX1_carrier_0 ++ dktX1_carrier_1
theorem dksX1_carrier_0 : cX1_carrier.data.toList.drop 0 = dktX1_carrier_0 := by decide +kernel
theorem dksX1_carrier_1 : cX1_carrier.data.toList.drop 20 = dktX1_carrier_1 := dk_seg dksX1_carrier_0 20 rfl rfl
theorem dX1_carrier_0 : decode cX1_carrier 0 = .ok (.iload_n 1, 1) := dk_27 (dk_at dksX1_carrier_0 0 rfl rfl)
theorem dX1_carrier_1 : decode cX1_carrier 1 = .ok (.bipush 16, 2) := dk_16 16 (dk_at dksX1_carrier_0 1 rfl rfl)
theorem dX1_carrier_3 : decode cX1_carrier 3 = .ok (.invokestatic 58, 3) := dk_184 0 58 (dk_at dksX1_carrier_0 3 rfl rfl)
theorem dX1_carrier_6 : decode cX1_carrier 6 = .ok (.iload_n 2, 1) := dk_28 (dk_at dksX1_carrier_0 6 rfl rfl)
theorem dX1_carrier_7 : decode cX1_carrier 7 = .ok (.iconst 0, 1) := dk_3 (dk_at dksX1_carrier_0 7 rfl rfl)
theorem dX1_carrier_8 : decode cX1_carrier 8 = .ok (.aload_n 0, 1) := dk_42 (dk_at dksX1_carrier_0 8 rfl rfl)
theorem dX1_carrier_9 : decode cX1_carrier 9 = .ok (.getfield 80, 3) := dk_180 0 80 (dk_at dksX1_carrier_0 9 rfl rfl)
theorem dX1_carrier_12 : decode cX1_carrier 12 = .ok (.invokestatic 71, 3) := dk_184 0 71 (dk_at dksX1_carrier_0 12 rfl rfl)
theorem dX1_carrier_15 : decode cX1_carrier 15 = .ok (.aload_n 0, 1) := dk_42 (dk_at dksX1_carrier_0 15 rfl rfl)
theorem dX1_carrier_16 : decode cX1_carrier 16 = .ok (.getfield 22, 3) := dk_180 0 22 (dk_at dksX1_carrier_0 16 rfl rfl)
theorem dX1_carrier_19 : decode cX1_carrier 19 = .ok (.iload_n 1, 1) := dk_27 (dk_at dksX1_carrier_0 19 rfl rfl)
theorem dX1_carrier_20 : decode cX1_carrier 20 = .ok (.invokeinterface 61 2, 5) := by decide +kernel
theorem dX1_carrier_25 : decode cX1_carrier 25 = .ok (.checkcast 29, 3) := dk_192 0 29 (dk_at dksX1_carrier_1 5 rfl rfl)
theorem dX1_carrier_28 : decode cX1_carrier 28 = .ok (.iload_n 2, 1) := dk_28 (dk_at dksX1_carrier_1 8 rfl rfl)
theorem dX1_carrier_29 : decode cX1_carrier 29 = .ok (.invokevirtual 127, 3) := dk_182 0 127 (dk_at dksX1_carrier_1 9 rfl rfl)
theorem dX1_carrier_32 : decode cX1_carrier 32 = .ok (.ireturn, 1) := dk_172 (dk_at dksX1_carrier_1 12 rfl rfl)
abbrev cX1_settlement : ByteArray := prog_1_method_49_code
def yX1_settlement : MethodName := ⟨RX1, "settlement", "(I)I"⟩
def dkwX1_settlement_0 : List UInt8 := [27, 184, 0, 232, 42, 27, 182, 0, 235, 172]
abbrev dktX1_settlement_0 : List UInt8 := dkwX1_settlement_0 ++ []
theorem dksX1_settlement_0 : cX1_settlement.data.toList.drop 0 = dktX1_settlement_0 := by decide +kernel
theorem dX1_settlement_0 : decode cX1_settlement 0 = .ok (.iload_n 1, 1) := dk_27 (dk_at dksX1_settlement_0 0 rfl rfl)
theorem dX1_settlement_1 : decode cX1_settlement 1 = .ok (.invokestatic 232, 3) := dk_184 0 232 (dk_at dksX1_settlement_0 1 rfl rfl)
theorem dX1_settlement_4 : decode cX1_settlement 4 = .ok (.aload_n 0, 1) := dk_42 (dk_at dksX1_settlement_0 4 rfl rfl)
theorem dX1_settlement_5 : decode cX1_settlement 5 = .ok (.iload_n 1, 1) := dk_27 (dk_at dksX1_settlement_0 5 rfl rfl)
theorem dX1_settlement_6 : decode cX1_settlement 6 = .ok (.invokevirtual 235, 3) := dk_182 0 235 (dk_at dksX1_settlement_0 6 rfl rfl)
theorem dX1_settlement_9 : decode cX1_settlement 9 = .ok (.ireturn, 1) := dk_172 (dk_at dksX1_settlement_0 9 rfl rfl)
abbrev cX1_suspect : ByteArray := prog_1_method_55_code
def yX1_suspect : MethodName := ⟨RX1, "suspect", "(I)I"⟩
def dkwX1_suspect_0 : List UInt8 := [42, 27, 182, 0, 120, 87, 42, 27, 182, 1, 88, 172]
abbrev dktX1_suspect_0 : List UInt8 := dkwX1_suspect_0 ++ []
theorem dksX1_suspect_0 : cX1_suspect.data.toList.drop 0 = dktX1_suspect_0 := by decide +kernel
theorem dX1_suspect_0 : decode cX1_suspect 0 = .ok (.aload_n 0, 1) := dk_42 (dk_at dksX1_suspect_0 0 rfl rfl)
theorem dX1_suspect_1 : decode cX1_suspect 1 = .ok (.iload_n 1, 1) := dk_27 (dk_at dksX1_suspect_0 1 rfl rfl)
theorem dX1_suspect_2 : decode cX1_suspect 2 = .ok (.invokevirtual 120, 3) := dk_182 0 120 (dk_at dksX1_suspect_0 2 rfl rfl)
theorem dX1_suspect_5 : decode cX1_suspect 5 = .ok (.pop, 1) := dk_87 (dk_at dksX1_suspect_0 5 rfl rfl)
theorem dX1_suspect_6 : decode cX1_suspect 6 = .ok (.aload_n 0, 1) := dk_42 (dk_at dksX1_suspect_0 6 rfl rfl)
theorem dX1_suspect_7 : decode cX1_suspect 7 = .ok (.iload_n 1, 1) := dk_27 (dk_at dksX1_suspect_0 7 rfl rfl)
theorem dX1_suspect_8 : decode cX1_suspect 8 = .ok (.invokevirtual 344, 3) := dk_182 1 88 (dk_at dksX1_suspect_0 8 rfl rfl)
theorem dX1_suspect_11 : decode cX1_suspect 11 = .ok (.ireturn, 1) := dk_172 (dk_at dksX1_suspect_0 11 rfl rfl)
abbrev cX1_house : ByteArray := prog_1_method_60_code
def yX1_house : MethodName := ⟨RX1, "house", "(I)I"⟩
def dkwX1_house_0 : List UInt8 := [27, 3, 16, 9, 184, 0, 71, 42, 27, 182, 1, 100, 172]
abbrev dktX1_house_0 : List UInt8 := dkwX1_house_0 ++ []
theorem dksX1_house_0 : cX1_house.data.toList.drop 0 = dktX1_house_0 := by decide +kernel
theorem dX1_house_0 : decode cX1_house 0 = .ok (.iload_n 1, 1) := dk_27 (dk_at dksX1_house_0 0 rfl rfl)
theorem dX1_house_1 : decode cX1_house 1 = .ok (.iconst 0, 1) := dk_3 (dk_at dksX1_house_0 1 rfl rfl)
theorem dX1_house_2 : decode cX1_house 2 = .ok (.bipush 9, 2) := dk_16 9 (dk_at dksX1_house_0 2 rfl rfl)
theorem dX1_house_4 : decode cX1_house 4 = .ok (.invokestatic 71, 3) := dk_184 0 71 (dk_at dksX1_house_0 4 rfl rfl)
theorem dX1_house_7 : decode cX1_house 7 = .ok (.aload_n 0, 1) := dk_42 (dk_at dksX1_house_0 7 rfl rfl)
theorem dX1_house_8 : decode cX1_house 8 = .ok (.iload_n 1, 1) := dk_27 (dk_at dksX1_house_0 8 rfl rfl)
theorem dX1_house_9 : decode cX1_house 9 = .ok (.invokevirtual 356, 3) := dk_182 1 100 (dk_at dksX1_house_0 9 rfl rfl)
theorem dX1_house_12 : decode cX1_house 12 = .ok (.ireturn, 1) := dk_172 (dk_at dksX1_house_0 12 rfl rfl)
abbrev cX1_line : ByteArray := prog_1_method_62_code
def yX1_line : MethodName := ⟨RX1, "line", "(I)Ljava/lang/String;"⟩
def dkwX1_line_5 : List UInt8 := [182, 1, 116, 182, 1, 120, 176]
abbrev dktX1_line_5 : List UInt8 := dkwX1_line_5 ++ []
def dkwX1_line_4 : List UInt8 := [182, 1, 116, 87, 25, 4, 44, 180, 0, 217, 153, 0, 9, 19, 1, 146, 167, 0, 6, 19, 1, 124]
abbrev dktX1_line_4 : List UInt8 := dkwX1_line_4 ++ dktX1_line_5
def dkwX1_line_3 : List UInt8 := [182, 1, 116, 42, 44, 42, 182, 0, 200, 180, 1, 60, 27, 185, 0, 61, 2, 0, 192, 1, 51, 182, 1, 142]
abbrev dktX1_line_3 : List UInt8 := dkwX1_line_3 ++ dktX1_line_4
def dkwX1_line_2 : List UInt8 := [58, 4, 25, 4, 27, 182, 1, 110, 19, 1, 138, 182, 1, 116, 44, 180, 0, 207, 182, 1, 110, 19, 1, 140]
abbrev dktX1_line_2 : List UInt8 := dkwX1_line_2 ++ dktX1_line_3
def dkwX1_line_1 : List UInt8 := [178, 0, 186, 166, 0, 9, 19, 1, 131, 167, 0, 6, 19, 1, 133, 78, 187, 1, 107, 89, 45, 183, 1, 135]
abbrev dktX1_line_1 : List UInt8 := dkwX1_line_1 ++ dktX1_line_2
def dkwX1_line_0 : List UInt8 := [42, 27, 182, 0, 192, 77, 44, 182, 1, 126, 153, 0, 9, 19, 1, 129, 167, 0, 22, 44, 180, 1, 38]
abbrev dktX1_line_0 : List UInt8 := dkwX1_line_0 ++ dktX1_line_1
theorem dksX1_line_0 : cX1_line.data.toList.drop 0 = dktX1_line_0 := by decide +kernel
theorem dksX1_line_1 : cX1_line.data.toList.drop 23 = dktX1_line_1 := dk_seg dksX1_line_0 23 rfl rfl
theorem dksX1_line_2 : cX1_line.data.toList.drop 47 = dktX1_line_2 := dk_seg dksX1_line_1 24 rfl rfl
theorem dksX1_line_3 : cX1_line.data.toList.drop 71 = dktX1_line_3 := dk_seg dksX1_line_2 24 rfl rfl
theorem dksX1_line_4 : cX1_line.data.toList.drop 95 = dktX1_line_4 := dk_seg dksX1_line_3 24 rfl rfl
theorem dksX1_line_5 : cX1_line.data.toList.drop 117 = dktX1_line_5 := dk_seg dksX1_line_4 22 rfl rfl
theorem dX1_line_0 : decode cX1_line 0 = .ok (.aload_n 0, 1) := dk_42 (dk_at dksX1_line_0 0 rfl rfl)
theorem dX1_line_1 : decode cX1_line 1 = .ok (.iload_n 1, 1) := dk_27 (dk_at dksX1_line_0 1 rfl rfl)
theorem dX1_line_2 : decode cX1_line 2 = .ok (.invokevirtual 192, 3) := dk_182 0 192 (dk_at dksX1_line_0 2 rfl rfl)
theorem dX1_line_5 : decode cX1_line 5 = .ok (.astore_n 2, 1) := dk_77 (dk_at dksX1_line_0 5 rfl rfl)
theorem dX1_line_6 : decode cX1_line 6 = .ok (.aload_n 2, 1) := dk_44 (dk_at dksX1_line_0 6 rfl rfl)
theorem dX1_line_7 : decode cX1_line 7 = .ok (.invokevirtual 382, 3) := dk_182 1 126 (dk_at dksX1_line_0 7 rfl rfl)
theorem dX1_line_10 : decode cX1_line 10 = .ok (.ifCond .eq 9, 3) := dk_153 0 9 (dk_at dksX1_line_0 10 rfl rfl)
theorem dX1_line_13 : decode cX1_line 13 = .ok (.ldc_w 385, 3) := dk_19 1 129 (dk_at dksX1_line_0 13 rfl rfl)
theorem dX1_line_16 : decode cX1_line 16 = .ok (.goto 22, 3) := dk_167 0 22 (dk_at dksX1_line_0 16 rfl rfl)
theorem dX1_line_19 : decode cX1_line 19 = .ok (.aload_n 2, 1) := dk_44 (dk_at dksX1_line_0 19 rfl rfl)
theorem dX1_line_20 : decode cX1_line 20 = .ok (.getfield 294, 3) := dk_180 1 38 (dk_at dksX1_line_0 20 rfl rfl)
theorem dX1_line_23 : decode cX1_line 23 = .ok (.getstatic 186, 3) := dk_178 0 186 (dk_at dksX1_line_1 0 rfl rfl)
theorem dX1_line_26 : decode cX1_line 26 = .ok (.if_acmp .ne 9, 3) := dk_166 0 9 (dk_at dksX1_line_1 3 rfl rfl)
theorem dX1_line_29 : decode cX1_line 29 = .ok (.ldc_w 387, 3) := dk_19 1 131 (dk_at dksX1_line_1 6 rfl rfl)
theorem dX1_line_32 : decode cX1_line 32 = .ok (.goto 6, 3) := dk_167 0 6 (dk_at dksX1_line_1 9 rfl rfl)
theorem dX1_line_35 : decode cX1_line 35 = .ok (.ldc_w 389, 3) := dk_19 1 133 (dk_at dksX1_line_1 12 rfl rfl)
theorem dX1_line_38 : decode cX1_line 38 = .ok (.astore_n 3, 1) := dk_78 (dk_at dksX1_line_1 15 rfl rfl)
theorem dX1_line_39 : decode cX1_line 39 = .ok (.new 363, 3) := dk_187 1 107 (dk_at dksX1_line_1 16 rfl rfl)
theorem dX1_line_42 : decode cX1_line 42 = .ok (.dup, 1) := dk_89 (dk_at dksX1_line_1 19 rfl rfl)
theorem dX1_line_43 : decode cX1_line 43 = .ok (.aload_n 3, 1) := dk_45 (dk_at dksX1_line_1 20 rfl rfl)
theorem dX1_line_44 : decode cX1_line 44 = .ok (.invokespecial 391, 3) := dk_183 1 135 (dk_at dksX1_line_1 21 rfl rfl)
theorem dX1_line_47 : decode cX1_line 47 = .ok (.astore 4, 2) := dk_58 4 (dk_at dksX1_line_2 0 rfl rfl)
theorem dX1_line_49 : decode cX1_line 49 = .ok (.aload 4, 2) := dk_25 4 (dk_at dksX1_line_2 2 rfl rfl)
theorem dX1_line_51 : decode cX1_line 51 = .ok (.iload_n 1, 1) := dk_27 (dk_at dksX1_line_2 4 rfl rfl)
theorem dX1_line_52 : decode cX1_line 52 = .ok (.invokevirtual 366, 3) := dk_182 1 110 (dk_at dksX1_line_2 5 rfl rfl)
theorem dX1_line_55 : decode cX1_line 55 = .ok (.ldc_w 394, 3) := dk_19 1 138 (dk_at dksX1_line_2 8 rfl rfl)
theorem dX1_line_58 : decode cX1_line 58 = .ok (.invokevirtual 372, 3) := dk_182 1 116 (dk_at dksX1_line_2 11 rfl rfl)
theorem dX1_line_61 : decode cX1_line 61 = .ok (.aload_n 2, 1) := dk_44 (dk_at dksX1_line_2 14 rfl rfl)
theorem dX1_line_62 : decode cX1_line 62 = .ok (.getfield 207, 3) := dk_180 0 207 (dk_at dksX1_line_2 15 rfl rfl)
theorem dX1_line_65 : decode cX1_line 65 = .ok (.invokevirtual 366, 3) := dk_182 1 110 (dk_at dksX1_line_2 18 rfl rfl)
theorem dX1_line_68 : decode cX1_line 68 = .ok (.ldc_w 396, 3) := dk_19 1 140 (dk_at dksX1_line_2 21 rfl rfl)
theorem dX1_line_71 : decode cX1_line 71 = .ok (.invokevirtual 372, 3) := dk_182 1 116 (dk_at dksX1_line_3 0 rfl rfl)
theorem dX1_line_74 : decode cX1_line 74 = .ok (.aload_n 0, 1) := dk_42 (dk_at dksX1_line_3 3 rfl rfl)
theorem dX1_line_75 : decode cX1_line 75 = .ok (.aload_n 2, 1) := dk_44 (dk_at dksX1_line_3 4 rfl rfl)
theorem dX1_line_76 : decode cX1_line 76 = .ok (.aload_n 0, 1) := dk_42 (dk_at dksX1_line_3 5 rfl rfl)
theorem dX1_line_77 : decode cX1_line 77 = .ok (.invokevirtual 200, 3) := dk_182 0 200 (dk_at dksX1_line_3 6 rfl rfl)
theorem dX1_line_80 : decode cX1_line 80 = .ok (.getfield 316, 3) := dk_180 1 60 (dk_at dksX1_line_3 9 rfl rfl)
theorem dX1_line_83 : decode cX1_line 83 = .ok (.iload_n 1, 1) := dk_27 (dk_at dksX1_line_3 12 rfl rfl)
theorem dX1_line_84 : decode cX1_line 84 = .ok (.invokeinterface 61 2, 5) := by decide +kernel
theorem dX1_line_89 : decode cX1_line 89 = .ok (.checkcast 307, 3) := dk_192 1 51 (dk_at dksX1_line_3 18 rfl rfl)
theorem dX1_line_92 : decode cX1_line 92 = .ok (.invokevirtual 398, 3) := dk_182 1 142 (dk_at dksX1_line_3 21 rfl rfl)
theorem dX1_line_95 : decode cX1_line 95 = .ok (.invokevirtual 372, 3) := dk_182 1 116 (dk_at dksX1_line_4 0 rfl rfl)
theorem dX1_line_98 : decode cX1_line 98 = .ok (.pop, 1) := dk_87 (dk_at dksX1_line_4 3 rfl rfl)
theorem dX1_line_99 : decode cX1_line 99 = .ok (.aload 4, 2) := dk_25 4 (dk_at dksX1_line_4 4 rfl rfl)
theorem dX1_line_101 : decode cX1_line 101 = .ok (.aload_n 2, 1) := dk_44 (dk_at dksX1_line_4 6 rfl rfl)
theorem dX1_line_102 : decode cX1_line 102 = .ok (.getfield 217, 3) := dk_180 0 217 (dk_at dksX1_line_4 7 rfl rfl)
theorem dX1_line_105 : decode cX1_line 105 = .ok (.ifCond .eq 9, 3) := dk_153 0 9 (dk_at dksX1_line_4 10 rfl rfl)
theorem dX1_line_108 : decode cX1_line 108 = .ok (.ldc_w 402, 3) := dk_19 1 146 (dk_at dksX1_line_4 13 rfl rfl)
theorem dX1_line_111 : decode cX1_line 111 = .ok (.goto 6, 3) := dk_167 0 6 (dk_at dksX1_line_4 16 rfl rfl)
theorem dX1_line_114 : decode cX1_line 114 = .ok (.ldc_w 380, 3) := dk_19 1 124 (dk_at dksX1_line_4 19 rfl rfl)
theorem dX1_line_117 : decode cX1_line 117 = .ok (.invokevirtual 372, 3) := dk_182 1 116 (dk_at dksX1_line_5 0 rfl rfl)
theorem dX1_line_120 : decode cX1_line 120 = .ok (.invokevirtual 376, 3) := dk_182 1 120 (dk_at dksX1_line_5 3 rfl rfl)
theorem dX1_line_123 : decode cX1_line 123 = .ok (.areturn, 1) := dk_176 (dk_at dksX1_line_5 6 rfl rfl)
abbrev cX1_told : ByteArray := prog_1_method_61_code
def yX1_told : MethodName := ⟨RX1, "told", "(LRollover$Ticket;LRollover$Line;)Ljava/lang/String;"⟩
def dkwX1_told_6 : List UInt8 := [180, 0, 217, 153, 0, 7, 3, 167, 0, 7, 43, 180, 0, 214, 182, 1, 110, 182, 1, 120, 176]
abbrev dktX1_told_6 : List UInt8 := dkwX1_told_6 ++ []
def dkwX1_told_5 : List UInt8 := [180, 1, 55, 182, 1, 110, 182, 1, 120, 176, 187, 1, 107, 89, 183, 1, 109, 19, 1, 124, 182, 1, 116, 43]
abbrev dktX1_told_5 : List UInt8 := dkwX1_told_5 ++ dktX1_told_6
def dkwX1_told_4 : List UInt8 := [180, 1, 119, 182, 1, 110, 182, 1, 120, 176, 187, 1, 107, 89, 183, 1, 109, 19, 1, 124, 182, 1, 116, 44]
abbrev dktX1_told_4 : List UInt8 := dkwX1_told_4 ++ dktX1_told_5
def dkwX1_told_3 : List UInt8 := [182, 1, 110, 19, 1, 114, 182, 1, 116, 44, 180, 1, 56, 182, 1, 110, 19, 1, 114, 182, 1, 116, 44]
abbrev dktX1_told_3 : List UInt8 := dkwX1_told_3 ++ dktX1_told_4
def dkwX1_told_2 : List UInt8 := [44, 180, 1, 103, 153, 0, 9, 19, 1, 106, 167, 0, 46, 187, 1, 107, 89, 183, 1, 109, 44, 180, 1, 55]
abbrev dktX1_told_2 : List UInt8 := dkwX1_told_2 ++ dktX1_told_3
def dkwX1_told_1 : List UInt8 := [171, 0, 0, 0, 106, 0, 0, 0, 2, 0, 0, 0, 0, 0, 0, 0, 25, 0, 0, 0, 1, 0, 0, 0, 82]
abbrev dktX1_told_1 : List UInt8 := dkwX1_told_1 ++ dktX1_told_2
def dkwX1_told_0 : List UInt8 := [43, 180, 1, 38, 182, 1, 41]
abbrev dktX1_told_0 : List UInt8 := dkwX1_told_0 ++ dktX1_told_1
theorem dksX1_told_0 : cX1_told.data.toList.drop 0 = dktX1_told_0 := by decide +kernel
theorem dksX1_told_1 : cX1_told.data.toList.drop 7 = dktX1_told_1 := dk_seg dksX1_told_0 7 rfl rfl
theorem dksX1_told_2 : cX1_told.data.toList.drop 32 = dktX1_told_2 := dk_seg dksX1_told_1 25 rfl rfl
theorem dksX1_told_3 : cX1_told.data.toList.drop 56 = dktX1_told_3 := dk_seg dksX1_told_2 24 rfl rfl
theorem dksX1_told_4 : cX1_told.data.toList.drop 79 = dktX1_told_4 := dk_seg dksX1_told_3 23 rfl rfl
theorem dksX1_told_5 : cX1_told.data.toList.drop 103 = dktX1_told_5 := dk_seg dksX1_told_4 24 rfl rfl
theorem dksX1_told_6 : cX1_told.data.toList.drop 127 = dktX1_told_6 := dk_seg dksX1_told_5 24 rfl rfl
theorem dX1_told_0 : decode cX1_told 0 = .ok (.aload_n 1, 1) := dk_43 (dk_at dksX1_told_0 0 rfl rfl)
theorem dX1_told_1 : decode cX1_told 1 = .ok (.getfield 294, 3) := dk_180 1 38 (dk_at dksX1_told_0 1 rfl rfl)
theorem dX1_told_4 : decode cX1_told 4 = .ok (.invokevirtual 297, 3) := dk_182 1 41 (dk_at dksX1_told_0 4 rfl rfl)
theorem dX1_told_7 : decode cX1_told 7 = .ok (.lookupswitch 106 #[(0, 25), (1, 82)], 25) := by decide +kernel
theorem dX1_told_32 : decode cX1_told 32 = .ok (.aload_n 2, 1) := dk_44 (dk_at dksX1_told_2 0 rfl rfl)
theorem dX1_told_33 : decode cX1_told 33 = .ok (.getfield 359, 3) := dk_180 1 103 (dk_at dksX1_told_2 1 rfl rfl)
theorem dX1_told_36 : decode cX1_told 36 = .ok (.ifCond .eq 9, 3) := dk_153 0 9 (dk_at dksX1_told_2 4 rfl rfl)
theorem dX1_told_39 : decode cX1_told 39 = .ok (.ldc_w 362, 3) := dk_19 1 106 (dk_at dksX1_told_2 7 rfl rfl)
theorem dX1_told_42 : decode cX1_told 42 = .ok (.goto 46, 3) := dk_167 0 46 (dk_at dksX1_told_2 10 rfl rfl)
theorem dX1_told_45 : decode cX1_told 45 = .ok (.new 363, 3) := dk_187 1 107 (dk_at dksX1_told_2 13 rfl rfl)
theorem dX1_told_48 : decode cX1_told 48 = .ok (.dup, 1) := dk_89 (dk_at dksX1_told_2 16 rfl rfl)
theorem dX1_told_49 : decode cX1_told 49 = .ok (.invokespecial 365, 3) := dk_183 1 109 (dk_at dksX1_told_2 17 rfl rfl)
theorem dX1_told_52 : decode cX1_told 52 = .ok (.aload_n 2, 1) := dk_44 (dk_at dksX1_told_2 20 rfl rfl)
theorem dX1_told_53 : decode cX1_told 53 = .ok (.getfield 311, 3) := dk_180 1 55 (dk_at dksX1_told_2 21 rfl rfl)
theorem dX1_told_56 : decode cX1_told 56 = .ok (.invokevirtual 366, 3) := dk_182 1 110 (dk_at dksX1_told_3 0 rfl rfl)
theorem dX1_told_59 : decode cX1_told 59 = .ok (.ldc_w 370, 3) := dk_19 1 114 (dk_at dksX1_told_3 3 rfl rfl)
theorem dX1_told_62 : decode cX1_told 62 = .ok (.invokevirtual 372, 3) := dk_182 1 116 (dk_at dksX1_told_3 6 rfl rfl)
theorem dX1_told_65 : decode cX1_told 65 = .ok (.aload_n 2, 1) := dk_44 (dk_at dksX1_told_3 9 rfl rfl)
theorem dX1_told_66 : decode cX1_told 66 = .ok (.getfield 312, 3) := dk_180 1 56 (dk_at dksX1_told_3 10 rfl rfl)
theorem dX1_told_69 : decode cX1_told 69 = .ok (.invokevirtual 366, 3) := dk_182 1 110 (dk_at dksX1_told_3 13 rfl rfl)
theorem dX1_told_72 : decode cX1_told 72 = .ok (.ldc_w 370, 3) := dk_19 1 114 (dk_at dksX1_told_3 16 rfl rfl)
theorem dX1_told_75 : decode cX1_told 75 = .ok (.invokevirtual 372, 3) := dk_182 1 116 (dk_at dksX1_told_3 19 rfl rfl)
theorem dX1_told_78 : decode cX1_told 78 = .ok (.aload_n 2, 1) := dk_44 (dk_at dksX1_told_3 22 rfl rfl)
theorem dX1_told_79 : decode cX1_told 79 = .ok (.getfield 375, 3) := dk_180 1 119 (dk_at dksX1_told_4 0 rfl rfl)
theorem dX1_told_82 : decode cX1_told 82 = .ok (.invokevirtual 366, 3) := dk_182 1 110 (dk_at dksX1_told_4 3 rfl rfl)
theorem dX1_told_85 : decode cX1_told 85 = .ok (.invokevirtual 376, 3) := dk_182 1 120 (dk_at dksX1_told_4 6 rfl rfl)
theorem dX1_told_88 : decode cX1_told 88 = .ok (.areturn, 1) := dk_176 (dk_at dksX1_told_4 9 rfl rfl)
theorem dX1_told_89 : decode cX1_told 89 = .ok (.new 363, 3) := dk_187 1 107 (dk_at dksX1_told_4 10 rfl rfl)
theorem dX1_told_92 : decode cX1_told 92 = .ok (.dup, 1) := dk_89 (dk_at dksX1_told_4 13 rfl rfl)
theorem dX1_told_93 : decode cX1_told 93 = .ok (.invokespecial 365, 3) := dk_183 1 109 (dk_at dksX1_told_4 14 rfl rfl)
theorem dX1_told_96 : decode cX1_told 96 = .ok (.ldc_w 380, 3) := dk_19 1 124 (dk_at dksX1_told_4 17 rfl rfl)
theorem dX1_told_99 : decode cX1_told 99 = .ok (.invokevirtual 372, 3) := dk_182 1 116 (dk_at dksX1_told_4 20 rfl rfl)
theorem dX1_told_102 : decode cX1_told 102 = .ok (.aload_n 2, 1) := dk_44 (dk_at dksX1_told_4 23 rfl rfl)
theorem dX1_told_103 : decode cX1_told 103 = .ok (.getfield 311, 3) := dk_180 1 55 (dk_at dksX1_told_5 0 rfl rfl)
theorem dX1_told_106 : decode cX1_told 106 = .ok (.invokevirtual 366, 3) := dk_182 1 110 (dk_at dksX1_told_5 3 rfl rfl)
theorem dX1_told_109 : decode cX1_told 109 = .ok (.invokevirtual 376, 3) := dk_182 1 120 (dk_at dksX1_told_5 6 rfl rfl)
theorem dX1_told_112 : decode cX1_told 112 = .ok (.areturn, 1) := dk_176 (dk_at dksX1_told_5 9 rfl rfl)
theorem dX1_told_113 : decode cX1_told 113 = .ok (.new 363, 3) := dk_187 1 107 (dk_at dksX1_told_5 10 rfl rfl)
theorem dX1_told_116 : decode cX1_told 116 = .ok (.dup, 1) := dk_89 (dk_at dksX1_told_5 13 rfl rfl)
theorem dX1_told_117 : decode cX1_told 117 = .ok (.invokespecial 365, 3) := dk_183 1 109 (dk_at dksX1_told_5 14 rfl rfl)
theorem dX1_told_120 : decode cX1_told 120 = .ok (.ldc_w 380, 3) := dk_19 1 124 (dk_at dksX1_told_5 17 rfl rfl)
theorem dX1_told_123 : decode cX1_told 123 = .ok (.invokevirtual 372, 3) := dk_182 1 116 (dk_at dksX1_told_5 20 rfl rfl)
theorem dX1_told_126 : decode cX1_told 126 = .ok (.aload_n 1, 1) := dk_43 (dk_at dksX1_told_5 23 rfl rfl)
theorem dX1_told_127 : decode cX1_told 127 = .ok (.getfield 217, 3) := dk_180 0 217 (dk_at dksX1_told_6 0 rfl rfl)
theorem dX1_told_130 : decode cX1_told 130 = .ok (.ifCond .eq 7, 3) := dk_153 0 7 (dk_at dksX1_told_6 3 rfl rfl)
theorem dX1_told_133 : decode cX1_told 133 = .ok (.iconst 0, 1) := dk_3 (dk_at dksX1_told_6 6 rfl rfl)
theorem dX1_told_134 : decode cX1_told 134 = .ok (.goto 7, 3) := dk_167 0 7 (dk_at dksX1_told_6 7 rfl rfl)
theorem dX1_told_137 : decode cX1_told 137 = .ok (.aload_n 1, 1) := dk_43 (dk_at dksX1_told_6 10 rfl rfl)
theorem dX1_told_138 : decode cX1_told 138 = .ok (.getfield 214, 3) := dk_180 0 214 (dk_at dksX1_told_6 11 rfl rfl)
theorem dX1_told_141 : decode cX1_told 141 = .ok (.invokevirtual 366, 3) := dk_182 1 110 (dk_at dksX1_told_6 14 rfl rfl)
theorem dX1_told_144 : decode cX1_told 144 = .ok (.invokevirtual 376, 3) := dk_182 1 120 (dk_at dksX1_told_6 17 rfl rfl)
theorem dX1_told_147 : decode cX1_told 147 = .ok (.areturn, 1) := dk_176 (dk_at dksX1_told_6 20 rfl rfl)
abbrev cX1_best : ByteArray := prog_1_method_63_code
def yX1_best : MethodName := ⟨RX1, "best", "(IIZ)I"⟩
def dkwX1_best_5 : List UInt8 := [132, 7, 1, 167, 255, 160, 29, 153, 0, 8, 21, 6, 167, 0, 5, 21, 5, 172]
abbrev dktX1_best_5 : List UInt8 := dkwX1_best_5 ++ []
def dkwX1_best_4 : List UInt8 := [21, 7, 167, 0, 5, 21, 5, 54, 5, 21, 9, 153, 0, 8, 21, 8, 167, 0, 5, 21, 6, 54, 6]
abbrev dktX1_best_4 : List UInt8 := dkwX1_best_4 ++ dktX1_best_5
def dkwX1_best_3 : List UInt8 := [2, 159, 0, 10, 21, 8, 21, 6, 162, 0, 7, 4, 167, 0, 4, 3, 54, 9, 21, 9, 153, 0, 8]
abbrev dktX1_best_3 : List UInt8 := dkwX1_best_3 ++ dktX1_best_4
def dkwX1_best_2 : List UInt8 := [187, 0, 78, 89, 42, 42, 180, 0, 80, 27, 21, 7, 183, 0, 84, 27, 28, 182, 0, 210, 54, 8, 21, 5]
abbrev dktX1_best_2 : List UInt8 := dkwX1_best_2 ++ dktX1_best_3
def dkwX1_best_1 : List UInt8 := [21, 7, 42, 180, 0, 10, 185, 0, 54, 1, 0, 162, 0, 88, 25, 4, 28, 182, 1, 148, 153, 0, 79]
abbrev dktX1_best_1 : List UInt8 := dkwX1_best_1 ++ dktX1_best_2
def dkwX1_best_0 : List UInt8 := [42, 27, 182, 0, 120, 58, 4, 28, 3, 16, 11, 184, 0, 71, 2, 54, 5, 2, 54, 6, 3, 54, 7]
abbrev dktX1_best_0 : List UInt8 := dkwX1_best_0 ++ dktX1_best_1
theorem dksX1_best_0 : cX1_best.data.toList.drop 0 = dktX1_best_0 := by decide +kernel
theorem dksX1_best_1 : cX1_best.data.toList.drop 23 = dktX1_best_1 := dk_seg dksX1_best_0 23 rfl rfl
theorem dksX1_best_2 : cX1_best.data.toList.drop 46 = dktX1_best_2 := dk_seg dksX1_best_1 23 rfl rfl
theorem dksX1_best_3 : cX1_best.data.toList.drop 70 = dktX1_best_3 := dk_seg dksX1_best_2 24 rfl rfl
theorem dksX1_best_4 : cX1_best.data.toList.drop 93 = dktX1_best_4 := dk_seg dksX1_best_3 23 rfl rfl
theorem dksX1_best_5 : cX1_best.data.toList.drop 116 = dktX1_best_5 := dk_seg dksX1_best_4 23 rfl rfl
theorem dX1_best_0 : decode cX1_best 0 = .ok (.aload_n 0, 1) := dk_42 (dk_at dksX1_best_0 0 rfl rfl)
theorem dX1_best_1 : decode cX1_best 1 = .ok (.iload_n 1, 1) := dk_27 (dk_at dksX1_best_0 1 rfl rfl)
theorem dX1_best_2 : decode cX1_best 2 = .ok (.invokevirtual 120, 3) := dk_182 0 120 (dk_at dksX1_best_0 2 rfl rfl)
theorem dX1_best_5 : decode cX1_best 5 = .ok (.astore 4, 2) := dk_58 4 (dk_at dksX1_best_0 5 rfl rfl)
theorem dX1_best_7 : decode cX1_best 7 = .ok (.iload_n 2, 1) := dk_28 (dk_at dksX1_best_0 7 rfl rfl)
theorem dX1_best_8 : decode cX1_best 8 = .ok (.iconst 0, 1) := dk_3 (dk_at dksX1_best_0 8 rfl rfl)
theorem dX1_best_9 : decode cX1_best 9 = .ok (.bipush 11, 2) := dk_16 11 (dk_at dksX1_best_0 9 rfl rfl)
theorem dX1_best_11 : decode cX1_best 11 = .ok (.invokestatic 71, 3) := dk_184 0 71 (dk_at dksX1_best_0 11 rfl rfl)
theorem dX1_best_14 : decode cX1_best 14 = .ok (.iconst (-1), 1) := dk_2 (dk_at dksX1_best_0 14 rfl rfl)
theorem dX1_best_15 : decode cX1_best 15 = .ok (.istore 5, 2) := dk_54 5 (dk_at dksX1_best_0 15 rfl rfl)
theorem dX1_best_17 : decode cX1_best 17 = .ok (.iconst (-1), 1) := dk_2 (dk_at dksX1_best_0 17 rfl rfl)
theorem dX1_best_18 : decode cX1_best 18 = .ok (.istore 6, 2) := dk_54 6 (dk_at dksX1_best_0 18 rfl rfl)
theorem dX1_best_20 : decode cX1_best 20 = .ok (.iconst 0, 1) := dk_3 (dk_at dksX1_best_0 20 rfl rfl)
theorem dX1_best_21 : decode cX1_best 21 = .ok (.istore 7, 2) := dk_54 7 (dk_at dksX1_best_0 21 rfl rfl)
theorem dX1_best_23 : decode cX1_best 23 = .ok (.iload 7, 2) := dk_21 7 (dk_at dksX1_best_1 0 rfl rfl)
theorem dX1_best_25 : decode cX1_best 25 = .ok (.aload_n 0, 1) := dk_42 (dk_at dksX1_best_1 2 rfl rfl)
theorem dX1_best_26 : decode cX1_best 26 = .ok (.getfield 10, 3) := dk_180 0 10 (dk_at dksX1_best_1 3 rfl rfl)
theorem dX1_best_29 : decode cX1_best 29 = .ok (.invokeinterface 54 1, 5) := by decide +kernel
theorem dX1_best_34 : decode cX1_best 34 = .ok (.if_icmp .ge 88, 3) := dk_162 0 88 (dk_at dksX1_best_1 11 rfl rfl)
theorem dX1_best_37 : decode cX1_best 37 = .ok (.aload 4, 2) := dk_25 4 (dk_at dksX1_best_1 14 rfl rfl)
theorem dX1_best_39 : decode cX1_best 39 = .ok (.iload_n 2, 1) := dk_28 (dk_at dksX1_best_1 16 rfl rfl)
theorem dX1_best_40 : decode cX1_best 40 = .ok (.invokevirtual 404, 3) := dk_182 1 148 (dk_at dksX1_best_1 17 rfl rfl)
theorem dX1_best_43 : decode cX1_best 43 = .ok (.ifCond .eq 79, 3) := dk_153 0 79 (dk_at dksX1_best_1 20 rfl rfl)
theorem dX1_best_46 : decode cX1_best 46 = .ok (.new 78, 3) := dk_187 0 78 (dk_at dksX1_best_2 0 rfl rfl)
theorem dX1_best_49 : decode cX1_best 49 = .ok (.dup, 1) := dk_89 (dk_at dksX1_best_2 3 rfl rfl)
theorem dX1_best_50 : decode cX1_best 50 = .ok (.aload_n 0, 1) := dk_42 (dk_at dksX1_best_2 4 rfl rfl)
theorem dX1_best_51 : decode cX1_best 51 = .ok (.aload_n 0, 1) := dk_42 (dk_at dksX1_best_2 5 rfl rfl)
theorem dX1_best_52 : decode cX1_best 52 = .ok (.getfield 80, 3) := dk_180 0 80 (dk_at dksX1_best_2 6 rfl rfl)
theorem dX1_best_55 : decode cX1_best 55 = .ok (.iload_n 1, 1) := dk_27 (dk_at dksX1_best_2 9 rfl rfl)
theorem dX1_best_56 : decode cX1_best 56 = .ok (.iload 7, 2) := dk_21 7 (dk_at dksX1_best_2 10 rfl rfl)
theorem dX1_best_58 : decode cX1_best 58 = .ok (.invokespecial 84, 3) := dk_183 0 84 (dk_at dksX1_best_2 12 rfl rfl)
theorem dX1_best_61 : decode cX1_best 61 = .ok (.iload_n 1, 1) := dk_27 (dk_at dksX1_best_2 15 rfl rfl)
theorem dX1_best_62 : decode cX1_best 62 = .ok (.iload_n 2, 1) := dk_28 (dk_at dksX1_best_2 16 rfl rfl)
theorem dX1_best_63 : decode cX1_best 63 = .ok (.invokevirtual 210, 3) := dk_182 0 210 (dk_at dksX1_best_2 17 rfl rfl)
theorem dX1_best_66 : decode cX1_best 66 = .ok (.istore 8, 2) := dk_54 8 (dk_at dksX1_best_2 20 rfl rfl)
theorem dX1_best_68 : decode cX1_best 68 = .ok (.iload 5, 2) := dk_21 5 (dk_at dksX1_best_2 22 rfl rfl)
theorem dX1_best_70 : decode cX1_best 70 = .ok (.iconst (-1), 1) := dk_2 (dk_at dksX1_best_3 0 rfl rfl)
theorem dX1_best_71 : decode cX1_best 71 = .ok (.if_icmp .eq 10, 3) := dk_159 0 10 (dk_at dksX1_best_3 1 rfl rfl)
theorem dX1_best_74 : decode cX1_best 74 = .ok (.iload 8, 2) := dk_21 8 (dk_at dksX1_best_3 4 rfl rfl)
theorem dX1_best_76 : decode cX1_best 76 = .ok (.iload 6, 2) := dk_21 6 (dk_at dksX1_best_3 6 rfl rfl)
theorem dX1_best_78 : decode cX1_best 78 = .ok (.if_icmp .ge 7, 3) := dk_162 0 7 (dk_at dksX1_best_3 8 rfl rfl)
theorem dX1_best_81 : decode cX1_best 81 = .ok (.iconst 1, 1) := dk_4 (dk_at dksX1_best_3 11 rfl rfl)
theorem dX1_best_82 : decode cX1_best 82 = .ok (.goto 4, 3) := dk_167 0 4 (dk_at dksX1_best_3 12 rfl rfl)
theorem dX1_best_85 : decode cX1_best 85 = .ok (.iconst 0, 1) := dk_3 (dk_at dksX1_best_3 15 rfl rfl)
theorem dX1_best_86 : decode cX1_best 86 = .ok (.istore 9, 2) := dk_54 9 (dk_at dksX1_best_3 16 rfl rfl)
theorem dX1_best_88 : decode cX1_best 88 = .ok (.iload 9, 2) := dk_21 9 (dk_at dksX1_best_3 18 rfl rfl)
theorem dX1_best_90 : decode cX1_best 90 = .ok (.ifCond .eq 8, 3) := dk_153 0 8 (dk_at dksX1_best_3 20 rfl rfl)
theorem dX1_best_93 : decode cX1_best 93 = .ok (.iload 7, 2) := dk_21 7 (dk_at dksX1_best_4 0 rfl rfl)
theorem dX1_best_95 : decode cX1_best 95 = .ok (.goto 5, 3) := dk_167 0 5 (dk_at dksX1_best_4 2 rfl rfl)
theorem dX1_best_98 : decode cX1_best 98 = .ok (.iload 5, 2) := dk_21 5 (dk_at dksX1_best_4 5 rfl rfl)
theorem dX1_best_100 : decode cX1_best 100 = .ok (.istore 5, 2) := dk_54 5 (dk_at dksX1_best_4 7 rfl rfl)
theorem dX1_best_102 : decode cX1_best 102 = .ok (.iload 9, 2) := dk_21 9 (dk_at dksX1_best_4 9 rfl rfl)
theorem dX1_best_104 : decode cX1_best 104 = .ok (.ifCond .eq 8, 3) := dk_153 0 8 (dk_at dksX1_best_4 11 rfl rfl)
theorem dX1_best_107 : decode cX1_best 107 = .ok (.iload 8, 2) := dk_21 8 (dk_at dksX1_best_4 14 rfl rfl)
theorem dX1_best_109 : decode cX1_best 109 = .ok (.goto 5, 3) := dk_167 0 5 (dk_at dksX1_best_4 16 rfl rfl)
theorem dX1_best_112 : decode cX1_best 112 = .ok (.iload 6, 2) := dk_21 6 (dk_at dksX1_best_4 19 rfl rfl)
theorem dX1_best_114 : decode cX1_best 114 = .ok (.istore 6, 2) := dk_54 6 (dk_at dksX1_best_4 21 rfl rfl)
theorem dX1_best_116 : decode cX1_best 116 = .ok (.iinc 7 1, 3) := dk_132 7 1 (dk_at dksX1_best_5 0 rfl rfl)
theorem dX1_best_119 : decode cX1_best 119 = .ok (.goto (-96), 3) := dk_167 255 160 (dk_at dksX1_best_5 3 rfl rfl)
theorem dX1_best_122 : decode cX1_best 122 = .ok (.iload_n 3, 1) := dk_29 (dk_at dksX1_best_5 6 rfl rfl)
theorem dX1_best_123 : decode cX1_best 123 = .ok (.ifCond .eq 8, 3) := dk_153 0 8 (dk_at dksX1_best_5 7 rfl rfl)
theorem dX1_best_126 : decode cX1_best 126 = .ok (.iload 6, 2) := dk_21 6 (dk_at dksX1_best_5 10 rfl rfl)
theorem dX1_best_128 : decode cX1_best 128 = .ok (.goto 5, 3) := dk_167 0 5 (dk_at dksX1_best_5 12 rfl rfl)
theorem dX1_best_131 : decode cX1_best 131 = .ok (.iload 5, 2) := dk_21 5 (dk_at dksX1_best_5 15 rfl rfl)
theorem dX1_best_133 : decode cX1_best 133 = .ok (.ireturn, 1) := dk_172 (dk_at dksX1_best_5 17 rfl rfl)
abbrev cX1_wouldCost : ByteArray := prog_1_method_64_code
def yX1_wouldCost : MethodName := ⟨RX1, "wouldCost", "(IIIII)I"⟩
def dkwX1_wouldCost_3 : List UInt8 := [180, 0, 19, 21, 6, 185, 1, 151, 2, 0, 87, 21, 7, 172]
abbrev dktX1_wouldCost_3 : List UInt8 := dkwX1_wouldCost_3 ++ []
def dkwX1_wouldCost_2 : List UInt8 := [182, 0, 200, 180, 1, 60, 21, 6, 185, 0, 61, 2, 0, 192, 1, 51, 180, 1, 57, 54, 7, 42]
abbrev dktX1_wouldCost_2 : List UInt8 := dkwX1_wouldCost_2 ++ dktX1_wouldCost_3
def dkwX1_wouldCost_1 : List UInt8 := [89, 178, 0, 168, 27, 42, 180, 0, 80, 28, 29, 21, 4, 21, 5, 183, 0, 174, 182, 0, 183, 54, 6, 42]
abbrev dktX1_wouldCost_1 : List UInt8 := dkwX1_wouldCost_1 ++ dktX1_wouldCost_2
def dkwX1_wouldCost_0 : List UInt8 := [42, 27, 182, 0, 120, 87, 29, 16, 16, 184, 0, 58, 28, 21, 4, 21, 5, 184, 0, 165, 42, 187, 0, 69]
abbrev dktX1_wouldCost_0 : List UInt8 := dkwX1_wouldCost_0 ++ dktX1_wouldCost_1
theorem dksX1_wouldCost_0 : cX1_wouldCost.data.toList.drop 0 = dktX1_wouldCost_0 := by decide +kernel
theorem dksX1_wouldCost_1 : cX1_wouldCost.data.toList.drop 24 = dktX1_wouldCost_1 := dk_seg dksX1_wouldCost_0 24 rfl rfl
theorem dksX1_wouldCost_2 : cX1_wouldCost.data.toList.drop 48 = dktX1_wouldCost_2 := dk_seg dksX1_wouldCost_1 24 rfl rfl
theorem dksX1_wouldCost_3 : cX1_wouldCost.data.toList.drop 70 = dktX1_wouldCost_3 := dk_seg dksX1_wouldCost_2 22 rfl rfl
theorem dX1_wouldCost_0 : decode cX1_wouldCost 0 = .ok (.aload_n 0, 1) := dk_42 (dk_at dksX1_wouldCost_0 0 rfl rfl)
theorem dX1_wouldCost_1 : decode cX1_wouldCost 1 = .ok (.iload_n 1, 1) := dk_27 (dk_at dksX1_wouldCost_0 1 rfl rfl)
theorem dX1_wouldCost_2 : decode cX1_wouldCost 2 = .ok (.invokevirtual 120, 3) := dk_182 0 120 (dk_at dksX1_wouldCost_0 2 rfl rfl)
theorem dX1_wouldCost_5 : decode cX1_wouldCost 5 = .ok (.pop, 1) := dk_87 (dk_at dksX1_wouldCost_0 5 rfl rfl)
theorem dX1_wouldCost_6 : decode cX1_wouldCost 6 = .ok (.iload_n 3, 1) := dk_29 (dk_at dksX1_wouldCost_0 6 rfl rfl)
theorem dX1_wouldCost_7 : decode cX1_wouldCost 7 = .ok (.bipush 16, 2) := dk_16 16 (dk_at dksX1_wouldCost_0 7 rfl rfl)
theorem dX1_wouldCost_9 : decode cX1_wouldCost 9 = .ok (.invokestatic 58, 3) := dk_184 0 58 (dk_at dksX1_wouldCost_0 9 rfl rfl)
theorem dX1_wouldCost_12 : decode cX1_wouldCost 12 = .ok (.iload_n 2, 1) := dk_28 (dk_at dksX1_wouldCost_0 12 rfl rfl)
theorem dX1_wouldCost_13 : decode cX1_wouldCost 13 = .ok (.iload 4, 2) := dk_21 4 (dk_at dksX1_wouldCost_0 13 rfl rfl)
theorem dX1_wouldCost_15 : decode cX1_wouldCost 15 = .ok (.iload 5, 2) := dk_21 5 (dk_at dksX1_wouldCost_0 15 rfl rfl)
theorem dX1_wouldCost_17 : decode cX1_wouldCost 17 = .ok (.invokestatic 165, 3) := dk_184 0 165 (dk_at dksX1_wouldCost_0 17 rfl rfl)
theorem dX1_wouldCost_20 : decode cX1_wouldCost 20 = .ok (.aload_n 0, 1) := dk_42 (dk_at dksX1_wouldCost_0 20 rfl rfl)
theorem dX1_wouldCost_21 : decode cX1_wouldCost 21 = .ok (.new 69, 3) := dk_187 0 69 (dk_at dksX1_wouldCost_0 21 rfl rfl)
theorem dX1_wouldCost_24 : decode cX1_wouldCost 24 = .ok (.dup, 1) := dk_89 (dk_at dksX1_wouldCost_1 0 rfl rfl)
theorem dX1_wouldCost_25 : decode cX1_wouldCost 25 = .ok (.getstatic 168, 3) := dk_178 0 168 (dk_at dksX1_wouldCost_1 1 rfl rfl)
theorem dX1_wouldCost_28 : decode cX1_wouldCost 28 = .ok (.iload_n 1, 1) := dk_27 (dk_at dksX1_wouldCost_1 4 rfl rfl)
theorem dX1_wouldCost_29 : decode cX1_wouldCost 29 = .ok (.aload_n 0, 1) := dk_42 (dk_at dksX1_wouldCost_1 5 rfl rfl)
theorem dX1_wouldCost_30 : decode cX1_wouldCost 30 = .ok (.getfield 80, 3) := dk_180 0 80 (dk_at dksX1_wouldCost_1 6 rfl rfl)
theorem dX1_wouldCost_33 : decode cX1_wouldCost 33 = .ok (.iload_n 2, 1) := dk_28 (dk_at dksX1_wouldCost_1 9 rfl rfl)
theorem dX1_wouldCost_34 : decode cX1_wouldCost 34 = .ok (.iload_n 3, 1) := dk_29 (dk_at dksX1_wouldCost_1 10 rfl rfl)
theorem dX1_wouldCost_35 : decode cX1_wouldCost 35 = .ok (.iload 4, 2) := dk_21 4 (dk_at dksX1_wouldCost_1 11 rfl rfl)
theorem dX1_wouldCost_37 : decode cX1_wouldCost 37 = .ok (.iload 5, 2) := dk_21 5 (dk_at dksX1_wouldCost_1 13 rfl rfl)
theorem dX1_wouldCost_39 : decode cX1_wouldCost 39 = .ok (.invokespecial 174, 3) := dk_183 0 174 (dk_at dksX1_wouldCost_1 15 rfl rfl)
theorem dX1_wouldCost_42 : decode cX1_wouldCost 42 = .ok (.invokevirtual 183, 3) := dk_182 0 183 (dk_at dksX1_wouldCost_1 18 rfl rfl)
theorem dX1_wouldCost_45 : decode cX1_wouldCost 45 = .ok (.istore 6, 2) := dk_54 6 (dk_at dksX1_wouldCost_1 21 rfl rfl)
theorem dX1_wouldCost_47 : decode cX1_wouldCost 47 = .ok (.aload_n 0, 1) := dk_42 (dk_at dksX1_wouldCost_1 23 rfl rfl)
theorem dX1_wouldCost_48 : decode cX1_wouldCost 48 = .ok (.invokevirtual 200, 3) := dk_182 0 200 (dk_at dksX1_wouldCost_2 0 rfl rfl)
theorem dX1_wouldCost_51 : decode cX1_wouldCost 51 = .ok (.getfield 316, 3) := dk_180 1 60 (dk_at dksX1_wouldCost_2 3 rfl rfl)
theorem dX1_wouldCost_54 : decode cX1_wouldCost 54 = .ok (.iload 6, 2) := dk_21 6 (dk_at dksX1_wouldCost_2 6 rfl rfl)
theorem dX1_wouldCost_56 : decode cX1_wouldCost 56 = .ok (.invokeinterface 61 2, 5) := by decide +kernel
theorem dX1_wouldCost_61 : decode cX1_wouldCost 61 = .ok (.checkcast 307, 3) := dk_192 1 51 (dk_at dksX1_wouldCost_2 13 rfl rfl)
theorem dX1_wouldCost_64 : decode cX1_wouldCost 64 = .ok (.getfield 313, 3) := dk_180 1 57 (dk_at dksX1_wouldCost_2 16 rfl rfl)
theorem dX1_wouldCost_67 : decode cX1_wouldCost 67 = .ok (.istore 7, 2) := dk_54 7 (dk_at dksX1_wouldCost_2 19 rfl rfl)
theorem dX1_wouldCost_69 : decode cX1_wouldCost 69 = .ok (.aload_n 0, 1) := dk_42 (dk_at dksX1_wouldCost_2 21 rfl rfl)
theorem dX1_wouldCost_70 : decode cX1_wouldCost 70 = .ok (.getfield 19, 3) := dk_180 0 19 (dk_at dksX1_wouldCost_3 0 rfl rfl)
theorem dX1_wouldCost_73 : decode cX1_wouldCost 73 = .ok (.iload 6, 2) := dk_21 6 (dk_at dksX1_wouldCost_3 3 rfl rfl)
theorem dX1_wouldCost_75 : decode cX1_wouldCost 75 = .ok (.invokeinterface 407 2, 5) := by decide +kernel
theorem dX1_wouldCost_80 : decode cX1_wouldCost 80 = .ok (.pop, 1) := dk_87 (dk_at dksX1_wouldCost_3 10 rfl rfl)
theorem dX1_wouldCost_81 : decode cX1_wouldCost 81 = .ok (.iload 7, 2) := dk_21 7 (dk_at dksX1_wouldCost_3 11 rfl rfl)
theorem dX1_wouldCost_83 : decode cX1_wouldCost 83 = .ok (.ireturn, 1) := dk_172 (dk_at dksX1_wouldCost_3 13 rfl rfl)
theorem q70 : (Jvm.Cond.initialized "Rollover") ∈ lw_all := lw_g (lw_at lw_m1 1 rfl) rfl
theorem q116 : (Jvm.Cond.instantiable "Rollover" (8 : Nat)) ∈ lw_all := lw_g (lw_at lw_m1 47 rfl) rfl
theorem q118 : (Jvm.Cond.instanceMethod ({ cls := "Rollover", name := "<init>", desc := "()V" } : Jvm.MethodName)) ∈ lw_all := lw_g (lw_at lw_m1 49 rfl) rfl
theorem q119 : (Jvm.Cond.code ({ cls := "Rollover", name := "<init>", desc := "()V" } : Jvm.MethodName) prog_1_method_4_code (3 : Nat) (Option.none : Option Jvm.ClassFile.FieldType)) ∈ lw_all := lw_g (lw_at lw_m1 50 rfl) rfl
theorem q120 : (Jvm.Cond.methodLink "Rollover" (1 : Nat) ({ cls := "java/lang/Object", name := "<init>", desc := "()V" } : Jvm.MethodName)) ∈ lw_all := lw_g (lw_at lw_m1 51 rfl) rfl
theorem q123 : (Jvm.Cond.classLink "Rollover" (7 : Nat) "java/util/ArrayList") ∈ lw_all := lw_g (lw_at lw_m1 54 rfl) rfl
theorem q125 : (Jvm.Cond.methodLink "Rollover" (9 : Nat) ({ cls := "java/util/ArrayList", name := "<init>", desc := "()V" } : Jvm.MethodName)) ∈ lw_all := lw_g (lw_at lw_m1 56 rfl) rfl
theorem q152 : (Jvm.Cond.classLink "Rollover" (29 : Nat) "Rollover$Since") ∈ lw_all := lw_g (lw_at lw_m1 83 rfl) rfl
theorem q154 : (Jvm.Cond.methodLinkNest "Rollover" (31 : Nat) ({ cls := "Rollover$Since", name := "<init>", desc := "()V" } : Jvm.MethodName) "Rollover") ∈ lw_tbl := lw_at lw_m1 85 rfl
theorem q168 : (Jvm.Cond.methodLink "Rollover" (32 : Nat) ({ cls := "Rollover$Since", name := "add", desc := "(II)V" } : Jvm.MethodName)) ∈ lw_all := lw_g (lw_at lw_m1 99 rfl) rfl
theorem q230 : (Jvm.Cond.selects "Rollover" ({ cls := "java/lang/Object", name := "getClass", desc := "()Ljava/lang/Class;" } : Jvm.MethodName) ({ cls := "java/lang/Object", name := "getClass", desc := "()Ljava/lang/Class;" } : Jvm.MethodName)) ∈ lw_all := lw_g (lw_at lw_m1 161 rfl) rfl
theorem q273 : (Jvm.Cond.interfaceEntry "Rollover" (36 : Nat)) ∈ lw_tbl := lw_at lw_m1 204 rfl
theorem q274 : (Jvm.Cond.methodLink "Rollover" (36 : Nat) ({ cls := "java/util/List", name := "add", desc := "(Ljava/lang/Object;)Z" } : Jvm.MethodName)) ∈ lw_all := lw_g (lw_at lw_m1 205 rfl) rfl
theorem q275 : (Jvm.Cond.fieldLink "Rollover" (10 : Nat) "Rollover" "plans" "Ljava/util/List;") ∈ lw_all := lw_g (lw_at lw_m1 206 rfl) rfl
theorem q278 : (Jvm.Cond.fieldLink "Rollover" (16 : Nat) "Rollover" "customers" "Ljava/util/List;") ∈ lw_all := lw_g (lw_at lw_m1 209 rfl) rfl
theorem q280 : (Jvm.Cond.fieldLink "Rollover" (19 : Nat) "Rollover" "tickets" "Ljava/util/List;") ∈ lw_all := lw_g (lw_at lw_m1 211 rfl) rfl
theorem q281 : (Jvm.Cond.fieldLink "Rollover" (22 : Nat) "Rollover" "carriers" "Ljava/util/List;") ∈ lw_all := lw_g (lw_at lw_m1 212 rfl) rfl
theorem q282 : (Jvm.Cond.fieldLink "Rollover" (25 : Nat) "Rollover" "incoming" "[I") ∈ lw_all := lw_g (lw_at lw_m1 213 rfl) rfl
theorem q283 : (Jvm.Cond.fieldLink "Rollover" (223 : Nat) "Rollover" "portings" "I") ∈ lw_all := lw_g (lw_at lw_m1 214 rfl) rfl
theorem q284 : (Jvm.Cond.fieldLink "Rollover" (180 : Nat) "Rollover" "doubled" "I") ∈ lw_all := lw_g (lw_at lw_m1 215 rfl) rfl
theorem q286 : (Jvm.Cond.fieldLink "Rollover" (80 : Nat) "Rollover" "today" "I") ∈ lw_all := lw_g (lw_at lw_m1 217 rfl) rfl
theorem q287 : (Jvm.Cond.laysFinal "Rollover" "Rollover" "plans" "Ljava/util/List;") ∈ lw_all := lw_g (lw_at lw_m1 218 rfl) rfl
theorem q288 : (Jvm.Cond.soleField "Rollover" "plans") ∈ lw_all := lw_g (lw_at lw_m1 219 rfl) rfl
theorem q289 : (Jvm.Cond.laysFinal "Rollover" "Rollover" "customers" "Ljava/util/List;") ∈ lw_all := lw_g (lw_at lw_m1 220 rfl) rfl
theorem q290 : (Jvm.Cond.soleField "Rollover" "customers") ∈ lw_all := lw_g (lw_at lw_m1 221 rfl) rfl
theorem q291 : (Jvm.Cond.laysFinal "Rollover" "Rollover" "tickets" "Ljava/util/List;") ∈ lw_all := lw_g (lw_at lw_m1 222 rfl) rfl
theorem q292 : (Jvm.Cond.soleField "Rollover" "tickets") ∈ lw_all := lw_g (lw_at lw_m1 223 rfl) rfl
theorem q293 : (Jvm.Cond.laysFinal "Rollover" "Rollover" "carriers" "Ljava/util/List;") ∈ lw_all := lw_g (lw_at lw_m1 224 rfl) rfl
theorem q294 : (Jvm.Cond.soleField "Rollover" "carriers") ∈ lw_all := lw_g (lw_at lw_m1 225 rfl) rfl
theorem q295 : (Jvm.Cond.laysFinal "Rollover" "Rollover" "incoming" "[I") ∈ lw_all := lw_g (lw_at lw_m1 226 rfl) rfl
theorem q296 : (Jvm.Cond.soleField "Rollover" "incoming") ∈ lw_all := lw_g (lw_at lw_m1 227 rfl) rfl
theorem q297 : (Jvm.Cond.lays "Rollover" "Rollover" "portings" "I") ∈ lw_all := lw_g (lw_at lw_m1 228 rfl) rfl
theorem q298 : (Jvm.Cond.soleField "Rollover" "portings") ∈ lw_all := lw_g (lw_at lw_m1 229 rfl) rfl
theorem q299 : (Jvm.Cond.lays "Rollover" "Rollover" "doubled" "I") ∈ lw_all := lw_g (lw_at lw_m1 230 rfl) rfl
theorem q300 : (Jvm.Cond.soleField "Rollover" "doubled") ∈ lw_all := lw_g (lw_at lw_m1 231 rfl) rfl
theorem q301 : (Jvm.Cond.lays "Rollover" "Rollover" "today" "I") ∈ lw_all := lw_g (lw_at lw_m1 232 rfl) rfl
theorem q302 : (Jvm.Cond.soleField "Rollover" "today") ∈ lw_all := lw_g (lw_at lw_m1 233 rfl) rfl
theorem q303 : (Jvm.Cond.superclass "Rollover" "java/lang/Object") ∈ lw_all := lw_g (lw_at lw_m1 234 rfl) rfl
theorem q305 : (Jvm.Cond.instanceMethod ({ cls := "Rollover", name := "isSound", desc := "()Z" } : Jvm.MethodName)) ∈ lw_all := lw_g (lw_at lw_m1 236 rfl) rfl
theorem q306 : (Jvm.Cond.selects "Rollover" ({ cls := "Rollover", name := "isSound", desc := "()Z" } : Jvm.MethodName) ({ cls := "Rollover", name := "isSound", desc := "()Z" } : Jvm.MethodName)) ∈ lw_all := lw_g (lw_at lw_m1 237 rfl) rfl
theorem q307 : (Jvm.Cond.code ({ cls := "Rollover", name := "isSound", desc := "()Z" } : Jvm.MethodName) prog_1_method_66_code (1 : Nat) (Option.some Jvm.ClassFile.FieldType.boolean)) ∈ lw_all := lw_g (lw_at lw_m1 238 rfl) rfl
theorem q308 : (Jvm.Cond.methodLink "Rollover" (200 : Nat) ({ cls := "Rollover", name := "rating", desc := "()LRollover$Rating;" } : Jvm.MethodName)) ∈ lw_all := lw_g (lw_at lw_m1 239 rfl) rfl
theorem q309 : (Jvm.Cond.privateMethod ({ cls := "Rollover", name := "rating", desc := "()LRollover$Rating;" } : Jvm.MethodName)) ∈ lw_tbl := lw_at lw_m2 0 rfl
theorem q310 : (Jvm.Cond.instanceMethod ({ cls := "Rollover", name := "rating", desc := "()LRollover$Rating;" } : Jvm.MethodName)) ∈ lw_all := lw_g (lw_at lw_m2 1 rfl) rfl
theorem q311 : (Jvm.Cond.code ({ cls := "Rollover", name := "rating", desc := "()LRollover$Rating;" } : Jvm.MethodName) prog_1_method_15_code (1 : Nat) (Option.some (Jvm.ClassFile.FieldType.object "Rollover$Rating"))) ∈ lw_all := lw_g (lw_at lw_m2 2 rfl) rfl
theorem q312 : (Jvm.Cond.classLink "Rollover" (78 : Nat) "Rollover$Rating") ∈ lw_all := lw_g (lw_at lw_m2 3 rfl) rfl
theorem q314 : (Jvm.Cond.methodLink "Rollover" (84 : Nat) ({ cls := "Rollover$Rating", name := "<init>", desc := "(LRollover;III)V" } : Jvm.MethodName)) ∈ lw_all := lw_g (lw_at lw_m2 5 rfl) rfl
theorem q350 : (Jvm.Cond.fieldLinkNest "Rollover" (255 : Nat) "Rollover$Account" "charges" "I" "Rollover") ∈ lw_tbl := lw_at lw_m2 41 rfl
theorem q352 : (Jvm.Cond.fieldLinkNest "Rollover" (260 : Nat) "Rollover$Account" "charged" "I" "Rollover") ∈ lw_tbl := lw_at lw_m2 43 rfl
theorem q354 : (Jvm.Cond.fieldLinkNest "Rollover" (263 : Nat) "Rollover$Account" "own" "I" "Rollover") ∈ lw_tbl := lw_at lw_m2 45 rfl
theorem q356 : (Jvm.Cond.fieldLinkNest "Rollover" (266 : Nat) "Rollover$Account" "parents" "I" "Rollover") ∈ lw_tbl := lw_at lw_m2 47 rfl
theorem q358 : (Jvm.Cond.fieldLinkNest "Rollover" (269 : Nat) "Rollover$Account" "calls" "I" "Rollover") ∈ lw_tbl := lw_at lw_m2 49 rfl
theorem q360 : (Jvm.Cond.fieldLinkNest "Rollover" (272 : Nat) "Rollover$Account" "free" "I" "Rollover") ∈ lw_tbl := lw_at lw_m2 51 rfl
theorem q362 : (Jvm.Cond.fieldLinkNest "Rollover" (275 : Nat) "Rollover$Account" "prices" "I" "Rollover") ∈ lw_tbl := lw_at lw_m2 53 rfl
theorem q385 : (Jvm.Cond.fieldLinkNest "Rollover" (359 : Nat) "Rollover$Line" "isFree" "Z" "Rollover") ∈ lw_tbl := lw_at lw_m2 76 rfl
theorem q387 : (Jvm.Cond.fieldLinkNest "Rollover" (306 : Nat) "Rollover$Line" "counted" "I" "Rollover") ∈ lw_tbl := lw_at lw_m2 78 rfl
theorem q389 : (Jvm.Cond.fieldLinkNest "Rollover" (311 : Nat) "Rollover$Line" "own" "I" "Rollover") ∈ lw_tbl := lw_at lw_m2 80 rfl
theorem q391 : (Jvm.Cond.fieldLinkNest "Rollover" (312 : Nat) "Rollover$Line" "parents" "I" "Rollover") ∈ lw_tbl := lw_at lw_m2 82 rfl
theorem q393 : (Jvm.Cond.fieldLinkNest "Rollover" (375 : Nat) "Rollover$Line" "charged" "I" "Rollover") ∈ lw_tbl := lw_at lw_m2 84 rfl
theorem q395 : (Jvm.Cond.fieldLinkNest "Rollover" (313 : Nat) "Rollover$Line" "charge" "I" "Rollover") ∈ lw_tbl := lw_at lw_m2 86 rfl
theorem q414 : (Jvm.Cond.privateMethod ({ cls := "Rollover", name := "inTime", desc := "()[I" } : Jvm.MethodName)) ∈ lw_tbl := lw_at lw_m2 105 rfl
theorem q415 : (Jvm.Cond.instanceMethod ({ cls := "Rollover", name := "inTime", desc := "()[I" } : Jvm.MethodName)) ∈ lw_all := lw_g (lw_at lw_m2 106 rfl) rfl
theorem q416 : (Jvm.Cond.code ({ cls := "Rollover", name := "inTime", desc := "()[I" } : Jvm.MethodName) prog_1_method_14_code (4 : Nat) (Option.some (Jvm.ClassFile.FieldType.array Jvm.ClassFile.FieldType.int))) ∈ lw_all := lw_g (lw_at lw_m2 107 rfl) rfl
theorem q417 : (Jvm.Cond.interfaceEntry "Rollover" (54 : Nat)) ∈ lw_tbl := lw_at lw_m2 108 rfl
theorem q418 : (Jvm.Cond.methodLink "Rollover" (54 : Nat) ({ cls := "java/util/List", name := "size", desc := "()I" } : Jvm.MethodName)) ∈ lw_all := lw_g (lw_at lw_m2 109 rfl) rfl
theorem q419 : (Jvm.Cond.interfaceEntry "Rollover" (61 : Nat)) ∈ lw_tbl := lw_at lw_m2 110 rfl
theorem q420 : (Jvm.Cond.methodLink "Rollover" (61 : Nat) ({ cls := "java/util/List", name := "get", desc := "(I)Ljava/lang/Object;" } : Jvm.MethodName)) ∈ lw_all := lw_g (lw_at lw_m2 111 rfl) rfl
theorem q438 : (Jvm.Cond.classLink "Rollover" (69 : Nat) "Rollover$Ticket") ∈ lw_all := lw_g (lw_at lw_m2 129 rfl) rfl
theorem q439 : (Jvm.Cond.methodLink "Rollover" (75 : Nat) ({ cls := "Rollover$Ticket", name := "time", desc := "()I" } : Jvm.MethodName)) ∈ lw_all := lw_g (lw_at lw_m2 130 rfl) rfl
theorem q509 : (Jvm.Cond.static ({ cls := "Rollover", name := "has", desc := "(II)Z" } : Jvm.MethodName)) ∈ lw_all := lw_g (lw_at lw_m2 200 rfl) rfl
theorem q510 : (Jvm.Cond.code ({ cls := "Rollover", name := "has", desc := "(II)Z" } : Jvm.MethodName) prog_1_method_1_code (2 : Nat) (Option.some Jvm.ClassFile.FieldType.boolean)) ∈ lw_all := lw_g (lw_at lw_m2 201 rfl) rfl
theorem q520 : (Jvm.Cond.static ({ cls := "Rollover", name := "up", desc := "(II)I" } : Jvm.MethodName)) ∈ lw_all := lw_g (lw_at lw_m2 211 rfl) rfl
theorem q521 : (Jvm.Cond.code ({ cls := "Rollover", name := "up", desc := "(II)I" } : Jvm.MethodName) prog_1_method_3_code (2 : Nat) (Option.some Jvm.ClassFile.FieldType.int)) ∈ lw_all := lw_g (lw_at lw_m2 212 rfl) rfl
theorem q579 : (Jvm.Cond.fieldLinkNest "Rollover" (238 : Nat) "Rollover$Rating" "buckets" "Ljava/util/List;" "Rollover") ∈ lw_tbl := lw_at lw_m3 30 rfl
theorem q581 : (Jvm.Cond.fieldLinkNest "Rollover" (316 : Nat) "Rollover$Rating" "lines" "Ljava/util/List;" "Rollover") ∈ lw_tbl := lw_at lw_m3 32 rfl
theorem q585 : (Jvm.Cond.fieldLinkNest "Rollover" (410 : Nat) "Rollover$Rating" "isSound" "Z" "Rollover") ∈ lw_tbl := lw_at lw_m3 36 rfl
theorem q606 : (Jvm.Cond.methodLink "Rollover" (416 : Nat) ({ cls := "Rollover", name := "isSoundNow", desc := "(LRollover$Rating;)Z" } : Jvm.MethodName)) ∈ lw_all := lw_g (lw_at lw_m3 57 rfl) rfl
theorem q607 : (Jvm.Cond.privateMethod ({ cls := "Rollover", name := "isSoundNow", desc := "(LRollover$Rating;)Z" } : Jvm.MethodName)) ∈ lw_tbl := lw_at lw_m3 58 rfl
theorem q608 : (Jvm.Cond.instanceMethod ({ cls := "Rollover", name := "isSoundNow", desc := "(LRollover$Rating;)Z" } : Jvm.MethodName)) ∈ lw_all := lw_g (lw_at lw_m3 59 rfl) rfl
theorem q609 : (Jvm.Cond.code ({ cls := "Rollover", name := "isSoundNow", desc := "(LRollover$Rating;)Z" } : Jvm.MethodName) prog_1_method_65_code (5 : Nat) (Option.some Jvm.ClassFile.FieldType.boolean)) ∈ lw_all := lw_g (lw_at lw_m3 60 rfl) rfl
theorem q610 : (Jvm.Cond.methodLink "Rollover" (413 : Nat) ({ cls := "Rollover$Rating", name := "areBucketsSound", desc := "()Z" } : Jvm.MethodName)) ∈ lw_all := lw_g (lw_at lw_m3 61 rfl) rfl
theorem q618 : (Jvm.Cond.classLink "Rollover" (67 : Nat) "Rollover$Customer") ∈ lw_all := lw_g (lw_at lw_m3 69 rfl) rfl
theorem q620 : (Jvm.Cond.instanceMethod ({ cls := "Rollover", name := "digest", desc := "()J" } : Jvm.MethodName)) ∈ lw_all := lw_g (lw_at lw_m3 71 rfl) rfl
theorem q621 : (Jvm.Cond.selects "Rollover" ({ cls := "Rollover", name := "digest", desc := "()J" } : Jvm.MethodName) ({ cls := "Rollover", name := "digest", desc := "()J" } : Jvm.MethodName)) ∈ lw_all := lw_g (lw_at lw_m3 72 rfl) rfl
theorem q622 : (Jvm.Cond.code ({ cls := "Rollover", name := "digest", desc := "()J" } : Jvm.MethodName) prog_1_method_68_code (5 : Nat) (Option.some Jvm.ClassFile.FieldType.long)) ∈ lw_all := lw_g (lw_at lw_m3 73 rfl) rfl
theorem q623 : (Jvm.Cond.classLink "Rollover" (421 : Nat) "Rollover$Sum") ∈ lw_all := lw_g (lw_at lw_m3 74 rfl) rfl
theorem q625 : (Jvm.Cond.methodLinkNest "Rollover" (425 : Nat) ({ cls := "Rollover$Sum", name := "<init>", desc := "()V" } : Jvm.MethodName) "Rollover") ∈ lw_tbl := lw_at lw_m3 76 rfl
theorem q631 : (Jvm.Cond.fieldLinkNest "Rollover" (430 : Nat) "Rollover$Sum" "total" "J" "Rollover") ∈ lw_tbl := lw_at lw_m3 82 rfl
theorem q635 : (Jvm.Cond.methodLink "Rollover" (220 : Nat) ({ cls := "Rollover$Rating", name := "bills", desc := "()I" } : Jvm.MethodName)) ∈ lw_all := lw_g (lw_at lw_m3 86 rfl) rfl
theorem q648 : (Jvm.Cond.methodLink "Rollover" (356 : Nat) ({ cls := "Rollover", name := "houseNow", desc := "(I)I" } : Jvm.MethodName)) ∈ lw_all := lw_g (lw_at lw_m3 99 rfl) rfl
theorem q649 : (Jvm.Cond.privateMethod ({ cls := "Rollover", name := "houseNow", desc := "(I)I" } : Jvm.MethodName)) ∈ lw_tbl := lw_at lw_m3 100 rfl
theorem q650 : (Jvm.Cond.instanceMethod ({ cls := "Rollover", name := "houseNow", desc := "(I)I" } : Jvm.MethodName)) ∈ lw_all := lw_g (lw_at lw_m3 101 rfl) rfl
theorem q651 : (Jvm.Cond.code ({ cls := "Rollover", name := "houseNow", desc := "(I)I" } : Jvm.MethodName) prog_1_method_59_code (2 : Nat) (Option.some Jvm.ClassFile.FieldType.int)) ∈ lw_all := lw_g (lw_at lw_m3 102 rfl) rfl
theorem q652 : (Jvm.Cond.methodLink "Rollover" (347 : Nat) ({ cls := "Rollover", name := "voids", desc := "()I" } : Jvm.MethodName)) ∈ lw_all := lw_g (lw_at lw_m3 103 rfl) rfl
theorem q653 : (Jvm.Cond.privateMethod ({ cls := "Rollover", name := "voids", desc := "()I" } : Jvm.MethodName)) ∈ lw_tbl := lw_at lw_m3 104 rfl
theorem q654 : (Jvm.Cond.instanceMethod ({ cls := "Rollover", name := "voids", desc := "()I" } : Jvm.MethodName)) ∈ lw_all := lw_g (lw_at lw_m3 105 rfl) rfl
theorem q655 : (Jvm.Cond.code ({ cls := "Rollover", name := "voids", desc := "()I" } : Jvm.MethodName) prog_1_method_56_code (3 : Nat) (Option.some Jvm.ClassFile.FieldType.int)) ∈ lw_all := lw_g (lw_at lw_m3 106 rfl) rfl
theorem q656 : (Jvm.Cond.methodLink "Rollover" (350 : Nat) ({ cls := "Rollover", name := "settlements", desc := "()I" } : Jvm.MethodName)) ∈ lw_all := lw_g (lw_at lw_m3 107 rfl) rfl
theorem q657 : (Jvm.Cond.privateMethod ({ cls := "Rollover", name := "settlements", desc := "()I" } : Jvm.MethodName)) ∈ lw_tbl := lw_at lw_m3 108 rfl
theorem q658 : (Jvm.Cond.instanceMethod ({ cls := "Rollover", name := "settlements", desc := "()I" } : Jvm.MethodName)) ∈ lw_all := lw_g (lw_at lw_m3 109 rfl) rfl
theorem q659 : (Jvm.Cond.code ({ cls := "Rollover", name := "settlements", desc := "()I" } : Jvm.MethodName) prog_1_method_57_code (3 : Nat) (Option.some Jvm.ClassFile.FieldType.int)) ∈ lw_all := lw_g (lw_at lw_m3 110 rfl) rfl
theorem q660 : (Jvm.Cond.methodLink "Rollover" (235 : Nat) ({ cls := "Rollover", name := "settlementNow", desc := "(I)I" } : Jvm.MethodName)) ∈ lw_all := lw_g (lw_at lw_m3 111 rfl) rfl
theorem q661 : (Jvm.Cond.privateMethod ({ cls := "Rollover", name := "settlementNow", desc := "(I)I" } : Jvm.MethodName)) ∈ lw_tbl := lw_at lw_m3 112 rfl
theorem q662 : (Jvm.Cond.instanceMethod ({ cls := "Rollover", name := "settlementNow", desc := "(I)I" } : Jvm.MethodName)) ∈ lw_all := lw_g (lw_at lw_m3 113 rfl) rfl
theorem q663 : (Jvm.Cond.code ({ cls := "Rollover", name := "settlementNow", desc := "(I)I" } : Jvm.MethodName) prog_1_method_35_code (6 : Nat) (Option.some Jvm.ClassFile.FieldType.int)) ∈ lw_all := lw_g (lw_at lw_m3 114 rfl) rfl
theorem q664 : (Jvm.Cond.methodLink "Rollover" (196 : Nat) ({ cls := "Rollover$Ticket", name := "isRated", desc := "()Z" } : Jvm.MethodName)) ∈ lw_all := lw_g (lw_at lw_m3 115 rfl) rfl
theorem q674 : (Jvm.Cond.methodLink "Rollover" (127 : Nat) ({ cls := "Rollover$Since", name := "on", desc := "(I)I" } : Jvm.MethodName)) ∈ lw_all := lw_g (lw_at lw_m3 125 rfl) rfl
theorem q675 : (Jvm.Cond.methodLink "Rollover" (229 : Nat) ({ cls := "Rollover", name := "up", desc := "(II)I" } : Jvm.MethodName)) ∈ lw_all := lw_g (lw_at lw_m3 126 rfl) rfl
theorem q676 : (Jvm.Cond.methodLink "Rollover" (353 : Nat) ({ cls := "Rollover", name := "suspects", desc := "()I" } : Jvm.MethodName)) ∈ lw_all := lw_g (lw_at lw_m3 127 rfl) rfl
theorem q677 : (Jvm.Cond.privateMethod ({ cls := "Rollover", name := "suspects", desc := "()I" } : Jvm.MethodName)) ∈ lw_tbl := lw_at lw_m3 128 rfl
theorem q678 : (Jvm.Cond.instanceMethod ({ cls := "Rollover", name := "suspects", desc := "()I" } : Jvm.MethodName)) ∈ lw_all := lw_g (lw_at lw_m3 129 rfl) rfl
theorem q679 : (Jvm.Cond.code ({ cls := "Rollover", name := "suspects", desc := "()I" } : Jvm.MethodName) prog_1_method_58_code (3 : Nat) (Option.some Jvm.ClassFile.FieldType.int)) ∈ lw_all := lw_g (lw_at lw_m3 130 rfl) rfl
theorem q680 : (Jvm.Cond.methodLink "Rollover" (344 : Nat) ({ cls := "Rollover", name := "suspectNow", desc := "(I)I" } : Jvm.MethodName)) ∈ lw_all := lw_g (lw_at lw_m3 131 rfl) rfl
theorem q681 : (Jvm.Cond.privateMethod ({ cls := "Rollover", name := "suspectNow", desc := "(I)I" } : Jvm.MethodName)) ∈ lw_tbl := lw_at lw_m3 132 rfl
theorem q682 : (Jvm.Cond.instanceMethod ({ cls := "Rollover", name := "suspectNow", desc := "(I)I" } : Jvm.MethodName)) ∈ lw_all := lw_g (lw_at lw_m3 133 rfl) rfl
theorem q683 : (Jvm.Cond.code ({ cls := "Rollover", name := "suspectNow", desc := "(I)I" } : Jvm.MethodName) prog_1_method_54_code (2 : Nat) (Option.some Jvm.ClassFile.FieldType.int)) ∈ lw_all := lw_g (lw_at lw_m3 134 rfl) rfl
theorem q684 : (Jvm.Cond.methodLink "Rollover" (335 : Nat) ({ cls := "Rollover", name := "overlaps", desc := "(I)Z" } : Jvm.MethodName)) ∈ lw_all := lw_g (lw_at lw_m3 135 rfl) rfl
theorem q685 : (Jvm.Cond.privateMethod ({ cls := "Rollover", name := "overlaps", desc := "(I)Z" } : Jvm.MethodName)) ∈ lw_tbl := lw_at lw_m3 136 rfl
theorem q686 : (Jvm.Cond.instanceMethod ({ cls := "Rollover", name := "overlaps", desc := "(I)Z" } : Jvm.MethodName)) ∈ lw_all := lw_g (lw_at lw_m3 137 rfl) rfl
theorem q687 : (Jvm.Cond.code ({ cls := "Rollover", name := "overlaps", desc := "(I)Z" } : Jvm.MethodName) prog_1_method_51_code (7 : Nat) (Option.some Jvm.ClassFile.FieldType.boolean)) ∈ lw_all := lw_g (lw_at lw_m3 138 rfl) rfl
theorem q688 : (Jvm.Cond.methodLink "Rollover" (329 : Nat) ({ cls := "Rollover$Ticket", name := "hasIn", desc := "(LRollover$Ticket;)Z" } : Jvm.MethodName)) ∈ lw_all := lw_g (lw_at lw_m3 139 rfl) rfl
theorem q693 : (Jvm.Cond.methodLink "Rollover" (338 : Nat) ({ cls := "Rollover", name := "callsMany", desc := "(I)Z" } : Jvm.MethodName)) ∈ lw_all := lw_g (lw_at lw_m3 144 rfl) rfl
theorem q694 : (Jvm.Cond.privateMethod ({ cls := "Rollover", name := "callsMany", desc := "(I)Z" } : Jvm.MethodName)) ∈ lw_tbl := lw_at lw_m3 145 rfl
theorem q695 : (Jvm.Cond.instanceMethod ({ cls := "Rollover", name := "callsMany", desc := "(I)Z" } : Jvm.MethodName)) ∈ lw_all := lw_g (lw_at lw_m3 146 rfl) rfl
theorem q696 : (Jvm.Cond.code ({ cls := "Rollover", name := "callsMany", desc := "(I)Z" } : Jvm.MethodName) prog_1_method_52_code (3 : Nat) (Option.some Jvm.ClassFile.FieldType.boolean)) ∈ lw_all := lw_g (lw_at lw_m3 147 rfl) rfl
theorem q697 : (Jvm.Cond.methodLink "Rollover" (332 : Nat) ({ cls := "Rollover", name := "called", desc := "(II)I" } : Jvm.MethodName)) ∈ lw_all := lw_g (lw_at lw_m3 148 rfl) rfl
theorem q698 : (Jvm.Cond.privateMethod ({ cls := "Rollover", name := "called", desc := "(II)I" } : Jvm.MethodName)) ∈ lw_tbl := lw_at lw_m3 149 rfl
theorem q699 : (Jvm.Cond.instanceMethod ({ cls := "Rollover", name := "called", desc := "(II)I" } : Jvm.MethodName)) ∈ lw_all := lw_g (lw_at lw_m3 150 rfl) rfl
theorem q700 : (Jvm.Cond.code ({ cls := "Rollover", name := "called", desc := "(II)I" } : Jvm.MethodName) prog_1_method_50_code (7 : Nat) (Option.some Jvm.ClassFile.FieldType.int)) ∈ lw_all := lw_g (lw_at lw_m3 151 rfl) rfl
theorem q701 : (Jvm.Cond.methodLink "Rollover" (132 : Nat) ({ cls := "Rollover", name := "size", desc := "(I)I" } : Jvm.MethodName)) ∈ lw_all := lw_g (lw_at lw_m3 152 rfl) rfl
theorem q702 : (Jvm.Cond.static ({ cls := "Rollover", name := "size", desc := "(I)I" } : Jvm.MethodName)) ∈ lw_all := lw_g (lw_at lw_m3 153 rfl) rfl
theorem q703 : (Jvm.Cond.code ({ cls := "Rollover", name := "size", desc := "(I)I" } : Jvm.MethodName) prog_1_method_2_code (3 : Nat) (Option.some Jvm.ClassFile.FieldType.int)) ∈ lw_all := lw_g (lw_at lw_m3 154 rfl) rfl
theorem q704 : (Jvm.Cond.methodLink "Rollover" (341 : Nat) ({ cls := "Rollover", name := "isLikeAnother", desc := "(I)Z" } : Jvm.MethodName)) ∈ lw_all := lw_g (lw_at lw_m3 155 rfl) rfl
theorem q705 : (Jvm.Cond.privateMethod ({ cls := "Rollover", name := "isLikeAnother", desc := "(I)Z" } : Jvm.MethodName)) ∈ lw_tbl := lw_at lw_m3 156 rfl
theorem q706 : (Jvm.Cond.instanceMethod ({ cls := "Rollover", name := "isLikeAnother", desc := "(I)Z" } : Jvm.MethodName)) ∈ lw_all := lw_g (lw_at lw_m3 157 rfl) rfl
theorem q707 : (Jvm.Cond.code ({ cls := "Rollover", name := "isLikeAnother", desc := "(I)Z" } : Jvm.MethodName) prog_1_method_53_code (3 : Nat) (Option.some Jvm.ClassFile.FieldType.boolean)) ∈ lw_all := lw_g (lw_at lw_m3 158 rfl) rfl
theorem q708 : (Jvm.Cond.methodLink "Rollover" (420 : Nat) ({ cls := "Rollover$Sum", name := "add", desc := "(J)V" } : Jvm.MethodName)) ∈ lw_all := lw_g (lw_at lw_m3 159 rfl) rfl
theorem q713 : (Jvm.Cond.methodLink "Rollover" (426 : Nat) ({ cls := "Rollover", name := "sumCustomer", desc := "(LRollover$Sum;LRollover$Rating;I)V" } : Jvm.MethodName)) ∈ lw_all := lw_g (lw_at lw_m3 164 rfl) rfl
theorem q714 : (Jvm.Cond.privateMethod ({ cls := "Rollover", name := "sumCustomer", desc := "(LRollover$Sum;LRollover$Rating;I)V" } : Jvm.MethodName)) ∈ lw_tbl := lw_at lw_m3 165 rfl
theorem q715 : (Jvm.Cond.instanceMethod ({ cls := "Rollover", name := "sumCustomer", desc := "(LRollover$Sum;LRollover$Rating;I)V" } : Jvm.MethodName)) ∈ lw_all := lw_g (lw_at lw_m3 166 rfl) rfl
theorem q716 : (Jvm.Cond.code ({ cls := "Rollover", name := "sumCustomer", desc := "(LRollover$Sum;LRollover$Rating;I)V" } : Jvm.MethodName) prog_1_method_67_code (6 : Nat) (Option.none : Option Jvm.ClassFile.FieldType)) ∈ lw_all := lw_g (lw_at lw_m3 167 rfl) rfl
theorem q717 : (Jvm.Cond.methodLink "Rollover" (251 : Nat) ({ cls := "Rollover", name := "dayNow", desc := "(ILRollover$Rating;II)I" } : Jvm.MethodName)) ∈ lw_all := lw_g (lw_at lw_m3 168 rfl) rfl
theorem q718 : (Jvm.Cond.privateMethod ({ cls := "Rollover", name := "dayNow", desc := "(ILRollover$Rating;II)I" } : Jvm.MethodName)) ∈ lw_tbl := lw_at lw_m3 169 rfl
theorem q719 : (Jvm.Cond.instanceMethod ({ cls := "Rollover", name := "dayNow", desc := "(ILRollover$Rating;II)I" } : Jvm.MethodName)) ∈ lw_all := lw_g (lw_at lw_m3 170 rfl) rfl
theorem q720 : (Jvm.Cond.code ({ cls := "Rollover", name := "dayNow", desc := "(ILRollover$Rating;II)I" } : Jvm.MethodName) prog_1_method_38_code (6 : Nat) (Option.some Jvm.ClassFile.FieldType.int)) ∈ lw_all := lw_g (lw_at lw_m3 171 rfl) rfl
theorem q721 : (Jvm.Cond.classLink "Rollover" (241 : Nat) "Rollover$Buckets") ∈ lw_all := lw_g (lw_at lw_m3 172 rfl) rfl
theorem q722 : (Jvm.Cond.methodLink "Rollover" (243 : Nat) ({ cls := "Rollover$Buckets", name := "seconds", desc := "(I)I" } : Jvm.MethodName)) ∈ lw_all := lw_g (lw_at lw_m3 173 rfl) rfl
theorem q726 : (Jvm.Cond.methodLink "Rollover" (245 : Nat) ({ cls := "Rollover$Buckets", name := "many", desc := "(I)I" } : Jvm.MethodName)) ∈ lw_all := lw_g (lw_at lw_m3 177 rfl) rfl
theorem q730 : (Jvm.Cond.methodLink "Rollover" (248 : Nat) ({ cls := "Rollover$Buckets", name := "lapsed", desc := "(I)I" } : Jvm.MethodName)) ∈ lw_all := lw_g (lw_at lw_m3 181 rfl) rfl
theorem q734 : (Jvm.Cond.methodLink "Rollover" (286 : Nat) ({ cls := "Rollover", name := "cycleNow", desc := "(LRollover$Rating;III)I" } : Jvm.MethodName)) ∈ lw_all := lw_g (lw_at lw_m3 185 rfl) rfl
theorem q735 : (Jvm.Cond.static ({ cls := "Rollover", name := "cycleNow", desc := "(LRollover$Rating;III)I" } : Jvm.MethodName)) ∈ lw_all := lw_g (lw_at lw_m3 186 rfl) rfl
theorem q736 : (Jvm.Cond.code ({ cls := "Rollover", name := "cycleNow", desc := "(LRollover$Rating;III)I" } : Jvm.MethodName) prog_1_method_41_code (4 : Nat) (Option.some Jvm.ClassFile.FieldType.int)) ∈ lw_all := lw_g (lw_at lw_m3 187 rfl) rfl
theorem q737 : (Jvm.Cond.methodLink "Rollover" (210 : Nat) ({ cls := "Rollover$Rating", name := "bill", desc := "(II)I" } : Jvm.MethodName)) ∈ lw_all := lw_g (lw_at lw_m3 188 rfl) rfl
theorem q738 : (Jvm.Cond.methodLinkNest "Rollover" (278 : Nat) ({ cls := "Rollover$Rating", name := "account", desc := "(II)LRollover$Account;" } : Jvm.MethodName) "Rollover") ∈ lw_tbl := lw_at lw_m3 189 rfl
theorem q739 : (Jvm.Cond.methodLink "Rollover" (282 : Nat) ({ cls := "Rollover", name := "accountNow", desc := "(LRollover$Account;I)I" } : Jvm.MethodName)) ∈ lw_all := lw_g (lw_at lw_m3 190 rfl) rfl
theorem q740 : (Jvm.Cond.static ({ cls := "Rollover", name := "accountNow", desc := "(LRollover$Account;I)I" } : Jvm.MethodName)) ∈ lw_all := lw_g (lw_at lw_m3 191 rfl) rfl
theorem q741 : (Jvm.Cond.code ({ cls := "Rollover", name := "accountNow", desc := "(LRollover$Account;I)I" } : Jvm.MethodName) prog_1_method_40_code (2 : Nat) (Option.some Jvm.ClassFile.FieldType.int)) ∈ lw_all := lw_g (lw_at lw_m3 192 rfl) rfl
theorem q742 : (Jvm.Cond.methodLink "Rollover" (326 : Nat) ({ cls := "Rollover", name := "ticketNow", desc := "(ILRollover$Rating;I)I" } : Jvm.MethodName)) ∈ lw_all := lw_g (lw_at lw_m3 193 rfl) rfl
theorem q743 : (Jvm.Cond.privateMethod ({ cls := "Rollover", name := "ticketNow", desc := "(ILRollover$Rating;I)I" } : Jvm.MethodName)) ∈ lw_tbl := lw_at lw_m3 194 rfl
theorem q744 : (Jvm.Cond.instanceMethod ({ cls := "Rollover", name := "ticketNow", desc := "(ILRollover$Rating;I)I" } : Jvm.MethodName)) ∈ lw_all := lw_g (lw_at lw_m3 195 rfl) rfl
theorem q745 : (Jvm.Cond.code ({ cls := "Rollover", name := "ticketNow", desc := "(ILRollover$Rating;I)I" } : Jvm.MethodName) prog_1_method_46_code (4 : Nat) (Option.some Jvm.ClassFile.FieldType.int)) ∈ lw_all := lw_g (lw_at lw_m3 196 rfl) rfl
theorem q746 : (Jvm.Cond.classLink "Rollover" (307 : Nat) "Rollover$Line") ∈ lw_all := lw_g (lw_at lw_m3 197 rfl) rfl
theorem q747 : (Jvm.Cond.methodLink "Rollover" (319 : Nat) ({ cls := "Rollover", name := "lineNow", desc := "(LRollover$Line;I)I" } : Jvm.MethodName)) ∈ lw_all := lw_g (lw_at lw_m3 198 rfl) rfl
theorem q748 : (Jvm.Cond.static ({ cls := "Rollover", name := "lineNow", desc := "(LRollover$Line;I)I" } : Jvm.MethodName)) ∈ lw_all := lw_g (lw_at lw_m3 199 rfl) rfl
theorem q749 : (Jvm.Cond.code ({ cls := "Rollover", name := "lineNow", desc := "(LRollover$Line;I)I" } : Jvm.MethodName) prog_1_method_45_code (2 : Nat) (Option.some Jvm.ClassFile.FieldType.int)) ∈ lw_all := lw_g (lw_at lw_m3 200 rfl) rfl
theorem q750 : (Jvm.Cond.methodLink "Rollover" (323 : Nat) ({ cls := "Rollover", name := "ticketNow", desc := "(II)I" } : Jvm.MethodName)) ∈ lw_all := lw_g (lw_at lw_m3 201 rfl) rfl
theorem q751 : (Jvm.Cond.privateMethod ({ cls := "Rollover", name := "ticketNow", desc := "(II)I" } : Jvm.MethodName)) ∈ lw_tbl := lw_at lw_m3 202 rfl
theorem q752 : (Jvm.Cond.instanceMethod ({ cls := "Rollover", name := "ticketNow", desc := "(II)I" } : Jvm.MethodName)) ∈ lw_all := lw_g (lw_at lw_m3 203 rfl) rfl
theorem q753 : (Jvm.Cond.code ({ cls := "Rollover", name := "ticketNow", desc := "(II)I" } : Jvm.MethodName) prog_1_method_44_code (4 : Nat) (Option.some Jvm.ClassFile.FieldType.int)) ∈ lw_all := lw_g (lw_at lw_m3 204 rfl) rfl
theorem q754 : (Jvm.Cond.methodLink "Rollover" (297 : Nat) ({ cls := "Rollover$Kind", name := "ordinal", desc := "()I" } : Jvm.MethodName)) ∈ lw_all := lw_g (lw_at lw_m3 205 rfl) rfl
theorem q755 : (Jvm.Cond.methodLink "Rollover" (303 : Nat) ({ cls := "Rollover", name := "place", desc := "(I)I" } : Jvm.MethodName)) ∈ lw_all := lw_g (lw_at lw_m3 206 rfl) rfl
theorem q756 : (Jvm.Cond.privateMethod ({ cls := "Rollover", name := "place", desc := "(I)I" } : Jvm.MethodName)) ∈ lw_tbl := lw_at lw_m3 207 rfl
theorem q757 : (Jvm.Cond.instanceMethod ({ cls := "Rollover", name := "place", desc := "(I)I" } : Jvm.MethodName)) ∈ lw_all := lw_g (lw_at lw_m3 208 rfl) rfl
theorem q758 : (Jvm.Cond.code ({ cls := "Rollover", name := "place", desc := "(I)I" } : Jvm.MethodName) prog_1_method_43_code (4 : Nat) (Option.some Jvm.ClassFile.FieldType.int)) ∈ lw_all := lw_g (lw_at lw_m3 209 rfl) rfl
theorem q759 : (Jvm.Cond.methodLink "Rollover" (290 : Nat) ({ cls := "Rollover", name := "inTime", desc := "()[I" } : Jvm.MethodName)) ∈ lw_all := lw_g (lw_at lw_m3 210 rfl) rfl
theorem q779 : (Jvm.Cond.instanceMethod ({ cls := "Rollover", name := "plan", desc := "(III)I" } : Jvm.MethodName)) ∈ lw_all := lw_g (lw_at lw_m3 230 rfl) rfl
theorem q780 : (Jvm.Cond.selects "Rollover" ({ cls := "Rollover", name := "plan", desc := "(III)I" } : Jvm.MethodName) ({ cls := "Rollover", name := "plan", desc := "(III)I" } : Jvm.MethodName)) ∈ lw_all := lw_g (lw_at lw_m3 231 rfl) rfl
theorem q781 : (Jvm.Cond.code ({ cls := "Rollover", name := "plan", desc := "(III)I" } : Jvm.MethodName) prog_1_method_16_code (4 : Nat) (Option.some Jvm.ClassFile.FieldType.int)) ∈ lw_all := lw_g (lw_at lw_m3 232 rfl) rfl
theorem q782 : (Jvm.Cond.methodLink "Rollover" (71 : Nat) ({ cls := "Rollover", name := "mustBeIn", desc := "(III)V" } : Jvm.MethodName)) ∈ lw_all := lw_g (lw_at lw_m3 233 rfl) rfl
theorem q783 : (Jvm.Cond.static ({ cls := "Rollover", name := "mustBeIn", desc := "(III)V" } : Jvm.MethodName)) ∈ lw_all := lw_g (lw_at lw_m3 234 rfl) rfl
theorem q784 : (Jvm.Cond.code ({ cls := "Rollover", name := "mustBeIn", desc := "(III)V" } : Jvm.MethodName) prog_1_method_6_code (3 : Nat) (Option.none : Option Jvm.ClassFile.FieldType)) ∈ lw_all := lw_g (lw_at lw_m3 235 rfl) rfl
theorem q785 : (Jvm.Cond.methodLink "Rollover" (44 : Nat) ({ cls := "Rollover", name := "must", desc := "(Z)V" } : Jvm.MethodName)) ∈ lw_all := lw_g (lw_at lw_m3 236 rfl) rfl
theorem q786 : (Jvm.Cond.static ({ cls := "Rollover", name := "must", desc := "(Z)V" } : Jvm.MethodName)) ∈ lw_all := lw_g (lw_at lw_m3 237 rfl) rfl
theorem q787 : (Jvm.Cond.code ({ cls := "Rollover", name := "must", desc := "(Z)V" } : Jvm.MethodName) prog_1_method_5_code (1 : Nat) (Option.none : Option Jvm.ClassFile.FieldType)) ∈ lw_all := lw_g (lw_at lw_m3 238 rfl) rfl
theorem q788 : (Jvm.Cond.classLink "Rollover" (41 : Nat) "java/lang/IllegalArgumentException") ∈ lw_all := lw_g (lw_at lw_m3 239 rfl) rfl
theorem q830 : (Jvm.Cond.methodLink "Rollover" (43 : Nat) ({ cls := "java/lang/IllegalArgumentException", name := "<init>", desc := "()V" } : Jvm.MethodName)) ∈ lw_all := lw_g (lw_at lw_m4 41 rfl) rfl
theorem q853 : (Jvm.Cond.methodLink "Rollover" (87 : Nat) ({ cls := "Rollover", name := "checkState", desc := "(Z)V" } : Jvm.MethodName)) ∈ lw_all := lw_g (lw_at lw_m4 64 rfl) rfl
theorem q854 : (Jvm.Cond.static ({ cls := "Rollover", name := "checkState", desc := "(Z)V" } : Jvm.MethodName)) ∈ lw_all := lw_g (lw_at lw_m4 65 rfl) rfl
theorem q855 : (Jvm.Cond.code ({ cls := "Rollover", name := "checkState", desc := "(Z)V" } : Jvm.MethodName) prog_1_method_7_code (1 : Nat) (Option.none : Option Jvm.ClassFile.FieldType)) ∈ lw_all := lw_g (lw_at lw_m4 66 rfl) rfl
theorem q856 : (Jvm.Cond.classLink "Rollover" (48 : Nat) "java/lang/IllegalStateException") ∈ lw_all := lw_g (lw_at lw_m4 67 rfl) rfl
theorem q865 : (Jvm.Cond.methodLink "Rollover" (50 : Nat) ({ cls := "java/lang/IllegalStateException", name := "<init>", desc := "()V" } : Jvm.MethodName)) ∈ lw_all := lw_g (lw_at lw_m4 76 rfl) rfl
theorem q871 : (Jvm.Cond.classLink "Rollover" (65 : Nat) "Rollover$Plan") ∈ lw_all := lw_g (lw_at lw_m4 82 rfl) rfl
theorem q873 : (Jvm.Cond.methodLink "Rollover" (90 : Nat) ({ cls := "Rollover$Plan", name := "<init>", desc := "(III)V" } : Jvm.MethodName)) ∈ lw_all := lw_g (lw_at lw_m4 84 rfl) rfl
theorem q883 : (Jvm.Cond.fieldLinkNest "Rollover" (99 : Nat) "Rollover$Plan" "keep" "I" "Rollover") ∈ lw_tbl := lw_at lw_m4 94 rfl
theorem q885 : (Jvm.Cond.fieldLinkNest "Rollover" (102 : Nat) "Rollover$Plan" "first" "I" "Rollover") ∈ lw_tbl := lw_at lw_m4 96 rfl
theorem q887 : (Jvm.Cond.fieldLinkNest "Rollover" (96 : Nat) "Rollover$Plan" "unit" "I" "Rollover") ∈ lw_tbl := lw_at lw_m4 98 rfl
theorem q889 : (Jvm.Cond.fieldLinkNest "Rollover" (112 : Nat) "Rollover$Plan" "step" "I" "Rollover") ∈ lw_tbl := lw_at lw_m4 100 rfl
theorem q891 : (Jvm.Cond.fieldLinkNest "Rollover" (115 : Nat) "Rollover$Plan" "later" "I" "Rollover") ∈ lw_tbl := lw_at lw_m4 102 rfl
theorem q893 : (Jvm.Cond.fieldLinkNest "Rollover" (109 : Nat) "Rollover$Plan" "cap" "I" "Rollover") ∈ lw_tbl := lw_at lw_m4 104 rfl
theorem q895 : (Jvm.Cond.fieldLinkNest "Rollover" (105 : Nat) "Rollover$Plan" "isNight" "Z" "Rollover") ∈ lw_tbl := lw_at lw_m4 106 rfl
theorem q954 : (Jvm.Cond.instanceMethod ({ cls := "Rollover", name := "units", desc := "(IIIIZ)I" } : Jvm.MethodName)) ∈ lw_all := lw_g (lw_at lw_m4 165 rfl) rfl
theorem q955 : (Jvm.Cond.selects "Rollover" ({ cls := "Rollover", name := "units", desc := "(IIIIZ)I" } : Jvm.MethodName) ({ cls := "Rollover", name := "units", desc := "(IIIIZ)I" } : Jvm.MethodName)) ∈ lw_all := lw_g (lw_at lw_m4 166 rfl) rfl
theorem q956 : (Jvm.Cond.code ({ cls := "Rollover", name := "units", desc := "(IIIIZ)I" } : Jvm.MethodName) prog_1_method_17_code (8 : Nat) (Option.some Jvm.ClassFile.FieldType.int)) ∈ lw_all := lw_g (lw_at lw_m4 167 rfl) rfl
theorem q957 : (Jvm.Cond.methodLink "Rollover" (92 : Nat) ({ cls := "Rollover", name := "planAt", desc := "(I)LRollover$Plan;" } : Jvm.MethodName)) ∈ lw_all := lw_g (lw_at lw_m4 168 rfl) rfl
theorem q958 : (Jvm.Cond.privateMethod ({ cls := "Rollover", name := "planAt", desc := "(I)LRollover$Plan;" } : Jvm.MethodName)) ∈ lw_tbl := lw_at lw_m4 169 rfl
theorem q959 : (Jvm.Cond.instanceMethod ({ cls := "Rollover", name := "planAt", desc := "(I)LRollover$Plan;" } : Jvm.MethodName)) ∈ lw_all := lw_g (lw_at lw_m4 170 rfl) rfl
theorem q960 : (Jvm.Cond.code ({ cls := "Rollover", name := "planAt", desc := "(I)LRollover$Plan;" } : Jvm.MethodName) prog_1_method_9_code (2 : Nat) (Option.some (Jvm.ClassFile.FieldType.object "Rollover$Plan"))) ∈ lw_all := lw_g (lw_at lw_m4 171 rfl) rfl
theorem q961 : (Jvm.Cond.methodLink "Rollover" (58 : Nat) ({ cls := "Rollover", name := "checkPlace", desc := "(II)V" } : Jvm.MethodName)) ∈ lw_all := lw_g (lw_at lw_m4 172 rfl) rfl
theorem q962 : (Jvm.Cond.static ({ cls := "Rollover", name := "checkPlace", desc := "(II)V" } : Jvm.MethodName)) ∈ lw_all := lw_g (lw_at lw_m4 173 rfl) rfl
theorem q963 : (Jvm.Cond.code ({ cls := "Rollover", name := "checkPlace", desc := "(II)V" } : Jvm.MethodName) prog_1_method_8_code (2 : Nat) (Option.none : Option Jvm.ClassFile.FieldType)) ∈ lw_all := lw_g (lw_at lw_m4 174 rfl) rfl
theorem q964 : (Jvm.Cond.classLink "Rollover" (51 : Nat) "java/lang/IndexOutOfBoundsException") ∈ lw_all := lw_g (lw_at lw_m4 175 rfl) rfl
theorem q973 : (Jvm.Cond.methodLink "Rollover" (53 : Nat) ({ cls := "java/lang/IndexOutOfBoundsException", name := "<init>", desc := "()V" } : Jvm.MethodName)) ∈ lw_all := lw_g (lw_at lw_m4 184 rfl) rfl
theorem q983 : (Jvm.Cond.instanceMethod ({ cls := "Rollover", name := "steps", desc := "(IIII)I" } : Jvm.MethodName)) ∈ lw_all := lw_g (lw_at lw_m4 194 rfl) rfl
theorem q984 : (Jvm.Cond.selects "Rollover" ({ cls := "Rollover", name := "steps", desc := "(IIII)I" } : Jvm.MethodName) ({ cls := "Rollover", name := "steps", desc := "(IIII)I" } : Jvm.MethodName)) ∈ lw_all := lw_g (lw_at lw_m4 195 rfl) rfl
theorem q985 : (Jvm.Cond.code ({ cls := "Rollover", name := "steps", desc := "(IIII)I" } : Jvm.MethodName) prog_1_method_18_code (7 : Nat) (Option.some Jvm.ClassFile.FieldType.int)) ∈ lw_all := lw_g (lw_at lw_m4 196 rfl) rfl
theorem q990 : (Jvm.Cond.instanceMethod ({ cls := "Rollover", name := "join", desc := "(II)I" } : Jvm.MethodName)) ∈ lw_all := lw_g (lw_at lw_m4 201 rfl) rfl
theorem q991 : (Jvm.Cond.selects "Rollover" ({ cls := "Rollover", name := "join", desc := "(II)I" } : Jvm.MethodName) ({ cls := "Rollover", name := "join", desc := "(II)I" } : Jvm.MethodName)) ∈ lw_all := lw_g (lw_at lw_m4 202 rfl) rfl
theorem q992 : (Jvm.Cond.code ({ cls := "Rollover", name := "join", desc := "(II)I" } : Jvm.MethodName) prog_1_method_19_code (3 : Nat) (Option.some Jvm.ClassFile.FieldType.int)) ∈ lw_all := lw_g (lw_at lw_m4 203 rfl) rfl
theorem q994 : (Jvm.Cond.methodLink "Rollover" (118 : Nat) ({ cls := "Rollover$Customer", name := "<init>", desc := "(II)V" } : Jvm.MethodName)) ∈ lw_all := lw_g (lw_at lw_m4 205 rfl) rfl
theorem q1003 : (Jvm.Cond.fieldLinkNest "Rollover" (147 : Nat) "Rollover$Customer" "joined" "I" "Rollover") ∈ lw_tbl := lw_at lw_m4 214 rfl
theorem q1006 : (Jvm.Cond.fieldLinkNest "Rollover" (124 : Nat) "Rollover$Customer" "plans" "LRollover$Since;" "Rollover") ∈ lw_tbl := lw_at lw_m4 217 rfl
theorem q1008 : (Jvm.Cond.fieldLinkNest "Rollover" (134 : Nat) "Rollover$Customer" "circle" "I" "Rollover") ∈ lw_tbl := lw_at lw_m4 219 rfl
theorem q1011 : (Jvm.Cond.fieldLinkNest "Rollover" (137 : Nat) "Rollover$Customer" "parent" "I" "Rollover") ∈ lw_tbl := lw_at lw_m4 222 rfl
theorem q1013 : (Jvm.Cond.fieldLinkNest "Rollover" (144 : Nat) "Rollover$Customer" "limit" "I" "Rollover") ∈ lw_tbl := lw_at lw_m4 224 rfl
theorem q1029 : (Jvm.Cond.instanceMethod ({ cls := "Rollover", name := "change", desc := "(II)I" } : Jvm.MethodName)) ∈ lw_all := lw_g (lw_at lw_m5 0 rfl) rfl
theorem q1030 : (Jvm.Cond.selects "Rollover" ({ cls := "Rollover", name := "change", desc := "(II)I" } : Jvm.MethodName) ({ cls := "Rollover", name := "change", desc := "(II)I" } : Jvm.MethodName)) ∈ lw_all := lw_g (lw_at lw_m5 1 rfl) rfl
theorem q1031 : (Jvm.Cond.code ({ cls := "Rollover", name := "change", desc := "(II)I" } : Jvm.MethodName) prog_1_method_20_code (5 : Nat) (Option.some Jvm.ClassFile.FieldType.int)) ∈ lw_all := lw_g (lw_at lw_m5 2 rfl) rfl
theorem q1032 : (Jvm.Cond.methodLink "Rollover" (120 : Nat) ({ cls := "Rollover", name := "customerAt", desc := "(I)LRollover$Customer;" } : Jvm.MethodName)) ∈ lw_all := lw_g (lw_at lw_m5 3 rfl) rfl
theorem q1033 : (Jvm.Cond.privateMethod ({ cls := "Rollover", name := "customerAt", desc := "(I)LRollover$Customer;" } : Jvm.MethodName)) ∈ lw_tbl := lw_at lw_m5 4 rfl
theorem q1034 : (Jvm.Cond.instanceMethod ({ cls := "Rollover", name := "customerAt", desc := "(I)LRollover$Customer;" } : Jvm.MethodName)) ∈ lw_all := lw_g (lw_at lw_m5 5 rfl) rfl
theorem q1035 : (Jvm.Cond.code ({ cls := "Rollover", name := "customerAt", desc := "(I)LRollover$Customer;" } : Jvm.MethodName) prog_1_method_10_code (2 : Nat) (Option.some (Jvm.ClassFile.FieldType.object "Rollover$Customer"))) ∈ lw_all := lw_g (lw_at lw_m5 6 rfl) rfl
theorem q1040 : (Jvm.Cond.instanceMethod ({ cls := "Rollover", name := "circle", desc := "(II)I" } : Jvm.MethodName)) ∈ lw_all := lw_g (lw_at lw_m5 11 rfl) rfl
theorem q1041 : (Jvm.Cond.selects "Rollover" ({ cls := "Rollover", name := "circle", desc := "(II)I" } : Jvm.MethodName) ({ cls := "Rollover", name := "circle", desc := "(II)I" } : Jvm.MethodName)) ∈ lw_all := lw_g (lw_at lw_m5 12 rfl) rfl
theorem q1042 : (Jvm.Cond.code ({ cls := "Rollover", name := "circle", desc := "(II)I" } : Jvm.MethodName) prog_1_method_21_code (4 : Nat) (Option.some Jvm.ClassFile.FieldType.int)) ∈ lw_all := lw_g (lw_at lw_m5 13 rfl) rfl
theorem q1043 : (Jvm.Cond.constant "Rollover" (131 : Nat) (65535 : Int32)) ∈ lw_all := lw_g (lw_at lw_m5 14 rfl) rfl
theorem q1048 : (Jvm.Cond.instanceMethod ({ cls := "Rollover", name := "child", desc := "(III)I" } : Jvm.MethodName)) ∈ lw_all := lw_g (lw_at lw_m5 19 rfl) rfl
theorem q1049 : (Jvm.Cond.selects "Rollover" ({ cls := "Rollover", name := "child", desc := "(III)I" } : Jvm.MethodName) ({ cls := "Rollover", name := "child", desc := "(III)I" } : Jvm.MethodName)) ∈ lw_all := lw_g (lw_at lw_m5 20 rfl) rfl
theorem q1050 : (Jvm.Cond.code ({ cls := "Rollover", name := "child", desc := "(III)I" } : Jvm.MethodName) prog_1_method_23_code (6 : Nat) (Option.some Jvm.ClassFile.FieldType.int)) ∈ lw_all := lw_g (lw_at lw_m5 21 rfl) rfl
theorem q1051 : (Jvm.Cond.methodLink "Rollover" (140 : Nat) ({ cls := "Rollover", name := "hasChild", desc := "(I)Z" } : Jvm.MethodName)) ∈ lw_all := lw_g (lw_at lw_m5 22 rfl) rfl
theorem q1052 : (Jvm.Cond.privateMethod ({ cls := "Rollover", name := "hasChild", desc := "(I)Z" } : Jvm.MethodName)) ∈ lw_tbl := lw_at lw_m5 23 rfl
theorem q1053 : (Jvm.Cond.instanceMethod ({ cls := "Rollover", name := "hasChild", desc := "(I)Z" } : Jvm.MethodName)) ∈ lw_all := lw_g (lw_at lw_m5 24 rfl) rfl
theorem q1054 : (Jvm.Cond.code ({ cls := "Rollover", name := "hasChild", desc := "(I)Z" } : Jvm.MethodName) prog_1_method_22_code (3 : Nat) (Option.some Jvm.ClassFile.FieldType.boolean)) ∈ lw_all := lw_g (lw_at lw_m5 25 rfl) rfl
theorem q1059 : (Jvm.Cond.instanceMethod ({ cls := "Rollover", name := "pass", desc := "(I)I" } : Jvm.MethodName)) ∈ lw_all := lw_g (lw_at lw_m5 30 rfl) rfl
theorem q1060 : (Jvm.Cond.selects "Rollover" ({ cls := "Rollover", name := "pass", desc := "(I)I" } : Jvm.MethodName) ({ cls := "Rollover", name := "pass", desc := "(I)I" } : Jvm.MethodName)) ∈ lw_all := lw_g (lw_at lw_m5 31 rfl) rfl
theorem q1061 : (Jvm.Cond.code ({ cls := "Rollover", name := "pass", desc := "(I)I" } : Jvm.MethodName) prog_1_method_24_code (2 : Nat) (Option.some Jvm.ClassFile.FieldType.int)) ∈ lw_all := lw_g (lw_at lw_m5 32 rfl) rfl
theorem q1066 : (Jvm.Cond.instanceMethod ({ cls := "Rollover", name := "call", desc := "(IIIIII)I" } : Jvm.MethodName)) ∈ lw_all := lw_g (lw_at lw_m5 37 rfl) rfl
theorem q1067 : (Jvm.Cond.selects "Rollover" ({ cls := "Rollover", name := "call", desc := "(IIIIII)I" } : Jvm.MethodName) ({ cls := "Rollover", name := "call", desc := "(IIIIII)I" } : Jvm.MethodName)) ∈ lw_all := lw_g (lw_at lw_m5 38 rfl) rfl
theorem q1068 : (Jvm.Cond.code ({ cls := "Rollover", name := "call", desc := "(IIIIII)I" } : Jvm.MethodName) prog_1_method_29_code (8 : Nat) (Option.some Jvm.ClassFile.FieldType.int)) ∈ lw_all := lw_g (lw_at lw_m5 39 rfl) rfl
theorem q1069 : (Jvm.Cond.methodLink "Rollover" (161 : Nat) ({ cls := "Rollover", name := "isDay", desc := "(II)Z" } : Jvm.MethodName)) ∈ lw_all := lw_g (lw_at lw_m5 40 rfl) rfl
theorem q1070 : (Jvm.Cond.privateMethod ({ cls := "Rollover", name := "isDay", desc := "(II)Z" } : Jvm.MethodName)) ∈ lw_tbl := lw_at lw_m5 41 rfl
theorem q1071 : (Jvm.Cond.instanceMethod ({ cls := "Rollover", name := "isDay", desc := "(II)Z" } : Jvm.MethodName)) ∈ lw_all := lw_g (lw_at lw_m5 42 rfl) rfl
theorem q1072 : (Jvm.Cond.code ({ cls := "Rollover", name := "isDay", desc := "(II)Z" } : Jvm.MethodName) prog_1_method_25_code (3 : Nat) (Option.some Jvm.ClassFile.FieldType.boolean)) ∈ lw_all := lw_g (lw_at lw_m5 43 rfl) rfl
theorem q1073 : (Jvm.Cond.methodLink "Rollover" (165 : Nat) ({ cls := "Rollover", name := "mustBeCall", desc := "(III)V" } : Jvm.MethodName)) ∈ lw_all := lw_g (lw_at lw_m5 44 rfl) rfl
theorem q1074 : (Jvm.Cond.static ({ cls := "Rollover", name := "mustBeCall", desc := "(III)V" } : Jvm.MethodName)) ∈ lw_all := lw_g (lw_at lw_m5 45 rfl) rfl
theorem q1075 : (Jvm.Cond.code ({ cls := "Rollover", name := "mustBeCall", desc := "(III)V" } : Jvm.MethodName) prog_1_method_26_code (3 : Nat) (Option.none : Option Jvm.ClassFile.FieldType)) ∈ lw_all := lw_g (lw_at lw_m5 46 rfl) rfl
theorem q1076 : (Jvm.Cond.methodLink "Rollover" (150 : Nat) ({ cls := "Rollover", name := "mustBeMinute", desc := "(I)V" } : Jvm.MethodName)) ∈ lw_all := lw_g (lw_at lw_m5 47 rfl) rfl
theorem q1077 : (Jvm.Cond.static ({ cls := "Rollover", name := "mustBeMinute", desc := "(I)V" } : Jvm.MethodName)) ∈ lw_all := lw_g (lw_at lw_m5 48 rfl) rfl
theorem q1078 : (Jvm.Cond.code ({ cls := "Rollover", name := "mustBeMinute", desc := "(I)V" } : Jvm.MethodName) prog_1_method_12_code (1 : Nat) (Option.none : Option Jvm.ClassFile.FieldType)) ∈ lw_all := lw_g (lw_at lw_m5 49 rfl) rfl
theorem q1079 : (Jvm.Cond.methodLink "Rollover" (154 : Nat) ({ cls := "Rollover", name := "mustBeSeconds", desc := "(I)V" } : Jvm.MethodName)) ∈ lw_all := lw_g (lw_at lw_m5 50 rfl) rfl
theorem q1080 : (Jvm.Cond.static ({ cls := "Rollover", name := "mustBeSeconds", desc := "(I)V" } : Jvm.MethodName)) ∈ lw_all := lw_g (lw_at lw_m5 51 rfl) rfl
theorem q1081 : (Jvm.Cond.code ({ cls := "Rollover", name := "mustBeSeconds", desc := "(I)V" } : Jvm.MethodName) prog_1_method_13_code (1 : Nat) (Option.none : Option Jvm.ClassFile.FieldType)) ∈ lw_all := lw_g (lw_at lw_m5 52 rfl) rfl
theorem q1083 : (Jvm.Cond.fieldLink "Rollover" (168 : Nat) "Rollover$Kind" "CALL" "LRollover$Kind;") ∈ lw_all := lw_g (lw_at lw_m5 54 rfl) rfl
theorem q1084 : (Jvm.Cond.methodLink "Rollover" (174 : Nat) ({ cls := "Rollover$Ticket", name := "<init>", desc := "(LRollover$Kind;IIIIII)V" } : Jvm.MethodName)) ∈ lw_all := lw_g (lw_at lw_m5 55 rfl) rfl
theorem q1090 : (Jvm.Cond.fieldLinkNest "Rollover" (294 : Nat) "Rollover$Ticket" "kind" "LRollover$Kind;" "Rollover") ∈ lw_tbl := lw_at lw_m5 61 rfl
theorem q1093 : (Jvm.Cond.fieldLinkNest "Rollover" (204 : Nat) "Rollover$Ticket" "customer" "I" "Rollover") ∈ lw_tbl := lw_at lw_m5 64 rfl
theorem q1096 : (Jvm.Cond.fieldLinkNest "Rollover" (207 : Nat) "Rollover$Ticket" "day" "I" "Rollover") ∈ lw_tbl := lw_at lw_m5 67 rfl
theorem q1099 : (Jvm.Cond.fieldLinkNest "Rollover" (300 : Nat) "Rollover$Ticket" "minute" "I" "Rollover") ∈ lw_tbl := lw_at lw_m5 70 rfl
theorem q1102 : (Jvm.Cond.fieldLinkNest "Rollover" (226 : Nat) "Rollover$Ticket" "number" "I" "Rollover") ∈ lw_tbl := lw_at lw_m5 73 rfl
theorem q1107 : (Jvm.Cond.fieldLinkNest "Rollover" (214 : Nat) "Rollover$Ticket" "seconds" "I" "Rollover") ∈ lw_tbl := lw_at lw_m5 78 rfl
theorem q1110 : (Jvm.Cond.fieldLinkNest "Rollover" (217 : Nat) "Rollover$Ticket" "isVoid" "Z" "Rollover") ∈ lw_tbl := lw_at lw_m5 81 rfl
theorem q1128 : (Jvm.Cond.methodLink "Rollover" (177 : Nat) ({ cls := "Rollover", name := "isDoubled", desc := "(LRollover$Ticket;)Z" } : Jvm.MethodName)) ∈ lw_all := lw_g (lw_at lw_m5 99 rfl) rfl
theorem q1129 : (Jvm.Cond.privateMethod ({ cls := "Rollover", name := "isDoubled", desc := "(LRollover$Ticket;)Z" } : Jvm.MethodName)) ∈ lw_tbl := lw_at lw_m5 100 rfl
theorem q1130 : (Jvm.Cond.instanceMethod ({ cls := "Rollover", name := "isDoubled", desc := "(LRollover$Ticket;)Z" } : Jvm.MethodName)) ∈ lw_all := lw_g (lw_at lw_m5 101 rfl) rfl
theorem q1131 : (Jvm.Cond.code ({ cls := "Rollover", name := "isDoubled", desc := "(LRollover$Ticket;)Z" } : Jvm.MethodName) prog_1_method_28_code (3 : Nat) (Option.some Jvm.ClassFile.FieldType.boolean)) ∈ lw_all := lw_g (lw_at lw_m5 102 rfl) rfl
theorem q1132 : (Jvm.Cond.methodLink "Rollover" (157 : Nat) ({ cls := "Rollover$Ticket", name := "isTwin", desc := "(LRollover$Ticket;)Z" } : Jvm.MethodName)) ∈ lw_all := lw_g (lw_at lw_m5 103 rfl) rfl
theorem q1136 : (Jvm.Cond.methodLink "Rollover" (183 : Nat) ({ cls := "Rollover", name := "add", desc := "(LRollover$Ticket;)I" } : Jvm.MethodName)) ∈ lw_all := lw_g (lw_at lw_m5 107 rfl) rfl
theorem q1137 : (Jvm.Cond.privateMethod ({ cls := "Rollover", name := "add", desc := "(LRollover$Ticket;)I" } : Jvm.MethodName)) ∈ lw_tbl := lw_at lw_m5 108 rfl
theorem q1138 : (Jvm.Cond.instanceMethod ({ cls := "Rollover", name := "add", desc := "(LRollover$Ticket;)I" } : Jvm.MethodName)) ∈ lw_all := lw_g (lw_at lw_m5 109 rfl) rfl
theorem q1139 : (Jvm.Cond.code ({ cls := "Rollover", name := "add", desc := "(LRollover$Ticket;)I" } : Jvm.MethodName) prog_1_method_27_code (2 : Nat) (Option.some Jvm.ClassFile.FieldType.int)) ∈ lw_all := lw_g (lw_at lw_m5 110 rfl) rfl
theorem q1144 : (Jvm.Cond.instanceMethod ({ cls := "Rollover", name := "gift", desc := "(IIIII)I" } : Jvm.MethodName)) ∈ lw_all := lw_g (lw_at lw_m5 115 rfl) rfl
theorem q1145 : (Jvm.Cond.selects "Rollover" ({ cls := "Rollover", name := "gift", desc := "(IIIII)I" } : Jvm.MethodName) ({ cls := "Rollover", name := "gift", desc := "(IIIII)I" } : Jvm.MethodName)) ∈ lw_all := lw_g (lw_at lw_m5 116 rfl) rfl
theorem q1146 : (Jvm.Cond.code ({ cls := "Rollover", name := "gift", desc := "(IIIII)I" } : Jvm.MethodName) prog_1_method_30_code (6 : Nat) (Option.some Jvm.ClassFile.FieldType.int)) ∈ lw_all := lw_g (lw_at lw_m5 117 rfl) rfl
theorem q1147 : (Jvm.Cond.fieldLink "Rollover" (186 : Nat) "Rollover$Kind" "GIFT" "LRollover$Kind;") ∈ lw_all := lw_g (lw_at lw_m5 118 rfl) rfl
theorem q1153 : (Jvm.Cond.instanceMethod ({ cls := "Rollover", name := "addOn", desc := "(IIIIII)I" } : Jvm.MethodName)) ∈ lw_all := lw_g (lw_at lw_m5 124 rfl) rfl
theorem q1154 : (Jvm.Cond.selects "Rollover" ({ cls := "Rollover", name := "addOn", desc := "(IIIIII)I" } : Jvm.MethodName) ({ cls := "Rollover", name := "addOn", desc := "(IIIIII)I" } : Jvm.MethodName)) ∈ lw_all := lw_g (lw_at lw_m5 125 rfl) rfl
theorem q1155 : (Jvm.Cond.code ({ cls := "Rollover", name := "addOn", desc := "(IIIIII)I" } : Jvm.MethodName) prog_1_method_31_code (7 : Nat) (Option.some Jvm.ClassFile.FieldType.int)) ∈ lw_all := lw_g (lw_at lw_m5 126 rfl) rfl
theorem q1156 : (Jvm.Cond.fieldLink "Rollover" (189 : Nat) "Rollover$Kind" "ADD_ON" "LRollover$Kind;") ∈ lw_all := lw_g (lw_at lw_m5 127 rfl) rfl
theorem q1162 : (Jvm.Cond.instanceMethod ({ cls := "Rollover", name := "correct", desc := "(II)I" } : Jvm.MethodName)) ∈ lw_all := lw_g (lw_at lw_m5 133 rfl) rfl
theorem q1163 : (Jvm.Cond.selects "Rollover" ({ cls := "Rollover", name := "correct", desc := "(II)I" } : Jvm.MethodName) ({ cls := "Rollover", name := "correct", desc := "(II)I" } : Jvm.MethodName)) ∈ lw_all := lw_g (lw_at lw_m5 134 rfl) rfl
theorem q1164 : (Jvm.Cond.code ({ cls := "Rollover", name := "correct", desc := "(II)I" } : Jvm.MethodName) prog_1_method_32_code (5 : Nat) (Option.some Jvm.ClassFile.FieldType.int)) ∈ lw_all := lw_g (lw_at lw_m5 135 rfl) rfl
theorem q1165 : (Jvm.Cond.methodLink "Rollover" (192 : Nat) ({ cls := "Rollover", name := "ticketAt", desc := "(I)LRollover$Ticket;" } : Jvm.MethodName)) ∈ lw_all := lw_g (lw_at lw_m5 136 rfl) rfl
theorem q1166 : (Jvm.Cond.privateMethod ({ cls := "Rollover", name := "ticketAt", desc := "(I)LRollover$Ticket;" } : Jvm.MethodName)) ∈ lw_tbl := lw_at lw_m5 137 rfl
theorem q1167 : (Jvm.Cond.instanceMethod ({ cls := "Rollover", name := "ticketAt", desc := "(I)LRollover$Ticket;" } : Jvm.MethodName)) ∈ lw_all := lw_g (lw_at lw_m5 138 rfl) rfl
theorem q1168 : (Jvm.Cond.code ({ cls := "Rollover", name := "ticketAt", desc := "(I)LRollover$Ticket;" } : Jvm.MethodName) prog_1_method_11_code (2 : Nat) (Option.some (Jvm.ClassFile.FieldType.object "Rollover$Ticket"))) ∈ lw_all := lw_g (lw_at lw_m5 139 rfl) rfl
theorem q1173 : (Jvm.Cond.instanceMethod ({ cls := "Rollover", name := "undo", desc := "(I)I" } : Jvm.MethodName)) ∈ lw_all := lw_g (lw_at lw_m5 144 rfl) rfl
theorem q1174 : (Jvm.Cond.selects "Rollover" ({ cls := "Rollover", name := "undo", desc := "(I)I" } : Jvm.MethodName) ({ cls := "Rollover", name := "undo", desc := "(I)I" } : Jvm.MethodName)) ∈ lw_all := lw_g (lw_at lw_m5 145 rfl) rfl
theorem q1175 : (Jvm.Cond.code ({ cls := "Rollover", name := "undo", desc := "(I)I" } : Jvm.MethodName) prog_1_method_33_code (4 : Nat) (Option.some Jvm.ClassFile.FieldType.int)) ∈ lw_all := lw_g (lw_at lw_m5 146 rfl) rfl
theorem q1180 : (Jvm.Cond.instanceMethod ({ cls := "Rollover", name := "port", desc := "(III)I" } : Jvm.MethodName)) ∈ lw_all := lw_g (lw_at lw_m5 151 rfl) rfl
theorem q1181 : (Jvm.Cond.selects "Rollover" ({ cls := "Rollover", name := "port", desc := "(III)I" } : Jvm.MethodName) ({ cls := "Rollover", name := "port", desc := "(III)I" } : Jvm.MethodName)) ∈ lw_all := lw_g (lw_at lw_m5 152 rfl) rfl
theorem q1182 : (Jvm.Cond.code ({ cls := "Rollover", name := "port", desc := "(III)I" } : Jvm.MethodName) prog_1_method_34_code (5 : Nat) (Option.some Jvm.ClassFile.FieldType.int)) ∈ lw_all := lw_g (lw_at lw_m5 153 rfl) rfl
theorem q1187 : (Jvm.Cond.instanceMethod ({ cls := "Rollover", name := "incoming", desc := "(II)I" } : Jvm.MethodName)) ∈ lw_all := lw_g (lw_at lw_m5 158 rfl) rfl
theorem q1188 : (Jvm.Cond.selects "Rollover" ({ cls := "Rollover", name := "incoming", desc := "(II)I" } : Jvm.MethodName) ({ cls := "Rollover", name := "incoming", desc := "(II)I" } : Jvm.MethodName)) ∈ lw_all := lw_g (lw_at lw_m5 159 rfl) rfl
theorem q1189 : (Jvm.Cond.code ({ cls := "Rollover", name := "incoming", desc := "(II)I" } : Jvm.MethodName) prog_1_method_37_code (3 : Nat) (Option.some Jvm.ClassFile.FieldType.int)) ∈ lw_all := lw_g (lw_at lw_m5 160 rfl) rfl
theorem q1190 : (Jvm.Cond.methodLink "Rollover" (232 : Nat) ({ cls := "Rollover", name := "checkOther", desc := "(I)V" } : Jvm.MethodName)) ∈ lw_all := lw_g (lw_at lw_m5 161 rfl) rfl
theorem q1191 : (Jvm.Cond.static ({ cls := "Rollover", name := "checkOther", desc := "(I)V" } : Jvm.MethodName)) ∈ lw_all := lw_g (lw_at lw_m5 162 rfl) rfl
theorem q1192 : (Jvm.Cond.code ({ cls := "Rollover", name := "checkOther", desc := "(I)V" } : Jvm.MethodName) prog_1_method_36_code (1 : Nat) (Option.none : Option Jvm.ClassFile.FieldType)) ∈ lw_all := lw_g (lw_at lw_m5 163 rfl) rfl
theorem q1197 : (Jvm.Cond.instanceMethod ({ cls := "Rollover", name := "ofDay", desc := "(III)I" } : Jvm.MethodName)) ∈ lw_all := lw_g (lw_at lw_m5 168 rfl) rfl
theorem q1198 : (Jvm.Cond.selects "Rollover" ({ cls := "Rollover", name := "ofDay", desc := "(III)I" } : Jvm.MethodName) ({ cls := "Rollover", name := "ofDay", desc := "(III)I" } : Jvm.MethodName)) ∈ lw_all := lw_g (lw_at lw_m5 169 rfl) rfl
theorem q1199 : (Jvm.Cond.code ({ cls := "Rollover", name := "ofDay", desc := "(III)I" } : Jvm.MethodName) prog_1_method_39_code (4 : Nat) (Option.some Jvm.ClassFile.FieldType.int)) ∈ lw_all := lw_g (lw_at lw_m5 170 rfl) rfl
theorem q1204 : (Jvm.Cond.instanceMethod ({ cls := "Rollover", name := "ofCycle", desc := "(III)I" } : Jvm.MethodName)) ∈ lw_all := lw_g (lw_at lw_m5 175 rfl) rfl
theorem q1205 : (Jvm.Cond.selects "Rollover" ({ cls := "Rollover", name := "ofCycle", desc := "(III)I" } : Jvm.MethodName) ({ cls := "Rollover", name := "ofCycle", desc := "(III)I" } : Jvm.MethodName)) ∈ lw_all := lw_g (lw_at lw_m5 176 rfl) rfl
theorem q1206 : (Jvm.Cond.code ({ cls := "Rollover", name := "ofCycle", desc := "(III)I" } : Jvm.MethodName) prog_1_method_42_code (4 : Nat) (Option.some Jvm.ClassFile.FieldType.int)) ∈ lw_all := lw_g (lw_at lw_m5 177 rfl) rfl
theorem q1211 : (Jvm.Cond.instanceMethod ({ cls := "Rollover", name := "ofTicket", desc := "(II)I" } : Jvm.MethodName)) ∈ lw_all := lw_g (lw_at lw_m5 182 rfl) rfl
theorem q1212 : (Jvm.Cond.selects "Rollover" ({ cls := "Rollover", name := "ofTicket", desc := "(II)I" } : Jvm.MethodName) ({ cls := "Rollover", name := "ofTicket", desc := "(II)I" } : Jvm.MethodName)) ∈ lw_all := lw_g (lw_at lw_m5 183 rfl) rfl
theorem q1213 : (Jvm.Cond.code ({ cls := "Rollover", name := "ofTicket", desc := "(II)I" } : Jvm.MethodName) prog_1_method_47_code (3 : Nat) (Option.some Jvm.ClassFile.FieldType.int)) ∈ lw_all := lw_g (lw_at lw_m5 184 rfl) rfl
theorem q1218 : (Jvm.Cond.instanceMethod ({ cls := "Rollover", name := "carrier", desc := "(II)I" } : Jvm.MethodName)) ∈ lw_all := lw_g (lw_at lw_m5 189 rfl) rfl
theorem q1219 : (Jvm.Cond.selects "Rollover" ({ cls := "Rollover", name := "carrier", desc := "(II)I" } : Jvm.MethodName) ({ cls := "Rollover", name := "carrier", desc := "(II)I" } : Jvm.MethodName)) ∈ lw_all := lw_g (lw_at lw_m5 190 rfl) rfl
theorem q1220 : (Jvm.Cond.code ({ cls := "Rollover", name := "carrier", desc := "(II)I" } : Jvm.MethodName) prog_1_method_48_code (3 : Nat) (Option.some Jvm.ClassFile.FieldType.int)) ∈ lw_all := lw_g (lw_at lw_m5 191 rfl) rfl
theorem q1225 : (Jvm.Cond.instanceMethod ({ cls := "Rollover", name := "settlement", desc := "(I)I" } : Jvm.MethodName)) ∈ lw_all := lw_g (lw_at lw_m5 196 rfl) rfl
theorem q1226 : (Jvm.Cond.selects "Rollover" ({ cls := "Rollover", name := "settlement", desc := "(I)I" } : Jvm.MethodName) ({ cls := "Rollover", name := "settlement", desc := "(I)I" } : Jvm.MethodName)) ∈ lw_all := lw_g (lw_at lw_m5 197 rfl) rfl
theorem q1227 : (Jvm.Cond.code ({ cls := "Rollover", name := "settlement", desc := "(I)I" } : Jvm.MethodName) prog_1_method_49_code (2 : Nat) (Option.some Jvm.ClassFile.FieldType.int)) ∈ lw_all := lw_g (lw_at lw_m5 198 rfl) rfl
theorem q1232 : (Jvm.Cond.instanceMethod ({ cls := "Rollover", name := "suspect", desc := "(I)I" } : Jvm.MethodName)) ∈ lw_all := lw_g (lw_at lw_m5 203 rfl) rfl
theorem q1233 : (Jvm.Cond.selects "Rollover" ({ cls := "Rollover", name := "suspect", desc := "(I)I" } : Jvm.MethodName) ({ cls := "Rollover", name := "suspect", desc := "(I)I" } : Jvm.MethodName)) ∈ lw_all := lw_g (lw_at lw_m5 204 rfl) rfl
theorem q1234 : (Jvm.Cond.code ({ cls := "Rollover", name := "suspect", desc := "(I)I" } : Jvm.MethodName) prog_1_method_55_code (2 : Nat) (Option.some Jvm.ClassFile.FieldType.int)) ∈ lw_all := lw_g (lw_at lw_m5 205 rfl) rfl
theorem q1239 : (Jvm.Cond.instanceMethod ({ cls := "Rollover", name := "house", desc := "(I)I" } : Jvm.MethodName)) ∈ lw_all := lw_g (lw_at lw_m5 210 rfl) rfl
theorem q1240 : (Jvm.Cond.selects "Rollover" ({ cls := "Rollover", name := "house", desc := "(I)I" } : Jvm.MethodName) ({ cls := "Rollover", name := "house", desc := "(I)I" } : Jvm.MethodName)) ∈ lw_all := lw_g (lw_at lw_m5 211 rfl) rfl
theorem q1241 : (Jvm.Cond.code ({ cls := "Rollover", name := "house", desc := "(I)I" } : Jvm.MethodName) prog_1_method_60_code (2 : Nat) (Option.some Jvm.ClassFile.FieldType.int)) ∈ lw_all := lw_g (lw_at lw_m5 212 rfl) rfl
theorem q1246 : (Jvm.Cond.instanceMethod ({ cls := "Rollover", name := "line", desc := "(I)Ljava/lang/String;" } : Jvm.MethodName)) ∈ lw_all := lw_g (lw_at lw_m5 217 rfl) rfl
theorem q1247 : (Jvm.Cond.selects "Rollover" ({ cls := "Rollover", name := "line", desc := "(I)Ljava/lang/String;" } : Jvm.MethodName) ({ cls := "Rollover", name := "line", desc := "(I)Ljava/lang/String;" } : Jvm.MethodName)) ∈ lw_all := lw_g (lw_at lw_m5 218 rfl) rfl
theorem q1248 : (Jvm.Cond.code ({ cls := "Rollover", name := "line", desc := "(I)Ljava/lang/String;" } : Jvm.MethodName) prog_1_method_62_code (5 : Nat) (Option.some (Jvm.ClassFile.FieldType.object "java/lang/String"))) ∈ lw_all := lw_g (lw_at lw_m5 219 rfl) rfl
theorem q1249 : (Jvm.Cond.methodLink "Rollover" (382 : Nat) ({ cls := "Rollover$Ticket", name := "isCall", desc := "()Z" } : Jvm.MethodName)) ∈ lw_all := lw_g (lw_at lw_m5 220 rfl) rfl
theorem q1250 : (Jvm.Cond.stringRef "Rollover" (385 : Nat) "call ") ∈ lw_tbl := lw_at lw_m5 221 rfl
theorem q1251 : (Jvm.Cond.stringRef "Rollover" (387 : Nat) "gift ") ∈ lw_tbl := lw_at lw_m5 222 rfl
theorem q1252 : (Jvm.Cond.stringRef "Rollover" (389 : Nat) "add-on ") ∈ lw_tbl := lw_at lw_m5 223 rfl
theorem q1253 : (Jvm.Cond.classLink "Rollover" (363 : Nat) "java/lang/StringBuilder") ∈ lw_all := lw_g (lw_at lw_m5 224 rfl) rfl
theorem q1255 : (Jvm.Cond.methodLink "Rollover" (391 : Nat) ({ cls := "java/lang/StringBuilder", name := "<init>", desc := "(Ljava/lang/String;)V" } : Jvm.MethodName)) ∈ lw_all := lw_g (lw_at lw_m5 226 rfl) rfl
theorem q1395 : (Jvm.Cond.methodLink "Rollover" (366 : Nat) ({ cls := "java/lang/StringBuilder", name := "append", desc := "(I)Ljava/lang/StringBuilder;" } : Jvm.MethodName)) ∈ lw_all := lw_g (lw_at lw_m6 126 rfl) rfl
theorem q1420 : (Jvm.Cond.stringRef "Rollover" (394 : Nat) " on day ") ∈ lw_tbl := lw_at lw_m6 151 rfl
theorem q1421 : (Jvm.Cond.methodLink "Rollover" (372 : Nat) ({ cls := "java/lang/StringBuilder", name := "append", desc := "(Ljava/lang/String;)Ljava/lang/StringBuilder;" } : Jvm.MethodName)) ∈ lw_all := lw_g (lw_at lw_m6 152 rfl) rfl
theorem q1422 : (Jvm.Cond.stringRef "Rollover" (396 : Nat) ": ") ∈ lw_tbl := lw_at lw_m6 153 rfl
theorem q1423 : (Jvm.Cond.methodLink "Rollover" (398 : Nat) ({ cls := "Rollover", name := "told", desc := "(LRollover$Ticket;LRollover$Line;)Ljava/lang/String;" } : Jvm.MethodName)) ∈ lw_all := lw_g (lw_at lw_m6 154 rfl) rfl
theorem q1424 : (Jvm.Cond.privateMethod ({ cls := "Rollover", name := "told", desc := "(LRollover$Ticket;LRollover$Line;)Ljava/lang/String;" } : Jvm.MethodName)) ∈ lw_tbl := lw_at lw_m6 155 rfl
theorem q1425 : (Jvm.Cond.instanceMethod ({ cls := "Rollover", name := "told", desc := "(LRollover$Ticket;LRollover$Line;)Ljava/lang/String;" } : Jvm.MethodName)) ∈ lw_all := lw_g (lw_at lw_m6 156 rfl) rfl
theorem q1426 : (Jvm.Cond.code ({ cls := "Rollover", name := "told", desc := "(LRollover$Ticket;LRollover$Line;)Ljava/lang/String;" } : Jvm.MethodName) prog_1_method_61_code (3 : Nat) (Option.some (Jvm.ClassFile.FieldType.object "java/lang/String"))) ∈ lw_all := lw_g (lw_at lw_m6 157 rfl) rfl
theorem q1427 : (Jvm.Cond.stringRef "Rollover" (362 : Nat) "free") ∈ lw_tbl := lw_at lw_m6 158 rfl
theorem q1428 : (Jvm.Cond.methodLink "Rollover" (365 : Nat) ({ cls := "java/lang/StringBuilder", name := "<init>", desc := "()V" } : Jvm.MethodName)) ∈ lw_all := lw_g (lw_at lw_m6 159 rfl) rfl
theorem q1434 : (Jvm.Cond.stringRef "Rollover" (370 : Nat) "+") ∈ lw_tbl := lw_at lw_m6 165 rfl
theorem q1435 : (Jvm.Cond.methodLink "Rollover" (376 : Nat) ({ cls := "java/lang/StringBuilder", name := "toString", desc := "()Ljava/lang/String;" } : Jvm.MethodName)) ∈ lw_all := lw_g (lw_at lw_m6 166 rfl) rfl
theorem q1501 : (Jvm.Cond.stringRef "Rollover" (380 : Nat) "") ∈ lw_tbl := lw_at lw_m6 232 rfl
theorem q1502 : (Jvm.Cond.stringRef "Rollover" (402 : Nat) " void") ∈ lw_tbl := lw_at lw_m6 233 rfl
theorem q1507 : (Jvm.Cond.instanceMethod ({ cls := "Rollover", name := "best", desc := "(IIZ)I" } : Jvm.MethodName)) ∈ lw_all := lw_g (lw_at lw_m6 238 rfl) rfl
theorem q1508 : (Jvm.Cond.selects "Rollover" ({ cls := "Rollover", name := "best", desc := "(IIZ)I" } : Jvm.MethodName) ({ cls := "Rollover", name := "best", desc := "(IIZ)I" } : Jvm.MethodName)) ∈ lw_all := lw_g (lw_at lw_m6 239 rfl) rfl
theorem q1509 : (Jvm.Cond.code ({ cls := "Rollover", name := "best", desc := "(IIZ)I" } : Jvm.MethodName) prog_1_method_63_code (10 : Nat) (Option.some Jvm.ClassFile.FieldType.int)) ∈ lw_all := lw_g (lw_at lw_m7 0 rfl) rfl
theorem q1510 : (Jvm.Cond.methodLink "Rollover" (404 : Nat) ({ cls := "Rollover$Customer", name := "isIn", desc := "(I)Z" } : Jvm.MethodName)) ∈ lw_all := lw_g (lw_at lw_m7 1 rfl) rfl
theorem q1515 : (Jvm.Cond.instanceMethod ({ cls := "Rollover", name := "wouldCost", desc := "(IIIII)I" } : Jvm.MethodName)) ∈ lw_all := lw_g (lw_at lw_m7 6 rfl) rfl
theorem q1516 : (Jvm.Cond.selects "Rollover" ({ cls := "Rollover", name := "wouldCost", desc := "(IIIII)I" } : Jvm.MethodName) ({ cls := "Rollover", name := "wouldCost", desc := "(IIIII)I" } : Jvm.MethodName)) ∈ lw_all := lw_g (lw_at lw_m7 7 rfl) rfl
theorem q1517 : (Jvm.Cond.code ({ cls := "Rollover", name := "wouldCost", desc := "(IIIII)I" } : Jvm.MethodName) prog_1_method_64_code (8 : Nat) (Option.some Jvm.ClassFile.FieldType.int)) ∈ lw_all := lw_g (lw_at lw_m7 8 rfl) rfl
theorem q1518 : (Jvm.Cond.interfaceEntry "Rollover" (407 : Nat)) ∈ lw_tbl := lw_at lw_m7 9 rfl
theorem q1519 : (Jvm.Cond.methodLink "Rollover" (407 : Nat) ({ cls := "java/util/List", name := "remove", desc := "(I)Ljava/lang/Object;" } : Jvm.MethodName)) ∈ lw_all := lw_g (lw_at lw_m7 10 rfl) rfl
theorem q2096 : (Jvm.Cond.castable "Rollover" "java/lang/Object") ∈ lw_tbl := lw_at lw_m9 107 rfl
theorem in_X1 : ∀ w ∈ wsX10, w ∈ lw_all := lw_in wsX10 [287, 289, 291, 293, 295, 297, 299, 301] (by decide +kernel) (by decide +kernel)

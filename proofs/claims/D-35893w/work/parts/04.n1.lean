/-! Phrasehall -/
set_option maxRecDepth 100000
def RX1 : String := "Phrasehall"
def TX1 : u_T := fun k => match k with
  | 0 => ("Phrasehall", "fencers", "Ljava/util/ArrayList;", true)
  | 1 => ("Phrasehall", "bouts", "Ljava/util/ArrayList;", true)
  | 2 => ("Phrasehall", "pools", "Ljava/util/ArrayList;", true)
  | 3 => ("Phrasehall", "phrase", "Ljava/util/ArrayList;", true)
  | 4 => ("Phrasehall", "open", "LPhrasehall$Bout;", false)
  | 5 => ("Phrasehall", "reason", "I", false)
  | 6 => ("Phrasehall", "seed", "J", false)
  | _ => ("Phrasehall", "rounds", "Ljava/util/ArrayList;", true)
def tyX1 : Nat → FieldType := fun k => match k with
  | 0 => .object "java/util/ArrayList"
  | 1 => .object "java/util/ArrayList"
  | 2 => .object "java/util/ArrayList"
  | 3 => .object "java/util/ArrayList"
  | 4 => .object "Phrasehall$Bout"
  | 5 => .int
  | 6 => .long
  | _ => .object "java/util/ArrayList"
abbrev wsX10 : List Cond := u_ws RX1 TX1 8
theorem nmX1 : ∀ a, a < 8 → ∀ b, b < 8 → a ≠ b → (TX1 a).2.1 ≠ (TX1 b).2.1 := by decide +kernel
theorem tyX1_ok : ∀ k, k < 8 → parseFieldDescriptor (TX1 k).2.2.1 = some (tyX1 k) := by decide +kernel
abbrev cX1_init : ByteArray := prog_1_method_6_code
def yX1_init : MethodName := ⟨RX1, "<init>", "()V"⟩
def dkwX1_init_2 : List UInt8 := [181, 0, 47, 42, 2, 181, 0, 50, 42, 187, 0, 14, 89, 183, 0, 36, 181, 0, 54, 177]
abbrev dktX1_init_2 : List UInt8 := dkwX1_init_2 ++ []
def dkwX1_init_1 : List UInt8 := [181, 0, 41, 42, 187, 0, 14, 89, 183, 0, 36, 181, 0, 44, 42, 187, 0, 14, 89, 183, 0, 36]
abbrev dktX1_init_1 : List UInt8 := dkwX1_init_1 ++ dktX1_init_2
def dkwX1_init_0 : List UInt8 := [42, 183, 0, 33, 42, 187, 0, 14, 89, 183, 0, 36, 181, 0, 37, 42, 187, 0, 14, 89, 183, 0, 36]
abbrev dktX1_init_0 : List UInt8 := dkwX1_init_0 ++ dktX1_init_1
theorem dksX1_init_0 : cX1_init.data.toList.drop 0 = dktX1_init_0 := by decide +kernel
theorem dksX1_init_1 : cX1_init.data.toList.drop 23 = dktX1_init_1 := dk_seg dksX1_init_0 23 rfl rfl
theorem dksX1_init_2 : cX1_init.data.toList.drop 45 = dktX1_init_2 := dk_seg dksX1_init_1 22 rfl rfl
theorem dX1_init_0 : decode cX1_init 0 = .ok (.aload_n 0, 1) := dk_42 (dk_at dksX1_init_0 0 rfl rfl)
theorem dX1_init_1 : decode cX1_init 1 = .ok (.invokespecial 33, 3) := dk_183 0 33 (dk_at dksX1_init_0 1 rfl rfl)
theorem dX1_init_4 : decode cX1_init 4 = .ok (.aload_n 0, 1) := dk_42 (dk_at dksX1_init_0 4 rfl rfl)
theorem dX1_init_5 : decode cX1_init 5 = .ok (.new 14, 3) := dk_187 0 14 (dk_at dksX1_init_0 5 rfl rfl)
theorem dX1_init_8 : decode cX1_init 8 = .ok (.dup, 1) := dk_89 (dk_at dksX1_init_0 8 rfl rfl)
theorem dX1_init_9 : decode cX1_init 9 = .ok (.invokespecial 36, 3) := dk_183 0 36 (dk_at dksX1_init_0 9 rfl rfl)
theorem dX1_init_12 : decode cX1_init 12 = .ok (.putfield 37, 3) := dk_181 0 37 (dk_at dksX1_init_0 12 rfl rfl)
theorem dX1_init_15 : decode cX1_init 15 = .ok (.aload_n 0, 1) := dk_42 (dk_at dksX1_init_0 15 rfl rfl)
theorem dX1_init_16 : decode cX1_init 16 = .ok (.new 14, 3) := dk_187 0 14 (dk_at dksX1_init_0 16 rfl rfl)
theorem dX1_init_19 : decode cX1_init 19 = .ok (.dup, 1) := dk_89 (dk_at dksX1_init_0 19 rfl rfl)
theorem dX1_init_20 : decode cX1_init 20 = .ok (.invokespecial 36, 3) := dk_183 0 36 (dk_at dksX1_init_0 20 rfl rfl)
theorem dX1_init_23 : decode cX1_init 23 = .ok (.putfield 41, 3) := dk_181 0 41 (dk_at dksX1_init_1 0 rfl rfl)
theorem dX1_init_26 : decode cX1_init 26 = .ok (.aload_n 0, 1) := dk_42 (dk_at dksX1_init_1 3 rfl rfl)
theorem dX1_init_27 : decode cX1_init 27 = .ok (.new 14, 3) := dk_187 0 14 (dk_at dksX1_init_1 4 rfl rfl)
theorem dX1_init_30 : decode cX1_init 30 = .ok (.dup, 1) := dk_89 (dk_at dksX1_init_1 7 rfl rfl)
theorem dX1_init_31 : decode cX1_init 31 = .ok (.invokespecial 36, 3) := dk_183 0 36 (dk_at dksX1_init_1 8 rfl rfl)
theorem dX1_init_34 : decode cX1_init 34 = .ok (.putfield 44, 3) := dk_181 0 44 (dk_at dksX1_init_1 11 rfl rfl)
theorem dX1_init_37 : decode cX1_init 37 = .ok (.aload_n 0, 1) := dk_42 (dk_at dksX1_init_1 14 rfl rfl)
theorem dX1_init_38 : decode cX1_init 38 = .ok (.new 14, 3) := dk_187 0 14 (dk_at dksX1_init_1 15 rfl rfl)
theorem dX1_init_41 : decode cX1_init 41 = .ok (.dup, 1) := dk_89 (dk_at dksX1_init_1 18 rfl rfl)
theorem dX1_init_42 : decode cX1_init 42 = .ok (.invokespecial 36, 3) := dk_183 0 36 (dk_at dksX1_init_1 19 rfl rfl)
theorem dX1_init_45 : decode cX1_init 45 = .ok (.putfield 47, 3) := dk_181 0 47 (dk_at dksX1_init_2 0 rfl rfl)
theorem dX1_init_48 : decode cX1_init 48 = .ok (.aload_n 0, 1) := dk_42 (dk_at dksX1_init_2 3 rfl rfl)
theorem dX1_init_49 : decode cX1_init 49 = .ok (.iconst (-1), 1) := dk_2 (dk_at dksX1_init_2 4 rfl rfl)
theorem dX1_init_50 : decode cX1_init 50 = .ok (.putfield 50, 3) := dk_181 0 50 (dk_at dksX1_init_2 5 rfl rfl)
theorem dX1_init_53 : decode cX1_init 53 = .ok (.aload_n 0, 1) := dk_42 (dk_at dksX1_init_2 8 rfl rfl)
theorem dX1_init_54 : decode cX1_init 54 = .ok (.new 14, 3) := dk_187 0 14 (dk_at dksX1_init_2 9 rfl rfl)
theorem dX1_init_57 : decode cX1_init 57 = .ok (.dup, 1) := dk_89 (dk_at dksX1_init_2 12 rfl rfl)
theorem dX1_init_58 : decode cX1_init 58 = .ok (.invokespecial 36, 3) := dk_183 0 36 (dk_at dksX1_init_2 13 rfl rfl)
theorem dX1_init_61 : decode cX1_init 61 = .ok (.putfield 54, 3) := dk_181 0 54 (dk_at dksX1_init_2 16 rfl rfl)
theorem dX1_init_64 : decode cX1_init 64 = .ok (.return_, 1) := dk_177 (dk_at dksX1_init_2 19 rfl rfl)
abbrev cX1_holder : ByteArray := prog_1_method_33_code
def yX1_holder : MethodName := ⟨RX1, "holder", "()I"⟩
def dkwX1_holder_0 : List UInt8 := [42, 42, 180, 0, 47, 182, 0, 13, 182, 0, 177, 180, 0, 181, 172]
abbrev dktX1_holder_0 : List UInt8 := dkwX1_holder_0 ++ []
theorem dksX1_holder_0 : cX1_holder.data.toList.drop 0 = dktX1_holder_0 := by decide +kernel
theorem dX1_holder_0 : decode cX1_holder 0 = .ok (.aload_n 0, 1) := dk_42 (dk_at dksX1_holder_0 0 rfl rfl)
theorem dX1_holder_1 : decode cX1_holder 1 = .ok (.aload_n 0, 1) := dk_42 (dk_at dksX1_holder_0 1 rfl rfl)
theorem dX1_holder_2 : decode cX1_holder 2 = .ok (.getfield 47, 3) := dk_180 0 47 (dk_at dksX1_holder_0 2 rfl rfl)
theorem dX1_holder_5 : decode cX1_holder 5 = .ok (.invokevirtual 13, 3) := dk_182 0 13 (dk_at dksX1_holder_0 5 rfl rfl)
theorem dX1_holder_8 : decode cX1_holder 8 = .ok (.invokevirtual 177, 3) := dk_182 0 177 (dk_at dksX1_holder_0 8 rfl rfl)
theorem dX1_holder_11 : decode cX1_holder 11 = .ok (.getfield 181, 3) := dk_180 0 181 (dk_at dksX1_holder_0 11 rfl rfl)
theorem dX1_holder_14 : decode cX1_holder 14 = .ok (.ireturn, 1) := dk_172 (dk_at dksX1_holder_0 14 rfl rfl)
abbrev cX1_wayUpTo : ByteArray := prog_1_method_15_code
def yX1_wayUpTo : MethodName := ⟨RX1, "wayUpTo", "(I)LPhrasehall$Way;"⟩
def dkwX1_wayUpTo_2 : List UInt8 := [132, 3, 1, 167, 255, 217, 44, 176]
abbrev dktX1_wayUpTo_2 : List UInt8 := dkwX1_wayUpTo_2 ++ []
def dkwX1_wayUpTo_1 : List UInt8 := [58, 5, 25, 5, 193, 0, 127, 153, 0, 16, 25, 5, 192, 0, 127, 58, 4, 44, 25, 4, 182, 0, 167]
abbrev dktX1_wayUpTo_1 : List UInt8 := dkwX1_wayUpTo_1 ++ dktX1_wayUpTo_2
def dkwX1_wayUpTo_0 : List UInt8 := [187, 0, 164, 89, 183, 0, 166, 77, 3, 62, 29, 27, 162, 0, 40, 42, 180, 0, 47, 29, 182, 0, 29]
abbrev dktX1_wayUpTo_0 : List UInt8 := dkwX1_wayUpTo_0 ++ dktX1_wayUpTo_1
theorem dksX1_wayUpTo_0 : cX1_wayUpTo.data.toList.drop 0 = dktX1_wayUpTo_0 := by decide +kernel
theorem dksX1_wayUpTo_1 : cX1_wayUpTo.data.toList.drop 23 = dktX1_wayUpTo_1 := dk_seg dksX1_wayUpTo_0 23 rfl rfl
theorem dksX1_wayUpTo_2 : cX1_wayUpTo.data.toList.drop 46 = dktX1_wayUpTo_2 := dk_seg dksX1_wayUpTo_1 23 rfl rfl
theorem dX1_wayUpTo_0 : decode cX1_wayUpTo 0 = .ok (.new 164, 3) := dk_187 0 164 (dk_at dksX1_wayUpTo_0 0 rfl rfl)
theorem dX1_wayUpTo_3 : decode cX1_wayUpTo 3 = .ok (.dup, 1) := dk_89 (dk_at dksX1_wayUpTo_0 3 rfl rfl)
theorem dX1_wayUpTo_4 : decode cX1_wayUpTo 4 = .ok (.invokespecial 166, 3) := dk_183 0 166 (dk_at dksX1_wayUpTo_0 4 rfl rfl)
theorem dX1_wayUpTo_7 : decode cX1_wayUpTo 7 = .ok (.astore_n 2, 1) := dk_77 (dk_at dksX1_wayUpTo_0 7 rfl rfl)
theorem dX1_wayUpTo_8 : decode cX1_wayUpTo 8 = .ok (.iconst 0, 1) := dk_3 (dk_at dksX1_wayUpTo_0 8 rfl rfl)
theorem dX1_wayUpTo_9 : decode cX1_wayUpTo 9 = .ok (.istore_n 3, 1) := dk_62 (dk_at dksX1_wayUpTo_0 9 rfl rfl)
theorem dX1_wayUpTo_10 : decode cX1_wayUpTo 10 = .ok (.iload_n 3, 1) := dk_29 (dk_at dksX1_wayUpTo_0 10 rfl rfl)
theorem dX1_wayUpTo_11 : decode cX1_wayUpTo 11 = .ok (.iload_n 1, 1) := dk_27 (dk_at dksX1_wayUpTo_0 11 rfl rfl)
theorem dX1_wayUpTo_12 : decode cX1_wayUpTo 12 = .ok (.if_icmp .ge 40, 3) := dk_162 0 40 (dk_at dksX1_wayUpTo_0 12 rfl rfl)
theorem dX1_wayUpTo_15 : decode cX1_wayUpTo 15 = .ok (.aload_n 0, 1) := dk_42 (dk_at dksX1_wayUpTo_0 15 rfl rfl)
theorem dX1_wayUpTo_16 : decode cX1_wayUpTo 16 = .ok (.getfield 47, 3) := dk_180 0 47 (dk_at dksX1_wayUpTo_0 16 rfl rfl)
theorem dX1_wayUpTo_19 : decode cX1_wayUpTo 19 = .ok (.iload_n 3, 1) := dk_29 (dk_at dksX1_wayUpTo_0 19 rfl rfl)
theorem dX1_wayUpTo_20 : decode cX1_wayUpTo 20 = .ok (.invokevirtual 29, 3) := dk_182 0 29 (dk_at dksX1_wayUpTo_0 20 rfl rfl)
theorem dX1_wayUpTo_23 : decode cX1_wayUpTo 23 = .ok (.astore 5, 2) := dk_58 5 (dk_at dksX1_wayUpTo_1 0 rfl rfl)
theorem dX1_wayUpTo_25 : decode cX1_wayUpTo 25 = .ok (.aload 5, 2) := dk_25 5 (dk_at dksX1_wayUpTo_1 2 rfl rfl)
theorem dX1_wayUpTo_27 : decode cX1_wayUpTo 27 = .ok (.instanceof 127, 3) := dk_193 0 127 (dk_at dksX1_wayUpTo_1 4 rfl rfl)
theorem dX1_wayUpTo_30 : decode cX1_wayUpTo 30 = .ok (.ifCond .eq 16, 3) := dk_153 0 16 (dk_at dksX1_wayUpTo_1 7 rfl rfl)
theorem dX1_wayUpTo_33 : decode cX1_wayUpTo 33 = .ok (.aload 5, 2) := dk_25 5 (dk_at dksX1_wayUpTo_1 10 rfl rfl)
theorem dX1_wayUpTo_35 : decode cX1_wayUpTo 35 = .ok (.checkcast 127, 3) := dk_192 0 127 (dk_at dksX1_wayUpTo_1 12 rfl rfl)
theorem dX1_wayUpTo_38 : decode cX1_wayUpTo 38 = .ok (.astore 4, 2) := dk_58 4 (dk_at dksX1_wayUpTo_1 15 rfl rfl)
theorem dX1_wayUpTo_40 : decode cX1_wayUpTo 40 = .ok (.aload_n 2, 1) := dk_44 (dk_at dksX1_wayUpTo_1 17 rfl rfl)
theorem dX1_wayUpTo_41 : decode cX1_wayUpTo 41 = .ok (.aload 4, 2) := dk_25 4 (dk_at dksX1_wayUpTo_1 18 rfl rfl)
theorem dX1_wayUpTo_43 : decode cX1_wayUpTo 43 = .ok (.invokevirtual 167, 3) := dk_182 0 167 (dk_at dksX1_wayUpTo_1 20 rfl rfl)
theorem dX1_wayUpTo_46 : decode cX1_wayUpTo 46 = .ok (.iinc 3 1, 3) := dk_132 3 1 (dk_at dksX1_wayUpTo_2 0 rfl rfl)
theorem dX1_wayUpTo_49 : decode cX1_wayUpTo 49 = .ok (.goto (-39), 3) := dk_167 255 217 (dk_at dksX1_wayUpTo_2 3 rfl rfl)
theorem dX1_wayUpTo_52 : decode cX1_wayUpTo 52 = .ok (.aload_n 2, 1) := dk_44 (dk_at dksX1_wayUpTo_2 6 rfl rfl)
theorem dX1_wayUpTo_53 : decode cX1_wayUpTo 53 = .ok (.areturn, 1) := dk_176 (dk_at dksX1_wayUpTo_2 7 rfl rfl)
abbrev cX1_reason : ByteArray := prog_1_method_34_code
def yX1_reason : MethodName := ⟨RX1, "reason", "()I"⟩
theorem dX1_reason_0 : decode cX1_reason 0 = .ok (.aload_n 0, 1) := by decide +kernel
theorem dX1_reason_1 : decode cX1_reason 1 = .ok (.getfield 50, 3) := by decide +kernel
theorem dX1_reason_4 : decode cX1_reason 4 = .ok (.ireturn, 1) := by decide +kernel
abbrev cX1_fencer : ByteArray := prog_1_method_9_code
def yX1_fencer : MethodName := ⟨RX1, "fencer", "()I"⟩
def dkwX1_fencer_2 : List UInt8 := [182, 0, 13, 4, 100, 172]
abbrev dktX1_fencer_2 : List UInt8 := dkwX1_fencer_2 ++ []
def dkwX1_fencer_1 : List UInt8 := [187, 0, 74, 89, 42, 180, 0, 37, 182, 0, 13, 183, 0, 76, 182, 0, 79, 87, 42, 180, 0, 37]
abbrev dktX1_fencer_1 : List UInt8 := dkwX1_fencer_1 ++ dktX1_fencer_2
def dkwX1_fencer_0 : List UInt8 := [42, 180, 0, 37, 182, 0, 13, 16, 12, 162, 0, 7, 4, 167, 0, 4, 3, 184, 0, 71, 42, 180, 0, 37]
abbrev dktX1_fencer_0 : List UInt8 := dkwX1_fencer_0 ++ dktX1_fencer_1
theorem dksX1_fencer_0 : cX1_fencer.data.toList.drop 0 = dktX1_fencer_0 := by decide +kernel
theorem dksX1_fencer_1 : cX1_fencer.data.toList.drop 24 = dktX1_fencer_1 := dk_seg dksX1_fencer_0 24 rfl rfl
theorem dksX1_fencer_2 : cX1_fencer.data.toList.drop 46 = dktX1_fencer_2 := dk_seg dksX1_fencer_1 22 rfl rfl
theorem dX1_fencer_0 : decode cX1_fencer 0 = .ok (.aload_n 0, 1) := dk_42 (dk_at dksX1_fencer_0 0 rfl rfl)
theorem dX1_fencer_1 : decode cX1_fencer 1 = .ok (.getfield 37, 3) := dk_180 0 37 (dk_at dksX1_fencer_0 1 rfl rfl)
theorem dX1_fencer_4 : decode cX1_fencer 4 = .ok (.invokevirtual 13, 3) := dk_182 0 13 (dk_at dksX1_fencer_0 4 rfl rfl)
theorem dX1_fencer_7 : decode cX1_fencer 7 = .ok (.bipush 12, 2) := dk_16 12 (dk_at dksX1_fencer_0 7 rfl rfl)
theorem dX1_fencer_9 : decode cX1_fencer 9 = .ok (.if_icmp .ge 7, 3) := dk_162 0 7 (dk_at dksX1_fencer_0 9 rfl rfl)
theorem dX1_fencer_12 : decode cX1_fencer 12 = .ok (.iconst 1, 1) := dk_4 (dk_at dksX1_fencer_0 12 rfl rfl)
theorem dX1_fencer_13 : decode cX1_fencer 13 = .ok (.goto 4, 3) := dk_167 0 4 (dk_at dksX1_fencer_0 13 rfl rfl)
theorem dX1_fencer_16 : decode cX1_fencer 16 = .ok (.iconst 0, 1) := dk_3 (dk_at dksX1_fencer_0 16 rfl rfl)
theorem dX1_fencer_17 : decode cX1_fencer 17 = .ok (.invokestatic 71, 3) := dk_184 0 71 (dk_at dksX1_fencer_0 17 rfl rfl)
theorem dX1_fencer_20 : decode cX1_fencer 20 = .ok (.aload_n 0, 1) := dk_42 (dk_at dksX1_fencer_0 20 rfl rfl)
theorem dX1_fencer_21 : decode cX1_fencer 21 = .ok (.getfield 37, 3) := dk_180 0 37 (dk_at dksX1_fencer_0 21 rfl rfl)
theorem dX1_fencer_24 : decode cX1_fencer 24 = .ok (.new 74, 3) := dk_187 0 74 (dk_at dksX1_fencer_1 0 rfl rfl)
theorem dX1_fencer_27 : decode cX1_fencer 27 = .ok (.dup, 1) := dk_89 (dk_at dksX1_fencer_1 3 rfl rfl)
theorem dX1_fencer_28 : decode cX1_fencer 28 = .ok (.aload_n 0, 1) := dk_42 (dk_at dksX1_fencer_1 4 rfl rfl)
theorem dX1_fencer_29 : decode cX1_fencer 29 = .ok (.getfield 37, 3) := dk_180 0 37 (dk_at dksX1_fencer_1 5 rfl rfl)
theorem dX1_fencer_32 : decode cX1_fencer 32 = .ok (.invokevirtual 13, 3) := dk_182 0 13 (dk_at dksX1_fencer_1 8 rfl rfl)
theorem dX1_fencer_35 : decode cX1_fencer 35 = .ok (.invokespecial 76, 3) := dk_183 0 76 (dk_at dksX1_fencer_1 11 rfl rfl)
theorem dX1_fencer_38 : decode cX1_fencer 38 = .ok (.invokevirtual 79, 3) := dk_182 0 79 (dk_at dksX1_fencer_1 14 rfl rfl)
theorem dX1_fencer_41 : decode cX1_fencer 41 = .ok (.pop, 1) := dk_87 (dk_at dksX1_fencer_1 17 rfl rfl)
theorem dX1_fencer_42 : decode cX1_fencer 42 = .ok (.aload_n 0, 1) := dk_42 (dk_at dksX1_fencer_1 18 rfl rfl)
theorem dX1_fencer_43 : decode cX1_fencer 43 = .ok (.getfield 37, 3) := dk_180 0 37 (dk_at dksX1_fencer_1 19 rfl rfl)
theorem dX1_fencer_46 : decode cX1_fencer 46 = .ok (.invokevirtual 13, 3) := dk_182 0 13 (dk_at dksX1_fencer_2 0 rfl rfl)
theorem dX1_fencer_49 : decode cX1_fencer 49 = .ok (.iconst 1, 1) := dk_4 (dk_at dksX1_fencer_2 3 rfl rfl)
theorem dX1_fencer_50 : decode cX1_fencer 50 = .ok (.isub, 1) := dk_100 (dk_at dksX1_fencer_2 4 rfl rfl)
theorem dX1_fencer_51 : decode cX1_fencer 51 = .ok (.ireturn, 1) := dk_172 (dk_at dksX1_fencer_2 5 rfl rfl)
abbrev cX1_requireState : ByteArray := prog_1_method_4_code
def yX1_requireState : MethodName := ⟨RX1, "requireState", "(Z)V"⟩
def dkwX1_requireState_0 : List UInt8 := [26, 154, 0, 11, 187, 0, 10, 89, 183, 0, 12, 191, 177]
abbrev dktX1_requireState_0 : List UInt8 := dkwX1_requireState_0 ++ []
theorem dksX1_requireState_0 : cX1_requireState.data.toList.drop 0 = dktX1_requireState_0 := by decide +kernel
theorem dX1_requireState_0 : decode cX1_requireState 0 = .ok (.iload_n 0, 1) := dk_26 (dk_at dksX1_requireState_0 0 rfl rfl)
theorem dX1_requireState_1 : decode cX1_requireState 1 = .ok (.ifCond .ne 11, 3) := dk_154 0 11 (dk_at dksX1_requireState_0 1 rfl rfl)
theorem dX1_requireState_4 : decode cX1_requireState 4 = .ok (.new 10, 3) := dk_187 0 10 (dk_at dksX1_requireState_0 4 rfl rfl)
theorem dX1_requireState_7 : decode cX1_requireState 7 = .ok (.dup, 1) := dk_89 (dk_at dksX1_requireState_0 7 rfl rfl)
theorem dX1_requireState_8 : decode cX1_requireState 8 = .ok (.invokespecial 12, 3) := dk_183 0 12 (dk_at dksX1_requireState_0 8 rfl rfl)
theorem dX1_requireState_11 : decode cX1_requireState 11 = .ok (.athrow, 1) := dk_191 (dk_at dksX1_requireState_0 11 rfl rfl)
theorem dX1_requireState_12 : decode cX1_requireState 12 = .ok (.return_, 1) := dk_177 (dk_at dksX1_requireState_0 12 rfl rfl)
abbrev cX1_begin : ByteArray := prog_1_method_10_code
def yX1_begin : MethodName := ⟨RX1, "begin", "(IIIII)I"⟩
def dkwX1_begin_8 : List UInt8 := [182, 0, 79, 87, 42, 180, 0, 41, 182, 0, 13, 4, 100, 172]
abbrev dktX1_begin_8 : List UInt8 := dkwX1_begin_8 ++ []
def dkwX1_begin_7 : List UInt8 := [25, 7, 29, 184, 0, 105, 21, 4, 25, 8, 183, 0, 111, 181, 0, 96, 42, 180, 0, 41, 42, 180, 0, 96]
abbrev dktX1_begin_7 : List UInt8 := dkwX1_begin_7 ++ dktX1_begin_8
def dkwX1_begin_6 : List UInt8 := [182, 0, 13, 16, 80, 162, 0, 7, 4, 167, 0, 4, 3, 184, 0, 71, 42, 187, 0, 103, 89, 42, 25, 6]
abbrev dktX1_begin_6 : List UInt8 := dkwX1_begin_6 ++ dktX1_begin_7
def dkwX1_begin_5 : List UInt8 := [25, 8, 27, 182, 0, 100, 153, 0, 28, 25, 8, 28, 182, 0, 100, 153, 0, 19, 42, 180, 0, 41]
abbrev dktX1_begin_5 : List UInt8 := dkwX1_begin_5 ++ dktX1_begin_6
def dkwX1_begin_4 : List UInt8 := [153, 0, 7, 4, 167, 0, 4, 3, 184, 0, 93, 42, 180, 0, 96, 199, 0, 42, 25, 8, 198, 0, 21]
abbrev dktX1_begin_4 : List UInt8 := dkwX1_begin_4 ++ dktX1_begin_5
def dkwX1_begin_3 : List UInt8 := [153, 0, 30, 25, 8, 198, 0, 21, 25, 8, 27, 182, 0, 89, 153, 0, 16, 25, 8, 28, 182, 0, 89]
abbrev dktX1_begin_3 : List UInt8 := dkwX1_begin_3 ++ dktX1_begin_4
def dkwX1_begin_2 : List UInt8 := [58, 8, 27, 28, 159, 0, 50, 29, 3, 5, 184, 0, 19, 153, 0, 41, 21, 4, 4, 16, 45, 184, 0, 19]
abbrev dktX1_begin_2 : List UInt8 := dkwX1_begin_2 ++ dktX1_begin_3
def dkwX1_begin_1 : List UInt8 := [58, 7, 21, 5, 2, 160, 0, 7, 1, 167, 0, 15, 42, 180, 0, 44, 21, 5, 184, 0, 83, 192, 0, 87]
abbrev dktX1_begin_1 : List UInt8 := dkwX1_begin_1 ++ dktX1_begin_2
def dkwX1_begin_0 : List UInt8 := [42, 180, 0, 37, 27, 184, 0, 83, 192, 0, 74, 58, 6, 42, 180, 0, 37, 28, 184, 0, 83, 192, 0, 74]
abbrev dktX1_begin_0 : List UInt8 := dkwX1_begin_0 ++ dktX1_begin_1
theorem dksX1_begin_0 : cX1_begin.data.toList.drop 0 = dktX1_begin_0 := by decide +kernel
theorem dksX1_begin_1 : cX1_begin.data.toList.drop 24 = dktX1_begin_1 := dk_seg dksX1_begin_0 24 rfl rfl
theorem dksX1_begin_2 : cX1_begin.data.toList.drop 48 = dktX1_begin_2 := dk_seg dksX1_begin_1 24 rfl rfl
theorem dksX1_begin_3 : cX1_begin.data.toList.drop 72 = dktX1_begin_3 := dk_seg dksX1_begin_2 24 rfl rfl
theorem dksX1_begin_4 : cX1_begin.data.toList.drop 95 = dktX1_begin_4 := dk_seg dksX1_begin_3 23 rfl rfl
theorem dksX1_begin_5 : cX1_begin.data.toList.drop 118 = dktX1_begin_5 := dk_seg dksX1_begin_4 23 rfl rfl
theorem dksX1_begin_6 : cX1_begin.data.toList.drop 140 = dktX1_begin_6 := dk_seg dksX1_begin_5 22 rfl rfl
theorem dksX1_begin_7 : cX1_begin.data.toList.drop 164 = dktX1_begin_7 := dk_seg dksX1_begin_6 24 rfl rfl
theorem dksX1_begin_8 : cX1_begin.data.toList.drop 188 = dktX1_begin_8 := dk_seg dksX1_begin_7 24 rfl rfl
theorem dX1_begin_0 : decode cX1_begin 0 = .ok (.aload_n 0, 1) := dk_42 (dk_at dksX1_begin_0 0 rfl rfl)
theorem dX1_begin_1 : decode cX1_begin 1 = .ok (.getfield 37, 3) := dk_180 0 37 (dk_at dksX1_begin_0 1 rfl rfl)
theorem dX1_begin_4 : decode cX1_begin 4 = .ok (.iload_n 1, 1) := dk_27 (dk_at dksX1_begin_0 4 rfl rfl)
theorem dX1_begin_5 : decode cX1_begin 5 = .ok (.invokestatic 83, 3) := dk_184 0 83 (dk_at dksX1_begin_0 5 rfl rfl)
theorem dX1_begin_8 : decode cX1_begin 8 = .ok (.checkcast 74, 3) := dk_192 0 74 (dk_at dksX1_begin_0 8 rfl rfl)
theorem dX1_begin_11 : decode cX1_begin 11 = .ok (.astore 6, 2) := dk_58 6 (dk_at dksX1_begin_0 11 rfl rfl)
theorem dX1_begin_13 : decode cX1_begin 13 = .ok (.aload_n 0, 1) := dk_42 (dk_at dksX1_begin_0 13 rfl rfl)
theorem dX1_begin_14 : decode cX1_begin 14 = .ok (.getfield 37, 3) := dk_180 0 37 (dk_at dksX1_begin_0 14 rfl rfl)
theorem dX1_begin_17 : decode cX1_begin 17 = .ok (.iload_n 2, 1) := dk_28 (dk_at dksX1_begin_0 17 rfl rfl)
theorem dX1_begin_18 : decode cX1_begin 18 = .ok (.invokestatic 83, 3) := dk_184 0 83 (dk_at dksX1_begin_0 18 rfl rfl)
theorem dX1_begin_21 : decode cX1_begin 21 = .ok (.checkcast 74, 3) := dk_192 0 74 (dk_at dksX1_begin_0 21 rfl rfl)
theorem dX1_begin_24 : decode cX1_begin 24 = .ok (.astore 7, 2) := dk_58 7 (dk_at dksX1_begin_1 0 rfl rfl)
theorem dX1_begin_26 : decode cX1_begin 26 = .ok (.iload 5, 2) := dk_21 5 (dk_at dksX1_begin_1 2 rfl rfl)
theorem dX1_begin_28 : decode cX1_begin 28 = .ok (.iconst (-1), 1) := dk_2 (dk_at dksX1_begin_1 4 rfl rfl)
theorem dX1_begin_29 : decode cX1_begin 29 = .ok (.if_icmp .ne 7, 3) := dk_160 0 7 (dk_at dksX1_begin_1 5 rfl rfl)
theorem dX1_begin_32 : decode cX1_begin 32 = .ok (.aconst_null, 1) := dk_1 (dk_at dksX1_begin_1 8 rfl rfl)
theorem dX1_begin_33 : decode cX1_begin 33 = .ok (.goto 15, 3) := dk_167 0 15 (dk_at dksX1_begin_1 9 rfl rfl)
theorem dX1_begin_36 : decode cX1_begin 36 = .ok (.aload_n 0, 1) := dk_42 (dk_at dksX1_begin_1 12 rfl rfl)
theorem dX1_begin_37 : decode cX1_begin 37 = .ok (.getfield 44, 3) := dk_180 0 44 (dk_at dksX1_begin_1 13 rfl rfl)
theorem dX1_begin_40 : decode cX1_begin 40 = .ok (.iload 5, 2) := dk_21 5 (dk_at dksX1_begin_1 16 rfl rfl)
theorem dX1_begin_42 : decode cX1_begin 42 = .ok (.invokestatic 83, 3) := dk_184 0 83 (dk_at dksX1_begin_1 18 rfl rfl)
theorem dX1_begin_45 : decode cX1_begin 45 = .ok (.checkcast 87, 3) := dk_192 0 87 (dk_at dksX1_begin_1 21 rfl rfl)
theorem dX1_begin_48 : decode cX1_begin 48 = .ok (.astore 8, 2) := dk_58 8 (dk_at dksX1_begin_2 0 rfl rfl)
theorem dX1_begin_50 : decode cX1_begin 50 = .ok (.iload_n 1, 1) := dk_27 (dk_at dksX1_begin_2 2 rfl rfl)
theorem dX1_begin_51 : decode cX1_begin 51 = .ok (.iload_n 2, 1) := dk_28 (dk_at dksX1_begin_2 3 rfl rfl)
theorem dX1_begin_52 : decode cX1_begin 52 = .ok (.if_icmp .eq 50, 3) := dk_159 0 50 (dk_at dksX1_begin_2 4 rfl rfl)
theorem dX1_begin_55 : decode cX1_begin 55 = .ok (.iload_n 3, 1) := dk_29 (dk_at dksX1_begin_2 7 rfl rfl)
theorem dX1_begin_56 : decode cX1_begin 56 = .ok (.iconst 0, 1) := dk_3 (dk_at dksX1_begin_2 8 rfl rfl)
theorem dX1_begin_57 : decode cX1_begin 57 = .ok (.iconst 2, 1) := dk_5 (dk_at dksX1_begin_2 9 rfl rfl)
theorem dX1_begin_58 : decode cX1_begin 58 = .ok (.invokestatic 19, 3) := dk_184 0 19 (dk_at dksX1_begin_2 10 rfl rfl)
theorem dX1_begin_61 : decode cX1_begin 61 = .ok (.ifCond .eq 41, 3) := dk_153 0 41 (dk_at dksX1_begin_2 13 rfl rfl)
theorem dX1_begin_64 : decode cX1_begin 64 = .ok (.iload 4, 2) := dk_21 4 (dk_at dksX1_begin_2 16 rfl rfl)
theorem dX1_begin_66 : decode cX1_begin 66 = .ok (.iconst 1, 1) := dk_4 (dk_at dksX1_begin_2 18 rfl rfl)
theorem dX1_begin_67 : decode cX1_begin 67 = .ok (.bipush 45, 2) := dk_16 45 (dk_at dksX1_begin_2 19 rfl rfl)
theorem dX1_begin_69 : decode cX1_begin 69 = .ok (.invokestatic 19, 3) := dk_184 0 19 (dk_at dksX1_begin_2 21 rfl rfl)
theorem dX1_begin_72 : decode cX1_begin 72 = .ok (.ifCond .eq 30, 3) := dk_153 0 30 (dk_at dksX1_begin_3 0 rfl rfl)
theorem dX1_begin_75 : decode cX1_begin 75 = .ok (.aload 8, 2) := dk_25 8 (dk_at dksX1_begin_3 3 rfl rfl)
theorem dX1_begin_77 : decode cX1_begin 77 = .ok (.ifnull 21, 3) := dk_198 0 21 (dk_at dksX1_begin_3 5 rfl rfl)
theorem dX1_begin_80 : decode cX1_begin 80 = .ok (.aload 8, 2) := dk_25 8 (dk_at dksX1_begin_3 8 rfl rfl)
theorem dX1_begin_82 : decode cX1_begin 82 = .ok (.iload_n 1, 1) := dk_27 (dk_at dksX1_begin_3 10 rfl rfl)
theorem dX1_begin_83 : decode cX1_begin 83 = .ok (.invokevirtual 89, 3) := dk_182 0 89 (dk_at dksX1_begin_3 11 rfl rfl)
theorem dX1_begin_86 : decode cX1_begin 86 = .ok (.ifCond .eq 16, 3) := dk_153 0 16 (dk_at dksX1_begin_3 14 rfl rfl)
theorem dX1_begin_89 : decode cX1_begin 89 = .ok (.aload 8, 2) := dk_25 8 (dk_at dksX1_begin_3 17 rfl rfl)
theorem dX1_begin_91 : decode cX1_begin 91 = .ok (.iload_n 2, 1) := dk_28 (dk_at dksX1_begin_3 19 rfl rfl)
theorem dX1_begin_92 : decode cX1_begin 92 = .ok (.invokevirtual 89, 3) := dk_182 0 89 (dk_at dksX1_begin_3 20 rfl rfl)
theorem dX1_begin_95 : decode cX1_begin 95 = .ok (.ifCond .eq 7, 3) := dk_153 0 7 (dk_at dksX1_begin_4 0 rfl rfl)
theorem dX1_begin_98 : decode cX1_begin 98 = .ok (.iconst 1, 1) := dk_4 (dk_at dksX1_begin_4 3 rfl rfl)
theorem dX1_begin_99 : decode cX1_begin 99 = .ok (.goto 4, 3) := dk_167 0 4 (dk_at dksX1_begin_4 4 rfl rfl)
theorem dX1_begin_102 : decode cX1_begin 102 = .ok (.iconst 0, 1) := dk_3 (dk_at dksX1_begin_4 7 rfl rfl)
theorem dX1_begin_103 : decode cX1_begin 103 = .ok (.invokestatic 93, 3) := dk_184 0 93 (dk_at dksX1_begin_4 8 rfl rfl)
theorem dX1_begin_106 : decode cX1_begin 106 = .ok (.aload_n 0, 1) := dk_42 (dk_at dksX1_begin_4 11 rfl rfl)
theorem dX1_begin_107 : decode cX1_begin 107 = .ok (.getfield 96, 3) := dk_180 0 96 (dk_at dksX1_begin_4 12 rfl rfl)
theorem dX1_begin_110 : decode cX1_begin 110 = .ok (.ifnonnull 42, 3) := dk_199 0 42 (dk_at dksX1_begin_4 15 rfl rfl)
theorem dX1_begin_113 : decode cX1_begin 113 = .ok (.aload 8, 2) := dk_25 8 (dk_at dksX1_begin_4 18 rfl rfl)
theorem dX1_begin_115 : decode cX1_begin 115 = .ok (.ifnull 21, 3) := dk_198 0 21 (dk_at dksX1_begin_4 20 rfl rfl)
theorem dX1_begin_118 : decode cX1_begin 118 = .ok (.aload 8, 2) := dk_25 8 (dk_at dksX1_begin_5 0 rfl rfl)
theorem dX1_begin_120 : decode cX1_begin 120 = .ok (.iload_n 1, 1) := dk_27 (dk_at dksX1_begin_5 2 rfl rfl)
theorem dX1_begin_121 : decode cX1_begin 121 = .ok (.invokevirtual 100, 3) := dk_182 0 100 (dk_at dksX1_begin_5 3 rfl rfl)
theorem dX1_begin_124 : decode cX1_begin 124 = .ok (.ifCond .eq 28, 3) := dk_153 0 28 (dk_at dksX1_begin_5 6 rfl rfl)
theorem dX1_begin_127 : decode cX1_begin 127 = .ok (.aload 8, 2) := dk_25 8 (dk_at dksX1_begin_5 9 rfl rfl)
theorem dX1_begin_129 : decode cX1_begin 129 = .ok (.iload_n 2, 1) := dk_28 (dk_at dksX1_begin_5 11 rfl rfl)
theorem dX1_begin_130 : decode cX1_begin 130 = .ok (.invokevirtual 100, 3) := dk_182 0 100 (dk_at dksX1_begin_5 12 rfl rfl)
theorem dX1_begin_133 : decode cX1_begin 133 = .ok (.ifCond .eq 19, 3) := dk_153 0 19 (dk_at dksX1_begin_5 15 rfl rfl)
theorem dX1_begin_136 : decode cX1_begin 136 = .ok (.aload_n 0, 1) := dk_42 (dk_at dksX1_begin_5 18 rfl rfl)
theorem dX1_begin_137 : decode cX1_begin 137 = .ok (.getfield 41, 3) := dk_180 0 41 (dk_at dksX1_begin_5 19 rfl rfl)
theorem dX1_begin_140 : decode cX1_begin 140 = .ok (.invokevirtual 13, 3) := dk_182 0 13 (dk_at dksX1_begin_6 0 rfl rfl)
theorem dX1_begin_143 : decode cX1_begin 143 = .ok (.bipush 80, 2) := dk_16 80 (dk_at dksX1_begin_6 3 rfl rfl)
theorem dX1_begin_145 : decode cX1_begin 145 = .ok (.if_icmp .ge 7, 3) := dk_162 0 7 (dk_at dksX1_begin_6 5 rfl rfl)
theorem dX1_begin_148 : decode cX1_begin 148 = .ok (.iconst 1, 1) := dk_4 (dk_at dksX1_begin_6 8 rfl rfl)
theorem dX1_begin_149 : decode cX1_begin 149 = .ok (.goto 4, 3) := dk_167 0 4 (dk_at dksX1_begin_6 9 rfl rfl)
theorem dX1_begin_152 : decode cX1_begin 152 = .ok (.iconst 0, 1) := dk_3 (dk_at dksX1_begin_6 12 rfl rfl)
theorem dX1_begin_153 : decode cX1_begin 153 = .ok (.invokestatic 71, 3) := dk_184 0 71 (dk_at dksX1_begin_6 13 rfl rfl)
theorem dX1_begin_156 : decode cX1_begin 156 = .ok (.aload_n 0, 1) := dk_42 (dk_at dksX1_begin_6 16 rfl rfl)
theorem dX1_begin_157 : decode cX1_begin 157 = .ok (.new 103, 3) := dk_187 0 103 (dk_at dksX1_begin_6 17 rfl rfl)
theorem dX1_begin_160 : decode cX1_begin 160 = .ok (.dup, 1) := dk_89 (dk_at dksX1_begin_6 20 rfl rfl)
theorem dX1_begin_161 : decode cX1_begin 161 = .ok (.aload_n 0, 1) := dk_42 (dk_at dksX1_begin_6 21 rfl rfl)
theorem dX1_begin_162 : decode cX1_begin 162 = .ok (.aload 6, 2) := dk_25 6 (dk_at dksX1_begin_6 22 rfl rfl)
theorem dX1_begin_164 : decode cX1_begin 164 = .ok (.aload 7, 2) := dk_25 7 (dk_at dksX1_begin_7 0 rfl rfl)
theorem dX1_begin_166 : decode cX1_begin 166 = .ok (.iload_n 3, 1) := dk_29 (dk_at dksX1_begin_7 2 rfl rfl)
theorem dX1_begin_167 : decode cX1_begin 167 = .ok (.invokestatic 105, 3) := dk_184 0 105 (dk_at dksX1_begin_7 3 rfl rfl)
theorem dX1_begin_170 : decode cX1_begin 170 = .ok (.iload 4, 2) := dk_21 4 (dk_at dksX1_begin_7 6 rfl rfl)
theorem dX1_begin_172 : decode cX1_begin 172 = .ok (.aload 8, 2) := dk_25 8 (dk_at dksX1_begin_7 8 rfl rfl)
theorem dX1_begin_174 : decode cX1_begin 174 = .ok (.invokespecial 111, 3) := dk_183 0 111 (dk_at dksX1_begin_7 10 rfl rfl)
theorem dX1_begin_177 : decode cX1_begin 177 = .ok (.putfield 96, 3) := dk_181 0 96 (dk_at dksX1_begin_7 13 rfl rfl)
theorem dX1_begin_180 : decode cX1_begin 180 = .ok (.aload_n 0, 1) := dk_42 (dk_at dksX1_begin_7 16 rfl rfl)
theorem dX1_begin_181 : decode cX1_begin 181 = .ok (.getfield 41, 3) := dk_180 0 41 (dk_at dksX1_begin_7 17 rfl rfl)
theorem dX1_begin_184 : decode cX1_begin 184 = .ok (.aload_n 0, 1) := dk_42 (dk_at dksX1_begin_7 20 rfl rfl)
theorem dX1_begin_185 : decode cX1_begin 185 = .ok (.getfield 96, 3) := dk_180 0 96 (dk_at dksX1_begin_7 21 rfl rfl)
theorem dX1_begin_188 : decode cX1_begin 188 = .ok (.invokevirtual 79, 3) := dk_182 0 79 (dk_at dksX1_begin_8 0 rfl rfl)
theorem dX1_begin_191 : decode cX1_begin 191 = .ok (.pop, 1) := dk_87 (dk_at dksX1_begin_8 3 rfl rfl)
theorem dX1_begin_192 : decode cX1_begin 192 = .ok (.aload_n 0, 1) := dk_42 (dk_at dksX1_begin_8 4 rfl rfl)
theorem dX1_begin_193 : decode cX1_begin 193 = .ok (.getfield 41, 3) := dk_180 0 41 (dk_at dksX1_begin_8 5 rfl rfl)
theorem dX1_begin_196 : decode cX1_begin 196 = .ok (.invokevirtual 13, 3) := dk_182 0 13 (dk_at dksX1_begin_8 8 rfl rfl)
theorem dX1_begin_199 : decode cX1_begin 199 = .ok (.iconst 1, 1) := dk_4 (dk_at dksX1_begin_8 11 rfl rfl)
theorem dX1_begin_200 : decode cX1_begin 200 = .ok (.isub, 1) := dk_100 (dk_at dksX1_begin_8 12 rfl rfl)
theorem dX1_begin_201 : decode cX1_begin 201 = .ok (.ireturn, 1) := dk_172 (dk_at dksX1_begin_8 13 rfl rfl)
abbrev cX1_at : ByteArray := prog_1_method_5_code
def yX1_at : MethodName := ⟨RX1, "at", "(Ljava/util/ArrayList;I)Ljava/lang/Object;"⟩
def dkwX1_at_0 : List UInt8 := [27, 3, 42, 182, 0, 13, 4, 100, 184, 0, 19, 184, 0, 25, 42, 27, 182, 0, 29, 176]
abbrev dktX1_at_0 : List UInt8 := dkwX1_at_0 ++ []
theorem dksX1_at_0 : cX1_at.data.toList.drop 0 = dktX1_at_0 := by decide +kernel
theorem dX1_at_0 : decode cX1_at 0 = .ok (.iload_n 1, 1) := dk_27 (dk_at dksX1_at_0 0 rfl rfl)
theorem dX1_at_1 : decode cX1_at 1 = .ok (.iconst 0, 1) := dk_3 (dk_at dksX1_at_0 1 rfl rfl)
theorem dX1_at_2 : decode cX1_at 2 = .ok (.aload_n 0, 1) := dk_42 (dk_at dksX1_at_0 2 rfl rfl)
theorem dX1_at_3 : decode cX1_at 3 = .ok (.invokevirtual 13, 3) := dk_182 0 13 (dk_at dksX1_at_0 3 rfl rfl)
theorem dX1_at_6 : decode cX1_at 6 = .ok (.iconst 1, 1) := dk_4 (dk_at dksX1_at_0 6 rfl rfl)
theorem dX1_at_7 : decode cX1_at 7 = .ok (.isub, 1) := dk_100 (dk_at dksX1_at_0 7 rfl rfl)
theorem dX1_at_8 : decode cX1_at 8 = .ok (.invokestatic 19, 3) := dk_184 0 19 (dk_at dksX1_at_0 8 rfl rfl)
theorem dX1_at_11 : decode cX1_at 11 = .ok (.invokestatic 25, 3) := dk_184 0 25 (dk_at dksX1_at_0 11 rfl rfl)
theorem dX1_at_14 : decode cX1_at 14 = .ok (.aload_n 0, 1) := dk_42 (dk_at dksX1_at_0 14 rfl rfl)
theorem dX1_at_15 : decode cX1_at 15 = .ok (.iload_n 1, 1) := dk_27 (dk_at dksX1_at_0 15 rfl rfl)
theorem dX1_at_16 : decode cX1_at 16 = .ok (.invokevirtual 29, 3) := dk_182 0 29 (dk_at dksX1_at_0 16 rfl rfl)
theorem dX1_at_19 : decode cX1_at 19 = .ok (.areturn, 1) := dk_176 (dk_at dksX1_at_0 19 rfl rfl)
abbrev cX1_inRange : ByteArray := prog_1_method_1_code
def yX1_inRange : MethodName := ⟨RX1, "inRange", "(III)Z"⟩
def dkwX1_inRange_0 : List UInt8 := [26, 27, 161, 0, 12, 26, 28, 163, 0, 7, 4, 167, 0, 4, 3, 172]
abbrev dktX1_inRange_0 : List UInt8 := dkwX1_inRange_0 ++ []
theorem dksX1_inRange_0 : cX1_inRange.data.toList.drop 0 = dktX1_inRange_0 := by decide +kernel
theorem dX1_inRange_0 : decode cX1_inRange 0 = .ok (.iload_n 0, 1) := dk_26 (dk_at dksX1_inRange_0 0 rfl rfl)
theorem dX1_inRange_1 : decode cX1_inRange 1 = .ok (.iload_n 1, 1) := dk_27 (dk_at dksX1_inRange_0 1 rfl rfl)
theorem dX1_inRange_2 : decode cX1_inRange 2 = .ok (.if_icmp .lt 12, 3) := dk_161 0 12 (dk_at dksX1_inRange_0 2 rfl rfl)
theorem dX1_inRange_5 : decode cX1_inRange 5 = .ok (.iload_n 0, 1) := dk_26 (dk_at dksX1_inRange_0 5 rfl rfl)
theorem dX1_inRange_6 : decode cX1_inRange 6 = .ok (.iload_n 2, 1) := dk_28 (dk_at dksX1_inRange_0 6 rfl rfl)
theorem dX1_inRange_7 : decode cX1_inRange 7 = .ok (.if_icmp .gt 7, 3) := dk_163 0 7 (dk_at dksX1_inRange_0 7 rfl rfl)
theorem dX1_inRange_10 : decode cX1_inRange 10 = .ok (.iconst 1, 1) := dk_4 (dk_at dksX1_inRange_0 10 rfl rfl)
theorem dX1_inRange_11 : decode cX1_inRange 11 = .ok (.goto 4, 3) := dk_167 0 4 (dk_at dksX1_inRange_0 11 rfl rfl)
theorem dX1_inRange_14 : decode cX1_inRange 14 = .ok (.iconst 0, 1) := dk_3 (dk_at dksX1_inRange_0 14 rfl rfl)
theorem dX1_inRange_15 : decode cX1_inRange 15 = .ok (.ireturn, 1) := dk_172 (dk_at dksX1_inRange_0 15 rfl rfl)
abbrev cX1_requireIndex : ByteArray := prog_1_method_2_code
def yX1_requireIndex : MethodName := ⟨RX1, "requireIndex", "(Z)V"⟩
def dkwX1_requireIndex_0 : List UInt8 := [26, 154, 0, 11, 187, 0, 1, 89, 183, 0, 3, 191, 177]
abbrev dktX1_requireIndex_0 : List UInt8 := dkwX1_requireIndex_0 ++ []
theorem dksX1_requireIndex_0 : cX1_requireIndex.data.toList.drop 0 = dktX1_requireIndex_0 := by decide +kernel
theorem dX1_requireIndex_0 : decode cX1_requireIndex 0 = .ok (.iload_n 0, 1) := dk_26 (dk_at dksX1_requireIndex_0 0 rfl rfl)
theorem dX1_requireIndex_1 : decode cX1_requireIndex 1 = .ok (.ifCond .ne 11, 3) := dk_154 0 11 (dk_at dksX1_requireIndex_0 1 rfl rfl)
theorem dX1_requireIndex_4 : decode cX1_requireIndex 4 = .ok (.new 1, 3) := dk_187 0 1 (dk_at dksX1_requireIndex_0 4 rfl rfl)
theorem dX1_requireIndex_7 : decode cX1_requireIndex 7 = .ok (.dup, 1) := dk_89 (dk_at dksX1_requireIndex_0 7 rfl rfl)
theorem dX1_requireIndex_8 : decode cX1_requireIndex 8 = .ok (.invokespecial 3, 3) := dk_183 0 3 (dk_at dksX1_requireIndex_0 8 rfl rfl)
theorem dX1_requireIndex_11 : decode cX1_requireIndex 11 = .ok (.athrow, 1) := dk_191 (dk_at dksX1_requireIndex_0 11 rfl rfl)
theorem dX1_requireIndex_12 : decode cX1_requireIndex 12 = .ok (.return_, 1) := dk_177 (dk_at dksX1_requireIndex_0 12 rfl rfl)
abbrev cX1_requireArgument : ByteArray := prog_1_method_3_code
def yX1_requireArgument : MethodName := ⟨RX1, "requireArgument", "(Z)V"⟩
def dkwX1_requireArgument_0 : List UInt8 := [26, 154, 0, 11, 187, 0, 7, 89, 183, 0, 9, 191, 177]
abbrev dktX1_requireArgument_0 : List UInt8 := dkwX1_requireArgument_0 ++ []
theorem dksX1_requireArgument_0 : cX1_requireArgument.data.toList.drop 0 = dktX1_requireArgument_0 := by decide +kernel
theorem dX1_requireArgument_0 : decode cX1_requireArgument 0 = .ok (.iload_n 0, 1) := dk_26 (dk_at dksX1_requireArgument_0 0 rfl rfl)
theorem dX1_requireArgument_1 : decode cX1_requireArgument 1 = .ok (.ifCond .ne 11, 3) := dk_154 0 11 (dk_at dksX1_requireArgument_0 1 rfl rfl)
theorem dX1_requireArgument_4 : decode cX1_requireArgument 4 = .ok (.new 7, 3) := dk_187 0 7 (dk_at dksX1_requireArgument_0 4 rfl rfl)
theorem dX1_requireArgument_7 : decode cX1_requireArgument 7 = .ok (.dup, 1) := dk_89 (dk_at dksX1_requireArgument_0 7 rfl rfl)
theorem dX1_requireArgument_8 : decode cX1_requireArgument 8 = .ok (.invokespecial 9, 3) := dk_183 0 9 (dk_at dksX1_requireArgument_0 8 rfl rfl)
theorem dX1_requireArgument_11 : decode cX1_requireArgument 11 = .ok (.athrow, 1) := dk_191 (dk_at dksX1_requireArgument_0 11 rfl rfl)
theorem dX1_requireArgument_12 : decode cX1_requireArgument 12 = .ok (.return_, 1) := dk_177 (dk_at dksX1_requireArgument_0 12 rfl rfl)
abbrev cX1_act : ByteArray := prog_1_method_12_code
def yX1_act : MethodName := ⟨RX1, "act", "(III)I"⟩
def dkwX1_act_2 : List UInt8 := [182, 0, 132, 172]
abbrev dktX1_act_2 : List UInt8 := dkwX1_act_2 ++ []
def dkwX1_act_1 : List UInt8 := [153, 0, 7, 4, 167, 0, 4, 3, 184, 0, 93, 42, 187, 0, 127, 89, 27, 28, 29, 183, 0, 129]
abbrev dktX1_act_1 : List UInt8 := dkwX1_act_1 ++ dktX1_act_2
def dkwX1_act_0 : List UInt8 := [27, 184, 0, 123, 153, 0, 27, 28, 3, 16, 6, 184, 0, 19, 153, 0, 17, 29, 3, 18, 126, 184, 0, 19]
abbrev dktX1_act_0 : List UInt8 := dkwX1_act_0 ++ dktX1_act_1
theorem dksX1_act_0 : cX1_act.data.toList.drop 0 = dktX1_act_0 := by decide +kernel
theorem dksX1_act_1 : cX1_act.data.toList.drop 24 = dktX1_act_1 := dk_seg dksX1_act_0 24 rfl rfl
theorem dksX1_act_2 : cX1_act.data.toList.drop 46 = dktX1_act_2 := dk_seg dksX1_act_1 22 rfl rfl
theorem dX1_act_0 : decode cX1_act 0 = .ok (.iload_n 1, 1) := dk_27 (dk_at dksX1_act_0 0 rfl rfl)
theorem dX1_act_1 : decode cX1_act 1 = .ok (.invokestatic 123, 3) := dk_184 0 123 (dk_at dksX1_act_0 1 rfl rfl)
theorem dX1_act_4 : decode cX1_act 4 = .ok (.ifCond .eq 27, 3) := dk_153 0 27 (dk_at dksX1_act_0 4 rfl rfl)
theorem dX1_act_7 : decode cX1_act 7 = .ok (.iload_n 2, 1) := dk_28 (dk_at dksX1_act_0 7 rfl rfl)
theorem dX1_act_8 : decode cX1_act 8 = .ok (.iconst 0, 1) := dk_3 (dk_at dksX1_act_0 8 rfl rfl)
theorem dX1_act_9 : decode cX1_act 9 = .ok (.bipush 6, 2) := dk_16 6 (dk_at dksX1_act_0 9 rfl rfl)
theorem dX1_act_11 : decode cX1_act 11 = .ok (.invokestatic 19, 3) := dk_184 0 19 (dk_at dksX1_act_0 11 rfl rfl)
theorem dX1_act_14 : decode cX1_act 14 = .ok (.ifCond .eq 17, 3) := dk_153 0 17 (dk_at dksX1_act_0 14 rfl rfl)
theorem dX1_act_17 : decode cX1_act 17 = .ok (.iload_n 3, 1) := dk_29 (dk_at dksX1_act_0 17 rfl rfl)
theorem dX1_act_18 : decode cX1_act 18 = .ok (.iconst 0, 1) := dk_3 (dk_at dksX1_act_0 18 rfl rfl)
theorem dX1_act_19 : decode cX1_act 19 = .ok (.ldc 126, 2) := dk_18 126 (dk_at dksX1_act_0 19 rfl rfl)
theorem dX1_act_21 : decode cX1_act 21 = .ok (.invokestatic 19, 3) := dk_184 0 19 (dk_at dksX1_act_0 21 rfl rfl)
theorem dX1_act_24 : decode cX1_act 24 = .ok (.ifCond .eq 7, 3) := dk_153 0 7 (dk_at dksX1_act_1 0 rfl rfl)
theorem dX1_act_27 : decode cX1_act 27 = .ok (.iconst 1, 1) := dk_4 (dk_at dksX1_act_1 3 rfl rfl)
theorem dX1_act_28 : decode cX1_act 28 = .ok (.goto 4, 3) := dk_167 0 4 (dk_at dksX1_act_1 4 rfl rfl)
theorem dX1_act_31 : decode cX1_act 31 = .ok (.iconst 0, 1) := dk_3 (dk_at dksX1_act_1 7 rfl rfl)
theorem dX1_act_32 : decode cX1_act 32 = .ok (.invokestatic 93, 3) := dk_184 0 93 (dk_at dksX1_act_1 8 rfl rfl)
theorem dX1_act_35 : decode cX1_act 35 = .ok (.aload_n 0, 1) := dk_42 (dk_at dksX1_act_1 11 rfl rfl)
theorem dX1_act_36 : decode cX1_act 36 = .ok (.new 127, 3) := dk_187 0 127 (dk_at dksX1_act_1 12 rfl rfl)
theorem dX1_act_39 : decode cX1_act 39 = .ok (.dup, 1) := dk_89 (dk_at dksX1_act_1 15 rfl rfl)
theorem dX1_act_40 : decode cX1_act 40 = .ok (.iload_n 1, 1) := dk_27 (dk_at dksX1_act_1 16 rfl rfl)
theorem dX1_act_41 : decode cX1_act 41 = .ok (.iload_n 2, 1) := dk_28 (dk_at dksX1_act_1 17 rfl rfl)
theorem dX1_act_42 : decode cX1_act 42 = .ok (.iload_n 3, 1) := dk_29 (dk_at dksX1_act_1 18 rfl rfl)
theorem dX1_act_43 : decode cX1_act 43 = .ok (.invokespecial 129, 3) := dk_183 0 129 (dk_at dksX1_act_1 19 rfl rfl)
theorem dX1_act_46 : decode cX1_act 46 = .ok (.invokevirtual 132, 3) := dk_182 0 132 (dk_at dksX1_act_2 0 rfl rfl)
theorem dX1_act_49 : decode cX1_act 49 = .ok (.ireturn, 1) := dk_172 (dk_at dksX1_act_2 3 rfl rfl)
abbrev cX1_isSide : ByteArray := prog_1_method_8_code
def yX1_isSide : MethodName := ⟨RX1, "isSide", "(I)Z"⟩
def dkwX1_isSide_0 : List UInt8 := [26, 3, 4, 184, 0, 19, 172]
abbrev dktX1_isSide_0 : List UInt8 := dkwX1_isSide_0 ++ []
theorem dksX1_isSide_0 : cX1_isSide.data.toList.drop 0 = dktX1_isSide_0 := by decide +kernel
theorem dX1_isSide_0 : decode cX1_isSide 0 = .ok (.iload_n 0, 1) := dk_26 (dk_at dksX1_isSide_0 0 rfl rfl)
theorem dX1_isSide_1 : decode cX1_isSide 1 = .ok (.iconst 0, 1) := dk_3 (dk_at dksX1_isSide_0 1 rfl rfl)
theorem dX1_isSide_2 : decode cX1_isSide 2 = .ok (.iconst 1, 1) := dk_4 (dk_at dksX1_isSide_0 2 rfl rfl)
theorem dX1_isSide_3 : decode cX1_isSide 3 = .ok (.invokestatic 19, 3) := dk_184 0 19 (dk_at dksX1_isSide_0 3 rfl rfl)
theorem dX1_isSide_6 : decode cX1_isSide 6 = .ok (.ireturn, 1) := dk_172 (dk_at dksX1_isSide_0 6 rfl rfl)
abbrev cX1_put : ByteArray := prog_1_method_11_code
def yX1_put : MethodName := ⟨RX1, "put", "(LPhrasehall$Part;)I"⟩
def dkwX1_put_4 : List UInt8 := [182, 0, 13, 172]
abbrev dktX1_put_4 : List UInt8 := dkwX1_put_4 ++ []
def dkwX1_put_3 : List UInt8 := [162, 0, 7, 4, 167, 0, 4, 3, 184, 0, 71, 42, 180, 0, 47, 43, 182, 0, 79, 87, 42, 180, 0, 47]
abbrev dktX1_put_3 : List UInt8 := dkwX1_put_3 ++ dktX1_put_4
def dkwX1_put_2 : List UInt8 := [3, 61, 42, 180, 0, 96, 198, 0, 23, 28, 153, 0, 19, 42, 180, 0, 47, 182, 0, 13, 16, 24]
abbrev dktX1_put_2 : List UInt8 := dkwX1_put_2 ++ dktX1_put_3
def dkwX1_put_1 : List UInt8 := [182, 0, 29, 192, 0, 118, 185, 0, 120, 1, 0, 43, 185, 0, 120, 1, 0, 163, 0, 7, 4, 167, 0, 4]
abbrev dktX1_put_1 : List UInt8 := dkwX1_put_1 ++ dktX1_put_2
def dkwX1_put_0 : List UInt8 := [42, 180, 0, 47, 182, 0, 114, 154, 0, 36, 42, 180, 0, 47, 42, 180, 0, 47, 182, 0, 13, 4, 100]
abbrev dktX1_put_0 : List UInt8 := dkwX1_put_0 ++ dktX1_put_1
theorem dksX1_put_0 : cX1_put.data.toList.drop 0 = dktX1_put_0 := by decide +kernel
theorem dksX1_put_1 : cX1_put.data.toList.drop 23 = dktX1_put_1 := dk_seg dksX1_put_0 23 rfl rfl
theorem dksX1_put_2 : cX1_put.data.toList.drop 47 = dktX1_put_2 := dk_seg dksX1_put_1 24 rfl rfl
theorem dksX1_put_3 : cX1_put.data.toList.drop 69 = dktX1_put_3 := dk_seg dksX1_put_2 22 rfl rfl
theorem dksX1_put_4 : cX1_put.data.toList.drop 93 = dktX1_put_4 := dk_seg dksX1_put_3 24 rfl rfl
theorem dX1_put_0 : decode cX1_put 0 = .ok (.aload_n 0, 1) := dk_42 (dk_at dksX1_put_0 0 rfl rfl)
theorem dX1_put_1 : decode cX1_put 1 = .ok (.getfield 47, 3) := dk_180 0 47 (dk_at dksX1_put_0 1 rfl rfl)
theorem dX1_put_4 : decode cX1_put 4 = .ok (.invokevirtual 114, 3) := dk_182 0 114 (dk_at dksX1_put_0 4 rfl rfl)
theorem dX1_put_7 : decode cX1_put 7 = .ok (.ifCond .ne 36, 3) := dk_154 0 36 (dk_at dksX1_put_0 7 rfl rfl)
theorem dX1_put_10 : decode cX1_put 10 = .ok (.aload_n 0, 1) := dk_42 (dk_at dksX1_put_0 10 rfl rfl)
theorem dX1_put_11 : decode cX1_put 11 = .ok (.getfield 47, 3) := dk_180 0 47 (dk_at dksX1_put_0 11 rfl rfl)
theorem dX1_put_14 : decode cX1_put 14 = .ok (.aload_n 0, 1) := dk_42 (dk_at dksX1_put_0 14 rfl rfl)
theorem dX1_put_15 : decode cX1_put 15 = .ok (.getfield 47, 3) := dk_180 0 47 (dk_at dksX1_put_0 15 rfl rfl)
theorem dX1_put_18 : decode cX1_put 18 = .ok (.invokevirtual 13, 3) := dk_182 0 13 (dk_at dksX1_put_0 18 rfl rfl)
theorem dX1_put_21 : decode cX1_put 21 = .ok (.iconst 1, 1) := dk_4 (dk_at dksX1_put_0 21 rfl rfl)
theorem dX1_put_22 : decode cX1_put 22 = .ok (.isub, 1) := dk_100 (dk_at dksX1_put_0 22 rfl rfl)
theorem dX1_put_23 : decode cX1_put 23 = .ok (.invokevirtual 29, 3) := dk_182 0 29 (dk_at dksX1_put_1 0 rfl rfl)
theorem dX1_put_26 : decode cX1_put 26 = .ok (.checkcast 118, 3) := dk_192 0 118 (dk_at dksX1_put_1 3 rfl rfl)
theorem dX1_put_29 : decode cX1_put 29 = .ok (.invokeinterface 120 1, 5) := by decide +kernel
theorem dX1_put_34 : decode cX1_put 34 = .ok (.aload_n 1, 1) := dk_43 (dk_at dksX1_put_1 11 rfl rfl)
theorem dX1_put_35 : decode cX1_put 35 = .ok (.invokeinterface 120 1, 5) := by decide +kernel
theorem dX1_put_40 : decode cX1_put 40 = .ok (.if_icmp .gt 7, 3) := dk_163 0 7 (dk_at dksX1_put_1 17 rfl rfl)
theorem dX1_put_43 : decode cX1_put 43 = .ok (.iconst 1, 1) := dk_4 (dk_at dksX1_put_1 20 rfl rfl)
theorem dX1_put_44 : decode cX1_put 44 = .ok (.goto 4, 3) := dk_167 0 4 (dk_at dksX1_put_1 21 rfl rfl)
theorem dX1_put_47 : decode cX1_put 47 = .ok (.iconst 0, 1) := dk_3 (dk_at dksX1_put_2 0 rfl rfl)
theorem dX1_put_48 : decode cX1_put 48 = .ok (.istore_n 2, 1) := dk_61 (dk_at dksX1_put_2 1 rfl rfl)
theorem dX1_put_49 : decode cX1_put 49 = .ok (.aload_n 0, 1) := dk_42 (dk_at dksX1_put_2 2 rfl rfl)
theorem dX1_put_50 : decode cX1_put 50 = .ok (.getfield 96, 3) := dk_180 0 96 (dk_at dksX1_put_2 3 rfl rfl)
theorem dX1_put_53 : decode cX1_put 53 = .ok (.ifnull 23, 3) := dk_198 0 23 (dk_at dksX1_put_2 6 rfl rfl)
theorem dX1_put_56 : decode cX1_put 56 = .ok (.iload_n 2, 1) := dk_28 (dk_at dksX1_put_2 9 rfl rfl)
theorem dX1_put_57 : decode cX1_put 57 = .ok (.ifCond .eq 19, 3) := dk_153 0 19 (dk_at dksX1_put_2 10 rfl rfl)
theorem dX1_put_60 : decode cX1_put 60 = .ok (.aload_n 0, 1) := dk_42 (dk_at dksX1_put_2 13 rfl rfl)
theorem dX1_put_61 : decode cX1_put 61 = .ok (.getfield 47, 3) := dk_180 0 47 (dk_at dksX1_put_2 14 rfl rfl)
theorem dX1_put_64 : decode cX1_put 64 = .ok (.invokevirtual 13, 3) := dk_182 0 13 (dk_at dksX1_put_2 17 rfl rfl)
theorem dX1_put_67 : decode cX1_put 67 = .ok (.bipush 24, 2) := dk_16 24 (dk_at dksX1_put_2 20 rfl rfl)
theorem dX1_put_69 : decode cX1_put 69 = .ok (.if_icmp .ge 7, 3) := dk_162 0 7 (dk_at dksX1_put_3 0 rfl rfl)
theorem dX1_put_72 : decode cX1_put 72 = .ok (.iconst 1, 1) := dk_4 (dk_at dksX1_put_3 3 rfl rfl)
theorem dX1_put_73 : decode cX1_put 73 = .ok (.goto 4, 3) := dk_167 0 4 (dk_at dksX1_put_3 4 rfl rfl)
theorem dX1_put_76 : decode cX1_put 76 = .ok (.iconst 0, 1) := dk_3 (dk_at dksX1_put_3 7 rfl rfl)
theorem dX1_put_77 : decode cX1_put 77 = .ok (.invokestatic 71, 3) := dk_184 0 71 (dk_at dksX1_put_3 8 rfl rfl)
theorem dX1_put_80 : decode cX1_put 80 = .ok (.aload_n 0, 1) := dk_42 (dk_at dksX1_put_3 11 rfl rfl)
theorem dX1_put_81 : decode cX1_put 81 = .ok (.getfield 47, 3) := dk_180 0 47 (dk_at dksX1_put_3 12 rfl rfl)
theorem dX1_put_84 : decode cX1_put 84 = .ok (.aload_n 1, 1) := dk_43 (dk_at dksX1_put_3 15 rfl rfl)
theorem dX1_put_85 : decode cX1_put 85 = .ok (.invokevirtual 79, 3) := dk_182 0 79 (dk_at dksX1_put_3 16 rfl rfl)
theorem dX1_put_88 : decode cX1_put 88 = .ok (.pop, 1) := dk_87 (dk_at dksX1_put_3 19 rfl rfl)
theorem dX1_put_89 : decode cX1_put 89 = .ok (.aload_n 0, 1) := dk_42 (dk_at dksX1_put_3 20 rfl rfl)
theorem dX1_put_90 : decode cX1_put 90 = .ok (.getfield 47, 3) := dk_180 0 47 (dk_at dksX1_put_3 21 rfl rfl)
theorem dX1_put_93 : decode cX1_put 93 = .ok (.invokevirtual 13, 3) := dk_182 0 13 (dk_at dksX1_put_4 0 rfl rfl)
theorem dX1_put_96 : decode cX1_put 96 = .ok (.ireturn, 1) := dk_172 (dk_at dksX1_put_4 3 rfl rfl)
abbrev cX1_hit : ByteArray := prog_1_method_13_code
def yX1_hit : MethodName := ⟨RX1, "hit", "(IIII)I"⟩
def dkwX1_hit_2 : List UInt8 := [42, 187, 0, 136, 89, 27, 28, 29, 21, 4, 183, 0, 138, 182, 0, 132, 172]
abbrev dktX1_hit_2 : List UInt8 := dkwX1_hit_2 ++ []
def dkwX1_hit_1 : List UInt8 := [184, 0, 19, 153, 0, 17, 21, 4, 3, 5, 184, 0, 19, 153, 0, 7, 4, 167, 0, 4, 3, 184, 0, 93]
abbrev dktX1_hit_1 : List UInt8 := dkwX1_hit_1 ++ dktX1_hit_2
def dkwX1_hit_0 : List UInt8 := [27, 184, 0, 123, 153, 0, 38, 28, 3, 18, 126, 184, 0, 19, 153, 0, 28, 29, 3, 17, 3, 232]
abbrev dktX1_hit_0 : List UInt8 := dkwX1_hit_0 ++ dktX1_hit_1
theorem dksX1_hit_0 : cX1_hit.data.toList.drop 0 = dktX1_hit_0 := by decide +kernel
theorem dksX1_hit_1 : cX1_hit.data.toList.drop 22 = dktX1_hit_1 := dk_seg dksX1_hit_0 22 rfl rfl
theorem dksX1_hit_2 : cX1_hit.data.toList.drop 46 = dktX1_hit_2 := dk_seg dksX1_hit_1 24 rfl rfl
theorem dX1_hit_0 : decode cX1_hit 0 = .ok (.iload_n 1, 1) := dk_27 (dk_at dksX1_hit_0 0 rfl rfl)
theorem dX1_hit_1 : decode cX1_hit 1 = .ok (.invokestatic 123, 3) := dk_184 0 123 (dk_at dksX1_hit_0 1 rfl rfl)
theorem dX1_hit_4 : decode cX1_hit 4 = .ok (.ifCond .eq 38, 3) := dk_153 0 38 (dk_at dksX1_hit_0 4 rfl rfl)
theorem dX1_hit_7 : decode cX1_hit 7 = .ok (.iload_n 2, 1) := dk_28 (dk_at dksX1_hit_0 7 rfl rfl)
theorem dX1_hit_8 : decode cX1_hit 8 = .ok (.iconst 0, 1) := dk_3 (dk_at dksX1_hit_0 8 rfl rfl)
theorem dX1_hit_9 : decode cX1_hit 9 = .ok (.ldc 126, 2) := dk_18 126 (dk_at dksX1_hit_0 9 rfl rfl)
theorem dX1_hit_11 : decode cX1_hit 11 = .ok (.invokestatic 19, 3) := dk_184 0 19 (dk_at dksX1_hit_0 11 rfl rfl)
theorem dX1_hit_14 : decode cX1_hit 14 = .ok (.ifCond .eq 28, 3) := dk_153 0 28 (dk_at dksX1_hit_0 14 rfl rfl)
theorem dX1_hit_17 : decode cX1_hit 17 = .ok (.iload_n 3, 1) := dk_29 (dk_at dksX1_hit_0 17 rfl rfl)
theorem dX1_hit_18 : decode cX1_hit 18 = .ok (.iconst 0, 1) := dk_3 (dk_at dksX1_hit_0 18 rfl rfl)
theorem dX1_hit_19 : decode cX1_hit 19 = .ok (.sipush 1000, 3) := dk_17 3 232 (dk_at dksX1_hit_0 19 rfl rfl)
theorem dX1_hit_22 : decode cX1_hit 22 = .ok (.invokestatic 19, 3) := dk_184 0 19 (dk_at dksX1_hit_1 0 rfl rfl)
theorem dX1_hit_25 : decode cX1_hit 25 = .ok (.ifCond .eq 17, 3) := dk_153 0 17 (dk_at dksX1_hit_1 3 rfl rfl)
theorem dX1_hit_28 : decode cX1_hit 28 = .ok (.iload 4, 2) := dk_21 4 (dk_at dksX1_hit_1 6 rfl rfl)
theorem dX1_hit_30 : decode cX1_hit 30 = .ok (.iconst 0, 1) := dk_3 (dk_at dksX1_hit_1 8 rfl rfl)
theorem dX1_hit_31 : decode cX1_hit 31 = .ok (.iconst 2, 1) := dk_5 (dk_at dksX1_hit_1 9 rfl rfl)
theorem dX1_hit_32 : decode cX1_hit 32 = .ok (.invokestatic 19, 3) := dk_184 0 19 (dk_at dksX1_hit_1 10 rfl rfl)
theorem dX1_hit_35 : decode cX1_hit 35 = .ok (.ifCond .eq 7, 3) := dk_153 0 7 (dk_at dksX1_hit_1 13 rfl rfl)
theorem dX1_hit_38 : decode cX1_hit 38 = .ok (.iconst 1, 1) := dk_4 (dk_at dksX1_hit_1 16 rfl rfl)
theorem dX1_hit_39 : decode cX1_hit 39 = .ok (.goto 4, 3) := dk_167 0 4 (dk_at dksX1_hit_1 17 rfl rfl)
theorem dX1_hit_42 : decode cX1_hit 42 = .ok (.iconst 0, 1) := dk_3 (dk_at dksX1_hit_1 20 rfl rfl)
theorem dX1_hit_43 : decode cX1_hit 43 = .ok (.invokestatic 93, 3) := dk_184 0 93 (dk_at dksX1_hit_1 21 rfl rfl)
theorem dX1_hit_46 : decode cX1_hit 46 = .ok (.aload_n 0, 1) := dk_42 (dk_at dksX1_hit_2 0 rfl rfl)
theorem dX1_hit_47 : decode cX1_hit 47 = .ok (.new 136, 3) := dk_187 0 136 (dk_at dksX1_hit_2 1 rfl rfl)
theorem dX1_hit_50 : decode cX1_hit 50 = .ok (.dup, 1) := dk_89 (dk_at dksX1_hit_2 4 rfl rfl)
theorem dX1_hit_51 : decode cX1_hit 51 = .ok (.iload_n 1, 1) := dk_27 (dk_at dksX1_hit_2 5 rfl rfl)
theorem dX1_hit_52 : decode cX1_hit 52 = .ok (.iload_n 2, 1) := dk_28 (dk_at dksX1_hit_2 6 rfl rfl)
theorem dX1_hit_53 : decode cX1_hit 53 = .ok (.iload_n 3, 1) := dk_29 (dk_at dksX1_hit_2 7 rfl rfl)
theorem dX1_hit_54 : decode cX1_hit 54 = .ok (.iload 4, 2) := dk_21 4 (dk_at dksX1_hit_2 8 rfl rfl)
theorem dX1_hit_56 : decode cX1_hit 56 = .ok (.invokespecial 138, 3) := dk_183 0 138 (dk_at dksX1_hit_2 10 rfl rfl)
theorem dX1_hit_59 : decode cX1_hit 59 = .ok (.invokevirtual 132, 3) := dk_182 0 132 (dk_at dksX1_hit_2 13 rfl rfl)
theorem dX1_hit_62 : decode cX1_hit 62 = .ok (.ireturn, 1) := dk_172 (dk_at dksX1_hit_2 16 rfl rfl)
abbrev cX1_judge : ByteArray := prog_1_method_19_code
def yX1_judge : MethodName := ⟨RX1, "judge", "()I"⟩
def dkwX1_judge_2 : List UInt8 := [172]
abbrev dktX1_judge_2 : List UInt8 := dkwX1_judge_2 ++ []
def dkwX1_judge_1 : List UInt8 := [182, 0, 201, 182, 0, 204, 60, 42, 180, 0, 47, 182, 0, 207, 42, 180, 0, 96, 27, 4, 182, 0, 210, 27]
abbrev dktX1_judge_1 : List UInt8 := dkwX1_judge_1 ++ dktX1_judge_2
def dkwX1_judge_0 : List UInt8 := [42, 180, 0, 96, 198, 0, 7, 4, 167, 0, 4, 3, 184, 0, 71, 42, 42, 3, 182, 0, 201, 42, 4]
abbrev dktX1_judge_0 : List UInt8 := dkwX1_judge_0 ++ dktX1_judge_1
theorem dksX1_judge_0 : cX1_judge.data.toList.drop 0 = dktX1_judge_0 := by decide +kernel
theorem dksX1_judge_1 : cX1_judge.data.toList.drop 23 = dktX1_judge_1 := dk_seg dksX1_judge_0 23 rfl rfl
theorem dksX1_judge_2 : cX1_judge.data.toList.drop 47 = dktX1_judge_2 := dk_seg dksX1_judge_1 24 rfl rfl
theorem dX1_judge_0 : decode cX1_judge 0 = .ok (.aload_n 0, 1) := dk_42 (dk_at dksX1_judge_0 0 rfl rfl)
theorem dX1_judge_1 : decode cX1_judge 1 = .ok (.getfield 96, 3) := dk_180 0 96 (dk_at dksX1_judge_0 1 rfl rfl)
theorem dX1_judge_4 : decode cX1_judge 4 = .ok (.ifnull 7, 3) := dk_198 0 7 (dk_at dksX1_judge_0 4 rfl rfl)
theorem dX1_judge_7 : decode cX1_judge 7 = .ok (.iconst 1, 1) := dk_4 (dk_at dksX1_judge_0 7 rfl rfl)
theorem dX1_judge_8 : decode cX1_judge 8 = .ok (.goto 4, 3) := dk_167 0 4 (dk_at dksX1_judge_0 8 rfl rfl)
theorem dX1_judge_11 : decode cX1_judge 11 = .ok (.iconst 0, 1) := dk_3 (dk_at dksX1_judge_0 11 rfl rfl)
theorem dX1_judge_12 : decode cX1_judge 12 = .ok (.invokestatic 71, 3) := dk_184 0 71 (dk_at dksX1_judge_0 12 rfl rfl)
theorem dX1_judge_15 : decode cX1_judge 15 = .ok (.aload_n 0, 1) := dk_42 (dk_at dksX1_judge_0 15 rfl rfl)
theorem dX1_judge_16 : decode cX1_judge 16 = .ok (.aload_n 0, 1) := dk_42 (dk_at dksX1_judge_0 16 rfl rfl)
theorem dX1_judge_17 : decode cX1_judge 17 = .ok (.iconst 0, 1) := dk_3 (dk_at dksX1_judge_0 17 rfl rfl)
theorem dX1_judge_18 : decode cX1_judge 18 = .ok (.invokevirtual 201, 3) := dk_182 0 201 (dk_at dksX1_judge_0 18 rfl rfl)
theorem dX1_judge_21 : decode cX1_judge 21 = .ok (.aload_n 0, 1) := dk_42 (dk_at dksX1_judge_0 21 rfl rfl)
theorem dX1_judge_22 : decode cX1_judge 22 = .ok (.iconst 1, 1) := dk_4 (dk_at dksX1_judge_0 22 rfl rfl)
theorem dX1_judge_23 : decode cX1_judge 23 = .ok (.invokevirtual 201, 3) := dk_182 0 201 (dk_at dksX1_judge_1 0 rfl rfl)
theorem dX1_judge_26 : decode cX1_judge 26 = .ok (.invokevirtual 204, 3) := dk_182 0 204 (dk_at dksX1_judge_1 3 rfl rfl)
theorem dX1_judge_29 : decode cX1_judge 29 = .ok (.istore_n 1, 1) := dk_60 (dk_at dksX1_judge_1 6 rfl rfl)
theorem dX1_judge_30 : decode cX1_judge 30 = .ok (.aload_n 0, 1) := dk_42 (dk_at dksX1_judge_1 7 rfl rfl)
theorem dX1_judge_31 : decode cX1_judge 31 = .ok (.getfield 47, 3) := dk_180 0 47 (dk_at dksX1_judge_1 8 rfl rfl)
theorem dX1_judge_34 : decode cX1_judge 34 = .ok (.invokevirtual 207, 3) := dk_182 0 207 (dk_at dksX1_judge_1 11 rfl rfl)
theorem dX1_judge_37 : decode cX1_judge 37 = .ok (.aload_n 0, 1) := dk_42 (dk_at dksX1_judge_1 14 rfl rfl)
theorem dX1_judge_38 : decode cX1_judge 38 = .ok (.getfield 96, 3) := dk_180 0 96 (dk_at dksX1_judge_1 15 rfl rfl)
theorem dX1_judge_41 : decode cX1_judge 41 = .ok (.iload_n 1, 1) := dk_27 (dk_at dksX1_judge_1 18 rfl rfl)
theorem dX1_judge_42 : decode cX1_judge 42 = .ok (.iconst 1, 1) := dk_4 (dk_at dksX1_judge_1 19 rfl rfl)
theorem dX1_judge_43 : decode cX1_judge 43 = .ok (.invokevirtual 210, 3) := dk_182 0 210 (dk_at dksX1_judge_1 20 rfl rfl)
theorem dX1_judge_46 : decode cX1_judge 46 = .ok (.iload_n 1, 1) := dk_27 (dk_at dksX1_judge_1 23 rfl rfl)
theorem dX1_judge_47 : decode cX1_judge 47 = .ok (.ireturn, 1) := dk_172 (dk_at dksX1_judge_2 0 rfl rfl)
abbrev cX1_registered : ByteArray := prog_1_method_14_code
def yX1_registered : MethodName := ⟨RX1, "registered", "(I)I"⟩
def dkwX1_registered_6 : List UInt8 := [154, 0, 5, 29, 172, 28, 2, 160, 0, 7, 29, 167, 0, 4, 28, 61, 132, 3, 1, 167, 255, 100, 2, 172]
abbrev dktX1_registered_6 : List UInt8 := dkwX1_registered_6 ++ []
def dkwX1_registered_5 : List UInt8 := [180, 0, 158, 164, 0, 7, 4, 167, 0, 4, 3, 54, 5, 25, 4, 182, 0, 161, 27, 160, 0, 10, 21, 5]
abbrev dktX1_registered_5 : List UInt8 := dkwX1_registered_5 ++ dktX1_registered_6
def dkwX1_registered_4 : List UInt8 := [42, 180, 0, 47, 28, 182, 0, 29, 192, 0, 118, 185, 0, 120, 1, 0, 100, 42, 180, 0, 96, 180, 0, 144]
abbrev dktX1_registered_4 : List UInt8 := dkwX1_registered_4 ++ dktX1_registered_5
def dkwX1_registered_3 : List UInt8 := [180, 0, 144, 25, 4, 182, 0, 151, 182, 0, 154, 153, 0, 77, 28, 2, 159, 0, 42, 25, 4, 182, 0, 157]
abbrev dktX1_registered_3 : List UInt8 := dkwX1_registered_3 ++ dktX1_registered_4
def dkwX1_registered_2 : List UInt8 := [25, 4, 182, 0, 141, 42, 180, 0, 96, 180, 0, 144, 180, 0, 148, 161, 0, 95, 42, 180, 0, 96]
abbrev dktX1_registered_2 : List UInt8 := dkwX1_registered_2 ++ dktX1_registered_3
def dkwX1_registered_1 : List UInt8 := [180, 0, 47, 29, 182, 0, 29, 58, 5, 25, 5, 193, 0, 136, 153, 0, 120, 25, 5, 192, 0, 136, 58, 4]
abbrev dktX1_registered_1 : List UInt8 := dkwX1_registered_1 ++ dktX1_registered_2
def dkwX1_registered_0 : List UInt8 := [2, 61, 3, 62, 29, 42, 180, 0, 47, 182, 0, 13, 162, 0, 151, 42, 180, 0, 96, 198, 0, 144, 42]
abbrev dktX1_registered_0 : List UInt8 := dkwX1_registered_0 ++ dktX1_registered_1
theorem dksX1_registered_0 : cX1_registered.data.toList.drop 0 = dktX1_registered_0 := by decide +kernel
theorem dksX1_registered_1 : cX1_registered.data.toList.drop 23 = dktX1_registered_1 := dk_seg dksX1_registered_0 23 rfl rfl
theorem dksX1_registered_2 : cX1_registered.data.toList.drop 47 = dktX1_registered_2 := dk_seg dksX1_registered_1 24 rfl rfl
theorem dksX1_registered_3 : cX1_registered.data.toList.drop 69 = dktX1_registered_3 := dk_seg dksX1_registered_2 22 rfl rfl
theorem dksX1_registered_4 : cX1_registered.data.toList.drop 93 = dktX1_registered_4 := dk_seg dksX1_registered_3 24 rfl rfl
theorem dksX1_registered_5 : cX1_registered.data.toList.drop 117 = dktX1_registered_5 := dk_seg dksX1_registered_4 24 rfl rfl
theorem dksX1_registered_6 : cX1_registered.data.toList.drop 141 = dktX1_registered_6 := dk_seg dksX1_registered_5 24 rfl rfl
theorem dX1_registered_0 : decode cX1_registered 0 = .ok (.iconst (-1), 1) := dk_2 (dk_at dksX1_registered_0 0 rfl rfl)
theorem dX1_registered_1 : decode cX1_registered 1 = .ok (.istore_n 2, 1) := dk_61 (dk_at dksX1_registered_0 1 rfl rfl)
theorem dX1_registered_2 : decode cX1_registered 2 = .ok (.iconst 0, 1) := dk_3 (dk_at dksX1_registered_0 2 rfl rfl)
theorem dX1_registered_3 : decode cX1_registered 3 = .ok (.istore_n 3, 1) := dk_62 (dk_at dksX1_registered_0 3 rfl rfl)
theorem dX1_registered_4 : decode cX1_registered 4 = .ok (.iload_n 3, 1) := dk_29 (dk_at dksX1_registered_0 4 rfl rfl)
theorem dX1_registered_5 : decode cX1_registered 5 = .ok (.aload_n 0, 1) := dk_42 (dk_at dksX1_registered_0 5 rfl rfl)
theorem dX1_registered_6 : decode cX1_registered 6 = .ok (.getfield 47, 3) := dk_180 0 47 (dk_at dksX1_registered_0 6 rfl rfl)
theorem dX1_registered_9 : decode cX1_registered 9 = .ok (.invokevirtual 13, 3) := dk_182 0 13 (dk_at dksX1_registered_0 9 rfl rfl)
theorem dX1_registered_12 : decode cX1_registered 12 = .ok (.if_icmp .ge 151, 3) := dk_162 0 151 (dk_at dksX1_registered_0 12 rfl rfl)
theorem dX1_registered_15 : decode cX1_registered 15 = .ok (.aload_n 0, 1) := dk_42 (dk_at dksX1_registered_0 15 rfl rfl)
theorem dX1_registered_16 : decode cX1_registered 16 = .ok (.getfield 96, 3) := dk_180 0 96 (dk_at dksX1_registered_0 16 rfl rfl)
theorem dX1_registered_19 : decode cX1_registered 19 = .ok (.ifnull 144, 3) := dk_198 0 144 (dk_at dksX1_registered_0 19 rfl rfl)
theorem dX1_registered_22 : decode cX1_registered 22 = .ok (.aload_n 0, 1) := dk_42 (dk_at dksX1_registered_0 22 rfl rfl)
theorem dX1_registered_23 : decode cX1_registered 23 = .ok (.getfield 47, 3) := dk_180 0 47 (dk_at dksX1_registered_1 0 rfl rfl)
theorem dX1_registered_26 : decode cX1_registered 26 = .ok (.iload_n 3, 1) := dk_29 (dk_at dksX1_registered_1 3 rfl rfl)
theorem dX1_registered_27 : decode cX1_registered 27 = .ok (.invokevirtual 29, 3) := dk_182 0 29 (dk_at dksX1_registered_1 4 rfl rfl)
theorem dX1_registered_30 : decode cX1_registered 30 = .ok (.astore 5, 2) := dk_58 5 (dk_at dksX1_registered_1 7 rfl rfl)
theorem dX1_registered_32 : decode cX1_registered 32 = .ok (.aload 5, 2) := dk_25 5 (dk_at dksX1_registered_1 9 rfl rfl)
theorem dX1_registered_34 : decode cX1_registered 34 = .ok (.instanceof 136, 3) := dk_193 0 136 (dk_at dksX1_registered_1 11 rfl rfl)
theorem dX1_registered_37 : decode cX1_registered 37 = .ok (.ifCond .eq 120, 3) := dk_153 0 120 (dk_at dksX1_registered_1 14 rfl rfl)
theorem dX1_registered_40 : decode cX1_registered 40 = .ok (.aload 5, 2) := dk_25 5 (dk_at dksX1_registered_1 17 rfl rfl)
theorem dX1_registered_42 : decode cX1_registered 42 = .ok (.checkcast 136, 3) := dk_192 0 136 (dk_at dksX1_registered_1 19 rfl rfl)
theorem dX1_registered_45 : decode cX1_registered 45 = .ok (.astore 4, 2) := dk_58 4 (dk_at dksX1_registered_1 22 rfl rfl)
theorem dX1_registered_47 : decode cX1_registered 47 = .ok (.aload 4, 2) := dk_25 4 (dk_at dksX1_registered_2 0 rfl rfl)
theorem dX1_registered_49 : decode cX1_registered 49 = .ok (.invokevirtual 141, 3) := dk_182 0 141 (dk_at dksX1_registered_2 2 rfl rfl)
theorem dX1_registered_52 : decode cX1_registered 52 = .ok (.aload_n 0, 1) := dk_42 (dk_at dksX1_registered_2 5 rfl rfl)
theorem dX1_registered_53 : decode cX1_registered 53 = .ok (.getfield 96, 3) := dk_180 0 96 (dk_at dksX1_registered_2 6 rfl rfl)
theorem dX1_registered_56 : decode cX1_registered 56 = .ok (.getfield 144, 3) := dk_180 0 144 (dk_at dksX1_registered_2 9 rfl rfl)
theorem dX1_registered_59 : decode cX1_registered 59 = .ok (.getfield 148, 3) := dk_180 0 148 (dk_at dksX1_registered_2 12 rfl rfl)
theorem dX1_registered_62 : decode cX1_registered 62 = .ok (.if_icmp .lt 95, 3) := dk_161 0 95 (dk_at dksX1_registered_2 15 rfl rfl)
theorem dX1_registered_65 : decode cX1_registered 65 = .ok (.aload_n 0, 1) := dk_42 (dk_at dksX1_registered_2 18 rfl rfl)
theorem dX1_registered_66 : decode cX1_registered 66 = .ok (.getfield 96, 3) := dk_180 0 96 (dk_at dksX1_registered_2 19 rfl rfl)
theorem dX1_registered_69 : decode cX1_registered 69 = .ok (.getfield 144, 3) := dk_180 0 144 (dk_at dksX1_registered_3 0 rfl rfl)
theorem dX1_registered_72 : decode cX1_registered 72 = .ok (.aload 4, 2) := dk_25 4 (dk_at dksX1_registered_3 3 rfl rfl)
theorem dX1_registered_74 : decode cX1_registered 74 = .ok (.invokevirtual 151, 3) := dk_182 0 151 (dk_at dksX1_registered_3 5 rfl rfl)
theorem dX1_registered_77 : decode cX1_registered 77 = .ok (.invokevirtual 154, 3) := dk_182 0 154 (dk_at dksX1_registered_3 8 rfl rfl)
theorem dX1_registered_80 : decode cX1_registered 80 = .ok (.ifCond .eq 77, 3) := dk_153 0 77 (dk_at dksX1_registered_3 11 rfl rfl)
theorem dX1_registered_83 : decode cX1_registered 83 = .ok (.iload_n 2, 1) := dk_28 (dk_at dksX1_registered_3 14 rfl rfl)
theorem dX1_registered_84 : decode cX1_registered 84 = .ok (.iconst (-1), 1) := dk_2 (dk_at dksX1_registered_3 15 rfl rfl)
theorem dX1_registered_85 : decode cX1_registered 85 = .ok (.if_icmp .eq 42, 3) := dk_159 0 42 (dk_at dksX1_registered_3 16 rfl rfl)
theorem dX1_registered_88 : decode cX1_registered 88 = .ok (.aload 4, 2) := dk_25 4 (dk_at dksX1_registered_3 19 rfl rfl)
theorem dX1_registered_90 : decode cX1_registered 90 = .ok (.invokevirtual 157, 3) := dk_182 0 157 (dk_at dksX1_registered_3 21 rfl rfl)
theorem dX1_registered_93 : decode cX1_registered 93 = .ok (.aload_n 0, 1) := dk_42 (dk_at dksX1_registered_4 0 rfl rfl)
theorem dX1_registered_94 : decode cX1_registered 94 = .ok (.getfield 47, 3) := dk_180 0 47 (dk_at dksX1_registered_4 1 rfl rfl)
theorem dX1_registered_97 : decode cX1_registered 97 = .ok (.iload_n 2, 1) := dk_28 (dk_at dksX1_registered_4 4 rfl rfl)
theorem dX1_registered_98 : decode cX1_registered 98 = .ok (.invokevirtual 29, 3) := dk_182 0 29 (dk_at dksX1_registered_4 5 rfl rfl)
theorem dX1_registered_101 : decode cX1_registered 101 = .ok (.checkcast 118, 3) := dk_192 0 118 (dk_at dksX1_registered_4 8 rfl rfl)
theorem dX1_registered_104 : decode cX1_registered 104 = .ok (.invokeinterface 120 1, 5) := by decide +kernel
theorem dX1_registered_109 : decode cX1_registered 109 = .ok (.isub, 1) := dk_100 (dk_at dksX1_registered_4 16 rfl rfl)
theorem dX1_registered_110 : decode cX1_registered 110 = .ok (.aload_n 0, 1) := dk_42 (dk_at dksX1_registered_4 17 rfl rfl)
theorem dX1_registered_111 : decode cX1_registered 111 = .ok (.getfield 96, 3) := dk_180 0 96 (dk_at dksX1_registered_4 18 rfl rfl)
theorem dX1_registered_114 : decode cX1_registered 114 = .ok (.getfield 144, 3) := dk_180 0 144 (dk_at dksX1_registered_4 21 rfl rfl)
theorem dX1_registered_117 : decode cX1_registered 117 = .ok (.getfield 158, 3) := dk_180 0 158 (dk_at dksX1_registered_5 0 rfl rfl)
theorem dX1_registered_120 : decode cX1_registered 120 = .ok (.if_icmp .le 7, 3) := dk_164 0 7 (dk_at dksX1_registered_5 3 rfl rfl)
theorem dX1_registered_123 : decode cX1_registered 123 = .ok (.iconst 1, 1) := dk_4 (dk_at dksX1_registered_5 6 rfl rfl)
theorem dX1_registered_124 : decode cX1_registered 124 = .ok (.goto 4, 3) := dk_167 0 4 (dk_at dksX1_registered_5 7 rfl rfl)
theorem dX1_registered_127 : decode cX1_registered 127 = .ok (.iconst 0, 1) := dk_3 (dk_at dksX1_registered_5 10 rfl rfl)
theorem dX1_registered_128 : decode cX1_registered 128 = .ok (.istore 5, 2) := dk_54 5 (dk_at dksX1_registered_5 11 rfl rfl)
theorem dX1_registered_130 : decode cX1_registered 130 = .ok (.aload 4, 2) := dk_25 4 (dk_at dksX1_registered_5 13 rfl rfl)
theorem dX1_registered_132 : decode cX1_registered 132 = .ok (.invokevirtual 161, 3) := dk_182 0 161 (dk_at dksX1_registered_5 15 rfl rfl)
theorem dX1_registered_135 : decode cX1_registered 135 = .ok (.iload_n 1, 1) := dk_27 (dk_at dksX1_registered_5 18 rfl rfl)
theorem dX1_registered_136 : decode cX1_registered 136 = .ok (.if_icmp .ne 10, 3) := dk_160 0 10 (dk_at dksX1_registered_5 19 rfl rfl)
theorem dX1_registered_139 : decode cX1_registered 139 = .ok (.iload 5, 2) := dk_21 5 (dk_at dksX1_registered_5 22 rfl rfl)
theorem dX1_registered_141 : decode cX1_registered 141 = .ok (.ifCond .ne 5, 3) := dk_154 0 5 (dk_at dksX1_registered_6 0 rfl rfl)
theorem dX1_registered_144 : decode cX1_registered 144 = .ok (.iload_n 3, 1) := dk_29 (dk_at dksX1_registered_6 3 rfl rfl)
theorem dX1_registered_145 : decode cX1_registered 145 = .ok (.ireturn, 1) := dk_172 (dk_at dksX1_registered_6 4 rfl rfl)
theorem dX1_registered_146 : decode cX1_registered 146 = .ok (.iload_n 2, 1) := dk_28 (dk_at dksX1_registered_6 5 rfl rfl)
theorem dX1_registered_147 : decode cX1_registered 147 = .ok (.iconst (-1), 1) := dk_2 (dk_at dksX1_registered_6 6 rfl rfl)
theorem dX1_registered_148 : decode cX1_registered 148 = .ok (.if_icmp .ne 7, 3) := dk_160 0 7 (dk_at dksX1_registered_6 7 rfl rfl)
theorem dX1_registered_151 : decode cX1_registered 151 = .ok (.iload_n 3, 1) := dk_29 (dk_at dksX1_registered_6 10 rfl rfl)
theorem dX1_registered_152 : decode cX1_registered 152 = .ok (.goto 4, 3) := dk_167 0 4 (dk_at dksX1_registered_6 11 rfl rfl)
theorem dX1_registered_155 : decode cX1_registered 155 = .ok (.iload_n 2, 1) := dk_28 (dk_at dksX1_registered_6 14 rfl rfl)
theorem dX1_registered_156 : decode cX1_registered 156 = .ok (.istore_n 2, 1) := dk_61 (dk_at dksX1_registered_6 15 rfl rfl)
theorem dX1_registered_157 : decode cX1_registered 157 = .ok (.iinc 3 1, 3) := dk_132 3 1 (dk_at dksX1_registered_6 16 rfl rfl)
theorem dX1_registered_160 : decode cX1_registered 160 = .ok (.goto (-156), 3) := dk_167 255 100 (dk_at dksX1_registered_6 19 rfl rfl)
theorem dX1_registered_163 : decode cX1_registered 163 = .ok (.iconst (-1), 1) := dk_2 (dk_at dksX1_registered_6 22 rfl rfl)
theorem dX1_registered_164 : decode cX1_registered 164 = .ok (.ireturn, 1) := dk_172 (dk_at dksX1_registered_6 23 rfl rfl)
abbrev cX1_given : ByteArray := prog_1_method_18_code
def yX1_given : MethodName := ⟨RX1, "given", "(II)I"⟩
def dkwX1_given_5 : List UInt8 := [96, 42, 180, 0, 96, 180, 0, 195, 161, 0, 7, 3, 167, 0, 4, 6, 172, 42, 27, 28, 182, 0, 198, 172]
abbrev dktX1_given_5 : List UInt8 := dkwX1_given_5 ++ []
def dkwX1_given_4 : List UInt8 := [3, 46, 4, 96, 42, 180, 0, 96, 180, 0, 195, 161, 0, 28, 42, 180, 0, 96, 180, 0, 191, 4, 46, 4]
abbrev dktX1_given_4 : List UInt8 := dkwX1_given_4 ++ dktX1_given_5
def dkwX1_given_3 : List UInt8 := [180, 0, 96, 180, 0, 144, 178, 0, 188, 166, 0, 56, 42, 6, 181, 0, 50, 42, 180, 0, 96, 180, 0, 191]
abbrev dktX1_given_3 : List UInt8 := dkwX1_given_3 ++ dktX1_given_4
def dkwX1_given_2 : List UInt8 := [42, 180, 0, 50, 5, 160, 0, 7, 3, 167, 0, 13, 27, 2, 159, 0, 7, 4, 167, 0, 4, 5, 172, 42]
abbrev dktX1_given_2 : List UInt8 := dkwX1_given_2 ++ dktX1_given_3
def dkwX1_given_1 : List UInt8 := [160, 0, 47, 42, 42, 27, 28, 184, 0, 171, 182, 0, 184, 154, 0, 7, 4, 167, 0, 4, 5, 181, 0, 50]
abbrev dktX1_given_1 : List UInt8 := dkwX1_given_1 ++ dktX1_given_2
def dkwX1_given_0 : List UInt8 := [27, 2, 160, 0, 15, 28, 2, 160, 0, 10, 42, 3, 181, 0, 50, 3, 172, 27, 2, 159, 0, 8, 28, 2]
abbrev dktX1_given_0 : List UInt8 := dkwX1_given_0 ++ dktX1_given_1
theorem dksX1_given_0 : cX1_given.data.toList.drop 0 = dktX1_given_0 := by decide +kernel
theorem dksX1_given_1 : cX1_given.data.toList.drop 24 = dktX1_given_1 := dk_seg dksX1_given_0 24 rfl rfl
theorem dksX1_given_2 : cX1_given.data.toList.drop 48 = dktX1_given_2 := dk_seg dksX1_given_1 24 rfl rfl
theorem dksX1_given_3 : cX1_given.data.toList.drop 72 = dktX1_given_3 := dk_seg dksX1_given_2 24 rfl rfl
theorem dksX1_given_4 : cX1_given.data.toList.drop 96 = dktX1_given_4 := dk_seg dksX1_given_3 24 rfl rfl
theorem dksX1_given_5 : cX1_given.data.toList.drop 120 = dktX1_given_5 := dk_seg dksX1_given_4 24 rfl rfl
theorem dX1_given_0 : decode cX1_given 0 = .ok (.iload_n 1, 1) := dk_27 (dk_at dksX1_given_0 0 rfl rfl)
theorem dX1_given_1 : decode cX1_given 1 = .ok (.iconst (-1), 1) := dk_2 (dk_at dksX1_given_0 1 rfl rfl)
theorem dX1_given_2 : decode cX1_given 2 = .ok (.if_icmp .ne 15, 3) := dk_160 0 15 (dk_at dksX1_given_0 2 rfl rfl)
theorem dX1_given_5 : decode cX1_given 5 = .ok (.iload_n 2, 1) := dk_28 (dk_at dksX1_given_0 5 rfl rfl)
theorem dX1_given_6 : decode cX1_given 6 = .ok (.iconst (-1), 1) := dk_2 (dk_at dksX1_given_0 6 rfl rfl)
theorem dX1_given_7 : decode cX1_given 7 = .ok (.if_icmp .ne 10, 3) := dk_160 0 10 (dk_at dksX1_given_0 7 rfl rfl)
theorem dX1_given_10 : decode cX1_given 10 = .ok (.aload_n 0, 1) := dk_42 (dk_at dksX1_given_0 10 rfl rfl)
theorem dX1_given_11 : decode cX1_given 11 = .ok (.iconst 0, 1) := dk_3 (dk_at dksX1_given_0 11 rfl rfl)
theorem dX1_given_12 : decode cX1_given 12 = .ok (.putfield 50, 3) := dk_181 0 50 (dk_at dksX1_given_0 12 rfl rfl)
theorem dX1_given_15 : decode cX1_given 15 = .ok (.iconst 0, 1) := dk_3 (dk_at dksX1_given_0 15 rfl rfl)
theorem dX1_given_16 : decode cX1_given 16 = .ok (.ireturn, 1) := dk_172 (dk_at dksX1_given_0 16 rfl rfl)
theorem dX1_given_17 : decode cX1_given 17 = .ok (.iload_n 1, 1) := dk_27 (dk_at dksX1_given_0 17 rfl rfl)
theorem dX1_given_18 : decode cX1_given 18 = .ok (.iconst (-1), 1) := dk_2 (dk_at dksX1_given_0 18 rfl rfl)
theorem dX1_given_19 : decode cX1_given 19 = .ok (.if_icmp .eq 8, 3) := dk_159 0 8 (dk_at dksX1_given_0 19 rfl rfl)
theorem dX1_given_22 : decode cX1_given 22 = .ok (.iload_n 2, 1) := dk_28 (dk_at dksX1_given_0 22 rfl rfl)
theorem dX1_given_23 : decode cX1_given 23 = .ok (.iconst (-1), 1) := dk_2 (dk_at dksX1_given_0 23 rfl rfl)
theorem dX1_given_24 : decode cX1_given 24 = .ok (.if_icmp .ne 47, 3) := dk_160 0 47 (dk_at dksX1_given_1 0 rfl rfl)
theorem dX1_given_27 : decode cX1_given 27 = .ok (.aload_n 0, 1) := dk_42 (dk_at dksX1_given_1 3 rfl rfl)
theorem dX1_given_28 : decode cX1_given 28 = .ok (.aload_n 0, 1) := dk_42 (dk_at dksX1_given_1 4 rfl rfl)
theorem dX1_given_29 : decode cX1_given 29 = .ok (.iload_n 1, 1) := dk_27 (dk_at dksX1_given_1 5 rfl rfl)
theorem dX1_given_30 : decode cX1_given 30 = .ok (.iload_n 2, 1) := dk_28 (dk_at dksX1_given_1 6 rfl rfl)
theorem dX1_given_31 : decode cX1_given 31 = .ok (.invokestatic 171, 3) := dk_184 0 171 (dk_at dksX1_given_1 7 rfl rfl)
theorem dX1_given_34 : decode cX1_given 34 = .ok (.invokevirtual 184, 3) := dk_182 0 184 (dk_at dksX1_given_1 10 rfl rfl)
theorem dX1_given_37 : decode cX1_given 37 = .ok (.ifCond .ne 7, 3) := dk_154 0 7 (dk_at dksX1_given_1 13 rfl rfl)
theorem dX1_given_40 : decode cX1_given 40 = .ok (.iconst 1, 1) := dk_4 (dk_at dksX1_given_1 16 rfl rfl)
theorem dX1_given_41 : decode cX1_given 41 = .ok (.goto 4, 3) := dk_167 0 4 (dk_at dksX1_given_1 17 rfl rfl)
theorem dX1_given_44 : decode cX1_given 44 = .ok (.iconst 2, 1) := dk_5 (dk_at dksX1_given_1 20 rfl rfl)
theorem dX1_given_45 : decode cX1_given 45 = .ok (.putfield 50, 3) := dk_181 0 50 (dk_at dksX1_given_1 21 rfl rfl)
theorem dX1_given_48 : decode cX1_given 48 = .ok (.aload_n 0, 1) := dk_42 (dk_at dksX1_given_2 0 rfl rfl)
theorem dX1_given_49 : decode cX1_given 49 = .ok (.getfield 50, 3) := dk_180 0 50 (dk_at dksX1_given_2 1 rfl rfl)
theorem dX1_given_52 : decode cX1_given 52 = .ok (.iconst 2, 1) := dk_5 (dk_at dksX1_given_2 4 rfl rfl)
theorem dX1_given_53 : decode cX1_given 53 = .ok (.if_icmp .ne 7, 3) := dk_160 0 7 (dk_at dksX1_given_2 5 rfl rfl)
theorem dX1_given_56 : decode cX1_given 56 = .ok (.iconst 0, 1) := dk_3 (dk_at dksX1_given_2 8 rfl rfl)
theorem dX1_given_57 : decode cX1_given 57 = .ok (.goto 13, 3) := dk_167 0 13 (dk_at dksX1_given_2 9 rfl rfl)
theorem dX1_given_60 : decode cX1_given 60 = .ok (.iload_n 1, 1) := dk_27 (dk_at dksX1_given_2 12 rfl rfl)
theorem dX1_given_61 : decode cX1_given 61 = .ok (.iconst (-1), 1) := dk_2 (dk_at dksX1_given_2 13 rfl rfl)
theorem dX1_given_62 : decode cX1_given 62 = .ok (.if_icmp .eq 7, 3) := dk_159 0 7 (dk_at dksX1_given_2 14 rfl rfl)
theorem dX1_given_65 : decode cX1_given 65 = .ok (.iconst 1, 1) := dk_4 (dk_at dksX1_given_2 17 rfl rfl)
theorem dX1_given_66 : decode cX1_given 66 = .ok (.goto 4, 3) := dk_167 0 4 (dk_at dksX1_given_2 18 rfl rfl)
theorem dX1_given_69 : decode cX1_given 69 = .ok (.iconst 2, 1) := dk_5 (dk_at dksX1_given_2 21 rfl rfl)
theorem dX1_given_70 : decode cX1_given 70 = .ok (.ireturn, 1) := dk_172 (dk_at dksX1_given_2 22 rfl rfl)
theorem dX1_given_71 : decode cX1_given 71 = .ok (.aload_n 0, 1) := dk_42 (dk_at dksX1_given_2 23 rfl rfl)
theorem dX1_given_72 : decode cX1_given 72 = .ok (.getfield 96, 3) := dk_180 0 96 (dk_at dksX1_given_3 0 rfl rfl)
theorem dX1_given_75 : decode cX1_given 75 = .ok (.getfield 144, 3) := dk_180 0 144 (dk_at dksX1_given_3 3 rfl rfl)
theorem dX1_given_78 : decode cX1_given 78 = .ok (.getstatic 188, 3) := dk_178 0 188 (dk_at dksX1_given_3 6 rfl rfl)
theorem dX1_given_81 : decode cX1_given 81 = .ok (.if_acmp .ne 56, 3) := dk_166 0 56 (dk_at dksX1_given_3 9 rfl rfl)
theorem dX1_given_84 : decode cX1_given 84 = .ok (.aload_n 0, 1) := dk_42 (dk_at dksX1_given_3 12 rfl rfl)
theorem dX1_given_85 : decode cX1_given 85 = .ok (.iconst 3, 1) := dk_6 (dk_at dksX1_given_3 13 rfl rfl)
theorem dX1_given_86 : decode cX1_given 86 = .ok (.putfield 50, 3) := dk_181 0 50 (dk_at dksX1_given_3 14 rfl rfl)
theorem dX1_given_89 : decode cX1_given 89 = .ok (.aload_n 0, 1) := dk_42 (dk_at dksX1_given_3 17 rfl rfl)
theorem dX1_given_90 : decode cX1_given 90 = .ok (.getfield 96, 3) := dk_180 0 96 (dk_at dksX1_given_3 18 rfl rfl)
theorem dX1_given_93 : decode cX1_given 93 = .ok (.getfield 191, 3) := dk_180 0 191 (dk_at dksX1_given_3 21 rfl rfl)
theorem dX1_given_96 : decode cX1_given 96 = .ok (.iconst 0, 1) := dk_3 (dk_at dksX1_given_4 0 rfl rfl)
theorem dX1_given_97 : decode cX1_given 97 = .ok (.iaload, 1) := dk_46 (dk_at dksX1_given_4 1 rfl rfl)
theorem dX1_given_98 : decode cX1_given 98 = .ok (.iconst 1, 1) := dk_4 (dk_at dksX1_given_4 2 rfl rfl)
theorem dX1_given_99 : decode cX1_given 99 = .ok (.iadd, 1) := dk_96 (dk_at dksX1_given_4 3 rfl rfl)
theorem dX1_given_100 : decode cX1_given 100 = .ok (.aload_n 0, 1) := dk_42 (dk_at dksX1_given_4 4 rfl rfl)
theorem dX1_given_101 : decode cX1_given 101 = .ok (.getfield 96, 3) := dk_180 0 96 (dk_at dksX1_given_4 5 rfl rfl)
theorem dX1_given_104 : decode cX1_given 104 = .ok (.getfield 195, 3) := dk_180 0 195 (dk_at dksX1_given_4 8 rfl rfl)
theorem dX1_given_107 : decode cX1_given 107 = .ok (.if_icmp .lt 28, 3) := dk_161 0 28 (dk_at dksX1_given_4 11 rfl rfl)
theorem dX1_given_110 : decode cX1_given 110 = .ok (.aload_n 0, 1) := dk_42 (dk_at dksX1_given_4 14 rfl rfl)
theorem dX1_given_111 : decode cX1_given 111 = .ok (.getfield 96, 3) := dk_180 0 96 (dk_at dksX1_given_4 15 rfl rfl)
theorem dX1_given_114 : decode cX1_given 114 = .ok (.getfield 191, 3) := dk_180 0 191 (dk_at dksX1_given_4 18 rfl rfl)
theorem dX1_given_117 : decode cX1_given 117 = .ok (.iconst 1, 1) := dk_4 (dk_at dksX1_given_4 21 rfl rfl)
theorem dX1_given_118 : decode cX1_given 118 = .ok (.iaload, 1) := dk_46 (dk_at dksX1_given_4 22 rfl rfl)
theorem dX1_given_119 : decode cX1_given 119 = .ok (.iconst 1, 1) := dk_4 (dk_at dksX1_given_4 23 rfl rfl)
theorem dX1_given_120 : decode cX1_given 120 = .ok (.iadd, 1) := dk_96 (dk_at dksX1_given_5 0 rfl rfl)
theorem dX1_given_121 : decode cX1_given 121 = .ok (.aload_n 0, 1) := dk_42 (dk_at dksX1_given_5 1 rfl rfl)
theorem dX1_given_122 : decode cX1_given 122 = .ok (.getfield 96, 3) := dk_180 0 96 (dk_at dksX1_given_5 2 rfl rfl)
theorem dX1_given_125 : decode cX1_given 125 = .ok (.getfield 195, 3) := dk_180 0 195 (dk_at dksX1_given_5 5 rfl rfl)
theorem dX1_given_128 : decode cX1_given 128 = .ok (.if_icmp .lt 7, 3) := dk_161 0 7 (dk_at dksX1_given_5 8 rfl rfl)
theorem dX1_given_131 : decode cX1_given 131 = .ok (.iconst 0, 1) := dk_3 (dk_at dksX1_given_5 11 rfl rfl)
theorem dX1_given_132 : decode cX1_given 132 = .ok (.goto 4, 3) := dk_167 0 4 (dk_at dksX1_given_5 12 rfl rfl)
theorem dX1_given_135 : decode cX1_given 135 = .ok (.iconst 3, 1) := dk_6 (dk_at dksX1_given_5 15 rfl rfl)
theorem dX1_given_136 : decode cX1_given 136 = .ok (.ireturn, 1) := dk_172 (dk_at dksX1_given_5 16 rfl rfl)
theorem dX1_given_137 : decode cX1_given 137 = .ok (.aload_n 0, 1) := dk_42 (dk_at dksX1_given_5 17 rfl rfl)
theorem dX1_given_138 : decode cX1_given 138 = .ok (.iload_n 1, 1) := dk_27 (dk_at dksX1_given_5 18 rfl rfl)
theorem dX1_given_139 : decode cX1_given 139 = .ok (.iload_n 2, 1) := dk_28 (dk_at dksX1_given_5 19 rfl rfl)
theorem dX1_given_140 : decode cX1_given 140 = .ok (.invokevirtual 198, 3) := dk_182 0 198 (dk_at dksX1_given_5 20 rfl rfl)
theorem dX1_given_143 : decode cX1_given 143 = .ok (.ireturn, 1) := dk_172 (dk_at dksX1_given_5 23 rfl rfl)
abbrev cX1_lampOf : ByteArray := prog_1_method_16_code
def yX1_lampOf : MethodName := ⟨RX1, "lampOf", "(I)I"⟩
def dkwX1_lampOf_1 : List UInt8 := [192, 0, 136, 77, 44, 182, 0, 151, 167, 0, 4, 2, 172]
abbrev dktX1_lampOf_1 : List UInt8 := dkwX1_lampOf_1 ++ []
def dkwX1_lampOf_0 : List UInt8 := [27, 2, 159, 0, 31, 42, 180, 0, 47, 27, 182, 0, 29, 78, 45, 193, 0, 136, 153, 0, 15, 45]
abbrev dktX1_lampOf_0 : List UInt8 := dkwX1_lampOf_0 ++ dktX1_lampOf_1
theorem dksX1_lampOf_0 : cX1_lampOf.data.toList.drop 0 = dktX1_lampOf_0 := by decide +kernel
theorem dksX1_lampOf_1 : cX1_lampOf.data.toList.drop 22 = dktX1_lampOf_1 := dk_seg dksX1_lampOf_0 22 rfl rfl
theorem dX1_lampOf_0 : decode cX1_lampOf 0 = .ok (.iload_n 1, 1) := dk_27 (dk_at dksX1_lampOf_0 0 rfl rfl)
theorem dX1_lampOf_1 : decode cX1_lampOf 1 = .ok (.iconst (-1), 1) := dk_2 (dk_at dksX1_lampOf_0 1 rfl rfl)
theorem dX1_lampOf_2 : decode cX1_lampOf 2 = .ok (.if_icmp .eq 31, 3) := dk_159 0 31 (dk_at dksX1_lampOf_0 2 rfl rfl)
theorem dX1_lampOf_5 : decode cX1_lampOf 5 = .ok (.aload_n 0, 1) := dk_42 (dk_at dksX1_lampOf_0 5 rfl rfl)
theorem dX1_lampOf_6 : decode cX1_lampOf 6 = .ok (.getfield 47, 3) := dk_180 0 47 (dk_at dksX1_lampOf_0 6 rfl rfl)
theorem dX1_lampOf_9 : decode cX1_lampOf 9 = .ok (.iload_n 1, 1) := dk_27 (dk_at dksX1_lampOf_0 9 rfl rfl)
theorem dX1_lampOf_10 : decode cX1_lampOf 10 = .ok (.invokevirtual 29, 3) := dk_182 0 29 (dk_at dksX1_lampOf_0 10 rfl rfl)
theorem dX1_lampOf_13 : decode cX1_lampOf 13 = .ok (.astore_n 3, 1) := dk_78 (dk_at dksX1_lampOf_0 13 rfl rfl)
theorem dX1_lampOf_14 : decode cX1_lampOf 14 = .ok (.aload_n 3, 1) := dk_45 (dk_at dksX1_lampOf_0 14 rfl rfl)
theorem dX1_lampOf_15 : decode cX1_lampOf 15 = .ok (.instanceof 136, 3) := dk_193 0 136 (dk_at dksX1_lampOf_0 15 rfl rfl)
theorem dX1_lampOf_18 : decode cX1_lampOf 18 = .ok (.ifCond .eq 15, 3) := dk_153 0 15 (dk_at dksX1_lampOf_0 18 rfl rfl)
theorem dX1_lampOf_21 : decode cX1_lampOf 21 = .ok (.aload_n 3, 1) := dk_45 (dk_at dksX1_lampOf_0 21 rfl rfl)
theorem dX1_lampOf_22 : decode cX1_lampOf 22 = .ok (.checkcast 136, 3) := dk_192 0 136 (dk_at dksX1_lampOf_1 0 rfl rfl)
theorem dX1_lampOf_25 : decode cX1_lampOf 25 = .ok (.astore_n 2, 1) := dk_77 (dk_at dksX1_lampOf_1 3 rfl rfl)
theorem dX1_lampOf_26 : decode cX1_lampOf 26 = .ok (.aload_n 2, 1) := dk_44 (dk_at dksX1_lampOf_1 4 rfl rfl)
theorem dX1_lampOf_27 : decode cX1_lampOf 27 = .ok (.invokevirtual 151, 3) := dk_182 0 151 (dk_at dksX1_lampOf_1 5 rfl rfl)
theorem dX1_lampOf_30 : decode cX1_lampOf 30 = .ok (.goto 4, 3) := dk_167 0 4 (dk_at dksX1_lampOf_1 8 rfl rfl)
theorem dX1_lampOf_33 : decode cX1_lampOf 33 = .ok (.iconst (-1), 1) := dk_2 (dk_at dksX1_lampOf_1 11 rfl rfl)
theorem dX1_lampOf_34 : decode cX1_lampOf 34 = .ok (.ireturn, 1) := dk_172 (dk_at dksX1_lampOf_1 12 rfl rfl)
abbrev cX1_byRight : ByteArray := prog_1_method_17_code
def yX1_byRight : MethodName := ⟨RX1, "byRight", "(II)I"⟩
def dkwX1_byRight_6 : List UInt8 := [160, 0, 7, 3, 167, 0, 12, 29, 154, 0, 7, 4, 167, 0, 4, 5, 172]
abbrev dktX1_byRight_6 : List UInt8 := dkwX1_byRight_6 ++ []
def dkwX1_byRight_5 : List UInt8 := [21, 4, 182, 0, 184, 154, 0, 8, 16, 6, 167, 0, 4, 5, 181, 0, 50, 42, 180, 0, 50, 5]
abbrev dktX1_byRight_5 : List UInt8 := dkwX1_byRight_5 ++ dktX1_byRight_6
def dkwX1_byRight_4 : List UInt8 := [17, 0, 150, 161, 0, 18, 42, 8, 181, 0, 50, 29, 154, 0, 7, 5, 167, 0, 4, 4, 172, 42, 42]
abbrev dktX1_byRight_4 : List UInt8 := dkwX1_byRight_4 ++ dktX1_byRight_5
def dkwX1_byRight_3 : List UInt8 := [185, 0, 120, 1, 0, 42, 180, 0, 47, 21, 5, 182, 0, 29, 192, 0, 118, 185, 0, 120, 1, 0, 100]
abbrev dktX1_byRight_3 : List UInt8 := dkwX1_byRight_3 ++ dktX1_byRight_4
def dkwX1_byRight_2 : List UInt8 := [21, 5, 182, 0, 184, 154, 0, 59, 42, 180, 0, 47, 21, 4, 182, 0, 29, 192, 0, 118]
abbrev dktX1_byRight_2 : List UInt8 := dkwX1_byRight_2 ++ dktX1_byRight_3
def dkwX1_byRight_1 : List UInt8 := [172, 29, 154, 0, 7, 27, 167, 0, 4, 28, 54, 4, 29, 154, 0, 7, 28, 167, 0, 4, 27, 54, 5, 42]
abbrev dktX1_byRight_1 : List UInt8 := dkwX1_byRight_1 ++ dktX1_byRight_2
def dkwX1_byRight_0 : List UInt8 := [42, 27, 28, 184, 0, 171, 182, 0, 177, 180, 0, 181, 62, 29, 2, 160, 0, 10, 42, 7, 181, 0, 50, 3]
abbrev dktX1_byRight_0 : List UInt8 := dkwX1_byRight_0 ++ dktX1_byRight_1
theorem dksX1_byRight_0 : cX1_byRight.data.toList.drop 0 = dktX1_byRight_0 := by decide +kernel
theorem dksX1_byRight_1 : cX1_byRight.data.toList.drop 24 = dktX1_byRight_1 := dk_seg dksX1_byRight_0 24 rfl rfl
theorem dksX1_byRight_2 : cX1_byRight.data.toList.drop 48 = dktX1_byRight_2 := dk_seg dksX1_byRight_1 24 rfl rfl
theorem dksX1_byRight_3 : cX1_byRight.data.toList.drop 68 = dktX1_byRight_3 := dk_seg dksX1_byRight_2 20 rfl rfl
theorem dksX1_byRight_4 : cX1_byRight.data.toList.drop 91 = dktX1_byRight_4 := dk_seg dksX1_byRight_3 23 rfl rfl
theorem dksX1_byRight_5 : cX1_byRight.data.toList.drop 114 = dktX1_byRight_5 := dk_seg dksX1_byRight_4 23 rfl rfl
theorem dksX1_byRight_6 : cX1_byRight.data.toList.drop 136 = dktX1_byRight_6 := dk_seg dksX1_byRight_5 22 rfl rfl
theorem dX1_byRight_0 : decode cX1_byRight 0 = .ok (.aload_n 0, 1) := dk_42 (dk_at dksX1_byRight_0 0 rfl rfl)
theorem dX1_byRight_1 : decode cX1_byRight 1 = .ok (.iload_n 1, 1) := dk_27 (dk_at dksX1_byRight_0 1 rfl rfl)
theorem dX1_byRight_2 : decode cX1_byRight 2 = .ok (.iload_n 2, 1) := dk_28 (dk_at dksX1_byRight_0 2 rfl rfl)
theorem dX1_byRight_3 : decode cX1_byRight 3 = .ok (.invokestatic 171, 3) := dk_184 0 171 (dk_at dksX1_byRight_0 3 rfl rfl)
theorem dX1_byRight_6 : decode cX1_byRight 6 = .ok (.invokevirtual 177, 3) := dk_182 0 177 (dk_at dksX1_byRight_0 6 rfl rfl)
theorem dX1_byRight_9 : decode cX1_byRight 9 = .ok (.getfield 181, 3) := dk_180 0 181 (dk_at dksX1_byRight_0 9 rfl rfl)
theorem dX1_byRight_12 : decode cX1_byRight 12 = .ok (.istore_n 3, 1) := dk_62 (dk_at dksX1_byRight_0 12 rfl rfl)
theorem dX1_byRight_13 : decode cX1_byRight 13 = .ok (.iload_n 3, 1) := dk_29 (dk_at dksX1_byRight_0 13 rfl rfl)
theorem dX1_byRight_14 : decode cX1_byRight 14 = .ok (.iconst (-1), 1) := dk_2 (dk_at dksX1_byRight_0 14 rfl rfl)
theorem dX1_byRight_15 : decode cX1_byRight 15 = .ok (.if_icmp .ne 10, 3) := dk_160 0 10 (dk_at dksX1_byRight_0 15 rfl rfl)
theorem dX1_byRight_18 : decode cX1_byRight 18 = .ok (.aload_n 0, 1) := dk_42 (dk_at dksX1_byRight_0 18 rfl rfl)
theorem dX1_byRight_19 : decode cX1_byRight 19 = .ok (.iconst 4, 1) := dk_7 (dk_at dksX1_byRight_0 19 rfl rfl)
theorem dX1_byRight_20 : decode cX1_byRight 20 = .ok (.putfield 50, 3) := dk_181 0 50 (dk_at dksX1_byRight_0 20 rfl rfl)
theorem dX1_byRight_23 : decode cX1_byRight 23 = .ok (.iconst 0, 1) := dk_3 (dk_at dksX1_byRight_0 23 rfl rfl)
theorem dX1_byRight_24 : decode cX1_byRight 24 = .ok (.ireturn, 1) := dk_172 (dk_at dksX1_byRight_1 0 rfl rfl)
theorem dX1_byRight_25 : decode cX1_byRight 25 = .ok (.iload_n 3, 1) := dk_29 (dk_at dksX1_byRight_1 1 rfl rfl)
theorem dX1_byRight_26 : decode cX1_byRight 26 = .ok (.ifCond .ne 7, 3) := dk_154 0 7 (dk_at dksX1_byRight_1 2 rfl rfl)
theorem dX1_byRight_29 : decode cX1_byRight 29 = .ok (.iload_n 1, 1) := dk_27 (dk_at dksX1_byRight_1 5 rfl rfl)
theorem dX1_byRight_30 : decode cX1_byRight 30 = .ok (.goto 4, 3) := dk_167 0 4 (dk_at dksX1_byRight_1 6 rfl rfl)
theorem dX1_byRight_33 : decode cX1_byRight 33 = .ok (.iload_n 2, 1) := dk_28 (dk_at dksX1_byRight_1 9 rfl rfl)
theorem dX1_byRight_34 : decode cX1_byRight 34 = .ok (.istore 4, 2) := dk_54 4 (dk_at dksX1_byRight_1 10 rfl rfl)
theorem dX1_byRight_36 : decode cX1_byRight 36 = .ok (.iload_n 3, 1) := dk_29 (dk_at dksX1_byRight_1 12 rfl rfl)
theorem dX1_byRight_37 : decode cX1_byRight 37 = .ok (.ifCond .ne 7, 3) := dk_154 0 7 (dk_at dksX1_byRight_1 13 rfl rfl)
theorem dX1_byRight_40 : decode cX1_byRight 40 = .ok (.iload_n 2, 1) := dk_28 (dk_at dksX1_byRight_1 16 rfl rfl)
theorem dX1_byRight_41 : decode cX1_byRight 41 = .ok (.goto 4, 3) := dk_167 0 4 (dk_at dksX1_byRight_1 17 rfl rfl)
theorem dX1_byRight_44 : decode cX1_byRight 44 = .ok (.iload_n 1, 1) := dk_27 (dk_at dksX1_byRight_1 20 rfl rfl)
theorem dX1_byRight_45 : decode cX1_byRight 45 = .ok (.istore 5, 2) := dk_54 5 (dk_at dksX1_byRight_1 21 rfl rfl)
theorem dX1_byRight_47 : decode cX1_byRight 47 = .ok (.aload_n 0, 1) := dk_42 (dk_at dksX1_byRight_1 23 rfl rfl)
theorem dX1_byRight_48 : decode cX1_byRight 48 = .ok (.iload 5, 2) := dk_21 5 (dk_at dksX1_byRight_2 0 rfl rfl)
theorem dX1_byRight_50 : decode cX1_byRight 50 = .ok (.invokevirtual 184, 3) := dk_182 0 184 (dk_at dksX1_byRight_2 2 rfl rfl)
theorem dX1_byRight_53 : decode cX1_byRight 53 = .ok (.ifCond .ne 59, 3) := dk_154 0 59 (dk_at dksX1_byRight_2 5 rfl rfl)
theorem dX1_byRight_56 : decode cX1_byRight 56 = .ok (.aload_n 0, 1) := dk_42 (dk_at dksX1_byRight_2 8 rfl rfl)
theorem dX1_byRight_57 : decode cX1_byRight 57 = .ok (.getfield 47, 3) := dk_180 0 47 (dk_at dksX1_byRight_2 9 rfl rfl)
theorem dX1_byRight_60 : decode cX1_byRight 60 = .ok (.iload 4, 2) := dk_21 4 (dk_at dksX1_byRight_2 12 rfl rfl)
theorem dX1_byRight_62 : decode cX1_byRight 62 = .ok (.invokevirtual 29, 3) := dk_182 0 29 (dk_at dksX1_byRight_2 14 rfl rfl)
theorem dX1_byRight_65 : decode cX1_byRight 65 = .ok (.checkcast 118, 3) := dk_192 0 118 (dk_at dksX1_byRight_2 17 rfl rfl)
theorem dX1_byRight_68 : decode cX1_byRight 68 = .ok (.invokeinterface 120 1, 5) := by decide +kernel
theorem dX1_byRight_73 : decode cX1_byRight 73 = .ok (.aload_n 0, 1) := dk_42 (dk_at dksX1_byRight_3 5 rfl rfl)
theorem dX1_byRight_74 : decode cX1_byRight 74 = .ok (.getfield 47, 3) := dk_180 0 47 (dk_at dksX1_byRight_3 6 rfl rfl)
theorem dX1_byRight_77 : decode cX1_byRight 77 = .ok (.iload 5, 2) := dk_21 5 (dk_at dksX1_byRight_3 9 rfl rfl)
theorem dX1_byRight_79 : decode cX1_byRight 79 = .ok (.invokevirtual 29, 3) := dk_182 0 29 (dk_at dksX1_byRight_3 11 rfl rfl)
theorem dX1_byRight_82 : decode cX1_byRight 82 = .ok (.checkcast 118, 3) := dk_192 0 118 (dk_at dksX1_byRight_3 14 rfl rfl)
theorem dX1_byRight_85 : decode cX1_byRight 85 = .ok (.invokeinterface 120 1, 5) := by decide +kernel
theorem dX1_byRight_90 : decode cX1_byRight 90 = .ok (.isub, 1) := dk_100 (dk_at dksX1_byRight_3 22 rfl rfl)
theorem dX1_byRight_91 : decode cX1_byRight 91 = .ok (.sipush 150, 3) := dk_17 0 150 (dk_at dksX1_byRight_4 0 rfl rfl)
theorem dX1_byRight_94 : decode cX1_byRight 94 = .ok (.if_icmp .lt 18, 3) := dk_161 0 18 (dk_at dksX1_byRight_4 3 rfl rfl)
theorem dX1_byRight_97 : decode cX1_byRight 97 = .ok (.aload_n 0, 1) := dk_42 (dk_at dksX1_byRight_4 6 rfl rfl)
theorem dX1_byRight_98 : decode cX1_byRight 98 = .ok (.iconst 5, 1) := dk_8 (dk_at dksX1_byRight_4 7 rfl rfl)
theorem dX1_byRight_99 : decode cX1_byRight 99 = .ok (.putfield 50, 3) := dk_181 0 50 (dk_at dksX1_byRight_4 8 rfl rfl)
theorem dX1_byRight_102 : decode cX1_byRight 102 = .ok (.iload_n 3, 1) := dk_29 (dk_at dksX1_byRight_4 11 rfl rfl)
theorem dX1_byRight_103 : decode cX1_byRight 103 = .ok (.ifCond .ne 7, 3) := dk_154 0 7 (dk_at dksX1_byRight_4 12 rfl rfl)
theorem dX1_byRight_106 : decode cX1_byRight 106 = .ok (.iconst 2, 1) := dk_5 (dk_at dksX1_byRight_4 15 rfl rfl)
theorem dX1_byRight_107 : decode cX1_byRight 107 = .ok (.goto 4, 3) := dk_167 0 4 (dk_at dksX1_byRight_4 16 rfl rfl)
theorem dX1_byRight_110 : decode cX1_byRight 110 = .ok (.iconst 1, 1) := dk_4 (dk_at dksX1_byRight_4 19 rfl rfl)
theorem dX1_byRight_111 : decode cX1_byRight 111 = .ok (.ireturn, 1) := dk_172 (dk_at dksX1_byRight_4 20 rfl rfl)
theorem dX1_byRight_112 : decode cX1_byRight 112 = .ok (.aload_n 0, 1) := dk_42 (dk_at dksX1_byRight_4 21 rfl rfl)
theorem dX1_byRight_113 : decode cX1_byRight 113 = .ok (.aload_n 0, 1) := dk_42 (dk_at dksX1_byRight_4 22 rfl rfl)
theorem dX1_byRight_114 : decode cX1_byRight 114 = .ok (.iload 4, 2) := dk_21 4 (dk_at dksX1_byRight_5 0 rfl rfl)
theorem dX1_byRight_116 : decode cX1_byRight 116 = .ok (.invokevirtual 184, 3) := dk_182 0 184 (dk_at dksX1_byRight_5 2 rfl rfl)
theorem dX1_byRight_119 : decode cX1_byRight 119 = .ok (.ifCond .ne 8, 3) := dk_154 0 8 (dk_at dksX1_byRight_5 5 rfl rfl)
theorem dX1_byRight_122 : decode cX1_byRight 122 = .ok (.bipush 6, 2) := dk_16 6 (dk_at dksX1_byRight_5 8 rfl rfl)
theorem dX1_byRight_124 : decode cX1_byRight 124 = .ok (.goto 4, 3) := dk_167 0 4 (dk_at dksX1_byRight_5 10 rfl rfl)
theorem dX1_byRight_127 : decode cX1_byRight 127 = .ok (.iconst 2, 1) := dk_5 (dk_at dksX1_byRight_5 13 rfl rfl)
theorem dX1_byRight_128 : decode cX1_byRight 128 = .ok (.putfield 50, 3) := dk_181 0 50 (dk_at dksX1_byRight_5 14 rfl rfl)
theorem dX1_byRight_131 : decode cX1_byRight 131 = .ok (.aload_n 0, 1) := dk_42 (dk_at dksX1_byRight_5 17 rfl rfl)
theorem dX1_byRight_132 : decode cX1_byRight 132 = .ok (.getfield 50, 3) := dk_180 0 50 (dk_at dksX1_byRight_5 18 rfl rfl)
theorem dX1_byRight_135 : decode cX1_byRight 135 = .ok (.iconst 2, 1) := dk_5 (dk_at dksX1_byRight_5 21 rfl rfl)
theorem dX1_byRight_136 : decode cX1_byRight 136 = .ok (.if_icmp .ne 7, 3) := dk_160 0 7 (dk_at dksX1_byRight_6 0 rfl rfl)
theorem dX1_byRight_139 : decode cX1_byRight 139 = .ok (.iconst 0, 1) := dk_3 (dk_at dksX1_byRight_6 3 rfl rfl)
theorem dX1_byRight_140 : decode cX1_byRight 140 = .ok (.goto 12, 3) := dk_167 0 12 (dk_at dksX1_byRight_6 4 rfl rfl)
theorem dX1_byRight_143 : decode cX1_byRight 143 = .ok (.iload_n 3, 1) := dk_29 (dk_at dksX1_byRight_6 7 rfl rfl)
theorem dX1_byRight_144 : decode cX1_byRight 144 = .ok (.ifCond .ne 7, 3) := dk_154 0 7 (dk_at dksX1_byRight_6 8 rfl rfl)
theorem dX1_byRight_147 : decode cX1_byRight 147 = .ok (.iconst 1, 1) := dk_4 (dk_at dksX1_byRight_6 11 rfl rfl)
theorem dX1_byRight_148 : decode cX1_byRight 148 = .ok (.goto 4, 3) := dk_167 0 4 (dk_at dksX1_byRight_6 12 rfl rfl)
theorem dX1_byRight_151 : decode cX1_byRight 151 = .ok (.iconst 2, 1) := dk_5 (dk_at dksX1_byRight_6 15 rfl rfl)
theorem dX1_byRight_152 : decode cX1_byRight 152 = .ok (.ireturn, 1) := dk_172 (dk_at dksX1_byRight_6 16 rfl rfl)
abbrev cX1_card : ByteArray := prog_1_method_20_code
def yX1_card : MethodName := ⟨RX1, "card", "(II)I"⟩
def dkwX1_card_2 : List UInt8 := [172]
abbrev dktX1_card_2 : List UInt8 := dkwX1_card_2 ++ []
def dkwX1_card_1 : List UInt8 := [42, 180, 0, 96, 198, 0, 7, 4, 167, 0, 4, 3, 184, 0, 71, 42, 180, 0, 96, 27, 28, 182, 0, 214]
abbrev dktX1_card_1 : List UInt8 := dkwX1_card_1 ++ dktX1_card_2
def dkwX1_card_0 : List UInt8 := [27, 184, 0, 123, 153, 0, 16, 28, 4, 6, 184, 0, 19, 153, 0, 7, 4, 167, 0, 4, 3, 184, 0, 93]
abbrev dktX1_card_0 : List UInt8 := dkwX1_card_0 ++ dktX1_card_1
theorem dksX1_card_0 : cX1_card.data.toList.drop 0 = dktX1_card_0 := by decide +kernel
theorem dksX1_card_1 : cX1_card.data.toList.drop 24 = dktX1_card_1 := dk_seg dksX1_card_0 24 rfl rfl
theorem dksX1_card_2 : cX1_card.data.toList.drop 48 = dktX1_card_2 := dk_seg dksX1_card_1 24 rfl rfl
theorem dX1_card_0 : decode cX1_card 0 = .ok (.iload_n 1, 1) := dk_27 (dk_at dksX1_card_0 0 rfl rfl)
theorem dX1_card_1 : decode cX1_card 1 = .ok (.invokestatic 123, 3) := dk_184 0 123 (dk_at dksX1_card_0 1 rfl rfl)
theorem dX1_card_4 : decode cX1_card 4 = .ok (.ifCond .eq 16, 3) := dk_153 0 16 (dk_at dksX1_card_0 4 rfl rfl)
theorem dX1_card_7 : decode cX1_card 7 = .ok (.iload_n 2, 1) := dk_28 (dk_at dksX1_card_0 7 rfl rfl)
theorem dX1_card_8 : decode cX1_card 8 = .ok (.iconst 1, 1) := dk_4 (dk_at dksX1_card_0 8 rfl rfl)
theorem dX1_card_9 : decode cX1_card 9 = .ok (.iconst 3, 1) := dk_6 (dk_at dksX1_card_0 9 rfl rfl)
theorem dX1_card_10 : decode cX1_card 10 = .ok (.invokestatic 19, 3) := dk_184 0 19 (dk_at dksX1_card_0 10 rfl rfl)
theorem dX1_card_13 : decode cX1_card 13 = .ok (.ifCond .eq 7, 3) := dk_153 0 7 (dk_at dksX1_card_0 13 rfl rfl)
theorem dX1_card_16 : decode cX1_card 16 = .ok (.iconst 1, 1) := dk_4 (dk_at dksX1_card_0 16 rfl rfl)
theorem dX1_card_17 : decode cX1_card 17 = .ok (.goto 4, 3) := dk_167 0 4 (dk_at dksX1_card_0 17 rfl rfl)
theorem dX1_card_20 : decode cX1_card 20 = .ok (.iconst 0, 1) := dk_3 (dk_at dksX1_card_0 20 rfl rfl)
theorem dX1_card_21 : decode cX1_card 21 = .ok (.invokestatic 93, 3) := dk_184 0 93 (dk_at dksX1_card_0 21 rfl rfl)
theorem dX1_card_24 : decode cX1_card 24 = .ok (.aload_n 0, 1) := dk_42 (dk_at dksX1_card_1 0 rfl rfl)
theorem dX1_card_25 : decode cX1_card 25 = .ok (.getfield 96, 3) := dk_180 0 96 (dk_at dksX1_card_1 1 rfl rfl)
theorem dX1_card_28 : decode cX1_card 28 = .ok (.ifnull 7, 3) := dk_198 0 7 (dk_at dksX1_card_1 4 rfl rfl)
theorem dX1_card_31 : decode cX1_card 31 = .ok (.iconst 1, 1) := dk_4 (dk_at dksX1_card_1 7 rfl rfl)
theorem dX1_card_32 : decode cX1_card 32 = .ok (.goto 4, 3) := dk_167 0 4 (dk_at dksX1_card_1 8 rfl rfl)
theorem dX1_card_35 : decode cX1_card 35 = .ok (.iconst 0, 1) := dk_3 (dk_at dksX1_card_1 11 rfl rfl)
theorem dX1_card_36 : decode cX1_card 36 = .ok (.invokestatic 71, 3) := dk_184 0 71 (dk_at dksX1_card_1 12 rfl rfl)
theorem dX1_card_39 : decode cX1_card 39 = .ok (.aload_n 0, 1) := dk_42 (dk_at dksX1_card_1 15 rfl rfl)
theorem dX1_card_40 : decode cX1_card 40 = .ok (.getfield 96, 3) := dk_180 0 96 (dk_at dksX1_card_1 16 rfl rfl)
theorem dX1_card_43 : decode cX1_card 43 = .ok (.iload_n 1, 1) := dk_27 (dk_at dksX1_card_1 19 rfl rfl)
theorem dX1_card_44 : decode cX1_card 44 = .ok (.iload_n 2, 1) := dk_28 (dk_at dksX1_card_1 20 rfl rfl)
theorem dX1_card_45 : decode cX1_card 45 = .ok (.invokevirtual 214, 3) := dk_182 0 214 (dk_at dksX1_card_1 21 rfl rfl)
theorem dX1_card_48 : decode cX1_card 48 = .ok (.ireturn, 1) := dk_172 (dk_at dksX1_card_2 0 rfl rfl)
abbrev cX1_clock : ByteArray := prog_1_method_21_code
def yX1_clock : MethodName := ⟨RX1, "clock", "(I)I"⟩
def dkwX1_clock_2 : List UInt8 := [182, 0, 220, 132, 3, 1, 167, 255, 236, 44, 182, 0, 223, 172]
abbrev dktX1_clock_2 : List UInt8 := dkwX1_clock_2 ++ []
def dkwX1_clock_1 : List UInt8 := [184, 0, 71, 42, 180, 0, 96, 77, 3, 62, 29, 27, 162, 0, 21, 44, 180, 0, 217, 2, 160, 0, 13, 44]
abbrev dktX1_clock_1 : List UInt8 := dkwX1_clock_1 ++ dktX1_clock_2
def dkwX1_clock_0 : List UInt8 := [27, 4, 17, 0, 240, 184, 0, 19, 184, 0, 93, 42, 180, 0, 96, 198, 0, 7, 4, 167, 0, 4, 3]
abbrev dktX1_clock_0 : List UInt8 := dkwX1_clock_0 ++ dktX1_clock_1
theorem dksX1_clock_0 : cX1_clock.data.toList.drop 0 = dktX1_clock_0 := by decide +kernel
theorem dksX1_clock_1 : cX1_clock.data.toList.drop 23 = dktX1_clock_1 := dk_seg dksX1_clock_0 23 rfl rfl
theorem dksX1_clock_2 : cX1_clock.data.toList.drop 47 = dktX1_clock_2 := dk_seg dksX1_clock_1 24 rfl rfl
theorem dX1_clock_0 : decode cX1_clock 0 = .ok (.iload_n 1, 1) := dk_27 (dk_at dksX1_clock_0 0 rfl rfl)
theorem dX1_clock_1 : decode cX1_clock 1 = .ok (.iconst 1, 1) := dk_4 (dk_at dksX1_clock_0 1 rfl rfl)
theorem dX1_clock_2 : decode cX1_clock 2 = .ok (.sipush 240, 3) := dk_17 0 240 (dk_at dksX1_clock_0 2 rfl rfl)
theorem dX1_clock_5 : decode cX1_clock 5 = .ok (.invokestatic 19, 3) := dk_184 0 19 (dk_at dksX1_clock_0 5 rfl rfl)
theorem dX1_clock_8 : decode cX1_clock 8 = .ok (.invokestatic 93, 3) := dk_184 0 93 (dk_at dksX1_clock_0 8 rfl rfl)
theorem dX1_clock_11 : decode cX1_clock 11 = .ok (.aload_n 0, 1) := dk_42 (dk_at dksX1_clock_0 11 rfl rfl)
theorem dX1_clock_12 : decode cX1_clock 12 = .ok (.getfield 96, 3) := dk_180 0 96 (dk_at dksX1_clock_0 12 rfl rfl)
theorem dX1_clock_15 : decode cX1_clock 15 = .ok (.ifnull 7, 3) := dk_198 0 7 (dk_at dksX1_clock_0 15 rfl rfl)
theorem dX1_clock_18 : decode cX1_clock 18 = .ok (.iconst 1, 1) := dk_4 (dk_at dksX1_clock_0 18 rfl rfl)
theorem dX1_clock_19 : decode cX1_clock 19 = .ok (.goto 4, 3) := dk_167 0 4 (dk_at dksX1_clock_0 19 rfl rfl)
theorem dX1_clock_22 : decode cX1_clock 22 = .ok (.iconst 0, 1) := dk_3 (dk_at dksX1_clock_0 22 rfl rfl)
theorem dX1_clock_23 : decode cX1_clock 23 = .ok (.invokestatic 71, 3) := dk_184 0 71 (dk_at dksX1_clock_1 0 rfl rfl)
theorem dX1_clock_26 : decode cX1_clock 26 = .ok (.aload_n 0, 1) := dk_42 (dk_at dksX1_clock_1 3 rfl rfl)
theorem dX1_clock_27 : decode cX1_clock 27 = .ok (.getfield 96, 3) := dk_180 0 96 (dk_at dksX1_clock_1 4 rfl rfl)
theorem dX1_clock_30 : decode cX1_clock 30 = .ok (.astore_n 2, 1) := dk_77 (dk_at dksX1_clock_1 7 rfl rfl)
theorem dX1_clock_31 : decode cX1_clock 31 = .ok (.iconst 0, 1) := dk_3 (dk_at dksX1_clock_1 8 rfl rfl)
theorem dX1_clock_32 : decode cX1_clock 32 = .ok (.istore_n 3, 1) := dk_62 (dk_at dksX1_clock_1 9 rfl rfl)
theorem dX1_clock_33 : decode cX1_clock 33 = .ok (.iload_n 3, 1) := dk_29 (dk_at dksX1_clock_1 10 rfl rfl)
theorem dX1_clock_34 : decode cX1_clock 34 = .ok (.iload_n 1, 1) := dk_27 (dk_at dksX1_clock_1 11 rfl rfl)
theorem dX1_clock_35 : decode cX1_clock 35 = .ok (.if_icmp .ge 21, 3) := dk_162 0 21 (dk_at dksX1_clock_1 12 rfl rfl)
theorem dX1_clock_38 : decode cX1_clock 38 = .ok (.aload_n 2, 1) := dk_44 (dk_at dksX1_clock_1 15 rfl rfl)
theorem dX1_clock_39 : decode cX1_clock 39 = .ok (.getfield 217, 3) := dk_180 0 217 (dk_at dksX1_clock_1 16 rfl rfl)
theorem dX1_clock_42 : decode cX1_clock 42 = .ok (.iconst (-1), 1) := dk_2 (dk_at dksX1_clock_1 19 rfl rfl)
theorem dX1_clock_43 : decode cX1_clock 43 = .ok (.if_icmp .ne 13, 3) := dk_160 0 13 (dk_at dksX1_clock_1 20 rfl rfl)
theorem dX1_clock_46 : decode cX1_clock 46 = .ok (.aload_n 2, 1) := dk_44 (dk_at dksX1_clock_1 23 rfl rfl)
theorem dX1_clock_47 : decode cX1_clock 47 = .ok (.invokevirtual 220, 3) := dk_182 0 220 (dk_at dksX1_clock_2 0 rfl rfl)
theorem dX1_clock_50 : decode cX1_clock 50 = .ok (.iinc 3 1, 3) := dk_132 3 1 (dk_at dksX1_clock_2 3 rfl rfl)
theorem dX1_clock_53 : decode cX1_clock 53 = .ok (.goto (-20), 3) := dk_167 255 236 (dk_at dksX1_clock_2 6 rfl rfl)
theorem dX1_clock_56 : decode cX1_clock 56 = .ok (.aload_n 2, 1) := dk_44 (dk_at dksX1_clock_2 9 rfl rfl)
theorem dX1_clock_57 : decode cX1_clock 57 = .ok (.invokevirtual 223, 3) := dk_182 0 223 (dk_at dksX1_clock_2 10 rfl rfl)
theorem dX1_clock_60 : decode cX1_clock 60 = .ok (.ireturn, 1) := dk_172 (dk_at dksX1_clock_2 13 rfl rfl)
abbrev cX1_draw : ByteArray := prog_1_method_7_code
def yX1_draw : MethodName := ⟨RX1, "draw", "()I"⟩
def dkwX1_draw_1 : List UInt8 := [20, 0, 67, 109, 20, 0, 69, 113, 136, 172]
abbrev dktX1_draw_1 : List UInt8 := dkwX1_draw_1 ++ []
def dkwX1_draw_0 : List UInt8 := [42, 20, 0, 57, 42, 180, 0, 59, 105, 20, 0, 63, 97, 20, 0, 65, 113, 181, 0, 59, 42, 180, 0, 59]
abbrev dktX1_draw_0 : List UInt8 := dkwX1_draw_0 ++ dktX1_draw_1
theorem dksX1_draw_0 : cX1_draw.data.toList.drop 0 = dktX1_draw_0 := by decide +kernel
theorem dksX1_draw_1 : cX1_draw.data.toList.drop 24 = dktX1_draw_1 := dk_seg dksX1_draw_0 24 rfl rfl
theorem dX1_draw_0 : decode cX1_draw 0 = .ok (.aload_n 0, 1) := dk_42 (dk_at dksX1_draw_0 0 rfl rfl)
theorem dX1_draw_1 : decode cX1_draw 1 = .ok (.ldc2_w 57, 3) := dk_20 0 57 (dk_at dksX1_draw_0 1 rfl rfl)
theorem dX1_draw_4 : decode cX1_draw 4 = .ok (.aload_n 0, 1) := dk_42 (dk_at dksX1_draw_0 4 rfl rfl)
theorem dX1_draw_5 : decode cX1_draw 5 = .ok (.getfield 59, 3) := dk_180 0 59 (dk_at dksX1_draw_0 5 rfl rfl)
theorem dX1_draw_8 : decode cX1_draw 8 = .ok (.lmul, 1) := dk_105 (dk_at dksX1_draw_0 8 rfl rfl)
theorem dX1_draw_9 : decode cX1_draw 9 = .ok (.ldc2_w 63, 3) := dk_20 0 63 (dk_at dksX1_draw_0 9 rfl rfl)
theorem dX1_draw_12 : decode cX1_draw 12 = .ok (.ladd, 1) := dk_97 (dk_at dksX1_draw_0 12 rfl rfl)
theorem dX1_draw_13 : decode cX1_draw 13 = .ok (.ldc2_w 65, 3) := dk_20 0 65 (dk_at dksX1_draw_0 13 rfl rfl)
theorem dX1_draw_16 : decode cX1_draw 16 = .ok (.lrem, 1) := dk_113 (dk_at dksX1_draw_0 16 rfl rfl)
theorem dX1_draw_17 : decode cX1_draw 17 = .ok (.putfield 59, 3) := dk_181 0 59 (dk_at dksX1_draw_0 17 rfl rfl)
theorem dX1_draw_20 : decode cX1_draw 20 = .ok (.aload_n 0, 1) := dk_42 (dk_at dksX1_draw_0 20 rfl rfl)
theorem dX1_draw_21 : decode cX1_draw 21 = .ok (.getfield 59, 3) := dk_180 0 59 (dk_at dksX1_draw_0 21 rfl rfl)
theorem dX1_draw_24 : decode cX1_draw 24 = .ok (.ldc2_w 67, 3) := dk_20 0 67 (dk_at dksX1_draw_1 0 rfl rfl)
theorem dX1_draw_27 : decode cX1_draw 27 = .ok (.ldiv, 1) := dk_109 (dk_at dksX1_draw_1 3 rfl rfl)
theorem dX1_draw_28 : decode cX1_draw 28 = .ok (.ldc2_w 69, 3) := dk_20 0 69 (dk_at dksX1_draw_1 4 rfl rfl)
theorem dX1_draw_31 : decode cX1_draw 31 = .ok (.lrem, 1) := dk_113 (dk_at dksX1_draw_1 7 rfl rfl)
theorem dX1_draw_32 : decode cX1_draw 32 = .ok (.l2i, 1) := dk_136 (dk_at dksX1_draw_1 8 rfl rfl)
theorem dX1_draw_33 : decode cX1_draw 33 = .ok (.ireturn, 1) := dk_172 (dk_at dksX1_draw_1 9 rfl rfl)
abbrev cX1_end : ByteArray := prog_1_method_22_code
def yX1_end : MethodName := ⟨RX1, "end", "()I"⟩
def dkwX1_end_1 : List UInt8 := [182, 0, 226, 182, 0, 229, 43, 180, 0, 217, 172]
abbrev dktX1_end_1 : List UInt8 := dkwX1_end_1 ++ []
def dkwX1_end_0 : List UInt8 := [42, 180, 0, 96, 198, 0, 7, 4, 167, 0, 4, 3, 184, 0, 71, 42, 180, 0, 96, 76, 43, 43]
abbrev dktX1_end_0 : List UInt8 := dkwX1_end_0 ++ dktX1_end_1
theorem dksX1_end_0 : cX1_end.data.toList.drop 0 = dktX1_end_0 := by decide +kernel
theorem dksX1_end_1 : cX1_end.data.toList.drop 22 = dktX1_end_1 := dk_seg dksX1_end_0 22 rfl rfl
theorem dX1_end_0 : decode cX1_end 0 = .ok (.aload_n 0, 1) := dk_42 (dk_at dksX1_end_0 0 rfl rfl)
theorem dX1_end_1 : decode cX1_end 1 = .ok (.getfield 96, 3) := dk_180 0 96 (dk_at dksX1_end_0 1 rfl rfl)
theorem dX1_end_4 : decode cX1_end 4 = .ok (.ifnull 7, 3) := dk_198 0 7 (dk_at dksX1_end_0 4 rfl rfl)
theorem dX1_end_7 : decode cX1_end 7 = .ok (.iconst 1, 1) := dk_4 (dk_at dksX1_end_0 7 rfl rfl)
theorem dX1_end_8 : decode cX1_end 8 = .ok (.goto 4, 3) := dk_167 0 4 (dk_at dksX1_end_0 8 rfl rfl)
theorem dX1_end_11 : decode cX1_end 11 = .ok (.iconst 0, 1) := dk_3 (dk_at dksX1_end_0 11 rfl rfl)
theorem dX1_end_12 : decode cX1_end 12 = .ok (.invokestatic 71, 3) := dk_184 0 71 (dk_at dksX1_end_0 12 rfl rfl)
theorem dX1_end_15 : decode cX1_end 15 = .ok (.aload_n 0, 1) := dk_42 (dk_at dksX1_end_0 15 rfl rfl)
theorem dX1_end_16 : decode cX1_end 16 = .ok (.getfield 96, 3) := dk_180 0 96 (dk_at dksX1_end_0 16 rfl rfl)
theorem dX1_end_19 : decode cX1_end 19 = .ok (.astore_n 1, 1) := dk_76 (dk_at dksX1_end_0 19 rfl rfl)
theorem dX1_end_20 : decode cX1_end 20 = .ok (.aload_n 1, 1) := dk_43 (dk_at dksX1_end_0 20 rfl rfl)
theorem dX1_end_21 : decode cX1_end 21 = .ok (.aload_n 1, 1) := dk_43 (dk_at dksX1_end_0 21 rfl rfl)
theorem dX1_end_22 : decode cX1_end 22 = .ok (.invokevirtual 226, 3) := dk_182 0 226 (dk_at dksX1_end_1 0 rfl rfl)
theorem dX1_end_25 : decode cX1_end 25 = .ok (.invokevirtual 229, 3) := dk_182 0 229 (dk_at dksX1_end_1 3 rfl rfl)
theorem dX1_end_28 : decode cX1_end 28 = .ok (.aload_n 1, 1) := dk_43 (dk_at dksX1_end_1 6 rfl rfl)
theorem dX1_end_29 : decode cX1_end 29 = .ok (.getfield 217, 3) := dk_180 0 217 (dk_at dksX1_end_1 7 rfl rfl)
theorem dX1_end_32 : decode cX1_end 32 = .ok (.ireturn, 1) := dk_172 (dk_at dksX1_end_1 10 rfl rfl)
abbrev cX1_seed : ByteArray := prog_1_method_23_code
def yX1_seed : MethodName := ⟨RX1, "seed", "(I)V"⟩
def dkwX1_seed_0 : List UInt8 := [27, 155, 0, 7, 4, 167, 0, 4, 3, 184, 0, 93, 42, 27, 133, 181, 0, 59, 177]
abbrev dktX1_seed_0 : List UInt8 := dkwX1_seed_0 ++ []
theorem dksX1_seed_0 : cX1_seed.data.toList.drop 0 = dktX1_seed_0 := by decide +kernel
theorem dX1_seed_0 : decode cX1_seed 0 = .ok (.iload_n 1, 1) := dk_27 (dk_at dksX1_seed_0 0 rfl rfl)
theorem dX1_seed_1 : decode cX1_seed 1 = .ok (.ifCond .lt 7, 3) := dk_155 0 7 (dk_at dksX1_seed_0 1 rfl rfl)
theorem dX1_seed_4 : decode cX1_seed 4 = .ok (.iconst 1, 1) := dk_4 (dk_at dksX1_seed_0 4 rfl rfl)
theorem dX1_seed_5 : decode cX1_seed 5 = .ok (.goto 4, 3) := dk_167 0 4 (dk_at dksX1_seed_0 5 rfl rfl)
theorem dX1_seed_8 : decode cX1_seed 8 = .ok (.iconst 0, 1) := dk_3 (dk_at dksX1_seed_0 8 rfl rfl)
theorem dX1_seed_9 : decode cX1_seed 9 = .ok (.invokestatic 93, 3) := dk_184 0 93 (dk_at dksX1_seed_0 9 rfl rfl)
theorem dX1_seed_12 : decode cX1_seed 12 = .ok (.aload_n 0, 1) := dk_42 (dk_at dksX1_seed_0 12 rfl rfl)
theorem dX1_seed_13 : decode cX1_seed 13 = .ok (.iload_n 1, 1) := dk_27 (dk_at dksX1_seed_0 13 rfl rfl)
theorem dX1_seed_14 : decode cX1_seed 14 = .ok (.i2l, 1) := dk_133 (dk_at dksX1_seed_0 14 rfl rfl)
theorem dX1_seed_15 : decode cX1_seed 15 = .ok (.putfield 59, 3) := dk_181 0 59 (dk_at dksX1_seed_0 15 rfl rfl)
theorem dX1_seed_18 : decode cX1_seed 18 = .ok (.return_, 1) := dk_177 (dk_at dksX1_seed_0 18 rfl rfl)
abbrev cX1_pool : ByteArray := prog_1_method_24_code
def yX1_pool : MethodName := ⟨RX1, "pool", "(I)I"⟩
def dkwX1_pool_3 : List UInt8 := [180, 0, 44, 182, 0, 13, 4, 100, 172]
abbrev dktX1_pool_3 : List UInt8 := dkwX1_pool_3 ++ []
def dkwX1_pool_2 : List UInt8 := [167, 0, 4, 3, 184, 0, 71, 42, 180, 0, 44, 187, 0, 87, 89, 27, 183, 0, 237, 182, 0, 79, 87, 42]
abbrev dktX1_pool_2 : List UInt8 := dkwX1_pool_2 ++ dktX1_pool_3
def dkwX1_pool_1 : List UInt8 := [161, 0, 7, 4, 167, 0, 4, 3, 184, 0, 93, 42, 180, 0, 44, 182, 0, 13, 16, 6, 162, 0, 7, 4]
abbrev dktX1_pool_1 : List UInt8 := dkwX1_pool_1 ++ dktX1_pool_2
def dkwX1_pool_0 : List UInt8 := [27, 3, 4, 42, 180, 0, 37, 182, 0, 13, 120, 4, 100, 184, 0, 19, 153, 0, 15, 27, 184, 0, 232, 5]
abbrev dktX1_pool_0 : List UInt8 := dkwX1_pool_0 ++ dktX1_pool_1
theorem dksX1_pool_0 : cX1_pool.data.toList.drop 0 = dktX1_pool_0 := by decide +kernel
theorem dksX1_pool_1 : cX1_pool.data.toList.drop 24 = dktX1_pool_1 := dk_seg dksX1_pool_0 24 rfl rfl
theorem dksX1_pool_2 : cX1_pool.data.toList.drop 48 = dktX1_pool_2 := dk_seg dksX1_pool_1 24 rfl rfl
theorem dksX1_pool_3 : cX1_pool.data.toList.drop 72 = dktX1_pool_3 := dk_seg dksX1_pool_2 24 rfl rfl
theorem dX1_pool_0 : decode cX1_pool 0 = .ok (.iload_n 1, 1) := dk_27 (dk_at dksX1_pool_0 0 rfl rfl)
theorem dX1_pool_1 : decode cX1_pool 1 = .ok (.iconst 0, 1) := dk_3 (dk_at dksX1_pool_0 1 rfl rfl)
theorem dX1_pool_2 : decode cX1_pool 2 = .ok (.iconst 1, 1) := dk_4 (dk_at dksX1_pool_0 2 rfl rfl)
theorem dX1_pool_3 : decode cX1_pool 3 = .ok (.aload_n 0, 1) := dk_42 (dk_at dksX1_pool_0 3 rfl rfl)
theorem dX1_pool_4 : decode cX1_pool 4 = .ok (.getfield 37, 3) := dk_180 0 37 (dk_at dksX1_pool_0 4 rfl rfl)
theorem dX1_pool_7 : decode cX1_pool 7 = .ok (.invokevirtual 13, 3) := dk_182 0 13 (dk_at dksX1_pool_0 7 rfl rfl)
theorem dX1_pool_10 : decode cX1_pool 10 = .ok (.ishl, 1) := dk_120 (dk_at dksX1_pool_0 10 rfl rfl)
theorem dX1_pool_11 : decode cX1_pool 11 = .ok (.iconst 1, 1) := dk_4 (dk_at dksX1_pool_0 11 rfl rfl)
theorem dX1_pool_12 : decode cX1_pool 12 = .ok (.isub, 1) := dk_100 (dk_at dksX1_pool_0 12 rfl rfl)
theorem dX1_pool_13 : decode cX1_pool 13 = .ok (.invokestatic 19, 3) := dk_184 0 19 (dk_at dksX1_pool_0 13 rfl rfl)
theorem dX1_pool_16 : decode cX1_pool 16 = .ok (.ifCond .eq 15, 3) := dk_153 0 15 (dk_at dksX1_pool_0 16 rfl rfl)
theorem dX1_pool_19 : decode cX1_pool 19 = .ok (.iload_n 1, 1) := dk_27 (dk_at dksX1_pool_0 19 rfl rfl)
theorem dX1_pool_20 : decode cX1_pool 20 = .ok (.invokestatic 232, 3) := dk_184 0 232 (dk_at dksX1_pool_0 20 rfl rfl)
theorem dX1_pool_23 : decode cX1_pool 23 = .ok (.iconst 2, 1) := dk_5 (dk_at dksX1_pool_0 23 rfl rfl)
theorem dX1_pool_24 : decode cX1_pool 24 = .ok (.if_icmp .lt 7, 3) := dk_161 0 7 (dk_at dksX1_pool_1 0 rfl rfl)
theorem dX1_pool_27 : decode cX1_pool 27 = .ok (.iconst 1, 1) := dk_4 (dk_at dksX1_pool_1 3 rfl rfl)
theorem dX1_pool_28 : decode cX1_pool 28 = .ok (.goto 4, 3) := dk_167 0 4 (dk_at dksX1_pool_1 4 rfl rfl)
theorem dX1_pool_31 : decode cX1_pool 31 = .ok (.iconst 0, 1) := dk_3 (dk_at dksX1_pool_1 7 rfl rfl)
theorem dX1_pool_32 : decode cX1_pool 32 = .ok (.invokestatic 93, 3) := dk_184 0 93 (dk_at dksX1_pool_1 8 rfl rfl)
theorem dX1_pool_35 : decode cX1_pool 35 = .ok (.aload_n 0, 1) := dk_42 (dk_at dksX1_pool_1 11 rfl rfl)
theorem dX1_pool_36 : decode cX1_pool 36 = .ok (.getfield 44, 3) := dk_180 0 44 (dk_at dksX1_pool_1 12 rfl rfl)
theorem dX1_pool_39 : decode cX1_pool 39 = .ok (.invokevirtual 13, 3) := dk_182 0 13 (dk_at dksX1_pool_1 15 rfl rfl)
theorem dX1_pool_42 : decode cX1_pool 42 = .ok (.bipush 6, 2) := dk_16 6 (dk_at dksX1_pool_1 18 rfl rfl)
theorem dX1_pool_44 : decode cX1_pool 44 = .ok (.if_icmp .ge 7, 3) := dk_162 0 7 (dk_at dksX1_pool_1 20 rfl rfl)
theorem dX1_pool_47 : decode cX1_pool 47 = .ok (.iconst 1, 1) := dk_4 (dk_at dksX1_pool_1 23 rfl rfl)
theorem dX1_pool_48 : decode cX1_pool 48 = .ok (.goto 4, 3) := dk_167 0 4 (dk_at dksX1_pool_2 0 rfl rfl)
theorem dX1_pool_51 : decode cX1_pool 51 = .ok (.iconst 0, 1) := dk_3 (dk_at dksX1_pool_2 3 rfl rfl)
theorem dX1_pool_52 : decode cX1_pool 52 = .ok (.invokestatic 71, 3) := dk_184 0 71 (dk_at dksX1_pool_2 4 rfl rfl)
theorem dX1_pool_55 : decode cX1_pool 55 = .ok (.aload_n 0, 1) := dk_42 (dk_at dksX1_pool_2 7 rfl rfl)
theorem dX1_pool_56 : decode cX1_pool 56 = .ok (.getfield 44, 3) := dk_180 0 44 (dk_at dksX1_pool_2 8 rfl rfl)
theorem dX1_pool_59 : decode cX1_pool 59 = .ok (.new 87, 3) := dk_187 0 87 (dk_at dksX1_pool_2 11 rfl rfl)
theorem dX1_pool_62 : decode cX1_pool 62 = .ok (.dup, 1) := dk_89 (dk_at dksX1_pool_2 14 rfl rfl)
theorem dX1_pool_63 : decode cX1_pool 63 = .ok (.iload_n 1, 1) := dk_27 (dk_at dksX1_pool_2 15 rfl rfl)
theorem dX1_pool_64 : decode cX1_pool 64 = .ok (.invokespecial 237, 3) := dk_183 0 237 (dk_at dksX1_pool_2 16 rfl rfl)
theorem dX1_pool_67 : decode cX1_pool 67 = .ok (.invokevirtual 79, 3) := dk_182 0 79 (dk_at dksX1_pool_2 19 rfl rfl)
theorem dX1_pool_70 : decode cX1_pool 70 = .ok (.pop, 1) := dk_87 (dk_at dksX1_pool_2 22 rfl rfl)
theorem dX1_pool_71 : decode cX1_pool 71 = .ok (.aload_n 0, 1) := dk_42 (dk_at dksX1_pool_2 23 rfl rfl)
theorem dX1_pool_72 : decode cX1_pool 72 = .ok (.getfield 44, 3) := dk_180 0 44 (dk_at dksX1_pool_3 0 rfl rfl)
theorem dX1_pool_75 : decode cX1_pool 75 = .ok (.invokevirtual 13, 3) := dk_182 0 13 (dk_at dksX1_pool_3 3 rfl rfl)
theorem dX1_pool_78 : decode cX1_pool 78 = .ok (.iconst 1, 1) := dk_4 (dk_at dksX1_pool_3 6 rfl rfl)
theorem dX1_pool_79 : decode cX1_pool 79 = .ok (.isub, 1) := dk_100 (dk_at dksX1_pool_3 7 rfl rfl)
theorem dX1_pool_80 : decode cX1_pool 80 = .ok (.ireturn, 1) := dk_172 (dk_at dksX1_pool_3 8 rfl rfl)
abbrev cX1_withdraw : ByteArray := prog_1_method_27_code
def yX1_withdraw : MethodName := ⟨RX1, "withdraw", "(II)I"⟩
def dkwX1_withdraw_6 : List UInt8 := [167, 255, 188, 45, 180, 1, 20, 28, 50, 4, 181, 1, 24, 21, 4, 172]
abbrev dktX1_withdraw_6 : List UInt8 := dkwX1_withdraw_6 ++ []
def dkwX1_withdraw_5 : List UInt8 := [153, 0, 22, 45, 25, 6, 182, 1, 13, 153, 0, 13, 45, 25, 6, 2, 182, 1, 16, 132, 4, 1]
abbrev dktX1_withdraw_5 : List UInt8 := dkwX1_withdraw_5 ++ dktX1_withdraw_6
def dkwX1_withdraw_4 : List UInt8 := [180, 0, 248, 45, 166, 0, 40, 25, 6, 180, 0, 217, 2, 159, 0, 31, 25, 6, 28, 184, 0, 252]
abbrev dktX1_withdraw_4 : List UInt8 := dkwX1_withdraw_4 ++ dktX1_withdraw_5
def dkwX1_withdraw_3 : List UInt8 := [185, 1, 4, 1, 0, 153, 0, 64, 25, 5, 185, 1, 9, 1, 0, 192, 0, 103, 58, 6, 25, 6]
abbrev dktX1_withdraw_3 : List UInt8 := dkwX1_withdraw_3 ++ dktX1_withdraw_4
def dkwX1_withdraw_2 : List UInt8 := [167, 0, 4, 3, 184, 0, 71, 3, 54, 4, 42, 180, 0, 41, 182, 1, 0, 58, 5, 25, 5]
abbrev dktX1_withdraw_2 : List UInt8 := dkwX1_withdraw_2 ++ dktX1_withdraw_3
def dkwX1_withdraw_1 : List UInt8 := [180, 0, 96, 180, 0, 248, 45, 166, 0, 14, 42, 180, 0, 96, 28, 184, 0, 252, 154, 0, 7, 4]
abbrev dktX1_withdraw_1 : List UInt8 := dkwX1_withdraw_1 ++ dktX1_withdraw_2
def dkwX1_withdraw_0 : List UInt8 := [42, 27, 28, 182, 0, 244, 78, 45, 28, 182, 0, 100, 153, 0, 36, 42, 180, 0, 96, 198, 0, 25, 42]
abbrev dktX1_withdraw_0 : List UInt8 := dkwX1_withdraw_0 ++ dktX1_withdraw_1
theorem dksX1_withdraw_0 : cX1_withdraw.data.toList.drop 0 = dktX1_withdraw_0 := by decide +kernel
theorem dksX1_withdraw_1 : cX1_withdraw.data.toList.drop 23 = dktX1_withdraw_1 := dk_seg dksX1_withdraw_0 23 rfl rfl
theorem dksX1_withdraw_2 : cX1_withdraw.data.toList.drop 45 = dktX1_withdraw_2 := dk_seg dksX1_withdraw_1 22 rfl rfl
theorem dksX1_withdraw_3 : cX1_withdraw.data.toList.drop 66 = dktX1_withdraw_3 := dk_seg dksX1_withdraw_2 21 rfl rfl
theorem dksX1_withdraw_4 : cX1_withdraw.data.toList.drop 88 = dktX1_withdraw_4 := dk_seg dksX1_withdraw_3 22 rfl rfl
theorem dksX1_withdraw_5 : cX1_withdraw.data.toList.drop 110 = dktX1_withdraw_5 := dk_seg dksX1_withdraw_4 22 rfl rfl
theorem dksX1_withdraw_6 : cX1_withdraw.data.toList.drop 132 = dktX1_withdraw_6 := dk_seg dksX1_withdraw_5 22 rfl rfl
theorem dX1_withdraw_0 : decode cX1_withdraw 0 = .ok (.aload_n 0, 1) := dk_42 (dk_at dksX1_withdraw_0 0 rfl rfl)
theorem dX1_withdraw_1 : decode cX1_withdraw 1 = .ok (.iload_n 1, 1) := dk_27 (dk_at dksX1_withdraw_0 1 rfl rfl)
theorem dX1_withdraw_2 : decode cX1_withdraw 2 = .ok (.iload_n 2, 1) := dk_28 (dk_at dksX1_withdraw_0 2 rfl rfl)
theorem dX1_withdraw_3 : decode cX1_withdraw 3 = .ok (.invokevirtual 244, 3) := dk_182 0 244 (dk_at dksX1_withdraw_0 3 rfl rfl)
theorem dX1_withdraw_6 : decode cX1_withdraw 6 = .ok (.astore_n 3, 1) := dk_78 (dk_at dksX1_withdraw_0 6 rfl rfl)
theorem dX1_withdraw_7 : decode cX1_withdraw 7 = .ok (.aload_n 3, 1) := dk_45 (dk_at dksX1_withdraw_0 7 rfl rfl)
theorem dX1_withdraw_8 : decode cX1_withdraw 8 = .ok (.iload_n 2, 1) := dk_28 (dk_at dksX1_withdraw_0 8 rfl rfl)
theorem dX1_withdraw_9 : decode cX1_withdraw 9 = .ok (.invokevirtual 100, 3) := dk_182 0 100 (dk_at dksX1_withdraw_0 9 rfl rfl)
theorem dX1_withdraw_12 : decode cX1_withdraw 12 = .ok (.ifCond .eq 36, 3) := dk_153 0 36 (dk_at dksX1_withdraw_0 12 rfl rfl)
theorem dX1_withdraw_15 : decode cX1_withdraw 15 = .ok (.aload_n 0, 1) := dk_42 (dk_at dksX1_withdraw_0 15 rfl rfl)
theorem dX1_withdraw_16 : decode cX1_withdraw 16 = .ok (.getfield 96, 3) := dk_180 0 96 (dk_at dksX1_withdraw_0 16 rfl rfl)
theorem dX1_withdraw_19 : decode cX1_withdraw 19 = .ok (.ifnull 25, 3) := dk_198 0 25 (dk_at dksX1_withdraw_0 19 rfl rfl)
theorem dX1_withdraw_22 : decode cX1_withdraw 22 = .ok (.aload_n 0, 1) := dk_42 (dk_at dksX1_withdraw_0 22 rfl rfl)
theorem dX1_withdraw_23 : decode cX1_withdraw 23 = .ok (.getfield 96, 3) := dk_180 0 96 (dk_at dksX1_withdraw_1 0 rfl rfl)
theorem dX1_withdraw_26 : decode cX1_withdraw 26 = .ok (.getfield 248, 3) := dk_180 0 248 (dk_at dksX1_withdraw_1 3 rfl rfl)
theorem dX1_withdraw_29 : decode cX1_withdraw 29 = .ok (.aload_n 3, 1) := dk_45 (dk_at dksX1_withdraw_1 6 rfl rfl)
theorem dX1_withdraw_30 : decode cX1_withdraw 30 = .ok (.if_acmp .ne 14, 3) := dk_166 0 14 (dk_at dksX1_withdraw_1 7 rfl rfl)
theorem dX1_withdraw_33 : decode cX1_withdraw 33 = .ok (.aload_n 0, 1) := dk_42 (dk_at dksX1_withdraw_1 10 rfl rfl)
theorem dX1_withdraw_34 : decode cX1_withdraw 34 = .ok (.getfield 96, 3) := dk_180 0 96 (dk_at dksX1_withdraw_1 11 rfl rfl)
theorem dX1_withdraw_37 : decode cX1_withdraw 37 = .ok (.iload_n 2, 1) := dk_28 (dk_at dksX1_withdraw_1 14 rfl rfl)
theorem dX1_withdraw_38 : decode cX1_withdraw 38 = .ok (.invokestatic 252, 3) := dk_184 0 252 (dk_at dksX1_withdraw_1 15 rfl rfl)
theorem dX1_withdraw_41 : decode cX1_withdraw 41 = .ok (.ifCond .ne 7, 3) := dk_154 0 7 (dk_at dksX1_withdraw_1 18 rfl rfl)
theorem dX1_withdraw_44 : decode cX1_withdraw 44 = .ok (.iconst 1, 1) := dk_4 (dk_at dksX1_withdraw_1 21 rfl rfl)
theorem dX1_withdraw_45 : decode cX1_withdraw 45 = .ok (.goto 4, 3) := dk_167 0 4 (dk_at dksX1_withdraw_2 0 rfl rfl)
theorem dX1_withdraw_48 : decode cX1_withdraw 48 = .ok (.iconst 0, 1) := dk_3 (dk_at dksX1_withdraw_2 3 rfl rfl)
theorem dX1_withdraw_49 : decode cX1_withdraw 49 = .ok (.invokestatic 71, 3) := dk_184 0 71 (dk_at dksX1_withdraw_2 4 rfl rfl)
theorem dX1_withdraw_52 : decode cX1_withdraw 52 = .ok (.iconst 0, 1) := dk_3 (dk_at dksX1_withdraw_2 7 rfl rfl)
theorem dX1_withdraw_53 : decode cX1_withdraw 53 = .ok (.istore 4, 2) := dk_54 4 (dk_at dksX1_withdraw_2 8 rfl rfl)
theorem dX1_withdraw_55 : decode cX1_withdraw 55 = .ok (.aload_n 0, 1) := dk_42 (dk_at dksX1_withdraw_2 10 rfl rfl)
theorem dX1_withdraw_56 : decode cX1_withdraw 56 = .ok (.getfield 41, 3) := dk_180 0 41 (dk_at dksX1_withdraw_2 11 rfl rfl)
theorem dX1_withdraw_59 : decode cX1_withdraw 59 = .ok (.invokevirtual 256, 3) := dk_182 1 0 (dk_at dksX1_withdraw_2 14 rfl rfl)
theorem dX1_withdraw_62 : decode cX1_withdraw 62 = .ok (.astore 5, 2) := dk_58 5 (dk_at dksX1_withdraw_2 17 rfl rfl)
theorem dX1_withdraw_64 : decode cX1_withdraw 64 = .ok (.aload 5, 2) := dk_25 5 (dk_at dksX1_withdraw_2 19 rfl rfl)
theorem dX1_withdraw_66 : decode cX1_withdraw 66 = .ok (.invokeinterface 260 1, 5) := by decide +kernel
theorem dX1_withdraw_71 : decode cX1_withdraw 71 = .ok (.ifCond .eq 64, 3) := dk_153 0 64 (dk_at dksX1_withdraw_3 5 rfl rfl)
theorem dX1_withdraw_74 : decode cX1_withdraw 74 = .ok (.aload 5, 2) := dk_25 5 (dk_at dksX1_withdraw_3 8 rfl rfl)
theorem dX1_withdraw_76 : decode cX1_withdraw 76 = .ok (.invokeinterface 265 1, 5) := by decide +kernel
theorem dX1_withdraw_81 : decode cX1_withdraw 81 = .ok (.checkcast 103, 3) := dk_192 0 103 (dk_at dksX1_withdraw_3 15 rfl rfl)
theorem dX1_withdraw_84 : decode cX1_withdraw 84 = .ok (.astore 6, 2) := dk_58 6 (dk_at dksX1_withdraw_3 18 rfl rfl)
theorem dX1_withdraw_86 : decode cX1_withdraw 86 = .ok (.aload 6, 2) := dk_25 6 (dk_at dksX1_withdraw_3 20 rfl rfl)
theorem dX1_withdraw_88 : decode cX1_withdraw 88 = .ok (.getfield 248, 3) := dk_180 0 248 (dk_at dksX1_withdraw_4 0 rfl rfl)
theorem dX1_withdraw_91 : decode cX1_withdraw 91 = .ok (.aload_n 3, 1) := dk_45 (dk_at dksX1_withdraw_4 3 rfl rfl)
theorem dX1_withdraw_92 : decode cX1_withdraw 92 = .ok (.if_acmp .ne 40, 3) := dk_166 0 40 (dk_at dksX1_withdraw_4 4 rfl rfl)
theorem dX1_withdraw_95 : decode cX1_withdraw 95 = .ok (.aload 6, 2) := dk_25 6 (dk_at dksX1_withdraw_4 7 rfl rfl)
theorem dX1_withdraw_97 : decode cX1_withdraw 97 = .ok (.getfield 217, 3) := dk_180 0 217 (dk_at dksX1_withdraw_4 9 rfl rfl)
theorem dX1_withdraw_100 : decode cX1_withdraw 100 = .ok (.iconst (-1), 1) := dk_2 (dk_at dksX1_withdraw_4 12 rfl rfl)
theorem dX1_withdraw_101 : decode cX1_withdraw 101 = .ok (.if_icmp .eq 31, 3) := dk_159 0 31 (dk_at dksX1_withdraw_4 13 rfl rfl)
theorem dX1_withdraw_104 : decode cX1_withdraw 104 = .ok (.aload 6, 2) := dk_25 6 (dk_at dksX1_withdraw_4 16 rfl rfl)
theorem dX1_withdraw_106 : decode cX1_withdraw 106 = .ok (.iload_n 2, 1) := dk_28 (dk_at dksX1_withdraw_4 18 rfl rfl)
theorem dX1_withdraw_107 : decode cX1_withdraw 107 = .ok (.invokestatic 252, 3) := dk_184 0 252 (dk_at dksX1_withdraw_4 19 rfl rfl)
theorem dX1_withdraw_110 : decode cX1_withdraw 110 = .ok (.ifCond .eq 22, 3) := dk_153 0 22 (dk_at dksX1_withdraw_5 0 rfl rfl)
theorem dX1_withdraw_113 : decode cX1_withdraw 113 = .ok (.aload_n 3, 1) := dk_45 (dk_at dksX1_withdraw_5 3 rfl rfl)
theorem dX1_withdraw_114 : decode cX1_withdraw 114 = .ok (.aload 6, 2) := dk_25 6 (dk_at dksX1_withdraw_5 4 rfl rfl)
theorem dX1_withdraw_116 : decode cX1_withdraw 116 = .ok (.invokevirtual 269, 3) := dk_182 1 13 (dk_at dksX1_withdraw_5 6 rfl rfl)
theorem dX1_withdraw_119 : decode cX1_withdraw 119 = .ok (.ifCond .eq 13, 3) := dk_153 0 13 (dk_at dksX1_withdraw_5 9 rfl rfl)
theorem dX1_withdraw_122 : decode cX1_withdraw 122 = .ok (.aload_n 3, 1) := dk_45 (dk_at dksX1_withdraw_5 12 rfl rfl)
theorem dX1_withdraw_123 : decode cX1_withdraw 123 = .ok (.aload 6, 2) := dk_25 6 (dk_at dksX1_withdraw_5 13 rfl rfl)
theorem dX1_withdraw_125 : decode cX1_withdraw 125 = .ok (.iconst (-1), 1) := dk_2 (dk_at dksX1_withdraw_5 15 rfl rfl)
theorem dX1_withdraw_126 : decode cX1_withdraw 126 = .ok (.invokevirtual 272, 3) := dk_182 1 16 (dk_at dksX1_withdraw_5 16 rfl rfl)
theorem dX1_withdraw_129 : decode cX1_withdraw 129 = .ok (.iinc 4 1, 3) := dk_132 4 1 (dk_at dksX1_withdraw_5 19 rfl rfl)
theorem dX1_withdraw_132 : decode cX1_withdraw 132 = .ok (.goto (-68), 3) := dk_167 255 188 (dk_at dksX1_withdraw_6 0 rfl rfl)
theorem dX1_withdraw_135 : decode cX1_withdraw 135 = .ok (.aload_n 3, 1) := dk_45 (dk_at dksX1_withdraw_6 3 rfl rfl)
theorem dX1_withdraw_136 : decode cX1_withdraw 136 = .ok (.getfield 276, 3) := dk_180 1 20 (dk_at dksX1_withdraw_6 4 rfl rfl)
theorem dX1_withdraw_139 : decode cX1_withdraw 139 = .ok (.iload_n 2, 1) := dk_28 (dk_at dksX1_withdraw_6 7 rfl rfl)
theorem dX1_withdraw_140 : decode cX1_withdraw 140 = .ok (.aaload, 1) := dk_50 (dk_at dksX1_withdraw_6 8 rfl rfl)
theorem dX1_withdraw_141 : decode cX1_withdraw 141 = .ok (.iconst 1, 1) := dk_4 (dk_at dksX1_withdraw_6 9 rfl rfl)
theorem dX1_withdraw_142 : decode cX1_withdraw 142 = .ok (.putfield 280, 3) := dk_181 1 24 (dk_at dksX1_withdraw_6 10 rfl rfl)
theorem dX1_withdraw_145 : decode cX1_withdraw 145 = .ok (.iload 4, 2) := dk_21 4 (dk_at dksX1_withdraw_6 13 rfl rfl)
theorem dX1_withdraw_147 : decode cX1_withdraw 147 = .ok (.ireturn, 1) := dk_172 (dk_at dksX1_withdraw_6 15 rfl rfl)
abbrev cX1_poolWith : ByteArray := prog_1_method_25_code
def yX1_poolWith : MethodName := ⟨RX1, "poolWith", "(II)LPhrasehall$Pool;"⟩
def dkwX1_poolWith_1 : List UInt8 := [182, 0, 89, 153, 0, 7, 4, 167, 0, 4, 3, 184, 0, 25, 45, 176]
abbrev dktX1_poolWith_1 : List UInt8 := dkwX1_poolWith_1 ++ []
def dkwX1_poolWith_0 : List UInt8 := [42, 180, 0, 44, 27, 184, 0, 83, 192, 0, 87, 78, 28, 3, 16, 11, 184, 0, 19, 153, 0, 15, 45, 28]
abbrev dktX1_poolWith_0 : List UInt8 := dkwX1_poolWith_0 ++ dktX1_poolWith_1
theorem dksX1_poolWith_0 : cX1_poolWith.data.toList.drop 0 = dktX1_poolWith_0 := by decide +kernel
theorem dksX1_poolWith_1 : cX1_poolWith.data.toList.drop 24 = dktX1_poolWith_1 := dk_seg dksX1_poolWith_0 24 rfl rfl
theorem dX1_poolWith_0 : decode cX1_poolWith 0 = .ok (.aload_n 0, 1) := dk_42 (dk_at dksX1_poolWith_0 0 rfl rfl)
theorem dX1_poolWith_1 : decode cX1_poolWith 1 = .ok (.getfield 44, 3) := dk_180 0 44 (dk_at dksX1_poolWith_0 1 rfl rfl)
theorem dX1_poolWith_4 : decode cX1_poolWith 4 = .ok (.iload_n 1, 1) := dk_27 (dk_at dksX1_poolWith_0 4 rfl rfl)
theorem dX1_poolWith_5 : decode cX1_poolWith 5 = .ok (.invokestatic 83, 3) := dk_184 0 83 (dk_at dksX1_poolWith_0 5 rfl rfl)
theorem dX1_poolWith_8 : decode cX1_poolWith 8 = .ok (.checkcast 87, 3) := dk_192 0 87 (dk_at dksX1_poolWith_0 8 rfl rfl)
theorem dX1_poolWith_11 : decode cX1_poolWith 11 = .ok (.astore_n 3, 1) := dk_78 (dk_at dksX1_poolWith_0 11 rfl rfl)
theorem dX1_poolWith_12 : decode cX1_poolWith 12 = .ok (.iload_n 2, 1) := dk_28 (dk_at dksX1_poolWith_0 12 rfl rfl)
theorem dX1_poolWith_13 : decode cX1_poolWith 13 = .ok (.iconst 0, 1) := dk_3 (dk_at dksX1_poolWith_0 13 rfl rfl)
theorem dX1_poolWith_14 : decode cX1_poolWith 14 = .ok (.bipush 11, 2) := dk_16 11 (dk_at dksX1_poolWith_0 14 rfl rfl)
theorem dX1_poolWith_16 : decode cX1_poolWith 16 = .ok (.invokestatic 19, 3) := dk_184 0 19 (dk_at dksX1_poolWith_0 16 rfl rfl)
theorem dX1_poolWith_19 : decode cX1_poolWith 19 = .ok (.ifCond .eq 15, 3) := dk_153 0 15 (dk_at dksX1_poolWith_0 19 rfl rfl)
theorem dX1_poolWith_22 : decode cX1_poolWith 22 = .ok (.aload_n 3, 1) := dk_45 (dk_at dksX1_poolWith_0 22 rfl rfl)
theorem dX1_poolWith_23 : decode cX1_poolWith 23 = .ok (.iload_n 2, 1) := dk_28 (dk_at dksX1_poolWith_0 23 rfl rfl)
theorem dX1_poolWith_24 : decode cX1_poolWith 24 = .ok (.invokevirtual 89, 3) := dk_182 0 89 (dk_at dksX1_poolWith_1 0 rfl rfl)
theorem dX1_poolWith_27 : decode cX1_poolWith 27 = .ok (.ifCond .eq 7, 3) := dk_153 0 7 (dk_at dksX1_poolWith_1 3 rfl rfl)
theorem dX1_poolWith_30 : decode cX1_poolWith 30 = .ok (.iconst 1, 1) := dk_4 (dk_at dksX1_poolWith_1 6 rfl rfl)
theorem dX1_poolWith_31 : decode cX1_poolWith 31 = .ok (.goto 4, 3) := dk_167 0 4 (dk_at dksX1_poolWith_1 7 rfl rfl)
theorem dX1_poolWith_34 : decode cX1_poolWith 34 = .ok (.iconst 0, 1) := dk_3 (dk_at dksX1_poolWith_1 10 rfl rfl)
theorem dX1_poolWith_35 : decode cX1_poolWith 35 = .ok (.invokestatic 25, 3) := dk_184 0 25 (dk_at dksX1_poolWith_1 11 rfl rfl)
theorem dX1_poolWith_38 : decode cX1_poolWith 38 = .ok (.aload_n 3, 1) := dk_45 (dk_at dksX1_poolWith_1 14 rfl rfl)
theorem dX1_poolWith_39 : decode cX1_poolWith 39 = .ok (.areturn, 1) := dk_176 (dk_at dksX1_poolWith_1 15 rfl rfl)
abbrev cX1_isOf : ByteArray := prog_1_method_26_code
def yX1_isOf : MethodName := ⟨RX1, "isOf", "(LPhrasehall$Bout;I)Z"⟩
def dkwX1_isOf_1 : List UInt8 := [160, 0, 7, 4, 167, 0, 4, 3, 172]
abbrev dktX1_isOf_1 : List UInt8 := dkwX1_isOf_1 ++ []
def dkwX1_isOf_0 : List UInt8 := [42, 180, 0, 238, 3, 50, 180, 0, 241, 27, 159, 0, 16, 42, 180, 0, 238, 4, 50, 180, 0, 241, 27]
abbrev dktX1_isOf_0 : List UInt8 := dkwX1_isOf_0 ++ dktX1_isOf_1
theorem dksX1_isOf_0 : cX1_isOf.data.toList.drop 0 = dktX1_isOf_0 := by decide +kernel
theorem dksX1_isOf_1 : cX1_isOf.data.toList.drop 23 = dktX1_isOf_1 := dk_seg dksX1_isOf_0 23 rfl rfl
theorem dX1_isOf_0 : decode cX1_isOf 0 = .ok (.aload_n 0, 1) := dk_42 (dk_at dksX1_isOf_0 0 rfl rfl)
theorem dX1_isOf_1 : decode cX1_isOf 1 = .ok (.getfield 238, 3) := dk_180 0 238 (dk_at dksX1_isOf_0 1 rfl rfl)
theorem dX1_isOf_4 : decode cX1_isOf 4 = .ok (.iconst 0, 1) := dk_3 (dk_at dksX1_isOf_0 4 rfl rfl)
theorem dX1_isOf_5 : decode cX1_isOf 5 = .ok (.aaload, 1) := dk_50 (dk_at dksX1_isOf_0 5 rfl rfl)
theorem dX1_isOf_6 : decode cX1_isOf 6 = .ok (.getfield 241, 3) := dk_180 0 241 (dk_at dksX1_isOf_0 6 rfl rfl)
theorem dX1_isOf_9 : decode cX1_isOf 9 = .ok (.iload_n 1, 1) := dk_27 (dk_at dksX1_isOf_0 9 rfl rfl)
theorem dX1_isOf_10 : decode cX1_isOf 10 = .ok (.if_icmp .eq 16, 3) := dk_159 0 16 (dk_at dksX1_isOf_0 10 rfl rfl)
theorem dX1_isOf_13 : decode cX1_isOf 13 = .ok (.aload_n 0, 1) := dk_42 (dk_at dksX1_isOf_0 13 rfl rfl)
theorem dX1_isOf_14 : decode cX1_isOf 14 = .ok (.getfield 238, 3) := dk_180 0 238 (dk_at dksX1_isOf_0 14 rfl rfl)
theorem dX1_isOf_17 : decode cX1_isOf 17 = .ok (.iconst 1, 1) := dk_4 (dk_at dksX1_isOf_0 17 rfl rfl)
theorem dX1_isOf_18 : decode cX1_isOf 18 = .ok (.aaload, 1) := dk_50 (dk_at dksX1_isOf_0 18 rfl rfl)
theorem dX1_isOf_19 : decode cX1_isOf 19 = .ok (.getfield 241, 3) := dk_180 0 241 (dk_at dksX1_isOf_0 19 rfl rfl)
theorem dX1_isOf_22 : decode cX1_isOf 22 = .ok (.iload_n 1, 1) := dk_27 (dk_at dksX1_isOf_0 22 rfl rfl)
theorem dX1_isOf_23 : decode cX1_isOf 23 = .ok (.if_icmp .ne 7, 3) := dk_160 0 7 (dk_at dksX1_isOf_1 0 rfl rfl)
theorem dX1_isOf_26 : decode cX1_isOf 26 = .ok (.iconst 1, 1) := dk_4 (dk_at dksX1_isOf_1 3 rfl rfl)
theorem dX1_isOf_27 : decode cX1_isOf 27 = .ok (.goto 4, 3) := dk_167 0 4 (dk_at dksX1_isOf_1 4 rfl rfl)
theorem dX1_isOf_30 : decode cX1_isOf 30 = .ok (.iconst 0, 1) := dk_3 (dk_at dksX1_isOf_1 7 rfl rfl)
theorem dX1_isOf_31 : decode cX1_isOf 31 = .ok (.ireturn, 1) := dk_172 (dk_at dksX1_isOf_1 8 rfl rfl)
abbrev cX1_tableau : ByteArray := prog_1_method_29_code
def yX1_tableau : MethodName := ⟨RX1, "tableau", "(I)I"⟩
def dkwX1_tableau_10 : List UInt8 := [87, 21, 5, 5, 108, 54, 5, 167, 255, 206, 42, 3, 182, 1, 38, 45, 190, 172]
abbrev dktX1_tableau_10 : List UInt8 := dkwX1_tableau_10 ++ []
def dkwX1_tableau_9 : List UInt8 := [162, 0, 15, 25, 6, 21, 7, 2, 79, 132, 7, 1, 167, 255, 240, 42, 180, 0, 54, 25, 6, 182, 0, 79]
abbrev dktX1_tableau_9 : List UInt8 := dkwX1_tableau_9 ++ dktX1_tableau_10
def dkwX1_tableau_8 : List UInt8 := [108, 54, 5, 21, 5, 4, 161, 0, 50, 21, 5, 188, 10, 58, 6, 3, 54, 7, 21, 7, 21, 5]
abbrev dktX1_tableau_8 : List UInt8 := dkwX1_tableau_8 ++ dktX1_tableau_9
def dkwX1_tableau_7 : List UInt8 := [167, 0, 4, 2, 79, 132, 5, 1, 167, 255, 212, 42, 180, 0, 54, 25, 4, 182, 0, 79, 87, 45, 190, 5]
abbrev dktX1_tableau_7 : List UInt8 := dkwX1_tableau_7 ++ dktX1_tableau_8
def dkwX1_tableau_6 : List UInt8 := [21, 5, 46, 44, 182, 0, 13, 162, 0, 20, 44, 45, 21, 5, 46, 182, 0, 29, 192, 0, 233, 182, 1, 35]
abbrev dktX1_tableau_6 : List UInt8 := dkwX1_tableau_6 ++ dktX1_tableau_7
def dkwX1_tableau_5 : List UInt8 := [182, 0, 207, 45, 190, 188, 10, 58, 4, 3, 54, 5, 21, 5, 45, 190, 162, 0, 43, 25, 4, 21, 5, 45]
abbrev dktX1_tableau_5 : List UInt8 := dkwX1_tableau_5 ++ dktX1_tableau_6
def dkwX1_tableau_4 : List UInt8 := [45, 21, 5, 46, 100, 79, 132, 5, 1, 167, 255, 216, 25, 4, 78, 167, 255, 190, 42, 180, 0, 54]
abbrev dktX1_tableau_4 : List UInt8 := dkwX1_tableau_4 ++ dktX1_tableau_5
def dkwX1_tableau_3 : List UInt8 := [25, 4, 5, 21, 5, 104, 45, 21, 5, 46, 79, 25, 4, 5, 21, 5, 104, 4, 96, 25, 4, 190, 4, 100]
abbrev dktX1_tableau_3 : List UInt8 := dkwX1_tableau_3 ++ dktX1_tableau_4
def dkwX1_tableau_2 : List UInt8 := [182, 0, 13, 162, 0, 63, 5, 45, 190, 104, 188, 10, 58, 4, 3, 54, 5, 21, 5, 45, 190, 162, 0, 39]
abbrev dktX1_tableau_2 : List UInt8 := dkwX1_tableau_2 ++ dktX1_tableau_3
def dkwX1_tableau_1 : List UInt8 := [167, 0, 4, 3, 184, 0, 71, 5, 188, 10, 89, 3, 3, 79, 89, 4, 4, 79, 78, 45, 190, 44]
abbrev dktX1_tableau_1 : List UInt8 := dkwX1_tableau_1 ++ dktX1_tableau_2
def dkwX1_tableau_0 : List UInt8 := [42, 180, 0, 44, 27, 184, 0, 83, 192, 0, 87, 182, 1, 31, 77, 44, 182, 0, 13, 4, 164, 0, 7, 4]
abbrev dktX1_tableau_0 : List UInt8 := dkwX1_tableau_0 ++ dktX1_tableau_1
theorem dksX1_tableau_0 : cX1_tableau.data.toList.drop 0 = dktX1_tableau_0 := by decide +kernel
theorem dksX1_tableau_1 : cX1_tableau.data.toList.drop 24 = dktX1_tableau_1 := dk_seg dksX1_tableau_0 24 rfl rfl
theorem dksX1_tableau_2 : cX1_tableau.data.toList.drop 46 = dktX1_tableau_2 := dk_seg dksX1_tableau_1 22 rfl rfl
theorem dksX1_tableau_3 : cX1_tableau.data.toList.drop 70 = dktX1_tableau_3 := dk_seg dksX1_tableau_2 24 rfl rfl
theorem dksX1_tableau_4 : cX1_tableau.data.toList.drop 94 = dktX1_tableau_4 := dk_seg dksX1_tableau_3 24 rfl rfl
theorem dksX1_tableau_5 : cX1_tableau.data.toList.drop 116 = dktX1_tableau_5 := dk_seg dksX1_tableau_4 22 rfl rfl
theorem dksX1_tableau_6 : cX1_tableau.data.toList.drop 140 = dktX1_tableau_6 := dk_seg dksX1_tableau_5 24 rfl rfl
theorem dksX1_tableau_7 : cX1_tableau.data.toList.drop 164 = dktX1_tableau_7 := dk_seg dksX1_tableau_6 24 rfl rfl
theorem dksX1_tableau_8 : cX1_tableau.data.toList.drop 188 = dktX1_tableau_8 := dk_seg dksX1_tableau_7 24 rfl rfl
theorem dksX1_tableau_9 : cX1_tableau.data.toList.drop 210 = dktX1_tableau_9 := dk_seg dksX1_tableau_8 22 rfl rfl
theorem dksX1_tableau_10 : cX1_tableau.data.toList.drop 234 = dktX1_tableau_10 := dk_seg dksX1_tableau_9 24 rfl rfl
theorem dX1_tableau_0 : decode cX1_tableau 0 = .ok (.aload_n 0, 1) := dk_42 (dk_at dksX1_tableau_0 0 rfl rfl)
theorem dX1_tableau_1 : decode cX1_tableau 1 = .ok (.getfield 44, 3) := dk_180 0 44 (dk_at dksX1_tableau_0 1 rfl rfl)
theorem dX1_tableau_4 : decode cX1_tableau 4 = .ok (.iload_n 1, 1) := dk_27 (dk_at dksX1_tableau_0 4 rfl rfl)
theorem dX1_tableau_5 : decode cX1_tableau 5 = .ok (.invokestatic 83, 3) := dk_184 0 83 (dk_at dksX1_tableau_0 5 rfl rfl)
theorem dX1_tableau_8 : decode cX1_tableau 8 = .ok (.checkcast 87, 3) := dk_192 0 87 (dk_at dksX1_tableau_0 8 rfl rfl)
theorem dX1_tableau_11 : decode cX1_tableau 11 = .ok (.invokevirtual 287, 3) := dk_182 1 31 (dk_at dksX1_tableau_0 11 rfl rfl)
theorem dX1_tableau_14 : decode cX1_tableau 14 = .ok (.astore_n 2, 1) := dk_77 (dk_at dksX1_tableau_0 14 rfl rfl)
theorem dX1_tableau_15 : decode cX1_tableau 15 = .ok (.aload_n 2, 1) := dk_44 (dk_at dksX1_tableau_0 15 rfl rfl)
theorem dX1_tableau_16 : decode cX1_tableau 16 = .ok (.invokevirtual 13, 3) := dk_182 0 13 (dk_at dksX1_tableau_0 16 rfl rfl)
theorem dX1_tableau_19 : decode cX1_tableau 19 = .ok (.iconst 1, 1) := dk_4 (dk_at dksX1_tableau_0 19 rfl rfl)
theorem dX1_tableau_20 : decode cX1_tableau 20 = .ok (.if_icmp .le 7, 3) := dk_164 0 7 (dk_at dksX1_tableau_0 20 rfl rfl)
theorem dX1_tableau_23 : decode cX1_tableau 23 = .ok (.iconst 1, 1) := dk_4 (dk_at dksX1_tableau_0 23 rfl rfl)
theorem dX1_tableau_24 : decode cX1_tableau 24 = .ok (.goto 4, 3) := dk_167 0 4 (dk_at dksX1_tableau_1 0 rfl rfl)
theorem dX1_tableau_27 : decode cX1_tableau 27 = .ok (.iconst 0, 1) := dk_3 (dk_at dksX1_tableau_1 3 rfl rfl)
theorem dX1_tableau_28 : decode cX1_tableau 28 = .ok (.invokestatic 71, 3) := dk_184 0 71 (dk_at dksX1_tableau_1 4 rfl rfl)
theorem dX1_tableau_31 : decode cX1_tableau 31 = .ok (.iconst 2, 1) := dk_5 (dk_at dksX1_tableau_1 7 rfl rfl)
theorem dX1_tableau_32 : decode cX1_tableau 32 = .ok (.newarray .int, 2) := dk_188_10 (dk_at dksX1_tableau_1 8 rfl rfl)
theorem dX1_tableau_34 : decode cX1_tableau 34 = .ok (.dup, 1) := dk_89 (dk_at dksX1_tableau_1 10 rfl rfl)
theorem dX1_tableau_35 : decode cX1_tableau 35 = .ok (.iconst 0, 1) := dk_3 (dk_at dksX1_tableau_1 11 rfl rfl)
theorem dX1_tableau_36 : decode cX1_tableau 36 = .ok (.iconst 0, 1) := dk_3 (dk_at dksX1_tableau_1 12 rfl rfl)
theorem dX1_tableau_37 : decode cX1_tableau 37 = .ok (.iastore, 1) := dk_79 (dk_at dksX1_tableau_1 13 rfl rfl)
theorem dX1_tableau_38 : decode cX1_tableau 38 = .ok (.dup, 1) := dk_89 (dk_at dksX1_tableau_1 14 rfl rfl)
theorem dX1_tableau_39 : decode cX1_tableau 39 = .ok (.iconst 1, 1) := dk_4 (dk_at dksX1_tableau_1 15 rfl rfl)
theorem dX1_tableau_40 : decode cX1_tableau 40 = .ok (.iconst 1, 1) := dk_4 (dk_at dksX1_tableau_1 16 rfl rfl)
theorem dX1_tableau_41 : decode cX1_tableau 41 = .ok (.iastore, 1) := dk_79 (dk_at dksX1_tableau_1 17 rfl rfl)
theorem dX1_tableau_42 : decode cX1_tableau 42 = .ok (.astore_n 3, 1) := dk_78 (dk_at dksX1_tableau_1 18 rfl rfl)
theorem dX1_tableau_43 : decode cX1_tableau 43 = .ok (.aload_n 3, 1) := dk_45 (dk_at dksX1_tableau_1 19 rfl rfl)
theorem dX1_tableau_44 : decode cX1_tableau 44 = .ok (.arraylength, 1) := dk_190 (dk_at dksX1_tableau_1 20 rfl rfl)
theorem dX1_tableau_45 : decode cX1_tableau 45 = .ok (.aload_n 2, 1) := dk_44 (dk_at dksX1_tableau_1 21 rfl rfl)
theorem dX1_tableau_46 : decode cX1_tableau 46 = .ok (.invokevirtual 13, 3) := dk_182 0 13 (dk_at dksX1_tableau_2 0 rfl rfl)
theorem dX1_tableau_49 : decode cX1_tableau 49 = .ok (.if_icmp .ge 63, 3) := dk_162 0 63 (dk_at dksX1_tableau_2 3 rfl rfl)
theorem dX1_tableau_52 : decode cX1_tableau 52 = .ok (.iconst 2, 1) := dk_5 (dk_at dksX1_tableau_2 6 rfl rfl)
theorem dX1_tableau_53 : decode cX1_tableau 53 = .ok (.aload_n 3, 1) := dk_45 (dk_at dksX1_tableau_2 7 rfl rfl)
theorem dX1_tableau_54 : decode cX1_tableau 54 = .ok (.arraylength, 1) := dk_190 (dk_at dksX1_tableau_2 8 rfl rfl)
theorem dX1_tableau_55 : decode cX1_tableau 55 = .ok (.imul, 1) := dk_104 (dk_at dksX1_tableau_2 9 rfl rfl)
theorem dX1_tableau_56 : decode cX1_tableau 56 = .ok (.newarray .int, 2) := dk_188_10 (dk_at dksX1_tableau_2 10 rfl rfl)
theorem dX1_tableau_58 : decode cX1_tableau 58 = .ok (.astore 4, 2) := dk_58 4 (dk_at dksX1_tableau_2 12 rfl rfl)
theorem dX1_tableau_60 : decode cX1_tableau 60 = .ok (.iconst 0, 1) := dk_3 (dk_at dksX1_tableau_2 14 rfl rfl)
theorem dX1_tableau_61 : decode cX1_tableau 61 = .ok (.istore 5, 2) := dk_54 5 (dk_at dksX1_tableau_2 15 rfl rfl)
theorem dX1_tableau_63 : decode cX1_tableau 63 = .ok (.iload 5, 2) := dk_21 5 (dk_at dksX1_tableau_2 17 rfl rfl)
theorem dX1_tableau_65 : decode cX1_tableau 65 = .ok (.aload_n 3, 1) := dk_45 (dk_at dksX1_tableau_2 19 rfl rfl)
theorem dX1_tableau_66 : decode cX1_tableau 66 = .ok (.arraylength, 1) := dk_190 (dk_at dksX1_tableau_2 20 rfl rfl)
theorem dX1_tableau_67 : decode cX1_tableau 67 = .ok (.if_icmp .ge 39, 3) := dk_162 0 39 (dk_at dksX1_tableau_2 21 rfl rfl)
theorem dX1_tableau_70 : decode cX1_tableau 70 = .ok (.aload 4, 2) := dk_25 4 (dk_at dksX1_tableau_3 0 rfl rfl)
theorem dX1_tableau_72 : decode cX1_tableau 72 = .ok (.iconst 2, 1) := dk_5 (dk_at dksX1_tableau_3 2 rfl rfl)
theorem dX1_tableau_73 : decode cX1_tableau 73 = .ok (.iload 5, 2) := dk_21 5 (dk_at dksX1_tableau_3 3 rfl rfl)
theorem dX1_tableau_75 : decode cX1_tableau 75 = .ok (.imul, 1) := dk_104 (dk_at dksX1_tableau_3 5 rfl rfl)
theorem dX1_tableau_76 : decode cX1_tableau 76 = .ok (.aload_n 3, 1) := dk_45 (dk_at dksX1_tableau_3 6 rfl rfl)
theorem dX1_tableau_77 : decode cX1_tableau 77 = .ok (.iload 5, 2) := dk_21 5 (dk_at dksX1_tableau_3 7 rfl rfl)
theorem dX1_tableau_79 : decode cX1_tableau 79 = .ok (.iaload, 1) := dk_46 (dk_at dksX1_tableau_3 9 rfl rfl)
theorem dX1_tableau_80 : decode cX1_tableau 80 = .ok (.iastore, 1) := dk_79 (dk_at dksX1_tableau_3 10 rfl rfl)
theorem dX1_tableau_81 : decode cX1_tableau 81 = .ok (.aload 4, 2) := dk_25 4 (dk_at dksX1_tableau_3 11 rfl rfl)
theorem dX1_tableau_83 : decode cX1_tableau 83 = .ok (.iconst 2, 1) := dk_5 (dk_at dksX1_tableau_3 13 rfl rfl)
theorem dX1_tableau_84 : decode cX1_tableau 84 = .ok (.iload 5, 2) := dk_21 5 (dk_at dksX1_tableau_3 14 rfl rfl)
theorem dX1_tableau_86 : decode cX1_tableau 86 = .ok (.imul, 1) := dk_104 (dk_at dksX1_tableau_3 16 rfl rfl)
theorem dX1_tableau_87 : decode cX1_tableau 87 = .ok (.iconst 1, 1) := dk_4 (dk_at dksX1_tableau_3 17 rfl rfl)
theorem dX1_tableau_88 : decode cX1_tableau 88 = .ok (.iadd, 1) := dk_96 (dk_at dksX1_tableau_3 18 rfl rfl)
theorem dX1_tableau_89 : decode cX1_tableau 89 = .ok (.aload 4, 2) := dk_25 4 (dk_at dksX1_tableau_3 19 rfl rfl)
theorem dX1_tableau_91 : decode cX1_tableau 91 = .ok (.arraylength, 1) := dk_190 (dk_at dksX1_tableau_3 21 rfl rfl)
theorem dX1_tableau_92 : decode cX1_tableau 92 = .ok (.iconst 1, 1) := dk_4 (dk_at dksX1_tableau_3 22 rfl rfl)
theorem dX1_tableau_93 : decode cX1_tableau 93 = .ok (.isub, 1) := dk_100 (dk_at dksX1_tableau_3 23 rfl rfl)
theorem dX1_tableau_94 : decode cX1_tableau 94 = .ok (.aload_n 3, 1) := dk_45 (dk_at dksX1_tableau_4 0 rfl rfl)
theorem dX1_tableau_95 : decode cX1_tableau 95 = .ok (.iload 5, 2) := dk_21 5 (dk_at dksX1_tableau_4 1 rfl rfl)
theorem dX1_tableau_97 : decode cX1_tableau 97 = .ok (.iaload, 1) := dk_46 (dk_at dksX1_tableau_4 3 rfl rfl)
theorem dX1_tableau_98 : decode cX1_tableau 98 = .ok (.isub, 1) := dk_100 (dk_at dksX1_tableau_4 4 rfl rfl)
theorem dX1_tableau_99 : decode cX1_tableau 99 = .ok (.iastore, 1) := dk_79 (dk_at dksX1_tableau_4 5 rfl rfl)
theorem dX1_tableau_100 : decode cX1_tableau 100 = .ok (.iinc 5 1, 3) := dk_132 5 1 (dk_at dksX1_tableau_4 6 rfl rfl)
theorem dX1_tableau_103 : decode cX1_tableau 103 = .ok (.goto (-40), 3) := dk_167 255 216 (dk_at dksX1_tableau_4 9 rfl rfl)
theorem dX1_tableau_106 : decode cX1_tableau 106 = .ok (.aload 4, 2) := dk_25 4 (dk_at dksX1_tableau_4 12 rfl rfl)
theorem dX1_tableau_108 : decode cX1_tableau 108 = .ok (.astore_n 3, 1) := dk_78 (dk_at dksX1_tableau_4 14 rfl rfl)
theorem dX1_tableau_109 : decode cX1_tableau 109 = .ok (.goto (-66), 3) := dk_167 255 190 (dk_at dksX1_tableau_4 15 rfl rfl)
theorem dX1_tableau_112 : decode cX1_tableau 112 = .ok (.aload_n 0, 1) := dk_42 (dk_at dksX1_tableau_4 18 rfl rfl)
theorem dX1_tableau_113 : decode cX1_tableau 113 = .ok (.getfield 54, 3) := dk_180 0 54 (dk_at dksX1_tableau_4 19 rfl rfl)
theorem dX1_tableau_116 : decode cX1_tableau 116 = .ok (.invokevirtual 207, 3) := dk_182 0 207 (dk_at dksX1_tableau_5 0 rfl rfl)
theorem dX1_tableau_119 : decode cX1_tableau 119 = .ok (.aload_n 3, 1) := dk_45 (dk_at dksX1_tableau_5 3 rfl rfl)
theorem dX1_tableau_120 : decode cX1_tableau 120 = .ok (.arraylength, 1) := dk_190 (dk_at dksX1_tableau_5 4 rfl rfl)
theorem dX1_tableau_121 : decode cX1_tableau 121 = .ok (.newarray .int, 2) := dk_188_10 (dk_at dksX1_tableau_5 5 rfl rfl)
theorem dX1_tableau_123 : decode cX1_tableau 123 = .ok (.astore 4, 2) := dk_58 4 (dk_at dksX1_tableau_5 7 rfl rfl)
theorem dX1_tableau_125 : decode cX1_tableau 125 = .ok (.iconst 0, 1) := dk_3 (dk_at dksX1_tableau_5 9 rfl rfl)
theorem dX1_tableau_126 : decode cX1_tableau 126 = .ok (.istore 5, 2) := dk_54 5 (dk_at dksX1_tableau_5 10 rfl rfl)
theorem dX1_tableau_128 : decode cX1_tableau 128 = .ok (.iload 5, 2) := dk_21 5 (dk_at dksX1_tableau_5 12 rfl rfl)
theorem dX1_tableau_130 : decode cX1_tableau 130 = .ok (.aload_n 3, 1) := dk_45 (dk_at dksX1_tableau_5 14 rfl rfl)
theorem dX1_tableau_131 : decode cX1_tableau 131 = .ok (.arraylength, 1) := dk_190 (dk_at dksX1_tableau_5 15 rfl rfl)
theorem dX1_tableau_132 : decode cX1_tableau 132 = .ok (.if_icmp .ge 43, 3) := dk_162 0 43 (dk_at dksX1_tableau_5 16 rfl rfl)
theorem dX1_tableau_135 : decode cX1_tableau 135 = .ok (.aload 4, 2) := dk_25 4 (dk_at dksX1_tableau_5 19 rfl rfl)
theorem dX1_tableau_137 : decode cX1_tableau 137 = .ok (.iload 5, 2) := dk_21 5 (dk_at dksX1_tableau_5 21 rfl rfl)
theorem dX1_tableau_139 : decode cX1_tableau 139 = .ok (.aload_n 3, 1) := dk_45 (dk_at dksX1_tableau_5 23 rfl rfl)
theorem dX1_tableau_140 : decode cX1_tableau 140 = .ok (.iload 5, 2) := dk_21 5 (dk_at dksX1_tableau_6 0 rfl rfl)
theorem dX1_tableau_142 : decode cX1_tableau 142 = .ok (.iaload, 1) := dk_46 (dk_at dksX1_tableau_6 2 rfl rfl)
theorem dX1_tableau_143 : decode cX1_tableau 143 = .ok (.aload_n 2, 1) := dk_44 (dk_at dksX1_tableau_6 3 rfl rfl)
theorem dX1_tableau_144 : decode cX1_tableau 144 = .ok (.invokevirtual 13, 3) := dk_182 0 13 (dk_at dksX1_tableau_6 4 rfl rfl)
theorem dX1_tableau_147 : decode cX1_tableau 147 = .ok (.if_icmp .ge 20, 3) := dk_162 0 20 (dk_at dksX1_tableau_6 7 rfl rfl)
theorem dX1_tableau_150 : decode cX1_tableau 150 = .ok (.aload_n 2, 1) := dk_44 (dk_at dksX1_tableau_6 10 rfl rfl)
theorem dX1_tableau_151 : decode cX1_tableau 151 = .ok (.aload_n 3, 1) := dk_45 (dk_at dksX1_tableau_6 11 rfl rfl)
theorem dX1_tableau_152 : decode cX1_tableau 152 = .ok (.iload 5, 2) := dk_21 5 (dk_at dksX1_tableau_6 12 rfl rfl)
theorem dX1_tableau_154 : decode cX1_tableau 154 = .ok (.iaload, 1) := dk_46 (dk_at dksX1_tableau_6 14 rfl rfl)
theorem dX1_tableau_155 : decode cX1_tableau 155 = .ok (.invokevirtual 29, 3) := dk_182 0 29 (dk_at dksX1_tableau_6 15 rfl rfl)
theorem dX1_tableau_158 : decode cX1_tableau 158 = .ok (.checkcast 233, 3) := dk_192 0 233 (dk_at dksX1_tableau_6 18 rfl rfl)
theorem dX1_tableau_161 : decode cX1_tableau 161 = .ok (.invokevirtual 291, 3) := dk_182 1 35 (dk_at dksX1_tableau_6 21 rfl rfl)
theorem dX1_tableau_164 : decode cX1_tableau 164 = .ok (.goto 4, 3) := dk_167 0 4 (dk_at dksX1_tableau_7 0 rfl rfl)
theorem dX1_tableau_167 : decode cX1_tableau 167 = .ok (.iconst (-1), 1) := dk_2 (dk_at dksX1_tableau_7 3 rfl rfl)
theorem dX1_tableau_168 : decode cX1_tableau 168 = .ok (.iastore, 1) := dk_79 (dk_at dksX1_tableau_7 4 rfl rfl)
theorem dX1_tableau_169 : decode cX1_tableau 169 = .ok (.iinc 5 1, 3) := dk_132 5 1 (dk_at dksX1_tableau_7 5 rfl rfl)
theorem dX1_tableau_172 : decode cX1_tableau 172 = .ok (.goto (-44), 3) := dk_167 255 212 (dk_at dksX1_tableau_7 8 rfl rfl)
theorem dX1_tableau_175 : decode cX1_tableau 175 = .ok (.aload_n 0, 1) := dk_42 (dk_at dksX1_tableau_7 11 rfl rfl)
theorem dX1_tableau_176 : decode cX1_tableau 176 = .ok (.getfield 54, 3) := dk_180 0 54 (dk_at dksX1_tableau_7 12 rfl rfl)
theorem dX1_tableau_179 : decode cX1_tableau 179 = .ok (.aload 4, 2) := dk_25 4 (dk_at dksX1_tableau_7 15 rfl rfl)
theorem dX1_tableau_181 : decode cX1_tableau 181 = .ok (.invokevirtual 79, 3) := dk_182 0 79 (dk_at dksX1_tableau_7 17 rfl rfl)
theorem dX1_tableau_184 : decode cX1_tableau 184 = .ok (.pop, 1) := dk_87 (dk_at dksX1_tableau_7 20 rfl rfl)
theorem dX1_tableau_185 : decode cX1_tableau 185 = .ok (.aload_n 3, 1) := dk_45 (dk_at dksX1_tableau_7 21 rfl rfl)
theorem dX1_tableau_186 : decode cX1_tableau 186 = .ok (.arraylength, 1) := dk_190 (dk_at dksX1_tableau_7 22 rfl rfl)
theorem dX1_tableau_187 : decode cX1_tableau 187 = .ok (.iconst 2, 1) := dk_5 (dk_at dksX1_tableau_7 23 rfl rfl)
theorem dX1_tableau_188 : decode cX1_tableau 188 = .ok (.idiv, 1) := dk_108 (dk_at dksX1_tableau_8 0 rfl rfl)
theorem dX1_tableau_189 : decode cX1_tableau 189 = .ok (.istore 5, 2) := dk_54 5 (dk_at dksX1_tableau_8 1 rfl rfl)
theorem dX1_tableau_191 : decode cX1_tableau 191 = .ok (.iload 5, 2) := dk_21 5 (dk_at dksX1_tableau_8 3 rfl rfl)
theorem dX1_tableau_193 : decode cX1_tableau 193 = .ok (.iconst 1, 1) := dk_4 (dk_at dksX1_tableau_8 5 rfl rfl)
theorem dX1_tableau_194 : decode cX1_tableau 194 = .ok (.if_icmp .lt 50, 3) := dk_161 0 50 (dk_at dksX1_tableau_8 6 rfl rfl)
theorem dX1_tableau_197 : decode cX1_tableau 197 = .ok (.iload 5, 2) := dk_21 5 (dk_at dksX1_tableau_8 9 rfl rfl)
theorem dX1_tableau_199 : decode cX1_tableau 199 = .ok (.newarray .int, 2) := dk_188_10 (dk_at dksX1_tableau_8 11 rfl rfl)
theorem dX1_tableau_201 : decode cX1_tableau 201 = .ok (.astore 6, 2) := dk_58 6 (dk_at dksX1_tableau_8 13 rfl rfl)
theorem dX1_tableau_203 : decode cX1_tableau 203 = .ok (.iconst 0, 1) := dk_3 (dk_at dksX1_tableau_8 15 rfl rfl)
theorem dX1_tableau_204 : decode cX1_tableau 204 = .ok (.istore 7, 2) := dk_54 7 (dk_at dksX1_tableau_8 16 rfl rfl)
theorem dX1_tableau_206 : decode cX1_tableau 206 = .ok (.iload 7, 2) := dk_21 7 (dk_at dksX1_tableau_8 18 rfl rfl)
theorem dX1_tableau_208 : decode cX1_tableau 208 = .ok (.iload 5, 2) := dk_21 5 (dk_at dksX1_tableau_8 20 rfl rfl)
theorem dX1_tableau_210 : decode cX1_tableau 210 = .ok (.if_icmp .ge 15, 3) := dk_162 0 15 (dk_at dksX1_tableau_9 0 rfl rfl)
theorem dX1_tableau_213 : decode cX1_tableau 213 = .ok (.aload 6, 2) := dk_25 6 (dk_at dksX1_tableau_9 3 rfl rfl)
theorem dX1_tableau_215 : decode cX1_tableau 215 = .ok (.iload 7, 2) := dk_21 7 (dk_at dksX1_tableau_9 5 rfl rfl)
theorem dX1_tableau_217 : decode cX1_tableau 217 = .ok (.iconst (-1), 1) := dk_2 (dk_at dksX1_tableau_9 7 rfl rfl)
theorem dX1_tableau_218 : decode cX1_tableau 218 = .ok (.iastore, 1) := dk_79 (dk_at dksX1_tableau_9 8 rfl rfl)
theorem dX1_tableau_219 : decode cX1_tableau 219 = .ok (.iinc 7 1, 3) := dk_132 7 1 (dk_at dksX1_tableau_9 9 rfl rfl)
theorem dX1_tableau_222 : decode cX1_tableau 222 = .ok (.goto (-16), 3) := dk_167 255 240 (dk_at dksX1_tableau_9 12 rfl rfl)
theorem dX1_tableau_225 : decode cX1_tableau 225 = .ok (.aload_n 0, 1) := dk_42 (dk_at dksX1_tableau_9 15 rfl rfl)
theorem dX1_tableau_226 : decode cX1_tableau 226 = .ok (.getfield 54, 3) := dk_180 0 54 (dk_at dksX1_tableau_9 16 rfl rfl)
theorem dX1_tableau_229 : decode cX1_tableau 229 = .ok (.aload 6, 2) := dk_25 6 (dk_at dksX1_tableau_9 19 rfl rfl)
theorem dX1_tableau_231 : decode cX1_tableau 231 = .ok (.invokevirtual 79, 3) := dk_182 0 79 (dk_at dksX1_tableau_9 21 rfl rfl)
theorem dX1_tableau_234 : decode cX1_tableau 234 = .ok (.pop, 1) := dk_87 (dk_at dksX1_tableau_10 0 rfl rfl)
theorem dX1_tableau_235 : decode cX1_tableau 235 = .ok (.iload 5, 2) := dk_21 5 (dk_at dksX1_tableau_10 1 rfl rfl)
theorem dX1_tableau_237 : decode cX1_tableau 237 = .ok (.iconst 2, 1) := dk_5 (dk_at dksX1_tableau_10 3 rfl rfl)
theorem dX1_tableau_238 : decode cX1_tableau 238 = .ok (.idiv, 1) := dk_108 (dk_at dksX1_tableau_10 4 rfl rfl)
theorem dX1_tableau_239 : decode cX1_tableau 239 = .ok (.istore 5, 2) := dk_54 5 (dk_at dksX1_tableau_10 5 rfl rfl)
theorem dX1_tableau_241 : decode cX1_tableau 241 = .ok (.goto (-50), 3) := dk_167 255 206 (dk_at dksX1_tableau_10 7 rfl rfl)
theorem dX1_tableau_244 : decode cX1_tableau 244 = .ok (.aload_n 0, 1) := dk_42 (dk_at dksX1_tableau_10 10 rfl rfl)
theorem dX1_tableau_245 : decode cX1_tableau 245 = .ok (.iconst 0, 1) := dk_3 (dk_at dksX1_tableau_10 11 rfl rfl)
theorem dX1_tableau_246 : decode cX1_tableau 246 = .ok (.invokevirtual 294, 3) := dk_182 1 38 (dk_at dksX1_tableau_10 12 rfl rfl)
theorem dX1_tableau_249 : decode cX1_tableau 249 = .ok (.aload_n 3, 1) := dk_45 (dk_at dksX1_tableau_10 15 rfl rfl)
theorem dX1_tableau_250 : decode cX1_tableau 250 = .ok (.arraylength, 1) := dk_190 (dk_at dksX1_tableau_10 16 rfl rfl)
theorem dX1_tableau_251 : decode cX1_tableau 251 = .ok (.ireturn, 1) := dk_172 (dk_at dksX1_tableau_10 17 rfl rfl)
abbrev cX1_meets : ByteArray := prog_1_method_28_code
def yX1_meets : MethodName := ⟨RX1, "meets", "(I)V"⟩
def dkwX1_meets_4 : List UInt8 := [79, 132, 4, 1, 167, 255, 187, 177]
abbrev dktX1_meets_4 : List UInt8 := dkwX1_meets_4 ++ []
def dkwX1_meets_3 : List UInt8 := [153, 0, 23, 44, 5, 21, 4, 104, 46, 44, 5, 21, 4, 104, 4, 96, 46, 184, 0, 171, 167, 0, 4, 2]
abbrev dktX1_meets_3 : List UInt8 := dkwX1_meets_3 ++ dktX1_meets_4
def dkwX1_meets_2 : List UInt8 := [44, 5, 21, 4, 104, 4, 96, 46, 2, 160, 0, 7, 4, 167, 0, 4, 3, 54, 5, 45, 21, 4, 21, 5]
abbrev dktX1_meets_2 : List UInt8 := dkwX1_meets_2 ++ dktX1_meets_3
def dkwX1_meets_1 : List UInt8 := [192, 1, 30, 78, 3, 54, 4, 21, 4, 45, 190, 162, 0, 68, 44, 5, 21, 4, 104, 46, 2, 159, 0, 15]
abbrev dktX1_meets_1 : List UInt8 := dkwX1_meets_1 ++ dktX1_meets_2
def dkwX1_meets_0 : List UInt8 := [42, 180, 0, 54, 27, 182, 0, 29, 192, 1, 30, 77, 42, 180, 0, 54, 27, 4, 96, 182, 0, 29]
abbrev dktX1_meets_0 : List UInt8 := dkwX1_meets_0 ++ dktX1_meets_1
theorem dksX1_meets_0 : cX1_meets.data.toList.drop 0 = dktX1_meets_0 := by decide +kernel
theorem dksX1_meets_1 : cX1_meets.data.toList.drop 22 = dktX1_meets_1 := dk_seg dksX1_meets_0 22 rfl rfl
theorem dksX1_meets_2 : cX1_meets.data.toList.drop 46 = dktX1_meets_2 := dk_seg dksX1_meets_1 24 rfl rfl
theorem dksX1_meets_3 : cX1_meets.data.toList.drop 70 = dktX1_meets_3 := dk_seg dksX1_meets_2 24 rfl rfl
theorem dksX1_meets_4 : cX1_meets.data.toList.drop 94 = dktX1_meets_4 := dk_seg dksX1_meets_3 24 rfl rfl
theorem dX1_meets_0 : decode cX1_meets 0 = .ok (.aload_n 0, 1) := dk_42 (dk_at dksX1_meets_0 0 rfl rfl)
theorem dX1_meets_1 : decode cX1_meets 1 = .ok (.getfield 54, 3) := dk_180 0 54 (dk_at dksX1_meets_0 1 rfl rfl)
theorem dX1_meets_4 : decode cX1_meets 4 = .ok (.iload_n 1, 1) := dk_27 (dk_at dksX1_meets_0 4 rfl rfl)
theorem dX1_meets_5 : decode cX1_meets 5 = .ok (.invokevirtual 29, 3) := dk_182 0 29 (dk_at dksX1_meets_0 5 rfl rfl)
theorem dX1_meets_8 : decode cX1_meets 8 = .ok (.checkcast 286, 3) := dk_192 1 30 (dk_at dksX1_meets_0 8 rfl rfl)
theorem dX1_meets_11 : decode cX1_meets 11 = .ok (.astore_n 2, 1) := dk_77 (dk_at dksX1_meets_0 11 rfl rfl)
theorem dX1_meets_12 : decode cX1_meets 12 = .ok (.aload_n 0, 1) := dk_42 (dk_at dksX1_meets_0 12 rfl rfl)
theorem dX1_meets_13 : decode cX1_meets 13 = .ok (.getfield 54, 3) := dk_180 0 54 (dk_at dksX1_meets_0 13 rfl rfl)
theorem dX1_meets_16 : decode cX1_meets 16 = .ok (.iload_n 1, 1) := dk_27 (dk_at dksX1_meets_0 16 rfl rfl)
theorem dX1_meets_17 : decode cX1_meets 17 = .ok (.iconst 1, 1) := dk_4 (dk_at dksX1_meets_0 17 rfl rfl)
theorem dX1_meets_18 : decode cX1_meets 18 = .ok (.iadd, 1) := dk_96 (dk_at dksX1_meets_0 18 rfl rfl)
theorem dX1_meets_19 : decode cX1_meets 19 = .ok (.invokevirtual 29, 3) := dk_182 0 29 (dk_at dksX1_meets_0 19 rfl rfl)
theorem dX1_meets_22 : decode cX1_meets 22 = .ok (.checkcast 286, 3) := dk_192 1 30 (dk_at dksX1_meets_1 0 rfl rfl)
theorem dX1_meets_25 : decode cX1_meets 25 = .ok (.astore_n 3, 1) := dk_78 (dk_at dksX1_meets_1 3 rfl rfl)
theorem dX1_meets_26 : decode cX1_meets 26 = .ok (.iconst 0, 1) := dk_3 (dk_at dksX1_meets_1 4 rfl rfl)
theorem dX1_meets_27 : decode cX1_meets 27 = .ok (.istore 4, 2) := dk_54 4 (dk_at dksX1_meets_1 5 rfl rfl)
theorem dX1_meets_29 : decode cX1_meets 29 = .ok (.iload 4, 2) := dk_21 4 (dk_at dksX1_meets_1 7 rfl rfl)
theorem dX1_meets_31 : decode cX1_meets 31 = .ok (.aload_n 3, 1) := dk_45 (dk_at dksX1_meets_1 9 rfl rfl)
theorem dX1_meets_32 : decode cX1_meets 32 = .ok (.arraylength, 1) := dk_190 (dk_at dksX1_meets_1 10 rfl rfl)
theorem dX1_meets_33 : decode cX1_meets 33 = .ok (.if_icmp .ge 68, 3) := dk_162 0 68 (dk_at dksX1_meets_1 11 rfl rfl)
theorem dX1_meets_36 : decode cX1_meets 36 = .ok (.aload_n 2, 1) := dk_44 (dk_at dksX1_meets_1 14 rfl rfl)
theorem dX1_meets_37 : decode cX1_meets 37 = .ok (.iconst 2, 1) := dk_5 (dk_at dksX1_meets_1 15 rfl rfl)
theorem dX1_meets_38 : decode cX1_meets 38 = .ok (.iload 4, 2) := dk_21 4 (dk_at dksX1_meets_1 16 rfl rfl)
theorem dX1_meets_40 : decode cX1_meets 40 = .ok (.imul, 1) := dk_104 (dk_at dksX1_meets_1 18 rfl rfl)
theorem dX1_meets_41 : decode cX1_meets 41 = .ok (.iaload, 1) := dk_46 (dk_at dksX1_meets_1 19 rfl rfl)
theorem dX1_meets_42 : decode cX1_meets 42 = .ok (.iconst (-1), 1) := dk_2 (dk_at dksX1_meets_1 20 rfl rfl)
theorem dX1_meets_43 : decode cX1_meets 43 = .ok (.if_icmp .eq 15, 3) := dk_159 0 15 (dk_at dksX1_meets_1 21 rfl rfl)
theorem dX1_meets_46 : decode cX1_meets 46 = .ok (.aload_n 2, 1) := dk_44 (dk_at dksX1_meets_2 0 rfl rfl)
theorem dX1_meets_47 : decode cX1_meets 47 = .ok (.iconst 2, 1) := dk_5 (dk_at dksX1_meets_2 1 rfl rfl)
theorem dX1_meets_48 : decode cX1_meets 48 = .ok (.iload 4, 2) := dk_21 4 (dk_at dksX1_meets_2 2 rfl rfl)
theorem dX1_meets_50 : decode cX1_meets 50 = .ok (.imul, 1) := dk_104 (dk_at dksX1_meets_2 4 rfl rfl)
theorem dX1_meets_51 : decode cX1_meets 51 = .ok (.iconst 1, 1) := dk_4 (dk_at dksX1_meets_2 5 rfl rfl)
theorem dX1_meets_52 : decode cX1_meets 52 = .ok (.iadd, 1) := dk_96 (dk_at dksX1_meets_2 6 rfl rfl)
theorem dX1_meets_53 : decode cX1_meets 53 = .ok (.iaload, 1) := dk_46 (dk_at dksX1_meets_2 7 rfl rfl)
theorem dX1_meets_54 : decode cX1_meets 54 = .ok (.iconst (-1), 1) := dk_2 (dk_at dksX1_meets_2 8 rfl rfl)
theorem dX1_meets_55 : decode cX1_meets 55 = .ok (.if_icmp .ne 7, 3) := dk_160 0 7 (dk_at dksX1_meets_2 9 rfl rfl)
theorem dX1_meets_58 : decode cX1_meets 58 = .ok (.iconst 1, 1) := dk_4 (dk_at dksX1_meets_2 12 rfl rfl)
theorem dX1_meets_59 : decode cX1_meets 59 = .ok (.goto 4, 3) := dk_167 0 4 (dk_at dksX1_meets_2 13 rfl rfl)
theorem dX1_meets_62 : decode cX1_meets 62 = .ok (.iconst 0, 1) := dk_3 (dk_at dksX1_meets_2 16 rfl rfl)
theorem dX1_meets_63 : decode cX1_meets 63 = .ok (.istore 5, 2) := dk_54 5 (dk_at dksX1_meets_2 17 rfl rfl)
theorem dX1_meets_65 : decode cX1_meets 65 = .ok (.aload_n 3, 1) := dk_45 (dk_at dksX1_meets_2 19 rfl rfl)
theorem dX1_meets_66 : decode cX1_meets 66 = .ok (.iload 4, 2) := dk_21 4 (dk_at dksX1_meets_2 20 rfl rfl)
theorem dX1_meets_68 : decode cX1_meets 68 = .ok (.iload 5, 2) := dk_21 5 (dk_at dksX1_meets_2 22 rfl rfl)
theorem dX1_meets_70 : decode cX1_meets 70 = .ok (.ifCond .eq 23, 3) := dk_153 0 23 (dk_at dksX1_meets_3 0 rfl rfl)
theorem dX1_meets_73 : decode cX1_meets 73 = .ok (.aload_n 2, 1) := dk_44 (dk_at dksX1_meets_3 3 rfl rfl)
theorem dX1_meets_74 : decode cX1_meets 74 = .ok (.iconst 2, 1) := dk_5 (dk_at dksX1_meets_3 4 rfl rfl)
theorem dX1_meets_75 : decode cX1_meets 75 = .ok (.iload 4, 2) := dk_21 4 (dk_at dksX1_meets_3 5 rfl rfl)
theorem dX1_meets_77 : decode cX1_meets 77 = .ok (.imul, 1) := dk_104 (dk_at dksX1_meets_3 7 rfl rfl)
theorem dX1_meets_78 : decode cX1_meets 78 = .ok (.iaload, 1) := dk_46 (dk_at dksX1_meets_3 8 rfl rfl)
theorem dX1_meets_79 : decode cX1_meets 79 = .ok (.aload_n 2, 1) := dk_44 (dk_at dksX1_meets_3 9 rfl rfl)
theorem dX1_meets_80 : decode cX1_meets 80 = .ok (.iconst 2, 1) := dk_5 (dk_at dksX1_meets_3 10 rfl rfl)
theorem dX1_meets_81 : decode cX1_meets 81 = .ok (.iload 4, 2) := dk_21 4 (dk_at dksX1_meets_3 11 rfl rfl)
theorem dX1_meets_83 : decode cX1_meets 83 = .ok (.imul, 1) := dk_104 (dk_at dksX1_meets_3 13 rfl rfl)
theorem dX1_meets_84 : decode cX1_meets 84 = .ok (.iconst 1, 1) := dk_4 (dk_at dksX1_meets_3 14 rfl rfl)
theorem dX1_meets_85 : decode cX1_meets 85 = .ok (.iadd, 1) := dk_96 (dk_at dksX1_meets_3 15 rfl rfl)
theorem dX1_meets_86 : decode cX1_meets 86 = .ok (.iaload, 1) := dk_46 (dk_at dksX1_meets_3 16 rfl rfl)
theorem dX1_meets_87 : decode cX1_meets 87 = .ok (.invokestatic 171, 3) := dk_184 0 171 (dk_at dksX1_meets_3 17 rfl rfl)
theorem dX1_meets_90 : decode cX1_meets 90 = .ok (.goto 4, 3) := dk_167 0 4 (dk_at dksX1_meets_3 20 rfl rfl)
theorem dX1_meets_93 : decode cX1_meets 93 = .ok (.iconst (-1), 1) := dk_2 (dk_at dksX1_meets_3 23 rfl rfl)
theorem dX1_meets_94 : decode cX1_meets 94 = .ok (.iastore, 1) := dk_79 (dk_at dksX1_meets_4 0 rfl rfl)
theorem dX1_meets_95 : decode cX1_meets 95 = .ok (.iinc 4 1, 3) := dk_132 4 1 (dk_at dksX1_meets_4 1 rfl rfl)
theorem dX1_meets_98 : decode cX1_meets 98 = .ok (.goto (-69), 3) := dk_167 255 187 (dk_at dksX1_meets_4 4 rfl rfl)
theorem dX1_meets_101 : decode cX1_meets 101 = .ok (.return_, 1) := dk_177 (dk_at dksX1_meets_4 7 rfl rfl)
abbrev cX1_wins : ByteArray := prog_1_method_31_code
def yX1_wins : MethodName := ⟨RX1, "wins", "(III)I"⟩
def dkwX1_wins_4 : List UInt8 := [46, 79, 25, 4, 5, 28, 104, 29, 96, 46, 172]
abbrev dktX1_wins_4 : List UInt8 := dkwX1_wins_4 ++ []
def dkwX1_wins_3 : List UInt8 := [184, 0, 71, 42, 180, 0, 54, 27, 4, 96, 182, 0, 29, 192, 1, 30, 28, 25, 4, 5, 28, 104, 29, 96]
abbrev dktX1_wins_3 : List UInt8 := dkwX1_wins_3 ++ dktX1_wins_4
def dkwX1_wins_2 : List UInt8 := [42, 180, 0, 54, 27, 4, 96, 182, 0, 29, 192, 1, 30, 28, 46, 2, 160, 0, 7, 4, 167, 0, 4, 3]
abbrev dktX1_wins_2 : List UInt8 := dkwX1_wins_2 ++ dktX1_wins_3
def dkwX1_wins_1 : List UInt8 := [58, 4, 25, 4, 5, 28, 104, 46, 2, 159, 0, 38, 25, 4, 5, 28, 104, 4, 96, 46, 2, 159, 0, 26]
abbrev dktX1_wins_1 : List UInt8 := dkwX1_wins_1 ++ dktX1_wins_2
def dkwX1_wins_0 : List UInt8 := [42, 27, 28, 182, 1, 41, 29, 184, 0, 123, 184, 0, 93, 42, 180, 0, 54, 27, 182, 0, 29, 192, 1, 30]
abbrev dktX1_wins_0 : List UInt8 := dkwX1_wins_0 ++ dktX1_wins_1
theorem dksX1_wins_0 : cX1_wins.data.toList.drop 0 = dktX1_wins_0 := by decide +kernel
theorem dksX1_wins_1 : cX1_wins.data.toList.drop 24 = dktX1_wins_1 := dk_seg dksX1_wins_0 24 rfl rfl
theorem dksX1_wins_2 : cX1_wins.data.toList.drop 48 = dktX1_wins_2 := dk_seg dksX1_wins_1 24 rfl rfl
theorem dksX1_wins_3 : cX1_wins.data.toList.drop 72 = dktX1_wins_3 := dk_seg dksX1_wins_2 24 rfl rfl
theorem dksX1_wins_4 : cX1_wins.data.toList.drop 96 = dktX1_wins_4 := dk_seg dksX1_wins_3 24 rfl rfl
theorem dX1_wins_0 : decode cX1_wins 0 = .ok (.aload_n 0, 1) := dk_42 (dk_at dksX1_wins_0 0 rfl rfl)
theorem dX1_wins_1 : decode cX1_wins 1 = .ok (.iload_n 1, 1) := dk_27 (dk_at dksX1_wins_0 1 rfl rfl)
theorem dX1_wins_2 : decode cX1_wins 2 = .ok (.iload_n 2, 1) := dk_28 (dk_at dksX1_wins_0 2 rfl rfl)
theorem dX1_wins_3 : decode cX1_wins 3 = .ok (.invokevirtual 297, 3) := dk_182 1 41 (dk_at dksX1_wins_0 3 rfl rfl)
theorem dX1_wins_6 : decode cX1_wins 6 = .ok (.iload_n 3, 1) := dk_29 (dk_at dksX1_wins_0 6 rfl rfl)
theorem dX1_wins_7 : decode cX1_wins 7 = .ok (.invokestatic 123, 3) := dk_184 0 123 (dk_at dksX1_wins_0 7 rfl rfl)
theorem dX1_wins_10 : decode cX1_wins 10 = .ok (.invokestatic 93, 3) := dk_184 0 93 (dk_at dksX1_wins_0 10 rfl rfl)
theorem dX1_wins_13 : decode cX1_wins 13 = .ok (.aload_n 0, 1) := dk_42 (dk_at dksX1_wins_0 13 rfl rfl)
theorem dX1_wins_14 : decode cX1_wins 14 = .ok (.getfield 54, 3) := dk_180 0 54 (dk_at dksX1_wins_0 14 rfl rfl)
theorem dX1_wins_17 : decode cX1_wins 17 = .ok (.iload_n 1, 1) := dk_27 (dk_at dksX1_wins_0 17 rfl rfl)
theorem dX1_wins_18 : decode cX1_wins 18 = .ok (.invokevirtual 29, 3) := dk_182 0 29 (dk_at dksX1_wins_0 18 rfl rfl)
theorem dX1_wins_21 : decode cX1_wins 21 = .ok (.checkcast 286, 3) := dk_192 1 30 (dk_at dksX1_wins_0 21 rfl rfl)
theorem dX1_wins_24 : decode cX1_wins 24 = .ok (.astore 4, 2) := dk_58 4 (dk_at dksX1_wins_1 0 rfl rfl)
theorem dX1_wins_26 : decode cX1_wins 26 = .ok (.aload 4, 2) := dk_25 4 (dk_at dksX1_wins_1 2 rfl rfl)
theorem dX1_wins_28 : decode cX1_wins 28 = .ok (.iconst 2, 1) := dk_5 (dk_at dksX1_wins_1 4 rfl rfl)
theorem dX1_wins_29 : decode cX1_wins 29 = .ok (.iload_n 2, 1) := dk_28 (dk_at dksX1_wins_1 5 rfl rfl)
theorem dX1_wins_30 : decode cX1_wins 30 = .ok (.imul, 1) := dk_104 (dk_at dksX1_wins_1 6 rfl rfl)
theorem dX1_wins_31 : decode cX1_wins 31 = .ok (.iaload, 1) := dk_46 (dk_at dksX1_wins_1 7 rfl rfl)
theorem dX1_wins_32 : decode cX1_wins 32 = .ok (.iconst (-1), 1) := dk_2 (dk_at dksX1_wins_1 8 rfl rfl)
theorem dX1_wins_33 : decode cX1_wins 33 = .ok (.if_icmp .eq 38, 3) := dk_159 0 38 (dk_at dksX1_wins_1 9 rfl rfl)
theorem dX1_wins_36 : decode cX1_wins 36 = .ok (.aload 4, 2) := dk_25 4 (dk_at dksX1_wins_1 12 rfl rfl)
theorem dX1_wins_38 : decode cX1_wins 38 = .ok (.iconst 2, 1) := dk_5 (dk_at dksX1_wins_1 14 rfl rfl)
theorem dX1_wins_39 : decode cX1_wins 39 = .ok (.iload_n 2, 1) := dk_28 (dk_at dksX1_wins_1 15 rfl rfl)
theorem dX1_wins_40 : decode cX1_wins 40 = .ok (.imul, 1) := dk_104 (dk_at dksX1_wins_1 16 rfl rfl)
theorem dX1_wins_41 : decode cX1_wins 41 = .ok (.iconst 1, 1) := dk_4 (dk_at dksX1_wins_1 17 rfl rfl)
theorem dX1_wins_42 : decode cX1_wins 42 = .ok (.iadd, 1) := dk_96 (dk_at dksX1_wins_1 18 rfl rfl)
theorem dX1_wins_43 : decode cX1_wins 43 = .ok (.iaload, 1) := dk_46 (dk_at dksX1_wins_1 19 rfl rfl)
theorem dX1_wins_44 : decode cX1_wins 44 = .ok (.iconst (-1), 1) := dk_2 (dk_at dksX1_wins_1 20 rfl rfl)
theorem dX1_wins_45 : decode cX1_wins 45 = .ok (.if_icmp .eq 26, 3) := dk_159 0 26 (dk_at dksX1_wins_1 21 rfl rfl)
theorem dX1_wins_48 : decode cX1_wins 48 = .ok (.aload_n 0, 1) := dk_42 (dk_at dksX1_wins_2 0 rfl rfl)
theorem dX1_wins_49 : decode cX1_wins 49 = .ok (.getfield 54, 3) := dk_180 0 54 (dk_at dksX1_wins_2 1 rfl rfl)
theorem dX1_wins_52 : decode cX1_wins 52 = .ok (.iload_n 1, 1) := dk_27 (dk_at dksX1_wins_2 4 rfl rfl)
theorem dX1_wins_53 : decode cX1_wins 53 = .ok (.iconst 1, 1) := dk_4 (dk_at dksX1_wins_2 5 rfl rfl)
theorem dX1_wins_54 : decode cX1_wins 54 = .ok (.iadd, 1) := dk_96 (dk_at dksX1_wins_2 6 rfl rfl)
theorem dX1_wins_55 : decode cX1_wins 55 = .ok (.invokevirtual 29, 3) := dk_182 0 29 (dk_at dksX1_wins_2 7 rfl rfl)
theorem dX1_wins_58 : decode cX1_wins 58 = .ok (.checkcast 286, 3) := dk_192 1 30 (dk_at dksX1_wins_2 10 rfl rfl)
theorem dX1_wins_61 : decode cX1_wins 61 = .ok (.iload_n 2, 1) := dk_28 (dk_at dksX1_wins_2 13 rfl rfl)
theorem dX1_wins_62 : decode cX1_wins 62 = .ok (.iaload, 1) := dk_46 (dk_at dksX1_wins_2 14 rfl rfl)
theorem dX1_wins_63 : decode cX1_wins 63 = .ok (.iconst (-1), 1) := dk_2 (dk_at dksX1_wins_2 15 rfl rfl)
theorem dX1_wins_64 : decode cX1_wins 64 = .ok (.if_icmp .ne 7, 3) := dk_160 0 7 (dk_at dksX1_wins_2 16 rfl rfl)
theorem dX1_wins_67 : decode cX1_wins 67 = .ok (.iconst 1, 1) := dk_4 (dk_at dksX1_wins_2 19 rfl rfl)
theorem dX1_wins_68 : decode cX1_wins 68 = .ok (.goto 4, 3) := dk_167 0 4 (dk_at dksX1_wins_2 20 rfl rfl)
theorem dX1_wins_71 : decode cX1_wins 71 = .ok (.iconst 0, 1) := dk_3 (dk_at dksX1_wins_2 23 rfl rfl)
theorem dX1_wins_72 : decode cX1_wins 72 = .ok (.invokestatic 71, 3) := dk_184 0 71 (dk_at dksX1_wins_3 0 rfl rfl)
theorem dX1_wins_75 : decode cX1_wins 75 = .ok (.aload_n 0, 1) := dk_42 (dk_at dksX1_wins_3 3 rfl rfl)
theorem dX1_wins_76 : decode cX1_wins 76 = .ok (.getfield 54, 3) := dk_180 0 54 (dk_at dksX1_wins_3 4 rfl rfl)
theorem dX1_wins_79 : decode cX1_wins 79 = .ok (.iload_n 1, 1) := dk_27 (dk_at dksX1_wins_3 7 rfl rfl)
theorem dX1_wins_80 : decode cX1_wins 80 = .ok (.iconst 1, 1) := dk_4 (dk_at dksX1_wins_3 8 rfl rfl)
theorem dX1_wins_81 : decode cX1_wins 81 = .ok (.iadd, 1) := dk_96 (dk_at dksX1_wins_3 9 rfl rfl)
theorem dX1_wins_82 : decode cX1_wins 82 = .ok (.invokevirtual 29, 3) := dk_182 0 29 (dk_at dksX1_wins_3 10 rfl rfl)
theorem dX1_wins_85 : decode cX1_wins 85 = .ok (.checkcast 286, 3) := dk_192 1 30 (dk_at dksX1_wins_3 13 rfl rfl)
theorem dX1_wins_88 : decode cX1_wins 88 = .ok (.iload_n 2, 1) := dk_28 (dk_at dksX1_wins_3 16 rfl rfl)
theorem dX1_wins_89 : decode cX1_wins 89 = .ok (.aload 4, 2) := dk_25 4 (dk_at dksX1_wins_3 17 rfl rfl)
theorem dX1_wins_91 : decode cX1_wins 91 = .ok (.iconst 2, 1) := dk_5 (dk_at dksX1_wins_3 19 rfl rfl)
theorem dX1_wins_92 : decode cX1_wins 92 = .ok (.iload_n 2, 1) := dk_28 (dk_at dksX1_wins_3 20 rfl rfl)
theorem dX1_wins_93 : decode cX1_wins 93 = .ok (.imul, 1) := dk_104 (dk_at dksX1_wins_3 21 rfl rfl)
theorem dX1_wins_94 : decode cX1_wins 94 = .ok (.iload_n 3, 1) := dk_29 (dk_at dksX1_wins_3 22 rfl rfl)
theorem dX1_wins_95 : decode cX1_wins 95 = .ok (.iadd, 1) := dk_96 (dk_at dksX1_wins_3 23 rfl rfl)
theorem dX1_wins_96 : decode cX1_wins 96 = .ok (.iaload, 1) := dk_46 (dk_at dksX1_wins_4 0 rfl rfl)
theorem dX1_wins_97 : decode cX1_wins 97 = .ok (.iastore, 1) := dk_79 (dk_at dksX1_wins_4 1 rfl rfl)
theorem dX1_wins_98 : decode cX1_wins 98 = .ok (.aload 4, 2) := dk_25 4 (dk_at dksX1_wins_4 2 rfl rfl)
theorem dX1_wins_100 : decode cX1_wins 100 = .ok (.iconst 2, 1) := dk_5 (dk_at dksX1_wins_4 4 rfl rfl)
theorem dX1_wins_101 : decode cX1_wins 101 = .ok (.iload_n 2, 1) := dk_28 (dk_at dksX1_wins_4 5 rfl rfl)
theorem dX1_wins_102 : decode cX1_wins 102 = .ok (.imul, 1) := dk_104 (dk_at dksX1_wins_4 6 rfl rfl)
theorem dX1_wins_103 : decode cX1_wins 103 = .ok (.iload_n 3, 1) := dk_29 (dk_at dksX1_wins_4 7 rfl rfl)
theorem dX1_wins_104 : decode cX1_wins 104 = .ok (.iadd, 1) := dk_96 (dk_at dksX1_wins_4 8 rfl rfl)
theorem dX1_wins_105 : decode cX1_wins 105 = .ok (.iaload, 1) := dk_46 (dk_at dksX1_wins_4 9 rfl rfl)
theorem dX1_wins_106 : decode cX1_wins 106 = .ok (.ireturn, 1) := dk_172 (dk_at dksX1_wins_4 10 rfl rfl)
abbrev cX1_requireMatch : ByteArray := prog_1_method_30_code
def yX1_requireMatch : MethodName := ⟨RX1, "requireMatch", "(II)V"⟩
def dkwX1_requireMatch_2 : List UInt8 := [184, 0, 25, 177]
abbrev dktX1_requireMatch_2 : List UInt8 := dkwX1_requireMatch_2 ++ []
def dkwX1_requireMatch_1 : List UInt8 := [4, 96, 182, 0, 29, 192, 1, 30, 190, 4, 100, 184, 0, 19, 153, 0, 7, 4, 167, 0, 4, 3]
abbrev dktX1_requireMatch_1 : List UInt8 := dkwX1_requireMatch_1 ++ dktX1_requireMatch_2
def dkwX1_requireMatch_0 : List UInt8 := [27, 3, 42, 180, 0, 54, 182, 0, 13, 5, 100, 184, 0, 19, 153, 0, 31, 28, 3, 42, 180, 0, 54, 27]
abbrev dktX1_requireMatch_0 : List UInt8 := dkwX1_requireMatch_0 ++ dktX1_requireMatch_1
theorem dksX1_requireMatch_0 : cX1_requireMatch.data.toList.drop 0 = dktX1_requireMatch_0 := by decide +kernel
theorem dksX1_requireMatch_1 : cX1_requireMatch.data.toList.drop 24 = dktX1_requireMatch_1 := dk_seg dksX1_requireMatch_0 24 rfl rfl
theorem dksX1_requireMatch_2 : cX1_requireMatch.data.toList.drop 46 = dktX1_requireMatch_2 := dk_seg dksX1_requireMatch_1 22 rfl rfl
theorem dX1_requireMatch_0 : decode cX1_requireMatch 0 = .ok (.iload_n 1, 1) := dk_27 (dk_at dksX1_requireMatch_0 0 rfl rfl)
theorem dX1_requireMatch_1 : decode cX1_requireMatch 1 = .ok (.iconst 0, 1) := dk_3 (dk_at dksX1_requireMatch_0 1 rfl rfl)
theorem dX1_requireMatch_2 : decode cX1_requireMatch 2 = .ok (.aload_n 0, 1) := dk_42 (dk_at dksX1_requireMatch_0 2 rfl rfl)
theorem dX1_requireMatch_3 : decode cX1_requireMatch 3 = .ok (.getfield 54, 3) := dk_180 0 54 (dk_at dksX1_requireMatch_0 3 rfl rfl)
theorem dX1_requireMatch_6 : decode cX1_requireMatch 6 = .ok (.invokevirtual 13, 3) := dk_182 0 13 (dk_at dksX1_requireMatch_0 6 rfl rfl)
theorem dX1_requireMatch_9 : decode cX1_requireMatch 9 = .ok (.iconst 2, 1) := dk_5 (dk_at dksX1_requireMatch_0 9 rfl rfl)
theorem dX1_requireMatch_10 : decode cX1_requireMatch 10 = .ok (.isub, 1) := dk_100 (dk_at dksX1_requireMatch_0 10 rfl rfl)
theorem dX1_requireMatch_11 : decode cX1_requireMatch 11 = .ok (.invokestatic 19, 3) := dk_184 0 19 (dk_at dksX1_requireMatch_0 11 rfl rfl)
theorem dX1_requireMatch_14 : decode cX1_requireMatch 14 = .ok (.ifCond .eq 31, 3) := dk_153 0 31 (dk_at dksX1_requireMatch_0 14 rfl rfl)
theorem dX1_requireMatch_17 : decode cX1_requireMatch 17 = .ok (.iload_n 2, 1) := dk_28 (dk_at dksX1_requireMatch_0 17 rfl rfl)
theorem dX1_requireMatch_18 : decode cX1_requireMatch 18 = .ok (.iconst 0, 1) := dk_3 (dk_at dksX1_requireMatch_0 18 rfl rfl)
theorem dX1_requireMatch_19 : decode cX1_requireMatch 19 = .ok (.aload_n 0, 1) := dk_42 (dk_at dksX1_requireMatch_0 19 rfl rfl)
theorem dX1_requireMatch_20 : decode cX1_requireMatch 20 = .ok (.getfield 54, 3) := dk_180 0 54 (dk_at dksX1_requireMatch_0 20 rfl rfl)
theorem dX1_requireMatch_23 : decode cX1_requireMatch 23 = .ok (.iload_n 1, 1) := dk_27 (dk_at dksX1_requireMatch_0 23 rfl rfl)
theorem dX1_requireMatch_24 : decode cX1_requireMatch 24 = .ok (.iconst 1, 1) := dk_4 (dk_at dksX1_requireMatch_1 0 rfl rfl)
theorem dX1_requireMatch_25 : decode cX1_requireMatch 25 = .ok (.iadd, 1) := dk_96 (dk_at dksX1_requireMatch_1 1 rfl rfl)
theorem dX1_requireMatch_26 : decode cX1_requireMatch 26 = .ok (.invokevirtual 29, 3) := dk_182 0 29 (dk_at dksX1_requireMatch_1 2 rfl rfl)
theorem dX1_requireMatch_29 : decode cX1_requireMatch 29 = .ok (.checkcast 286, 3) := dk_192 1 30 (dk_at dksX1_requireMatch_1 5 rfl rfl)
theorem dX1_requireMatch_32 : decode cX1_requireMatch 32 = .ok (.arraylength, 1) := dk_190 (dk_at dksX1_requireMatch_1 8 rfl rfl)
theorem dX1_requireMatch_33 : decode cX1_requireMatch 33 = .ok (.iconst 1, 1) := dk_4 (dk_at dksX1_requireMatch_1 9 rfl rfl)
theorem dX1_requireMatch_34 : decode cX1_requireMatch 34 = .ok (.isub, 1) := dk_100 (dk_at dksX1_requireMatch_1 10 rfl rfl)
theorem dX1_requireMatch_35 : decode cX1_requireMatch 35 = .ok (.invokestatic 19, 3) := dk_184 0 19 (dk_at dksX1_requireMatch_1 11 rfl rfl)
theorem dX1_requireMatch_38 : decode cX1_requireMatch 38 = .ok (.ifCond .eq 7, 3) := dk_153 0 7 (dk_at dksX1_requireMatch_1 14 rfl rfl)
theorem dX1_requireMatch_41 : decode cX1_requireMatch 41 = .ok (.iconst 1, 1) := dk_4 (dk_at dksX1_requireMatch_1 17 rfl rfl)
theorem dX1_requireMatch_42 : decode cX1_requireMatch 42 = .ok (.goto 4, 3) := dk_167 0 4 (dk_at dksX1_requireMatch_1 18 rfl rfl)
theorem dX1_requireMatch_45 : decode cX1_requireMatch 45 = .ok (.iconst 0, 1) := dk_3 (dk_at dksX1_requireMatch_1 21 rfl rfl)
theorem dX1_requireMatch_46 : decode cX1_requireMatch 46 = .ok (.invokestatic 25, 3) := dk_184 0 25 (dk_at dksX1_requireMatch_2 0 rfl rfl)
theorem dX1_requireMatch_49 : decode cX1_requireMatch 49 = .ok (.return_, 1) := dk_177 (dk_at dksX1_requireMatch_2 3 rfl rfl)
abbrev cX1_lamp : ByteArray := prog_1_method_32_code
def yX1_lamp : MethodName := ⟨RX1, "lamp", "(I)I"⟩
def dkwX1_lamp_0 : List UInt8 := [27, 184, 0, 123, 184, 0, 93, 42, 42, 27, 182, 0, 201, 182, 0, 184, 172]
abbrev dktX1_lamp_0 : List UInt8 := dkwX1_lamp_0 ++ []
theorem dksX1_lamp_0 : cX1_lamp.data.toList.drop 0 = dktX1_lamp_0 := by decide +kernel
theorem dX1_lamp_0 : decode cX1_lamp 0 = .ok (.iload_n 1, 1) := dk_27 (dk_at dksX1_lamp_0 0 rfl rfl)
theorem dX1_lamp_1 : decode cX1_lamp 1 = .ok (.invokestatic 123, 3) := dk_184 0 123 (dk_at dksX1_lamp_0 1 rfl rfl)
theorem dX1_lamp_4 : decode cX1_lamp 4 = .ok (.invokestatic 93, 3) := dk_184 0 93 (dk_at dksX1_lamp_0 4 rfl rfl)
theorem dX1_lamp_7 : decode cX1_lamp 7 = .ok (.aload_n 0, 1) := dk_42 (dk_at dksX1_lamp_0 7 rfl rfl)
theorem dX1_lamp_8 : decode cX1_lamp 8 = .ok (.aload_n 0, 1) := dk_42 (dk_at dksX1_lamp_0 8 rfl rfl)
theorem dX1_lamp_9 : decode cX1_lamp 9 = .ok (.iload_n 1, 1) := dk_27 (dk_at dksX1_lamp_0 9 rfl rfl)
theorem dX1_lamp_10 : decode cX1_lamp 10 = .ok (.invokevirtual 201, 3) := dk_182 0 201 (dk_at dksX1_lamp_0 10 rfl rfl)
theorem dX1_lamp_13 : decode cX1_lamp 13 = .ok (.invokevirtual 184, 3) := dk_182 0 184 (dk_at dksX1_lamp_0 13 rfl rfl)
theorem dX1_lamp_16 : decode cX1_lamp 16 = .ok (.ireturn, 1) := dk_172 (dk_at dksX1_lamp_0 16 rfl rfl)
abbrev cX1_ofBout : ByteArray := prog_1_method_35_code
def yX1_ofBout : MethodName := ⟨RX1, "ofBout", "(II)I"⟩
def dkwX1_ofBout_3 : List UInt8 := [180, 1, 48, 167, 0, 7, 45, 180, 1, 51, 172]
abbrev dktX1_ofBout_3 : List UInt8 := dkwX1_ofBout_3 ++ []
def dkwX1_ofBout_2 : List UInt8 := [45, 180, 0, 191, 28, 46, 167, 0, 28, 45, 180, 0, 217, 167, 0, 21, 45, 180, 1, 45, 167, 0, 14, 45]
abbrev dktX1_ofBout_2 : List UInt8 := dkwX1_ofBout_2 ++ dktX1_ofBout_3
def dkwX1_ofBout_1 : List UInt8 := [170, 0, 0, 0, 0, 64, 0, 0, 0, 0, 0, 0, 0, 4, 0, 0, 0, 34, 0, 0, 0, 34, 0, 0, 0, 43, 0, 0, 0, 50, 0, 0, 0, 57]
abbrev dktX1_ofBout_1 : List UInt8 := dkwX1_ofBout_1 ++ dktX1_ofBout_2
def dkwX1_ofBout_0 : List UInt8 := [42, 180, 0, 41, 27, 184, 0, 83, 192, 0, 103, 78, 28, 3, 8, 184, 0, 19, 184, 0, 93, 28]
abbrev dktX1_ofBout_0 : List UInt8 := dkwX1_ofBout_0 ++ dktX1_ofBout_1
theorem dksX1_ofBout_0 : cX1_ofBout.data.toList.drop 0 = dktX1_ofBout_0 := by decide +kernel
theorem dksX1_ofBout_1 : cX1_ofBout.data.toList.drop 22 = dktX1_ofBout_1 := dk_seg dksX1_ofBout_0 22 rfl rfl
theorem dksX1_ofBout_2 : cX1_ofBout.data.toList.drop 56 = dktX1_ofBout_2 := dk_seg dksX1_ofBout_1 34 rfl rfl
theorem dksX1_ofBout_3 : cX1_ofBout.data.toList.drop 80 = dktX1_ofBout_3 := dk_seg dksX1_ofBout_2 24 rfl rfl
theorem dX1_ofBout_0 : decode cX1_ofBout 0 = .ok (.aload_n 0, 1) := dk_42 (dk_at dksX1_ofBout_0 0 rfl rfl)
theorem dX1_ofBout_1 : decode cX1_ofBout 1 = .ok (.getfield 41, 3) := dk_180 0 41 (dk_at dksX1_ofBout_0 1 rfl rfl)
theorem dX1_ofBout_4 : decode cX1_ofBout 4 = .ok (.iload_n 1, 1) := dk_27 (dk_at dksX1_ofBout_0 4 rfl rfl)
theorem dX1_ofBout_5 : decode cX1_ofBout 5 = .ok (.invokestatic 83, 3) := dk_184 0 83 (dk_at dksX1_ofBout_0 5 rfl rfl)
theorem dX1_ofBout_8 : decode cX1_ofBout 8 = .ok (.checkcast 103, 3) := dk_192 0 103 (dk_at dksX1_ofBout_0 8 rfl rfl)
theorem dX1_ofBout_11 : decode cX1_ofBout 11 = .ok (.astore_n 3, 1) := dk_78 (dk_at dksX1_ofBout_0 11 rfl rfl)
theorem dX1_ofBout_12 : decode cX1_ofBout 12 = .ok (.iload_n 2, 1) := dk_28 (dk_at dksX1_ofBout_0 12 rfl rfl)
theorem dX1_ofBout_13 : decode cX1_ofBout 13 = .ok (.iconst 0, 1) := dk_3 (dk_at dksX1_ofBout_0 13 rfl rfl)
theorem dX1_ofBout_14 : decode cX1_ofBout 14 = .ok (.iconst 5, 1) := dk_8 (dk_at dksX1_ofBout_0 14 rfl rfl)
theorem dX1_ofBout_15 : decode cX1_ofBout 15 = .ok (.invokestatic 19, 3) := dk_184 0 19 (dk_at dksX1_ofBout_0 15 rfl rfl)
theorem dX1_ofBout_18 : decode cX1_ofBout 18 = .ok (.invokestatic 93, 3) := dk_184 0 93 (dk_at dksX1_ofBout_0 18 rfl rfl)
theorem dX1_ofBout_21 : decode cX1_ofBout 21 = .ok (.iload_n 2, 1) := dk_28 (dk_at dksX1_ofBout_0 21 rfl rfl)
theorem dX1_ofBout_22 : decode cX1_ofBout 22 = .ok (.tableswitch 64 0 4 #[34, 34, 43, 50, 57], 34) := by decide +kernel
theorem dX1_ofBout_56 : decode cX1_ofBout 56 = .ok (.aload_n 3, 1) := dk_45 (dk_at dksX1_ofBout_2 0 rfl rfl)
theorem dX1_ofBout_57 : decode cX1_ofBout 57 = .ok (.getfield 191, 3) := dk_180 0 191 (dk_at dksX1_ofBout_2 1 rfl rfl)
theorem dX1_ofBout_60 : decode cX1_ofBout 60 = .ok (.iload_n 2, 1) := dk_28 (dk_at dksX1_ofBout_2 4 rfl rfl)
theorem dX1_ofBout_61 : decode cX1_ofBout 61 = .ok (.iaload, 1) := dk_46 (dk_at dksX1_ofBout_2 5 rfl rfl)
theorem dX1_ofBout_62 : decode cX1_ofBout 62 = .ok (.goto 28, 3) := dk_167 0 28 (dk_at dksX1_ofBout_2 6 rfl rfl)
theorem dX1_ofBout_65 : decode cX1_ofBout 65 = .ok (.aload_n 3, 1) := dk_45 (dk_at dksX1_ofBout_2 9 rfl rfl)
theorem dX1_ofBout_66 : decode cX1_ofBout 66 = .ok (.getfield 217, 3) := dk_180 0 217 (dk_at dksX1_ofBout_2 10 rfl rfl)
theorem dX1_ofBout_69 : decode cX1_ofBout 69 = .ok (.goto 21, 3) := dk_167 0 21 (dk_at dksX1_ofBout_2 13 rfl rfl)
theorem dX1_ofBout_72 : decode cX1_ofBout 72 = .ok (.aload_n 3, 1) := dk_45 (dk_at dksX1_ofBout_2 16 rfl rfl)
theorem dX1_ofBout_73 : decode cX1_ofBout 73 = .ok (.getfield 301, 3) := dk_180 1 45 (dk_at dksX1_ofBout_2 17 rfl rfl)
theorem dX1_ofBout_76 : decode cX1_ofBout 76 = .ok (.goto 14, 3) := dk_167 0 14 (dk_at dksX1_ofBout_2 20 rfl rfl)
theorem dX1_ofBout_79 : decode cX1_ofBout 79 = .ok (.aload_n 3, 1) := dk_45 (dk_at dksX1_ofBout_2 23 rfl rfl)
theorem dX1_ofBout_80 : decode cX1_ofBout 80 = .ok (.getfield 304, 3) := dk_180 1 48 (dk_at dksX1_ofBout_3 0 rfl rfl)
theorem dX1_ofBout_83 : decode cX1_ofBout 83 = .ok (.goto 7, 3) := dk_167 0 7 (dk_at dksX1_ofBout_3 3 rfl rfl)
theorem dX1_ofBout_86 : decode cX1_ofBout 86 = .ok (.aload_n 3, 1) := dk_45 (dk_at dksX1_ofBout_3 6 rfl rfl)
theorem dX1_ofBout_87 : decode cX1_ofBout 87 = .ok (.getfield 307, 3) := dk_180 1 51 (dk_at dksX1_ofBout_3 7 rfl rfl)
theorem dX1_ofBout_90 : decode cX1_ofBout 90 = .ok (.ireturn, 1) := dk_172 (dk_at dksX1_ofBout_3 10 rfl rfl)
abbrev cX1_ofPool : ByteArray := prog_1_method_36_code
def yX1_ofPool : MethodName := ⟨RX1, "ofPool", "(III)I"⟩
def dkwX1_ofPool_1 : List UInt8 := [29, 182, 1, 54, 172]
abbrev dktX1_ofPool_1 : List UInt8 := dkwX1_ofPool_1 ++ []
def dkwX1_ofPool_0 : List UInt8 := [42, 27, 28, 182, 0, 244, 58, 4, 29, 3, 6, 184, 0, 19, 184, 0, 93, 25, 4, 180, 1, 20, 28, 50]
abbrev dktX1_ofPool_0 : List UInt8 := dkwX1_ofPool_0 ++ dktX1_ofPool_1
theorem dksX1_ofPool_0 : cX1_ofPool.data.toList.drop 0 = dktX1_ofPool_0 := by decide +kernel
theorem dksX1_ofPool_1 : cX1_ofPool.data.toList.drop 24 = dktX1_ofPool_1 := dk_seg dksX1_ofPool_0 24 rfl rfl
theorem dX1_ofPool_0 : decode cX1_ofPool 0 = .ok (.aload_n 0, 1) := dk_42 (dk_at dksX1_ofPool_0 0 rfl rfl)
theorem dX1_ofPool_1 : decode cX1_ofPool 1 = .ok (.iload_n 1, 1) := dk_27 (dk_at dksX1_ofPool_0 1 rfl rfl)
theorem dX1_ofPool_2 : decode cX1_ofPool 2 = .ok (.iload_n 2, 1) := dk_28 (dk_at dksX1_ofPool_0 2 rfl rfl)
theorem dX1_ofPool_3 : decode cX1_ofPool 3 = .ok (.invokevirtual 244, 3) := dk_182 0 244 (dk_at dksX1_ofPool_0 3 rfl rfl)
theorem dX1_ofPool_6 : decode cX1_ofPool 6 = .ok (.astore 4, 2) := dk_58 4 (dk_at dksX1_ofPool_0 6 rfl rfl)
theorem dX1_ofPool_8 : decode cX1_ofPool 8 = .ok (.iload_n 3, 1) := dk_29 (dk_at dksX1_ofPool_0 8 rfl rfl)
theorem dX1_ofPool_9 : decode cX1_ofPool 9 = .ok (.iconst 0, 1) := dk_3 (dk_at dksX1_ofPool_0 9 rfl rfl)
theorem dX1_ofPool_10 : decode cX1_ofPool 10 = .ok (.iconst 3, 1) := dk_6 (dk_at dksX1_ofPool_0 10 rfl rfl)
theorem dX1_ofPool_11 : decode cX1_ofPool 11 = .ok (.invokestatic 19, 3) := dk_184 0 19 (dk_at dksX1_ofPool_0 11 rfl rfl)
theorem dX1_ofPool_14 : decode cX1_ofPool 14 = .ok (.invokestatic 93, 3) := dk_184 0 93 (dk_at dksX1_ofPool_0 14 rfl rfl)
theorem dX1_ofPool_17 : decode cX1_ofPool 17 = .ok (.aload 4, 2) := dk_25 4 (dk_at dksX1_ofPool_0 17 rfl rfl)
theorem dX1_ofPool_19 : decode cX1_ofPool 19 = .ok (.getfield 276, 3) := dk_180 1 20 (dk_at dksX1_ofPool_0 19 rfl rfl)
theorem dX1_ofPool_22 : decode cX1_ofPool 22 = .ok (.iload_n 2, 1) := dk_28 (dk_at dksX1_ofPool_0 22 rfl rfl)
theorem dX1_ofPool_23 : decode cX1_ofPool 23 = .ok (.aaload, 1) := dk_50 (dk_at dksX1_ofPool_0 23 rfl rfl)
theorem dX1_ofPool_24 : decode cX1_ofPool 24 = .ok (.iload_n 3, 1) := dk_29 (dk_at dksX1_ofPool_1 0 rfl rfl)
theorem dX1_ofPool_25 : decode cX1_ofPool 25 = .ok (.invokevirtual 310, 3) := dk_182 1 54 (dk_at dksX1_ofPool_1 1 rfl rfl)
theorem dX1_ofPool_28 : decode cX1_ofPool 28 = .ok (.ireturn, 1) := dk_172 (dk_at dksX1_ofPool_1 4 rfl rfl)
abbrev cX1_ofPoolAnew : ByteArray := prog_1_method_37_code
def yX1_ofPoolAnew : MethodName := ⟨RX1, "ofPoolAnew", "(III)I"⟩
def dkwX1_ofPoolAnew_5 : List UInt8 := [167, 0, 4, 4, 4, 182, 1, 58, 167, 255, 169, 25, 5, 29, 182, 1, 54, 172]
abbrev dktX1_ofPoolAnew_5 : List UInt8 := dkwX1_ofPoolAnew_5 ++ []
def dkwX1_ofPoolAnew_4 : List UInt8 := [153, 0, 30, 25, 5, 25, 7, 25, 7, 180, 0, 238, 3, 50, 180, 0, 241, 28, 160, 0, 7, 3]
abbrev dktX1_ofPoolAnew_4 : List UInt8 := dkwX1_ofPoolAnew_4 ++ dktX1_ofPoolAnew_5
def dkwX1_ofPoolAnew_3 : List UInt8 := [180, 0, 217, 2, 159, 0, 49, 25, 7, 28, 184, 0, 252, 153, 0, 40, 25, 4, 25, 7, 182, 1, 13]
abbrev dktX1_ofPoolAnew_3 : List UInt8 := dkwX1_ofPoolAnew_3 ++ dktX1_ofPoolAnew_4
def dkwX1_ofPoolAnew_2 : List UInt8 := [185, 1, 9, 1, 0, 192, 0, 103, 58, 7, 25, 7, 180, 0, 248, 25, 4, 166, 0, 58, 25, 7]
abbrev dktX1_ofPoolAnew_2 : List UInt8 := dkwX1_ofPoolAnew_2 ++ dktX1_ofPoolAnew_3
def dkwX1_ofPoolAnew_1 : List UInt8 := [58, 5, 42, 180, 0, 41, 182, 1, 0, 58, 6, 25, 6, 185, 1, 4, 1, 0, 153, 0, 83, 25, 6]
abbrev dktX1_ofPoolAnew_1 : List UInt8 := dkwX1_ofPoolAnew_1 ++ dktX1_ofPoolAnew_2
def dkwX1_ofPoolAnew_0 : List UInt8 := [42, 27, 28, 182, 0, 244, 58, 4, 29, 3, 6, 184, 0, 19, 184, 0, 93, 187, 1, 25, 89, 183, 1, 57]
abbrev dktX1_ofPoolAnew_0 : List UInt8 := dkwX1_ofPoolAnew_0 ++ dktX1_ofPoolAnew_1
theorem dksX1_ofPoolAnew_0 : cX1_ofPoolAnew.data.toList.drop 0 = dktX1_ofPoolAnew_0 := by decide +kernel
theorem dksX1_ofPoolAnew_1 : cX1_ofPoolAnew.data.toList.drop 24 = dktX1_ofPoolAnew_1 := dk_seg dksX1_ofPoolAnew_0 24 rfl rfl
theorem dksX1_ofPoolAnew_2 : cX1_ofPoolAnew.data.toList.drop 47 = dktX1_ofPoolAnew_2 := dk_seg dksX1_ofPoolAnew_1 23 rfl rfl
theorem dksX1_ofPoolAnew_3 : cX1_ofPoolAnew.data.toList.drop 69 = dktX1_ofPoolAnew_3 := dk_seg dksX1_ofPoolAnew_2 22 rfl rfl
theorem dksX1_ofPoolAnew_4 : cX1_ofPoolAnew.data.toList.drop 92 = dktX1_ofPoolAnew_4 := dk_seg dksX1_ofPoolAnew_3 23 rfl rfl
theorem dksX1_ofPoolAnew_5 : cX1_ofPoolAnew.data.toList.drop 114 = dktX1_ofPoolAnew_5 := dk_seg dksX1_ofPoolAnew_4 22 rfl rfl
theorem dX1_ofPoolAnew_0 : decode cX1_ofPoolAnew 0 = .ok (.aload_n 0, 1) := dk_42 (dk_at dksX1_ofPoolAnew_0 0 rfl rfl)
theorem dX1_ofPoolAnew_1 : decode cX1_ofPoolAnew 1 = .ok (.iload_n 1, 1) := dk_27 (dk_at dksX1_ofPoolAnew_0 1 rfl rfl)
theorem dX1_ofPoolAnew_2 : decode cX1_ofPoolAnew 2 = .ok (.iload_n 2, 1) := dk_28 (dk_at dksX1_ofPoolAnew_0 2 rfl rfl)
theorem dX1_ofPoolAnew_3 : decode cX1_ofPoolAnew 3 = .ok (.invokevirtual 244, 3) := dk_182 0 244 (dk_at dksX1_ofPoolAnew_0 3 rfl rfl)
theorem dX1_ofPoolAnew_6 : decode cX1_ofPoolAnew 6 = .ok (.astore 4, 2) := dk_58 4 (dk_at dksX1_ofPoolAnew_0 6 rfl rfl)
theorem dX1_ofPoolAnew_8 : decode cX1_ofPoolAnew 8 = .ok (.iload_n 3, 1) := dk_29 (dk_at dksX1_ofPoolAnew_0 8 rfl rfl)
theorem dX1_ofPoolAnew_9 : decode cX1_ofPoolAnew 9 = .ok (.iconst 0, 1) := dk_3 (dk_at dksX1_ofPoolAnew_0 9 rfl rfl)
theorem dX1_ofPoolAnew_10 : decode cX1_ofPoolAnew 10 = .ok (.iconst 3, 1) := dk_6 (dk_at dksX1_ofPoolAnew_0 10 rfl rfl)
theorem dX1_ofPoolAnew_11 : decode cX1_ofPoolAnew 11 = .ok (.invokestatic 19, 3) := dk_184 0 19 (dk_at dksX1_ofPoolAnew_0 11 rfl rfl)
theorem dX1_ofPoolAnew_14 : decode cX1_ofPoolAnew 14 = .ok (.invokestatic 93, 3) := dk_184 0 93 (dk_at dksX1_ofPoolAnew_0 14 rfl rfl)
theorem dX1_ofPoolAnew_17 : decode cX1_ofPoolAnew 17 = .ok (.new 281, 3) := dk_187 1 25 (dk_at dksX1_ofPoolAnew_0 17 rfl rfl)
theorem dX1_ofPoolAnew_20 : decode cX1_ofPoolAnew 20 = .ok (.dup, 1) := dk_89 (dk_at dksX1_ofPoolAnew_0 20 rfl rfl)
theorem dX1_ofPoolAnew_21 : decode cX1_ofPoolAnew 21 = .ok (.invokespecial 313, 3) := dk_183 1 57 (dk_at dksX1_ofPoolAnew_0 21 rfl rfl)
theorem dX1_ofPoolAnew_24 : decode cX1_ofPoolAnew 24 = .ok (.astore 5, 2) := dk_58 5 (dk_at dksX1_ofPoolAnew_1 0 rfl rfl)
theorem dX1_ofPoolAnew_26 : decode cX1_ofPoolAnew 26 = .ok (.aload_n 0, 1) := dk_42 (dk_at dksX1_ofPoolAnew_1 2 rfl rfl)
theorem dX1_ofPoolAnew_27 : decode cX1_ofPoolAnew 27 = .ok (.getfield 41, 3) := dk_180 0 41 (dk_at dksX1_ofPoolAnew_1 3 rfl rfl)
theorem dX1_ofPoolAnew_30 : decode cX1_ofPoolAnew 30 = .ok (.invokevirtual 256, 3) := dk_182 1 0 (dk_at dksX1_ofPoolAnew_1 6 rfl rfl)
theorem dX1_ofPoolAnew_33 : decode cX1_ofPoolAnew 33 = .ok (.astore 6, 2) := dk_58 6 (dk_at dksX1_ofPoolAnew_1 9 rfl rfl)
theorem dX1_ofPoolAnew_35 : decode cX1_ofPoolAnew 35 = .ok (.aload 6, 2) := dk_25 6 (dk_at dksX1_ofPoolAnew_1 11 rfl rfl)
theorem dX1_ofPoolAnew_37 : decode cX1_ofPoolAnew 37 = .ok (.invokeinterface 260 1, 5) := by decide +kernel
theorem dX1_ofPoolAnew_42 : decode cX1_ofPoolAnew 42 = .ok (.ifCond .eq 83, 3) := dk_153 0 83 (dk_at dksX1_ofPoolAnew_1 18 rfl rfl)
theorem dX1_ofPoolAnew_45 : decode cX1_ofPoolAnew 45 = .ok (.aload 6, 2) := dk_25 6 (dk_at dksX1_ofPoolAnew_1 21 rfl rfl)
theorem dX1_ofPoolAnew_47 : decode cX1_ofPoolAnew 47 = .ok (.invokeinterface 265 1, 5) := by decide +kernel
theorem dX1_ofPoolAnew_52 : decode cX1_ofPoolAnew 52 = .ok (.checkcast 103, 3) := dk_192 0 103 (dk_at dksX1_ofPoolAnew_2 5 rfl rfl)
theorem dX1_ofPoolAnew_55 : decode cX1_ofPoolAnew 55 = .ok (.astore 7, 2) := dk_58 7 (dk_at dksX1_ofPoolAnew_2 8 rfl rfl)
theorem dX1_ofPoolAnew_57 : decode cX1_ofPoolAnew 57 = .ok (.aload 7, 2) := dk_25 7 (dk_at dksX1_ofPoolAnew_2 10 rfl rfl)
theorem dX1_ofPoolAnew_59 : decode cX1_ofPoolAnew 59 = .ok (.getfield 248, 3) := dk_180 0 248 (dk_at dksX1_ofPoolAnew_2 12 rfl rfl)
theorem dX1_ofPoolAnew_62 : decode cX1_ofPoolAnew 62 = .ok (.aload 4, 2) := dk_25 4 (dk_at dksX1_ofPoolAnew_2 15 rfl rfl)
theorem dX1_ofPoolAnew_64 : decode cX1_ofPoolAnew 64 = .ok (.if_acmp .ne 58, 3) := dk_166 0 58 (dk_at dksX1_ofPoolAnew_2 17 rfl rfl)
theorem dX1_ofPoolAnew_67 : decode cX1_ofPoolAnew 67 = .ok (.aload 7, 2) := dk_25 7 (dk_at dksX1_ofPoolAnew_2 20 rfl rfl)
theorem dX1_ofPoolAnew_69 : decode cX1_ofPoolAnew 69 = .ok (.getfield 217, 3) := dk_180 0 217 (dk_at dksX1_ofPoolAnew_3 0 rfl rfl)
theorem dX1_ofPoolAnew_72 : decode cX1_ofPoolAnew 72 = .ok (.iconst (-1), 1) := dk_2 (dk_at dksX1_ofPoolAnew_3 3 rfl rfl)
theorem dX1_ofPoolAnew_73 : decode cX1_ofPoolAnew 73 = .ok (.if_icmp .eq 49, 3) := dk_159 0 49 (dk_at dksX1_ofPoolAnew_3 4 rfl rfl)
theorem dX1_ofPoolAnew_76 : decode cX1_ofPoolAnew 76 = .ok (.aload 7, 2) := dk_25 7 (dk_at dksX1_ofPoolAnew_3 7 rfl rfl)
theorem dX1_ofPoolAnew_78 : decode cX1_ofPoolAnew 78 = .ok (.iload_n 2, 1) := dk_28 (dk_at dksX1_ofPoolAnew_3 9 rfl rfl)
theorem dX1_ofPoolAnew_79 : decode cX1_ofPoolAnew 79 = .ok (.invokestatic 252, 3) := dk_184 0 252 (dk_at dksX1_ofPoolAnew_3 10 rfl rfl)
theorem dX1_ofPoolAnew_82 : decode cX1_ofPoolAnew 82 = .ok (.ifCond .eq 40, 3) := dk_153 0 40 (dk_at dksX1_ofPoolAnew_3 13 rfl rfl)
theorem dX1_ofPoolAnew_85 : decode cX1_ofPoolAnew 85 = .ok (.aload 4, 2) := dk_25 4 (dk_at dksX1_ofPoolAnew_3 16 rfl rfl)
theorem dX1_ofPoolAnew_87 : decode cX1_ofPoolAnew 87 = .ok (.aload 7, 2) := dk_25 7 (dk_at dksX1_ofPoolAnew_3 18 rfl rfl)
theorem dX1_ofPoolAnew_89 : decode cX1_ofPoolAnew 89 = .ok (.invokevirtual 269, 3) := dk_182 1 13 (dk_at dksX1_ofPoolAnew_3 20 rfl rfl)
theorem dX1_ofPoolAnew_92 : decode cX1_ofPoolAnew 92 = .ok (.ifCond .eq 30, 3) := dk_153 0 30 (dk_at dksX1_ofPoolAnew_4 0 rfl rfl)
theorem dX1_ofPoolAnew_95 : decode cX1_ofPoolAnew 95 = .ok (.aload 5, 2) := dk_25 5 (dk_at dksX1_ofPoolAnew_4 3 rfl rfl)
theorem dX1_ofPoolAnew_97 : decode cX1_ofPoolAnew 97 = .ok (.aload 7, 2) := dk_25 7 (dk_at dksX1_ofPoolAnew_4 5 rfl rfl)
theorem dX1_ofPoolAnew_99 : decode cX1_ofPoolAnew 99 = .ok (.aload 7, 2) := dk_25 7 (dk_at dksX1_ofPoolAnew_4 7 rfl rfl)
theorem dX1_ofPoolAnew_101 : decode cX1_ofPoolAnew 101 = .ok (.getfield 238, 3) := dk_180 0 238 (dk_at dksX1_ofPoolAnew_4 9 rfl rfl)
theorem dX1_ofPoolAnew_104 : decode cX1_ofPoolAnew 104 = .ok (.iconst 0, 1) := dk_3 (dk_at dksX1_ofPoolAnew_4 12 rfl rfl)
theorem dX1_ofPoolAnew_105 : decode cX1_ofPoolAnew 105 = .ok (.aaload, 1) := dk_50 (dk_at dksX1_ofPoolAnew_4 13 rfl rfl)
theorem dX1_ofPoolAnew_106 : decode cX1_ofPoolAnew 106 = .ok (.getfield 241, 3) := dk_180 0 241 (dk_at dksX1_ofPoolAnew_4 14 rfl rfl)
theorem dX1_ofPoolAnew_109 : decode cX1_ofPoolAnew 109 = .ok (.iload_n 2, 1) := dk_28 (dk_at dksX1_ofPoolAnew_4 17 rfl rfl)
theorem dX1_ofPoolAnew_110 : decode cX1_ofPoolAnew 110 = .ok (.if_icmp .ne 7, 3) := dk_160 0 7 (dk_at dksX1_ofPoolAnew_4 18 rfl rfl)
theorem dX1_ofPoolAnew_113 : decode cX1_ofPoolAnew 113 = .ok (.iconst 0, 1) := dk_3 (dk_at dksX1_ofPoolAnew_4 21 rfl rfl)
theorem dX1_ofPoolAnew_114 : decode cX1_ofPoolAnew 114 = .ok (.goto 4, 3) := dk_167 0 4 (dk_at dksX1_ofPoolAnew_5 0 rfl rfl)
theorem dX1_ofPoolAnew_117 : decode cX1_ofPoolAnew 117 = .ok (.iconst 1, 1) := dk_4 (dk_at dksX1_ofPoolAnew_5 3 rfl rfl)
theorem dX1_ofPoolAnew_118 : decode cX1_ofPoolAnew 118 = .ok (.iconst 1, 1) := dk_4 (dk_at dksX1_ofPoolAnew_5 4 rfl rfl)
theorem dX1_ofPoolAnew_119 : decode cX1_ofPoolAnew 119 = .ok (.invokevirtual 314, 3) := dk_182 1 58 (dk_at dksX1_ofPoolAnew_5 5 rfl rfl)
theorem dX1_ofPoolAnew_122 : decode cX1_ofPoolAnew 122 = .ok (.goto (-87), 3) := dk_167 255 169 (dk_at dksX1_ofPoolAnew_5 8 rfl rfl)
theorem dX1_ofPoolAnew_125 : decode cX1_ofPoolAnew 125 = .ok (.aload 5, 2) := dk_25 5 (dk_at dksX1_ofPoolAnew_5 11 rfl rfl)
theorem dX1_ofPoolAnew_127 : decode cX1_ofPoolAnew 127 = .ok (.iload_n 3, 1) := dk_29 (dk_at dksX1_ofPoolAnew_5 13 rfl rfl)
theorem dX1_ofPoolAnew_128 : decode cX1_ofPoolAnew 128 = .ok (.invokevirtual 310, 3) := dk_182 1 54 (dk_at dksX1_ofPoolAnew_5 14 rfl rfl)
theorem dX1_ofPoolAnew_131 : decode cX1_ofPoolAnew 131 = .ok (.ireturn, 1) := dk_172 (dk_at dksX1_ofPoolAnew_5 17 rfl rfl)
abbrev cX1_rank : ByteArray := prog_1_method_38_code
def yX1_rank : MethodName := ⟨RX1, "rank", "(II)I"⟩
def dkwX1_rank_2 : List UInt8 := [182, 1, 35, 167, 0, 4, 2, 172]
abbrev dktX1_rank_2 : List UInt8 := dkwX1_rank_2 ++ []
def dkwX1_rank_1 : List UInt8 := [45, 182, 1, 31, 58, 4, 28, 25, 4, 182, 0, 13, 162, 0, 18, 25, 4, 28, 182, 0, 29, 192, 0, 233]
abbrev dktX1_rank_1 : List UInt8 := dkwX1_rank_1 ++ dktX1_rank_2
def dkwX1_rank_0 : List UInt8 := [42, 180, 0, 44, 27, 184, 0, 83, 192, 0, 87, 78, 28, 155, 0, 7, 4, 167, 0, 4, 3, 184, 0, 25]
abbrev dktX1_rank_0 : List UInt8 := dkwX1_rank_0 ++ dktX1_rank_1
theorem dksX1_rank_0 : cX1_rank.data.toList.drop 0 = dktX1_rank_0 := by decide +kernel
theorem dksX1_rank_1 : cX1_rank.data.toList.drop 24 = dktX1_rank_1 := dk_seg dksX1_rank_0 24 rfl rfl
theorem dksX1_rank_2 : cX1_rank.data.toList.drop 48 = dktX1_rank_2 := dk_seg dksX1_rank_1 24 rfl rfl
theorem dX1_rank_0 : decode cX1_rank 0 = .ok (.aload_n 0, 1) := dk_42 (dk_at dksX1_rank_0 0 rfl rfl)
theorem dX1_rank_1 : decode cX1_rank 1 = .ok (.getfield 44, 3) := dk_180 0 44 (dk_at dksX1_rank_0 1 rfl rfl)
theorem dX1_rank_4 : decode cX1_rank 4 = .ok (.iload_n 1, 1) := dk_27 (dk_at dksX1_rank_0 4 rfl rfl)
theorem dX1_rank_5 : decode cX1_rank 5 = .ok (.invokestatic 83, 3) := dk_184 0 83 (dk_at dksX1_rank_0 5 rfl rfl)
theorem dX1_rank_8 : decode cX1_rank 8 = .ok (.checkcast 87, 3) := dk_192 0 87 (dk_at dksX1_rank_0 8 rfl rfl)
theorem dX1_rank_11 : decode cX1_rank 11 = .ok (.astore_n 3, 1) := dk_78 (dk_at dksX1_rank_0 11 rfl rfl)
theorem dX1_rank_12 : decode cX1_rank 12 = .ok (.iload_n 2, 1) := dk_28 (dk_at dksX1_rank_0 12 rfl rfl)
theorem dX1_rank_13 : decode cX1_rank 13 = .ok (.ifCond .lt 7, 3) := dk_155 0 7 (dk_at dksX1_rank_0 13 rfl rfl)
theorem dX1_rank_16 : decode cX1_rank 16 = .ok (.iconst 1, 1) := dk_4 (dk_at dksX1_rank_0 16 rfl rfl)
theorem dX1_rank_17 : decode cX1_rank 17 = .ok (.goto 4, 3) := dk_167 0 4 (dk_at dksX1_rank_0 17 rfl rfl)
theorem dX1_rank_20 : decode cX1_rank 20 = .ok (.iconst 0, 1) := dk_3 (dk_at dksX1_rank_0 20 rfl rfl)
theorem dX1_rank_21 : decode cX1_rank 21 = .ok (.invokestatic 25, 3) := dk_184 0 25 (dk_at dksX1_rank_0 21 rfl rfl)
theorem dX1_rank_24 : decode cX1_rank 24 = .ok (.aload_n 3, 1) := dk_45 (dk_at dksX1_rank_1 0 rfl rfl)
theorem dX1_rank_25 : decode cX1_rank 25 = .ok (.invokevirtual 287, 3) := dk_182 1 31 (dk_at dksX1_rank_1 1 rfl rfl)
theorem dX1_rank_28 : decode cX1_rank 28 = .ok (.astore 4, 2) := dk_58 4 (dk_at dksX1_rank_1 4 rfl rfl)
theorem dX1_rank_30 : decode cX1_rank 30 = .ok (.iload_n 2, 1) := dk_28 (dk_at dksX1_rank_1 6 rfl rfl)
theorem dX1_rank_31 : decode cX1_rank 31 = .ok (.aload 4, 2) := dk_25 4 (dk_at dksX1_rank_1 7 rfl rfl)
theorem dX1_rank_33 : decode cX1_rank 33 = .ok (.invokevirtual 13, 3) := dk_182 0 13 (dk_at dksX1_rank_1 9 rfl rfl)
theorem dX1_rank_36 : decode cX1_rank 36 = .ok (.if_icmp .ge 18, 3) := dk_162 0 18 (dk_at dksX1_rank_1 12 rfl rfl)
theorem dX1_rank_39 : decode cX1_rank 39 = .ok (.aload 4, 2) := dk_25 4 (dk_at dksX1_rank_1 15 rfl rfl)
theorem dX1_rank_41 : decode cX1_rank 41 = .ok (.iload_n 2, 1) := dk_28 (dk_at dksX1_rank_1 17 rfl rfl)
theorem dX1_rank_42 : decode cX1_rank 42 = .ok (.invokevirtual 29, 3) := dk_182 0 29 (dk_at dksX1_rank_1 18 rfl rfl)
theorem dX1_rank_45 : decode cX1_rank 45 = .ok (.checkcast 233, 3) := dk_192 0 233 (dk_at dksX1_rank_1 21 rfl rfl)
theorem dX1_rank_48 : decode cX1_rank 48 = .ok (.invokevirtual 291, 3) := dk_182 1 35 (dk_at dksX1_rank_2 0 rfl rfl)
theorem dX1_rank_51 : decode cX1_rank 51 = .ok (.goto 4, 3) := dk_167 0 4 (dk_at dksX1_rank_2 3 rfl rfl)
theorem dX1_rank_54 : decode cX1_rank 54 = .ok (.iconst (-1), 1) := dk_2 (dk_at dksX1_rank_2 6 rfl rfl)
theorem dX1_rank_55 : decode cX1_rank 55 = .ok (.ireturn, 1) := dk_172 (dk_at dksX1_rank_2 7 rfl rfl)
abbrev cX1_meets_2 : ByteArray := prog_1_method_39_code
def yX1_meets_2 : MethodName := ⟨RX1, "meets", "(III)I"⟩
def dkwX1_meets_2_2 : List UInt8 := [192, 1, 30, 5, 28, 104, 29, 96, 46, 172]
abbrev dktX1_meets_2_2 : List UInt8 := dkwX1_meets_2_2 ++ []
def dkwX1_meets_2_1 : List UInt8 := [27, 4, 96, 182, 0, 29, 192, 1, 30, 28, 46, 167, 0, 20, 42, 180, 0, 54, 27, 182, 0, 29]
abbrev dktX1_meets_2_1 : List UInt8 := dkwX1_meets_2_1 ++ dktX1_meets_2_2
def dkwX1_meets_2_0 : List UInt8 := [42, 27, 28, 182, 1, 41, 29, 3, 5, 184, 0, 19, 184, 0, 93, 29, 5, 160, 0, 21, 42, 180, 0, 54]
abbrev dktX1_meets_2_0 : List UInt8 := dkwX1_meets_2_0 ++ dktX1_meets_2_1
theorem dksX1_meets_2_0 : cX1_meets_2.data.toList.drop 0 = dktX1_meets_2_0 := by decide +kernel
theorem dksX1_meets_2_1 : cX1_meets_2.data.toList.drop 24 = dktX1_meets_2_1 := dk_seg dksX1_meets_2_0 24 rfl rfl
theorem dksX1_meets_2_2 : cX1_meets_2.data.toList.drop 46 = dktX1_meets_2_2 := dk_seg dksX1_meets_2_1 22 rfl rfl
theorem dX1_meets_2_0 : decode cX1_meets_2 0 = .ok (.aload_n 0, 1) := dk_42 (dk_at dksX1_meets_2_0 0 rfl rfl)
theorem dX1_meets_2_1 : decode cX1_meets_2 1 = .ok (.iload_n 1, 1) := dk_27 (dk_at dksX1_meets_2_0 1 rfl rfl)
theorem dX1_meets_2_2 : decode cX1_meets_2 2 = .ok (.iload_n 2, 1) := dk_28 (dk_at dksX1_meets_2_0 2 rfl rfl)
theorem dX1_meets_2_3 : decode cX1_meets_2 3 = .ok (.invokevirtual 297, 3) := dk_182 1 41 (dk_at dksX1_meets_2_0 3 rfl rfl)
theorem dX1_meets_2_6 : decode cX1_meets_2 6 = .ok (.iload_n 3, 1) := dk_29 (dk_at dksX1_meets_2_0 6 rfl rfl)
theorem dX1_meets_2_7 : decode cX1_meets_2 7 = .ok (.iconst 0, 1) := dk_3 (dk_at dksX1_meets_2_0 7 rfl rfl)
theorem dX1_meets_2_8 : decode cX1_meets_2 8 = .ok (.iconst 2, 1) := dk_5 (dk_at dksX1_meets_2_0 8 rfl rfl)
theorem dX1_meets_2_9 : decode cX1_meets_2 9 = .ok (.invokestatic 19, 3) := dk_184 0 19 (dk_at dksX1_meets_2_0 9 rfl rfl)
theorem dX1_meets_2_12 : decode cX1_meets_2 12 = .ok (.invokestatic 93, 3) := dk_184 0 93 (dk_at dksX1_meets_2_0 12 rfl rfl)
theorem dX1_meets_2_15 : decode cX1_meets_2 15 = .ok (.iload_n 3, 1) := dk_29 (dk_at dksX1_meets_2_0 15 rfl rfl)
theorem dX1_meets_2_16 : decode cX1_meets_2 16 = .ok (.iconst 2, 1) := dk_5 (dk_at dksX1_meets_2_0 16 rfl rfl)
theorem dX1_meets_2_17 : decode cX1_meets_2 17 = .ok (.if_icmp .ne 21, 3) := dk_160 0 21 (dk_at dksX1_meets_2_0 17 rfl rfl)
theorem dX1_meets_2_20 : decode cX1_meets_2 20 = .ok (.aload_n 0, 1) := dk_42 (dk_at dksX1_meets_2_0 20 rfl rfl)
theorem dX1_meets_2_21 : decode cX1_meets_2 21 = .ok (.getfield 54, 3) := dk_180 0 54 (dk_at dksX1_meets_2_0 21 rfl rfl)
theorem dX1_meets_2_24 : decode cX1_meets_2 24 = .ok (.iload_n 1, 1) := dk_27 (dk_at dksX1_meets_2_1 0 rfl rfl)
theorem dX1_meets_2_25 : decode cX1_meets_2 25 = .ok (.iconst 1, 1) := dk_4 (dk_at dksX1_meets_2_1 1 rfl rfl)
theorem dX1_meets_2_26 : decode cX1_meets_2 26 = .ok (.iadd, 1) := dk_96 (dk_at dksX1_meets_2_1 2 rfl rfl)
theorem dX1_meets_2_27 : decode cX1_meets_2 27 = .ok (.invokevirtual 29, 3) := dk_182 0 29 (dk_at dksX1_meets_2_1 3 rfl rfl)
theorem dX1_meets_2_30 : decode cX1_meets_2 30 = .ok (.checkcast 286, 3) := dk_192 1 30 (dk_at dksX1_meets_2_1 6 rfl rfl)
theorem dX1_meets_2_33 : decode cX1_meets_2 33 = .ok (.iload_n 2, 1) := dk_28 (dk_at dksX1_meets_2_1 9 rfl rfl)
theorem dX1_meets_2_34 : decode cX1_meets_2 34 = .ok (.iaload, 1) := dk_46 (dk_at dksX1_meets_2_1 10 rfl rfl)
theorem dX1_meets_2_35 : decode cX1_meets_2 35 = .ok (.goto 20, 3) := dk_167 0 20 (dk_at dksX1_meets_2_1 11 rfl rfl)
theorem dX1_meets_2_38 : decode cX1_meets_2 38 = .ok (.aload_n 0, 1) := dk_42 (dk_at dksX1_meets_2_1 14 rfl rfl)
theorem dX1_meets_2_39 : decode cX1_meets_2 39 = .ok (.getfield 54, 3) := dk_180 0 54 (dk_at dksX1_meets_2_1 15 rfl rfl)
theorem dX1_meets_2_42 : decode cX1_meets_2 42 = .ok (.iload_n 1, 1) := dk_27 (dk_at dksX1_meets_2_1 18 rfl rfl)
theorem dX1_meets_2_43 : decode cX1_meets_2 43 = .ok (.invokevirtual 29, 3) := dk_182 0 29 (dk_at dksX1_meets_2_1 19 rfl rfl)
theorem dX1_meets_2_46 : decode cX1_meets_2 46 = .ok (.checkcast 286, 3) := dk_192 1 30 (dk_at dksX1_meets_2_2 0 rfl rfl)
theorem dX1_meets_2_49 : decode cX1_meets_2 49 = .ok (.iconst 2, 1) := dk_5 (dk_at dksX1_meets_2_2 3 rfl rfl)
theorem dX1_meets_2_50 : decode cX1_meets_2 50 = .ok (.iload_n 2, 1) := dk_28 (dk_at dksX1_meets_2_2 4 rfl rfl)
theorem dX1_meets_2_51 : decode cX1_meets_2 51 = .ok (.imul, 1) := dk_104 (dk_at dksX1_meets_2_2 5 rfl rfl)
theorem dX1_meets_2_52 : decode cX1_meets_2 52 = .ok (.iload_n 3, 1) := dk_29 (dk_at dksX1_meets_2_2 6 rfl rfl)
theorem dX1_meets_2_53 : decode cX1_meets_2 53 = .ok (.iadd, 1) := dk_96 (dk_at dksX1_meets_2_2 7 rfl rfl)
theorem dX1_meets_2_54 : decode cX1_meets_2 54 = .ok (.iaload, 1) := dk_46 (dk_at dksX1_meets_2_2 8 rfl rfl)
theorem dX1_meets_2_55 : decode cX1_meets_2 55 = .ok (.ireturn, 1) := dk_172 (dk_at dksX1_meets_2_2 9 rfl rfl)
theorem q42 : (Jvm.Cond.initialized "Phrasehall") ∈ lw_all := lw_g (lw_at lw_m1 1 rfl) rfl
theorem q80 : (Jvm.Cond.instantiable "Phrasehall" (8 : Nat)) ∈ lw_all := lw_g (lw_at lw_m1 39 rfl) rfl
theorem q82 : (Jvm.Cond.instanceMethod ({ cls := "Phrasehall", name := "<init>", desc := "()V" } : Jvm.MethodName)) ∈ lw_all := lw_g (lw_at lw_m1 41 rfl) rfl
theorem q83 : (Jvm.Cond.code ({ cls := "Phrasehall", name := "<init>", desc := "()V" } : Jvm.MethodName) prog_1_method_6_code (1 : Nat) (Option.none : Option Jvm.ClassFile.FieldType)) ∈ lw_all := lw_g (lw_at lw_m1 42 rfl) rfl
theorem q84 : (Jvm.Cond.methodLink "Phrasehall" (33 : Nat) ({ cls := "java/lang/Object", name := "<init>", desc := "()V" } : Jvm.MethodName)) ∈ lw_all := lw_g (lw_at lw_m1 43 rfl) rfl
theorem q87 : (Jvm.Cond.classLink "Phrasehall" (14 : Nat) "java/util/ArrayList") ∈ lw_all := lw_g (lw_at lw_m1 46 rfl) rfl
theorem q89 : (Jvm.Cond.methodLink "Phrasehall" (36 : Nat) ({ cls := "java/util/ArrayList", name := "<init>", desc := "()V" } : Jvm.MethodName)) ∈ lw_all := lw_g (lw_at lw_m1 48 rfl) rfl
theorem q116 : (Jvm.Cond.fieldLink "Phrasehall" (37 : Nat) "Phrasehall" "fencers" "Ljava/util/ArrayList;") ∈ lw_all := lw_g (lw_at lw_m1 75 rfl) rfl
theorem q117 : (Jvm.Cond.fieldLink "Phrasehall" (41 : Nat) "Phrasehall" "bouts" "Ljava/util/ArrayList;") ∈ lw_all := lw_g (lw_at lw_m1 76 rfl) rfl
theorem q118 : (Jvm.Cond.fieldLink "Phrasehall" (44 : Nat) "Phrasehall" "pools" "Ljava/util/ArrayList;") ∈ lw_all := lw_g (lw_at lw_m1 77 rfl) rfl
theorem q120 : (Jvm.Cond.fieldLink "Phrasehall" (47 : Nat) "Phrasehall" "phrase" "Ljava/util/ArrayList;") ∈ lw_all := lw_g (lw_at lw_m1 79 rfl) rfl
theorem q122 : (Jvm.Cond.fieldLink "Phrasehall" (96 : Nat) "Phrasehall" "open" "LPhrasehall$Bout;") ∈ lw_all := lw_g (lw_at lw_m1 81 rfl) rfl
theorem q123 : (Jvm.Cond.fieldLink "Phrasehall" (50 : Nat) "Phrasehall" "reason" "I") ∈ lw_all := lw_g (lw_at lw_m1 82 rfl) rfl
theorem q124 : (Jvm.Cond.fieldLink "Phrasehall" (59 : Nat) "Phrasehall" "seed" "J") ∈ lw_all := lw_g (lw_at lw_m1 83 rfl) rfl
theorem q125 : (Jvm.Cond.fieldLink "Phrasehall" (54 : Nat) "Phrasehall" "rounds" "Ljava/util/ArrayList;") ∈ lw_all := lw_g (lw_at lw_m1 84 rfl) rfl
theorem q126 : (Jvm.Cond.laysFinal "Phrasehall" "Phrasehall" "fencers" "Ljava/util/ArrayList;") ∈ lw_all := lw_g (lw_at lw_m1 85 rfl) rfl
theorem q127 : (Jvm.Cond.soleField "Phrasehall" "fencers") ∈ lw_all := lw_g (lw_at lw_m1 86 rfl) rfl
theorem q128 : (Jvm.Cond.laysFinal "Phrasehall" "Phrasehall" "bouts" "Ljava/util/ArrayList;") ∈ lw_all := lw_g (lw_at lw_m1 87 rfl) rfl
theorem q129 : (Jvm.Cond.soleField "Phrasehall" "bouts") ∈ lw_all := lw_g (lw_at lw_m1 88 rfl) rfl
theorem q130 : (Jvm.Cond.laysFinal "Phrasehall" "Phrasehall" "pools" "Ljava/util/ArrayList;") ∈ lw_all := lw_g (lw_at lw_m1 89 rfl) rfl
theorem q131 : (Jvm.Cond.soleField "Phrasehall" "pools") ∈ lw_all := lw_g (lw_at lw_m1 90 rfl) rfl
theorem q132 : (Jvm.Cond.laysFinal "Phrasehall" "Phrasehall" "phrase" "Ljava/util/ArrayList;") ∈ lw_all := lw_g (lw_at lw_m1 91 rfl) rfl
theorem q133 : (Jvm.Cond.soleField "Phrasehall" "phrase") ∈ lw_all := lw_g (lw_at lw_m1 92 rfl) rfl
theorem q134 : (Jvm.Cond.lays "Phrasehall" "Phrasehall" "open" "LPhrasehall$Bout;") ∈ lw_all := lw_g (lw_at lw_m1 93 rfl) rfl
theorem q135 : (Jvm.Cond.soleField "Phrasehall" "open") ∈ lw_all := lw_g (lw_at lw_m1 94 rfl) rfl
theorem q136 : (Jvm.Cond.lays "Phrasehall" "Phrasehall" "reason" "I") ∈ lw_all := lw_g (lw_at lw_m1 95 rfl) rfl
theorem q137 : (Jvm.Cond.soleField "Phrasehall" "reason") ∈ lw_all := lw_g (lw_at lw_m1 96 rfl) rfl
theorem q138 : (Jvm.Cond.lays "Phrasehall" "Phrasehall" "seed" "J") ∈ lw_all := lw_g (lw_at lw_m1 97 rfl) rfl
theorem q139 : (Jvm.Cond.soleField "Phrasehall" "seed") ∈ lw_all := lw_g (lw_at lw_m1 98 rfl) rfl
theorem q140 : (Jvm.Cond.laysFinal "Phrasehall" "Phrasehall" "rounds" "Ljava/util/ArrayList;") ∈ lw_all := lw_g (lw_at lw_m1 99 rfl) rfl
theorem q141 : (Jvm.Cond.soleField "Phrasehall" "rounds") ∈ lw_all := lw_g (lw_at lw_m1 100 rfl) rfl
theorem q142 : (Jvm.Cond.superclass "Phrasehall" "java/lang/Object") ∈ lw_all := lw_g (lw_at lw_m1 101 rfl) rfl
theorem q144 : (Jvm.Cond.instanceMethod ({ cls := "Phrasehall", name := "holder", desc := "()I" } : Jvm.MethodName)) ∈ lw_all := lw_g (lw_at lw_m1 103 rfl) rfl
theorem q145 : (Jvm.Cond.selects "Phrasehall" ({ cls := "Phrasehall", name := "holder", desc := "()I" } : Jvm.MethodName) ({ cls := "Phrasehall", name := "holder", desc := "()I" } : Jvm.MethodName)) ∈ lw_all := lw_g (lw_at lw_m1 104 rfl) rfl
theorem q146 : (Jvm.Cond.code ({ cls := "Phrasehall", name := "holder", desc := "()I" } : Jvm.MethodName) prog_1_method_33_code (1 : Nat) (Option.some Jvm.ClassFile.FieldType.int)) ∈ lw_all := lw_g (lw_at lw_m1 105 rfl) rfl
theorem q147 : (Jvm.Cond.methodLink "Phrasehall" (13 : Nat) ({ cls := "java/util/ArrayList", name := "size", desc := "()I" } : Jvm.MethodName)) ∈ lw_all := lw_g (lw_at lw_m1 106 rfl) rfl
theorem q151 : (Jvm.Cond.methodLink "Phrasehall" (177 : Nat) ({ cls := "Phrasehall", name := "wayUpTo", desc := "(I)LPhrasehall$Way;" } : Jvm.MethodName)) ∈ lw_all := lw_g (lw_at lw_m1 110 rfl) rfl
theorem q152 : (Jvm.Cond.privateMethod ({ cls := "Phrasehall", name := "wayUpTo", desc := "(I)LPhrasehall$Way;" } : Jvm.MethodName)) ∈ lw_tbl := lw_at lw_m1 111 rfl
theorem q153 : (Jvm.Cond.instanceMethod ({ cls := "Phrasehall", name := "wayUpTo", desc := "(I)LPhrasehall$Way;" } : Jvm.MethodName)) ∈ lw_all := lw_g (lw_at lw_m1 112 rfl) rfl
theorem q154 : (Jvm.Cond.code ({ cls := "Phrasehall", name := "wayUpTo", desc := "(I)LPhrasehall$Way;" } : Jvm.MethodName) prog_1_method_15_code (6 : Nat) (Option.some (Jvm.ClassFile.FieldType.object "Phrasehall$Way"))) ∈ lw_all := lw_g (lw_at lw_m1 113 rfl) rfl
theorem q155 : (Jvm.Cond.classLink "Phrasehall" (164 : Nat) "Phrasehall$Way") ∈ lw_all := lw_g (lw_at lw_m1 114 rfl) rfl
theorem q157 : (Jvm.Cond.methodLinkNest "Phrasehall" (166 : Nat) ({ cls := "Phrasehall$Way", name := "<init>", desc := "()V" } : Jvm.MethodName) "Phrasehall") ∈ lw_tbl := lw_at lw_m1 116 rfl
theorem q162 : (Jvm.Cond.fieldLinkNest "Phrasehall" (181 : Nat) "Phrasehall$Way" "holder" "I" "Phrasehall") ∈ lw_tbl := lw_at lw_m1 121 rfl
theorem q178 : (Jvm.Cond.methodLink "Phrasehall" (29 : Nat) ({ cls := "java/util/ArrayList", name := "get", desc := "(I)Ljava/lang/Object;" } : Jvm.MethodName)) ∈ lw_all := lw_g (lw_at lw_m1 137 rfl) rfl
theorem q192 : (Jvm.Cond.classLink "Phrasehall" (127 : Nat) "Phrasehall$Action") ∈ lw_all := lw_g (lw_at lw_m1 151 rfl) rfl
theorem q193 : (Jvm.Cond.methodLink "Phrasehall" (167 : Nat) ({ cls := "Phrasehall$Way", name := "takes", desc := "(LPhrasehall$Action;)V" } : Jvm.MethodName)) ∈ lw_all := lw_g (lw_at lw_m1 152 rfl) rfl
theorem q222 : (Jvm.Cond.instanceMethod ({ cls := "Phrasehall", name := "reason", desc := "()I" } : Jvm.MethodName)) ∈ lw_all := lw_g (lw_at lw_m1 181 rfl) rfl
theorem q223 : (Jvm.Cond.selects "Phrasehall" ({ cls := "Phrasehall", name := "reason", desc := "()I" } : Jvm.MethodName) ({ cls := "Phrasehall", name := "reason", desc := "()I" } : Jvm.MethodName)) ∈ lw_all := lw_g (lw_at lw_m1 182 rfl) rfl
theorem q224 : (Jvm.Cond.code ({ cls := "Phrasehall", name := "reason", desc := "()I" } : Jvm.MethodName) prog_1_method_34_code (1 : Nat) (Option.some Jvm.ClassFile.FieldType.int)) ∈ lw_all := lw_g (lw_at lw_m1 183 rfl) rfl
theorem q230 : (Jvm.Cond.instanceMethod ({ cls := "Phrasehall", name := "fencer", desc := "()I" } : Jvm.MethodName)) ∈ lw_all := lw_g (lw_at lw_m1 189 rfl) rfl
theorem q231 : (Jvm.Cond.selects "Phrasehall" ({ cls := "Phrasehall", name := "fencer", desc := "()I" } : Jvm.MethodName) ({ cls := "Phrasehall", name := "fencer", desc := "()I" } : Jvm.MethodName)) ∈ lw_all := lw_g (lw_at lw_m1 190 rfl) rfl
theorem q232 : (Jvm.Cond.code ({ cls := "Phrasehall", name := "fencer", desc := "()I" } : Jvm.MethodName) prog_1_method_9_code (1 : Nat) (Option.some Jvm.ClassFile.FieldType.int)) ∈ lw_all := lw_g (lw_at lw_m1 191 rfl) rfl
theorem q233 : (Jvm.Cond.methodLink "Phrasehall" (71 : Nat) ({ cls := "Phrasehall", name := "requireState", desc := "(Z)V" } : Jvm.MethodName)) ∈ lw_all := lw_g (lw_at lw_m1 192 rfl) rfl
theorem q234 : (Jvm.Cond.static ({ cls := "Phrasehall", name := "requireState", desc := "(Z)V" } : Jvm.MethodName)) ∈ lw_all := lw_g (lw_at lw_m1 193 rfl) rfl
theorem q235 : (Jvm.Cond.code ({ cls := "Phrasehall", name := "requireState", desc := "(Z)V" } : Jvm.MethodName) prog_1_method_4_code (1 : Nat) (Option.none : Option Jvm.ClassFile.FieldType)) ∈ lw_all := lw_g (lw_at lw_m1 194 rfl) rfl
theorem q236 : (Jvm.Cond.classLink "Phrasehall" (10 : Nat) "java/lang/IllegalStateException") ∈ lw_all := lw_g (lw_at lw_m1 195 rfl) rfl
theorem q278 : (Jvm.Cond.methodLink "Phrasehall" (12 : Nat) ({ cls := "java/lang/IllegalStateException", name := "<init>", desc := "()V" } : Jvm.MethodName)) ∈ lw_all := lw_g (lw_at lw_m1 237 rfl) rfl
theorem q301 : (Jvm.Cond.classLink "Phrasehall" (74 : Nat) "Phrasehall$Fencer") ∈ lw_all := lw_g (lw_at lw_m2 20 rfl) rfl
theorem q303 : (Jvm.Cond.methodLink "Phrasehall" (76 : Nat) ({ cls := "Phrasehall$Fencer", name := "<init>", desc := "(I)V" } : Jvm.MethodName)) ∈ lw_all := lw_g (lw_at lw_m2 22 rfl) rfl
theorem q310 : (Jvm.Cond.fieldLinkNest "Phrasehall" (241 : Nat) "Phrasehall$Fencer" "number" "I" "Phrasehall") ∈ lw_tbl := lw_at lw_m2 29 rfl
theorem q314 : (Jvm.Cond.methodLink "Phrasehall" (79 : Nat) ({ cls := "java/util/ArrayList", name := "add", desc := "(Ljava/lang/Object;)Z" } : Jvm.MethodName)) ∈ lw_all := lw_g (lw_at lw_m2 33 rfl) rfl
theorem q346 : (Jvm.Cond.selects "Phrasehall" ({ cls := "java/lang/Object", name := "getClass", desc := "()Ljava/lang/Class;" } : Jvm.MethodName) ({ cls := "java/lang/Object", name := "getClass", desc := "()Ljava/lang/Class;" } : Jvm.MethodName)) ∈ lw_all := lw_g (lw_at lw_m2 65 rfl) rfl
theorem q419 : (Jvm.Cond.instanceMethod ({ cls := "Phrasehall", name := "begin", desc := "(IIIII)I" } : Jvm.MethodName)) ∈ lw_all := lw_g (lw_at lw_m2 138 rfl) rfl
theorem q420 : (Jvm.Cond.selects "Phrasehall" ({ cls := "Phrasehall", name := "begin", desc := "(IIIII)I" } : Jvm.MethodName) ({ cls := "Phrasehall", name := "begin", desc := "(IIIII)I" } : Jvm.MethodName)) ∈ lw_all := lw_g (lw_at lw_m2 139 rfl) rfl
theorem q421 : (Jvm.Cond.code ({ cls := "Phrasehall", name := "begin", desc := "(IIIII)I" } : Jvm.MethodName) prog_1_method_10_code (9 : Nat) (Option.some Jvm.ClassFile.FieldType.int)) ∈ lw_all := lw_g (lw_at lw_m2 140 rfl) rfl
theorem q422 : (Jvm.Cond.methodLink "Phrasehall" (83 : Nat) ({ cls := "Phrasehall", name := "at", desc := "(Ljava/util/ArrayList;I)Ljava/lang/Object;" } : Jvm.MethodName)) ∈ lw_all := lw_g (lw_at lw_m2 141 rfl) rfl
theorem q423 : (Jvm.Cond.static ({ cls := "Phrasehall", name := "at", desc := "(Ljava/util/ArrayList;I)Ljava/lang/Object;" } : Jvm.MethodName)) ∈ lw_all := lw_g (lw_at lw_m2 142 rfl) rfl
theorem q424 : (Jvm.Cond.code ({ cls := "Phrasehall", name := "at", desc := "(Ljava/util/ArrayList;I)Ljava/lang/Object;" } : Jvm.MethodName) prog_1_method_5_code (2 : Nat) (Option.some (Jvm.ClassFile.FieldType.object "java/lang/Object"))) ∈ lw_all := lw_g (lw_at lw_m2 143 rfl) rfl
theorem q425 : (Jvm.Cond.methodLink "Phrasehall" (19 : Nat) ({ cls := "Phrasehall", name := "inRange", desc := "(III)Z" } : Jvm.MethodName)) ∈ lw_all := lw_g (lw_at lw_m2 144 rfl) rfl
theorem q426 : (Jvm.Cond.static ({ cls := "Phrasehall", name := "inRange", desc := "(III)Z" } : Jvm.MethodName)) ∈ lw_all := lw_g (lw_at lw_m2 145 rfl) rfl
theorem q427 : (Jvm.Cond.code ({ cls := "Phrasehall", name := "inRange", desc := "(III)Z" } : Jvm.MethodName) prog_1_method_1_code (3 : Nat) (Option.some Jvm.ClassFile.FieldType.boolean)) ∈ lw_all := lw_g (lw_at lw_m2 146 rfl) rfl
theorem q428 : (Jvm.Cond.methodLink "Phrasehall" (25 : Nat) ({ cls := "Phrasehall", name := "requireIndex", desc := "(Z)V" } : Jvm.MethodName)) ∈ lw_all := lw_g (lw_at lw_m2 147 rfl) rfl
theorem q429 : (Jvm.Cond.static ({ cls := "Phrasehall", name := "requireIndex", desc := "(Z)V" } : Jvm.MethodName)) ∈ lw_all := lw_g (lw_at lw_m2 148 rfl) rfl
theorem q430 : (Jvm.Cond.code ({ cls := "Phrasehall", name := "requireIndex", desc := "(Z)V" } : Jvm.MethodName) prog_1_method_2_code (1 : Nat) (Option.none : Option Jvm.ClassFile.FieldType)) ∈ lw_all := lw_g (lw_at lw_m2 149 rfl) rfl
theorem q431 : (Jvm.Cond.classLink "Phrasehall" (1 : Nat) "java/lang/IndexOutOfBoundsException") ∈ lw_all := lw_g (lw_at lw_m2 150 rfl) rfl
theorem q440 : (Jvm.Cond.methodLink "Phrasehall" (3 : Nat) ({ cls := "java/lang/IndexOutOfBoundsException", name := "<init>", desc := "()V" } : Jvm.MethodName)) ∈ lw_all := lw_g (lw_at lw_m2 159 rfl) rfl
theorem q446 : (Jvm.Cond.classLink "Phrasehall" (87 : Nat) "Phrasehall$Pool") ∈ lw_all := lw_g (lw_at lw_m2 165 rfl) rfl
theorem q447 : (Jvm.Cond.methodLink "Phrasehall" (89 : Nat) ({ cls := "Phrasehall$Pool", name := "has", desc := "(I)Z" } : Jvm.MethodName)) ∈ lw_all := lw_g (lw_at lw_m2 166 rfl) rfl
theorem q451 : (Jvm.Cond.methodLink "Phrasehall" (93 : Nat) ({ cls := "Phrasehall", name := "requireArgument", desc := "(Z)V" } : Jvm.MethodName)) ∈ lw_all := lw_g (lw_at lw_m2 170 rfl) rfl
theorem q452 : (Jvm.Cond.static ({ cls := "Phrasehall", name := "requireArgument", desc := "(Z)V" } : Jvm.MethodName)) ∈ lw_all := lw_g (lw_at lw_m2 171 rfl) rfl
theorem q453 : (Jvm.Cond.code ({ cls := "Phrasehall", name := "requireArgument", desc := "(Z)V" } : Jvm.MethodName) prog_1_method_3_code (1 : Nat) (Option.none : Option Jvm.ClassFile.FieldType)) ∈ lw_all := lw_g (lw_at lw_m2 172 rfl) rfl
theorem q454 : (Jvm.Cond.classLink "Phrasehall" (7 : Nat) "java/lang/IllegalArgumentException") ∈ lw_all := lw_g (lw_at lw_m2 173 rfl) rfl
theorem q463 : (Jvm.Cond.methodLink "Phrasehall" (9 : Nat) ({ cls := "java/lang/IllegalArgumentException", name := "<init>", desc := "()V" } : Jvm.MethodName)) ∈ lw_all := lw_g (lw_at lw_m2 182 rfl) rfl
theorem q469 : (Jvm.Cond.methodLink "Phrasehall" (100 : Nat) ({ cls := "Phrasehall$Pool", name := "isIn", desc := "(I)Z" } : Jvm.MethodName)) ∈ lw_all := lw_g (lw_at lw_m2 188 rfl) rfl
theorem q474 : (Jvm.Cond.classLink "Phrasehall" (103 : Nat) "Phrasehall$Bout") ∈ lw_all := lw_g (lw_at lw_m2 193 rfl) rfl
theorem q476 : (Jvm.Cond.methodLink "Phrasehall" (105 : Nat) ({ cls := "Phrasehall$Weapon", name := "of", desc := "(I)LPhrasehall$Weapon;" } : Jvm.MethodName)) ∈ lw_all := lw_g (lw_at lw_m2 195 rfl) rfl
theorem q485 : (Jvm.Cond.methodLink "Phrasehall" (111 : Nat) ({ cls := "Phrasehall$Bout", name := "<init>", desc := "(LPhrasehall;LPhrasehall$Fencer;LPhrasehall$Fencer;LPhrasehall$Weapon;ILPhrasehall$Pool;)V" } : Jvm.MethodName)) ∈ lw_all := lw_g (lw_at lw_m2 204 rfl) rfl
theorem q493 : (Jvm.Cond.fieldLinkNest "Phrasehall" (238 : Nat) "Phrasehall$Bout" "fencers" "[LPhrasehall$Fencer;" "Phrasehall") ∈ lw_tbl := lw_at lw_m2 212 rfl
theorem q495 : (Jvm.Cond.fieldLinkNest "Phrasehall" (144 : Nat) "Phrasehall$Bout" "weapon" "LPhrasehall$Weapon;" "Phrasehall") ∈ lw_tbl := lw_at lw_m2 214 rfl
theorem q497 : (Jvm.Cond.fieldLinkNest "Phrasehall" (195 : Nat) "Phrasehall$Bout" "to" "I" "Phrasehall") ∈ lw_tbl := lw_at lw_m2 216 rfl
theorem q499 : (Jvm.Cond.fieldLinkNest "Phrasehall" (248 : Nat) "Phrasehall$Bout" "pool" "LPhrasehall$Pool;" "Phrasehall") ∈ lw_tbl := lw_at lw_m2 218 rfl
theorem q502 : (Jvm.Cond.fieldLinkNest "Phrasehall" (191 : Nat) "Phrasehall$Bout" "touches" "[I" "Phrasehall") ∈ lw_tbl := lw_at lw_m2 221 rfl
theorem q507 : (Jvm.Cond.fieldLinkNest "Phrasehall" (217 : Nat) "Phrasehall$Bout" "winner" "I" "Phrasehall") ∈ lw_tbl := lw_at lw_m2 226 rfl
theorem q509 : (Jvm.Cond.fieldLinkNest "Phrasehall" (301 : Nat) "Phrasehall$Bout" "seconds" "I" "Phrasehall") ∈ lw_tbl := lw_at lw_m2 228 rfl
theorem q512 : (Jvm.Cond.fieldLinkNest "Phrasehall" (304 : Nat) "Phrasehall$Bout" "passive" "I" "Phrasehall") ∈ lw_tbl := lw_at lw_m2 231 rfl
theorem q514 : (Jvm.Cond.fieldLinkNest "Phrasehall" (307 : Nat) "Phrasehall$Bout" "drawn" "I" "Phrasehall") ∈ lw_tbl := lw_at lw_m2 233 rfl
theorem q549 : (Jvm.Cond.instanceMethod ({ cls := "Phrasehall", name := "act", desc := "(III)I" } : Jvm.MethodName)) ∈ lw_all := lw_g (lw_at lw_m3 28 rfl) rfl
theorem q550 : (Jvm.Cond.selects "Phrasehall" ({ cls := "Phrasehall", name := "act", desc := "(III)I" } : Jvm.MethodName) ({ cls := "Phrasehall", name := "act", desc := "(III)I" } : Jvm.MethodName)) ∈ lw_all := lw_g (lw_at lw_m3 29 rfl) rfl
theorem q551 : (Jvm.Cond.code ({ cls := "Phrasehall", name := "act", desc := "(III)I" } : Jvm.MethodName) prog_1_method_12_code (4 : Nat) (Option.some Jvm.ClassFile.FieldType.int)) ∈ lw_all := lw_g (lw_at lw_m3 30 rfl) rfl
theorem q552 : (Jvm.Cond.methodLink "Phrasehall" (123 : Nat) ({ cls := "Phrasehall", name := "isSide", desc := "(I)Z" } : Jvm.MethodName)) ∈ lw_all := lw_g (lw_at lw_m3 31 rfl) rfl
theorem q553 : (Jvm.Cond.static ({ cls := "Phrasehall", name := "isSide", desc := "(I)Z" } : Jvm.MethodName)) ∈ lw_all := lw_g (lw_at lw_m3 32 rfl) rfl
theorem q554 : (Jvm.Cond.code ({ cls := "Phrasehall", name := "isSide", desc := "(I)Z" } : Jvm.MethodName) prog_1_method_8_code (1 : Nat) (Option.some Jvm.ClassFile.FieldType.boolean)) ∈ lw_all := lw_g (lw_at lw_m3 33 rfl) rfl
theorem q555 : (Jvm.Cond.constant "Phrasehall" (126 : Nat) (1000000 : Int32)) ∈ lw_all := lw_g (lw_at lw_m3 34 rfl) rfl
theorem q557 : (Jvm.Cond.methodLinkNest "Phrasehall" (129 : Nat) ({ cls := "Phrasehall$Action", name := "<init>", desc := "(III)V" } : Jvm.MethodName) "Phrasehall") ∈ lw_tbl := lw_at lw_m3 36 rfl
theorem q574 : (Jvm.Cond.methodLink "Phrasehall" (132 : Nat) ({ cls := "Phrasehall", name := "put", desc := "(LPhrasehall$Part;)I" } : Jvm.MethodName)) ∈ lw_all := lw_g (lw_at lw_m3 53 rfl) rfl
theorem q575 : (Jvm.Cond.privateMethod ({ cls := "Phrasehall", name := "put", desc := "(LPhrasehall$Part;)I" } : Jvm.MethodName)) ∈ lw_tbl := lw_at lw_m3 54 rfl
theorem q576 : (Jvm.Cond.instanceMethod ({ cls := "Phrasehall", name := "put", desc := "(LPhrasehall$Part;)I" } : Jvm.MethodName)) ∈ lw_all := lw_g (lw_at lw_m3 55 rfl) rfl
theorem q577 : (Jvm.Cond.code ({ cls := "Phrasehall", name := "put", desc := "(LPhrasehall$Part;)I" } : Jvm.MethodName) prog_1_method_11_code (3 : Nat) (Option.some Jvm.ClassFile.FieldType.int)) ∈ lw_all := lw_g (lw_at lw_m3 56 rfl) rfl
theorem q578 : (Jvm.Cond.methodLink "Phrasehall" (114 : Nat) ({ cls := "java/util/ArrayList", name := "isEmpty", desc := "()Z" } : Jvm.MethodName)) ∈ lw_all := lw_g (lw_at lw_m3 57 rfl) rfl
theorem q582 : (Jvm.Cond.classLink "Phrasehall" (118 : Nat) "Phrasehall$Part") ∈ lw_all := lw_g (lw_at lw_m3 61 rfl) rfl
theorem q583 : (Jvm.Cond.interfaceEntry "Phrasehall" (120 : Nat)) ∈ lw_tbl := lw_at lw_m3 62 rfl
theorem q584 : (Jvm.Cond.methodLink "Phrasehall" (120 : Nat) ({ cls := "Phrasehall$Part", name := "time", desc := "()I" } : Jvm.MethodName)) ∈ lw_all := lw_g (lw_at lw_m3 63 rfl) rfl
theorem q601 : (Jvm.Cond.instanceMethod ({ cls := "Phrasehall", name := "hit", desc := "(IIII)I" } : Jvm.MethodName)) ∈ lw_all := lw_g (lw_at lw_m3 80 rfl) rfl
theorem q602 : (Jvm.Cond.selects "Phrasehall" ({ cls := "Phrasehall", name := "hit", desc := "(IIII)I" } : Jvm.MethodName) ({ cls := "Phrasehall", name := "hit", desc := "(IIII)I" } : Jvm.MethodName)) ∈ lw_all := lw_g (lw_at lw_m3 81 rfl) rfl
theorem q603 : (Jvm.Cond.code ({ cls := "Phrasehall", name := "hit", desc := "(IIII)I" } : Jvm.MethodName) prog_1_method_13_code (5 : Nat) (Option.some Jvm.ClassFile.FieldType.int)) ∈ lw_all := lw_g (lw_at lw_m3 82 rfl) rfl
theorem q604 : (Jvm.Cond.classLink "Phrasehall" (136 : Nat) "Phrasehall$Contact") ∈ lw_all := lw_g (lw_at lw_m3 83 rfl) rfl
theorem q606 : (Jvm.Cond.methodLinkNest "Phrasehall" (138 : Nat) ({ cls := "Phrasehall$Contact", name := "<init>", desc := "(IIII)V" } : Jvm.MethodName) "Phrasehall") ∈ lw_tbl := lw_at lw_m3 85 rfl
theorem q627 : (Jvm.Cond.instanceMethod ({ cls := "Phrasehall", name := "judge", desc := "()I" } : Jvm.MethodName)) ∈ lw_all := lw_g (lw_at lw_m3 106 rfl) rfl
theorem q628 : (Jvm.Cond.selects "Phrasehall" ({ cls := "Phrasehall", name := "judge", desc := "()I" } : Jvm.MethodName) ({ cls := "Phrasehall", name := "judge", desc := "()I" } : Jvm.MethodName)) ∈ lw_all := lw_g (lw_at lw_m3 107 rfl) rfl
theorem q629 : (Jvm.Cond.code ({ cls := "Phrasehall", name := "judge", desc := "()I" } : Jvm.MethodName) prog_1_method_19_code (2 : Nat) (Option.some Jvm.ClassFile.FieldType.int)) ∈ lw_all := lw_g (lw_at lw_m3 108 rfl) rfl
theorem q630 : (Jvm.Cond.methodLink "Phrasehall" (201 : Nat) ({ cls := "Phrasehall", name := "registered", desc := "(I)I" } : Jvm.MethodName)) ∈ lw_all := lw_g (lw_at lw_m3 109 rfl) rfl
theorem q631 : (Jvm.Cond.privateMethod ({ cls := "Phrasehall", name := "registered", desc := "(I)I" } : Jvm.MethodName)) ∈ lw_tbl := lw_at lw_m3 110 rfl
theorem q632 : (Jvm.Cond.instanceMethod ({ cls := "Phrasehall", name := "registered", desc := "(I)I" } : Jvm.MethodName)) ∈ lw_all := lw_g (lw_at lw_m3 111 rfl) rfl
theorem q633 : (Jvm.Cond.code ({ cls := "Phrasehall", name := "registered", desc := "(I)I" } : Jvm.MethodName) prog_1_method_14_code (6 : Nat) (Option.some Jvm.ClassFile.FieldType.int)) ∈ lw_all := lw_g (lw_at lw_m3 112 rfl) rfl
theorem q634 : (Jvm.Cond.methodLink "Phrasehall" (141 : Nat) ({ cls := "Phrasehall$Contact", name := "span", desc := "()I" } : Jvm.MethodName)) ∈ lw_all := lw_g (lw_at lw_m3 113 rfl) rfl
theorem q638 : (Jvm.Cond.methodLink "Phrasehall" (151 : Nat) ({ cls := "Phrasehall$Contact", name := "target", desc := "()I" } : Jvm.MethodName)) ∈ lw_all := lw_g (lw_at lw_m3 117 rfl) rfl
theorem q642 : (Jvm.Cond.methodLink "Phrasehall" (154 : Nat) ({ cls := "Phrasehall$Weapon", name := "counts", desc := "(I)Z" } : Jvm.MethodName)) ∈ lw_all := lw_g (lw_at lw_m3 121 rfl) rfl
theorem q650 : (Jvm.Cond.methodLink "Phrasehall" (157 : Nat) ({ cls := "Phrasehall$Contact", name := "time", desc := "()I" } : Jvm.MethodName)) ∈ lw_all := lw_g (lw_at lw_m3 129 rfl) rfl
theorem q651 : (Jvm.Cond.methodLink "Phrasehall" (161 : Nat) ({ cls := "Phrasehall$Contact", name := "side", desc := "()I" } : Jvm.MethodName)) ∈ lw_all := lw_g (lw_at lw_m3 130 rfl) rfl
theorem q655 : (Jvm.Cond.methodLink "Phrasehall" (204 : Nat) ({ cls := "Phrasehall", name := "given", desc := "(II)I" } : Jvm.MethodName)) ∈ lw_all := lw_g (lw_at lw_m3 134 rfl) rfl
theorem q656 : (Jvm.Cond.privateMethod ({ cls := "Phrasehall", name := "given", desc := "(II)I" } : Jvm.MethodName)) ∈ lw_tbl := lw_at lw_m3 135 rfl
theorem q657 : (Jvm.Cond.instanceMethod ({ cls := "Phrasehall", name := "given", desc := "(II)I" } : Jvm.MethodName)) ∈ lw_all := lw_g (lw_at lw_m3 136 rfl) rfl
theorem q658 : (Jvm.Cond.code ({ cls := "Phrasehall", name := "given", desc := "(II)I" } : Jvm.MethodName) prog_1_method_18_code (3 : Nat) (Option.some Jvm.ClassFile.FieldType.int)) ∈ lw_all := lw_g (lw_at lw_m3 137 rfl) rfl
theorem q659 : (Jvm.Cond.methodLink "Phrasehall" (171 : Nat) ({ cls := "java/lang/Math", name := "max", desc := "(II)I" } : Jvm.MethodName)) ∈ lw_all := lw_g (lw_at lw_m3 138 rfl) rfl
theorem q660 : (Jvm.Cond.methodLink "Phrasehall" (184 : Nat) ({ cls := "Phrasehall", name := "lampOf", desc := "(I)I" } : Jvm.MethodName)) ∈ lw_all := lw_g (lw_at lw_m3 139 rfl) rfl
theorem q661 : (Jvm.Cond.privateMethod ({ cls := "Phrasehall", name := "lampOf", desc := "(I)I" } : Jvm.MethodName)) ∈ lw_tbl := lw_at lw_m3 140 rfl
theorem q662 : (Jvm.Cond.instanceMethod ({ cls := "Phrasehall", name := "lampOf", desc := "(I)I" } : Jvm.MethodName)) ∈ lw_all := lw_g (lw_at lw_m3 141 rfl) rfl
theorem q663 : (Jvm.Cond.code ({ cls := "Phrasehall", name := "lampOf", desc := "(I)I" } : Jvm.MethodName) prog_1_method_16_code (4 : Nat) (Option.some Jvm.ClassFile.FieldType.int)) ∈ lw_all := lw_g (lw_at lw_m3 142 rfl) rfl
theorem q664 : (Jvm.Cond.fieldLink "Phrasehall" (188 : Nat) "Phrasehall$Weapon" "OF_EPEE" "LPhrasehall$Weapon;") ∈ lw_all := lw_g (lw_at lw_m3 143 rfl) rfl
theorem q665 : (Jvm.Cond.methodLink "Phrasehall" (198 : Nat) ({ cls := "Phrasehall", name := "byRight", desc := "(II)I" } : Jvm.MethodName)) ∈ lw_all := lw_g (lw_at lw_m3 144 rfl) rfl
theorem q666 : (Jvm.Cond.privateMethod ({ cls := "Phrasehall", name := "byRight", desc := "(II)I" } : Jvm.MethodName)) ∈ lw_tbl := lw_at lw_m3 145 rfl
theorem q667 : (Jvm.Cond.instanceMethod ({ cls := "Phrasehall", name := "byRight", desc := "(II)I" } : Jvm.MethodName)) ∈ lw_all := lw_g (lw_at lw_m3 146 rfl) rfl
theorem q668 : (Jvm.Cond.code ({ cls := "Phrasehall", name := "byRight", desc := "(II)I" } : Jvm.MethodName) prog_1_method_17_code (6 : Nat) (Option.some Jvm.ClassFile.FieldType.int)) ∈ lw_all := lw_g (lw_at lw_m3 147 rfl) rfl
theorem q669 : (Jvm.Cond.methodLink "Phrasehall" (207 : Nat) ({ cls := "java/util/ArrayList", name := "clear", desc := "()V" } : Jvm.MethodName)) ∈ lw_all := lw_g (lw_at lw_m3 148 rfl) rfl
theorem q673 : (Jvm.Cond.methodLink "Phrasehall" (210 : Nat) ({ cls := "Phrasehall$Bout", name := "gives", desc := "(IZ)V" } : Jvm.MethodName)) ∈ lw_all := lw_g (lw_at lw_m3 152 rfl) rfl
theorem q703 : (Jvm.Cond.instanceMethod ({ cls := "Phrasehall", name := "card", desc := "(II)I" } : Jvm.MethodName)) ∈ lw_all := lw_g (lw_at lw_m3 182 rfl) rfl
theorem q704 : (Jvm.Cond.selects "Phrasehall" ({ cls := "Phrasehall", name := "card", desc := "(II)I" } : Jvm.MethodName) ({ cls := "Phrasehall", name := "card", desc := "(II)I" } : Jvm.MethodName)) ∈ lw_all := lw_g (lw_at lw_m3 183 rfl) rfl
theorem q705 : (Jvm.Cond.code ({ cls := "Phrasehall", name := "card", desc := "(II)I" } : Jvm.MethodName) prog_1_method_20_code (3 : Nat) (Option.some Jvm.ClassFile.FieldType.int)) ∈ lw_all := lw_g (lw_at lw_m3 184 rfl) rfl
theorem q706 : (Jvm.Cond.methodLink "Phrasehall" (214 : Nat) ({ cls := "Phrasehall$Bout", name := "cards", desc := "(II)I" } : Jvm.MethodName)) ∈ lw_all := lw_g (lw_at lw_m3 185 rfl) rfl
theorem q715 : (Jvm.Cond.instanceMethod ({ cls := "Phrasehall", name := "clock", desc := "(I)I" } : Jvm.MethodName)) ∈ lw_all := lw_g (lw_at lw_m3 194 rfl) rfl
theorem q716 : (Jvm.Cond.selects "Phrasehall" ({ cls := "Phrasehall", name := "clock", desc := "(I)I" } : Jvm.MethodName) ({ cls := "Phrasehall", name := "clock", desc := "(I)I" } : Jvm.MethodName)) ∈ lw_all := lw_g (lw_at lw_m3 195 rfl) rfl
theorem q717 : (Jvm.Cond.code ({ cls := "Phrasehall", name := "clock", desc := "(I)I" } : Jvm.MethodName) prog_1_method_21_code (4 : Nat) (Option.some Jvm.ClassFile.FieldType.int)) ∈ lw_all := lw_g (lw_at lw_m3 196 rfl) rfl
theorem q718 : (Jvm.Cond.methodLink "Phrasehall" (220 : Nat) ({ cls := "Phrasehall$Bout", name := "second", desc := "()V" } : Jvm.MethodName)) ∈ lw_all := lw_g (lw_at lw_m3 197 rfl) rfl
theorem q727 : (Jvm.Cond.privateMethod ({ cls := "Phrasehall", name := "draw", desc := "()I" } : Jvm.MethodName)) ∈ lw_tbl := lw_at lw_m3 206 rfl
theorem q728 : (Jvm.Cond.instanceMethod ({ cls := "Phrasehall", name := "draw", desc := "()I" } : Jvm.MethodName)) ∈ lw_all := lw_g (lw_at lw_m3 207 rfl) rfl
theorem q729 : (Jvm.Cond.code ({ cls := "Phrasehall", name := "draw", desc := "()I" } : Jvm.MethodName) prog_1_method_7_code (1 : Nat) (Option.some Jvm.ClassFile.FieldType.int)) ∈ lw_all := lw_g (lw_at lw_m3 208 rfl) rfl
theorem q730 : (Jvm.Cond.constantLong "Phrasehall" (57 : Nat) (1103515245 : Int64)) ∈ lw_all := lw_g (lw_at lw_m3 209 rfl) rfl
theorem q731 : (Jvm.Cond.constantLong "Phrasehall" (63 : Nat) (12345 : Int64)) ∈ lw_all := lw_g (lw_at lw_m3 210 rfl) rfl
theorem q732 : (Jvm.Cond.constantLong "Phrasehall" (65 : Nat) (2147483648 : Int64)) ∈ lw_all := lw_g (lw_at lw_m3 211 rfl) rfl
theorem q733 : (Jvm.Cond.constantLong "Phrasehall" (67 : Nat) (65536 : Int64)) ∈ lw_all := lw_g (lw_at lw_m3 212 rfl) rfl
theorem q734 : (Jvm.Cond.constantLong "Phrasehall" (69 : Nat) (2 : Int64)) ∈ lw_all := lw_g (lw_at lw_m3 213 rfl) rfl
theorem q735 : (Jvm.Cond.methodLink "Phrasehall" (223 : Nat) ({ cls := "Phrasehall$Bout", name := "left", desc := "()I" } : Jvm.MethodName)) ∈ lw_all := lw_g (lw_at lw_m3 214 rfl) rfl
theorem q743 : (Jvm.Cond.instanceMethod ({ cls := "Phrasehall", name := "end", desc := "()I" } : Jvm.MethodName)) ∈ lw_all := lw_g (lw_at lw_m3 222 rfl) rfl
theorem q744 : (Jvm.Cond.selects "Phrasehall" ({ cls := "Phrasehall", name := "end", desc := "()I" } : Jvm.MethodName) ({ cls := "Phrasehall", name := "end", desc := "()I" } : Jvm.MethodName)) ∈ lw_all := lw_g (lw_at lw_m3 223 rfl) rfl
theorem q745 : (Jvm.Cond.code ({ cls := "Phrasehall", name := "end", desc := "()I" } : Jvm.MethodName) prog_1_method_22_code (2 : Nat) (Option.some Jvm.ClassFile.FieldType.int)) ∈ lw_all := lw_g (lw_at lw_m3 224 rfl) rfl
theorem q746 : (Jvm.Cond.methodLinkNest "Phrasehall" (226 : Nat) ({ cls := "Phrasehall$Bout", name := "better", desc := "()I" } : Jvm.MethodName) "Phrasehall") ∈ lw_tbl := lw_at lw_m3 225 rfl
theorem q747 : (Jvm.Cond.methodLink "Phrasehall" (229 : Nat) ({ cls := "Phrasehall$Bout", name := "ends", desc := "(I)V" } : Jvm.MethodName)) ∈ lw_all := lw_g (lw_at lw_m3 226 rfl) rfl
theorem q752 : (Jvm.Cond.instanceMethod ({ cls := "Phrasehall", name := "seed", desc := "(I)V" } : Jvm.MethodName)) ∈ lw_all := lw_g (lw_at lw_m3 231 rfl) rfl
theorem q753 : (Jvm.Cond.selects "Phrasehall" ({ cls := "Phrasehall", name := "seed", desc := "(I)V" } : Jvm.MethodName) ({ cls := "Phrasehall", name := "seed", desc := "(I)V" } : Jvm.MethodName)) ∈ lw_all := lw_g (lw_at lw_m3 232 rfl) rfl
theorem q754 : (Jvm.Cond.code ({ cls := "Phrasehall", name := "seed", desc := "(I)V" } : Jvm.MethodName) prog_1_method_23_code (2 : Nat) (Option.none : Option Jvm.ClassFile.FieldType)) ∈ lw_all := lw_g (lw_at lw_m3 233 rfl) rfl
theorem q759 : (Jvm.Cond.instanceMethod ({ cls := "Phrasehall", name := "pool", desc := "(I)I" } : Jvm.MethodName)) ∈ lw_all := lw_g (lw_at lw_m3 238 rfl) rfl
theorem q760 : (Jvm.Cond.selects "Phrasehall" ({ cls := "Phrasehall", name := "pool", desc := "(I)I" } : Jvm.MethodName) ({ cls := "Phrasehall", name := "pool", desc := "(I)I" } : Jvm.MethodName)) ∈ lw_all := lw_g (lw_at lw_m3 239 rfl) rfl
theorem q761 : (Jvm.Cond.code ({ cls := "Phrasehall", name := "pool", desc := "(I)I" } : Jvm.MethodName) prog_1_method_24_code (2 : Nat) (Option.some Jvm.ClassFile.FieldType.int)) ∈ lw_all := lw_g (lw_at lw_m4 0 rfl) rfl
theorem q762 : (Jvm.Cond.methodLink "Phrasehall" (232 : Nat) ({ cls := "java/lang/Integer", name := "bitCount", desc := "(I)I" } : Jvm.MethodName)) ∈ lw_all := lw_g (lw_at lw_m4 1 rfl) rfl
theorem q769 : (Jvm.Cond.methodLink "Phrasehall" (237 : Nat) ({ cls := "Phrasehall$Pool", name := "<init>", desc := "(I)V" } : Jvm.MethodName)) ∈ lw_all := lw_g (lw_at lw_m4 8 rfl) rfl
theorem q789 : (Jvm.Cond.fieldLinkNest "Phrasehall" (280 : Nat) "Phrasehall$Table" "isGone" "Z" "Phrasehall") ∈ lw_tbl := lw_at lw_m4 28 rfl
theorem q803 : (Jvm.Cond.fieldLinkNest "Phrasehall" (276 : Nat) "Phrasehall$Pool" "tables" "[LPhrasehall$Table;" "Phrasehall") ∈ lw_tbl := lw_at lw_m4 42 rfl
theorem q813 : (Jvm.Cond.instanceMethod ({ cls := "Phrasehall", name := "withdraw", desc := "(II)I" } : Jvm.MethodName)) ∈ lw_all := lw_g (lw_at lw_m4 52 rfl) rfl
theorem q814 : (Jvm.Cond.selects "Phrasehall" ({ cls := "Phrasehall", name := "withdraw", desc := "(II)I" } : Jvm.MethodName) ({ cls := "Phrasehall", name := "withdraw", desc := "(II)I" } : Jvm.MethodName)) ∈ lw_all := lw_g (lw_at lw_m4 53 rfl) rfl
theorem q815 : (Jvm.Cond.code ({ cls := "Phrasehall", name := "withdraw", desc := "(II)I" } : Jvm.MethodName) prog_1_method_27_code (7 : Nat) (Option.some Jvm.ClassFile.FieldType.int)) ∈ lw_all := lw_g (lw_at lw_m4 54 rfl) rfl
theorem q816 : (Jvm.Cond.methodLink "Phrasehall" (244 : Nat) ({ cls := "Phrasehall", name := "poolWith", desc := "(II)LPhrasehall$Pool;" } : Jvm.MethodName)) ∈ lw_all := lw_g (lw_at lw_m4 55 rfl) rfl
theorem q817 : (Jvm.Cond.privateMethod ({ cls := "Phrasehall", name := "poolWith", desc := "(II)LPhrasehall$Pool;" } : Jvm.MethodName)) ∈ lw_tbl := lw_at lw_m4 56 rfl
theorem q818 : (Jvm.Cond.instanceMethod ({ cls := "Phrasehall", name := "poolWith", desc := "(II)LPhrasehall$Pool;" } : Jvm.MethodName)) ∈ lw_all := lw_g (lw_at lw_m4 57 rfl) rfl
theorem q819 : (Jvm.Cond.code ({ cls := "Phrasehall", name := "poolWith", desc := "(II)LPhrasehall$Pool;" } : Jvm.MethodName) prog_1_method_25_code (4 : Nat) (Option.some (Jvm.ClassFile.FieldType.object "Phrasehall$Pool"))) ∈ lw_all := lw_g (lw_at lw_m4 58 rfl) rfl
theorem q820 : (Jvm.Cond.methodLink "Phrasehall" (252 : Nat) ({ cls := "Phrasehall", name := "isOf", desc := "(LPhrasehall$Bout;I)Z" } : Jvm.MethodName)) ∈ lw_all := lw_g (lw_at lw_m4 59 rfl) rfl
theorem q821 : (Jvm.Cond.static ({ cls := "Phrasehall", name := "isOf", desc := "(LPhrasehall$Bout;I)Z" } : Jvm.MethodName)) ∈ lw_all := lw_g (lw_at lw_m4 60 rfl) rfl
theorem q822 : (Jvm.Cond.code ({ cls := "Phrasehall", name := "isOf", desc := "(LPhrasehall$Bout;I)Z" } : Jvm.MethodName) prog_1_method_26_code (2 : Nat) (Option.some Jvm.ClassFile.FieldType.boolean)) ∈ lw_all := lw_g (lw_at lw_m4 61 rfl) rfl
theorem q823 : (Jvm.Cond.methodLink "Phrasehall" (256 : Nat) ({ cls := "java/util/ArrayList", name := "iterator", desc := "()Ljava/util/Iterator;" } : Jvm.MethodName)) ∈ lw_all := lw_g (lw_at lw_m4 62 rfl) rfl
theorem q846 : (Jvm.Cond.interfaceEntry "Phrasehall" (260 : Nat)) ∈ lw_tbl := lw_at lw_m4 85 rfl
theorem q847 : (Jvm.Cond.methodLink "Phrasehall" (260 : Nat) ({ cls := "java/util/Iterator", name := "hasNext", desc := "()Z" } : Jvm.MethodName)) ∈ lw_all := lw_g (lw_at lw_m4 86 rfl) rfl
theorem q856 : (Jvm.Cond.interfaceEntry "Phrasehall" (265 : Nat)) ∈ lw_tbl := lw_at lw_m4 95 rfl
theorem q857 : (Jvm.Cond.methodLink "Phrasehall" (265 : Nat) ({ cls := "java/util/Iterator", name := "next", desc := "()Ljava/lang/Object;" } : Jvm.MethodName)) ∈ lw_all := lw_g (lw_at lw_m4 96 rfl) rfl
theorem q869 : (Jvm.Cond.methodLink "Phrasehall" (269 : Nat) ({ cls := "Phrasehall$Pool", name := "counts", desc := "(LPhrasehall$Bout;)Z" } : Jvm.MethodName)) ∈ lw_all := lw_g (lw_at lw_m4 108 rfl) rfl
theorem q870 : (Jvm.Cond.methodLink "Phrasehall" (272 : Nat) ({ cls := "Phrasehall$Pool", name := "adds", desc := "(LPhrasehall$Bout;I)V" } : Jvm.MethodName)) ∈ lw_all := lw_g (lw_at lw_m4 109 rfl) rfl
theorem q875 : (Jvm.Cond.instanceMethod ({ cls := "Phrasehall", name := "tableau", desc := "(I)I" } : Jvm.MethodName)) ∈ lw_all := lw_g (lw_at lw_m4 114 rfl) rfl
theorem q876 : (Jvm.Cond.selects "Phrasehall" ({ cls := "Phrasehall", name := "tableau", desc := "(I)I" } : Jvm.MethodName) ({ cls := "Phrasehall", name := "tableau", desc := "(I)I" } : Jvm.MethodName)) ∈ lw_all := lw_g (lw_at lw_m4 115 rfl) rfl
theorem q877 : (Jvm.Cond.code ({ cls := "Phrasehall", name := "tableau", desc := "(I)I" } : Jvm.MethodName) prog_1_method_29_code (8 : Nat) (Option.some Jvm.ClassFile.FieldType.int)) ∈ lw_all := lw_g (lw_at lw_m4 116 rfl) rfl
theorem q878 : (Jvm.Cond.methodLink "Phrasehall" (287 : Nat) ({ cls := "Phrasehall$Pool", name := "ranks", desc := "()Ljava/util/ArrayList;" } : Jvm.MethodName)) ∈ lw_all := lw_g (lw_at lw_m4 117 rfl) rfl
theorem q1160 : (Jvm.Cond.classLink "Phrasehall" (233 : Nat) "java/lang/Integer") ∈ lw_all := lw_g (lw_at lw_m5 159 rfl) rfl
theorem q1161 : (Jvm.Cond.methodLink "Phrasehall" (291 : Nat) ({ cls := "java/lang/Integer", name := "intValue", desc := "()I" } : Jvm.MethodName)) ∈ lw_all := lw_g (lw_at lw_m5 160 rfl) rfl
theorem q1162 : (Jvm.Cond.methodLink "Phrasehall" (294 : Nat) ({ cls := "Phrasehall", name := "meets", desc := "(I)V" } : Jvm.MethodName)) ∈ lw_all := lw_g (lw_at lw_m5 161 rfl) rfl
theorem q1163 : (Jvm.Cond.privateMethod ({ cls := "Phrasehall", name := "meets", desc := "(I)V" } : Jvm.MethodName)) ∈ lw_tbl := lw_at lw_m5 162 rfl
theorem q1164 : (Jvm.Cond.instanceMethod ({ cls := "Phrasehall", name := "meets", desc := "(I)V" } : Jvm.MethodName)) ∈ lw_all := lw_g (lw_at lw_m5 163 rfl) rfl
theorem q1165 : (Jvm.Cond.code ({ cls := "Phrasehall", name := "meets", desc := "(I)V" } : Jvm.MethodName) prog_1_method_28_code (6 : Nat) (Option.none : Option Jvm.ClassFile.FieldType)) ∈ lw_all := lw_g (lw_at lw_m5 164 rfl) rfl
theorem q1166 : (Jvm.Cond.classLink "Phrasehall" (286 : Nat) "[I") ∈ lw_all := lw_g (lw_at lw_m5 165 rfl) rfl
theorem q1171 : (Jvm.Cond.instanceMethod ({ cls := "Phrasehall", name := "wins", desc := "(III)I" } : Jvm.MethodName)) ∈ lw_all := lw_g (lw_at lw_m5 170 rfl) rfl
theorem q1172 : (Jvm.Cond.selects "Phrasehall" ({ cls := "Phrasehall", name := "wins", desc := "(III)I" } : Jvm.MethodName) ({ cls := "Phrasehall", name := "wins", desc := "(III)I" } : Jvm.MethodName)) ∈ lw_all := lw_g (lw_at lw_m5 171 rfl) rfl
theorem q1173 : (Jvm.Cond.code ({ cls := "Phrasehall", name := "wins", desc := "(III)I" } : Jvm.MethodName) prog_1_method_31_code (5 : Nat) (Option.some Jvm.ClassFile.FieldType.int)) ∈ lw_all := lw_g (lw_at lw_m5 172 rfl) rfl
theorem q1174 : (Jvm.Cond.methodLink "Phrasehall" (297 : Nat) ({ cls := "Phrasehall", name := "requireMatch", desc := "(II)V" } : Jvm.MethodName)) ∈ lw_all := lw_g (lw_at lw_m5 173 rfl) rfl
theorem q1175 : (Jvm.Cond.privateMethod ({ cls := "Phrasehall", name := "requireMatch", desc := "(II)V" } : Jvm.MethodName)) ∈ lw_tbl := lw_at lw_m5 174 rfl
theorem q1176 : (Jvm.Cond.instanceMethod ({ cls := "Phrasehall", name := "requireMatch", desc := "(II)V" } : Jvm.MethodName)) ∈ lw_all := lw_g (lw_at lw_m5 175 rfl) rfl
theorem q1177 : (Jvm.Cond.code ({ cls := "Phrasehall", name := "requireMatch", desc := "(II)V" } : Jvm.MethodName) prog_1_method_30_code (3 : Nat) (Option.none : Option Jvm.ClassFile.FieldType)) ∈ lw_all := lw_g (lw_at lw_m5 176 rfl) rfl
theorem q1182 : (Jvm.Cond.instanceMethod ({ cls := "Phrasehall", name := "lamp", desc := "(I)I" } : Jvm.MethodName)) ∈ lw_all := lw_g (lw_at lw_m5 181 rfl) rfl
theorem q1183 : (Jvm.Cond.selects "Phrasehall" ({ cls := "Phrasehall", name := "lamp", desc := "(I)I" } : Jvm.MethodName) ({ cls := "Phrasehall", name := "lamp", desc := "(I)I" } : Jvm.MethodName)) ∈ lw_all := lw_g (lw_at lw_m5 182 rfl) rfl
theorem q1184 : (Jvm.Cond.code ({ cls := "Phrasehall", name := "lamp", desc := "(I)I" } : Jvm.MethodName) prog_1_method_32_code (2 : Nat) (Option.some Jvm.ClassFile.FieldType.int)) ∈ lw_all := lw_g (lw_at lw_m5 183 rfl) rfl
theorem q1189 : (Jvm.Cond.instanceMethod ({ cls := "Phrasehall", name := "ofBout", desc := "(II)I" } : Jvm.MethodName)) ∈ lw_all := lw_g (lw_at lw_m5 188 rfl) rfl
theorem q1190 : (Jvm.Cond.selects "Phrasehall" ({ cls := "Phrasehall", name := "ofBout", desc := "(II)I" } : Jvm.MethodName) ({ cls := "Phrasehall", name := "ofBout", desc := "(II)I" } : Jvm.MethodName)) ∈ lw_all := lw_g (lw_at lw_m5 189 rfl) rfl
theorem q1191 : (Jvm.Cond.code ({ cls := "Phrasehall", name := "ofBout", desc := "(II)I" } : Jvm.MethodName) prog_1_method_35_code (4 : Nat) (Option.some Jvm.ClassFile.FieldType.int)) ∈ lw_all := lw_g (lw_at lw_m5 190 rfl) rfl
theorem q1196 : (Jvm.Cond.instanceMethod ({ cls := "Phrasehall", name := "ofPool", desc := "(III)I" } : Jvm.MethodName)) ∈ lw_all := lw_g (lw_at lw_m5 195 rfl) rfl
theorem q1197 : (Jvm.Cond.selects "Phrasehall" ({ cls := "Phrasehall", name := "ofPool", desc := "(III)I" } : Jvm.MethodName) ({ cls := "Phrasehall", name := "ofPool", desc := "(III)I" } : Jvm.MethodName)) ∈ lw_all := lw_g (lw_at lw_m5 196 rfl) rfl
theorem q1198 : (Jvm.Cond.code ({ cls := "Phrasehall", name := "ofPool", desc := "(III)I" } : Jvm.MethodName) prog_1_method_36_code (5 : Nat) (Option.some Jvm.ClassFile.FieldType.int)) ∈ lw_all := lw_g (lw_at lw_m5 197 rfl) rfl
theorem q1199 : (Jvm.Cond.methodLink "Phrasehall" (310 : Nat) ({ cls := "Phrasehall$Table", name := "told", desc := "(I)I" } : Jvm.MethodName)) ∈ lw_all := lw_g (lw_at lw_m5 198 rfl) rfl
theorem q1207 : (Jvm.Cond.instanceMethod ({ cls := "Phrasehall", name := "ofPoolAnew", desc := "(III)I" } : Jvm.MethodName)) ∈ lw_all := lw_g (lw_at lw_m5 206 rfl) rfl
theorem q1208 : (Jvm.Cond.selects "Phrasehall" ({ cls := "Phrasehall", name := "ofPoolAnew", desc := "(III)I" } : Jvm.MethodName) ({ cls := "Phrasehall", name := "ofPoolAnew", desc := "(III)I" } : Jvm.MethodName)) ∈ lw_all := lw_g (lw_at lw_m5 207 rfl) rfl
theorem q1209 : (Jvm.Cond.code ({ cls := "Phrasehall", name := "ofPoolAnew", desc := "(III)I" } : Jvm.MethodName) prog_1_method_37_code (8 : Nat) (Option.some Jvm.ClassFile.FieldType.int)) ∈ lw_all := lw_g (lw_at lw_m5 208 rfl) rfl
theorem q1210 : (Jvm.Cond.classLink "Phrasehall" (281 : Nat) "Phrasehall$Table") ∈ lw_all := lw_g (lw_at lw_m5 209 rfl) rfl
theorem q1211 : (Jvm.Cond.methodLinkNest "Phrasehall" (313 : Nat) ({ cls := "Phrasehall$Table", name := "<init>", desc := "()V" } : Jvm.MethodName) "Phrasehall") ∈ lw_tbl := lw_at lw_m5 210 rfl
theorem q1212 : (Jvm.Cond.methodLink "Phrasehall" (314 : Nat) ({ cls := "Phrasehall$Table", name := "adds", desc := "(LPhrasehall$Bout;II)V" } : Jvm.MethodName)) ∈ lw_all := lw_g (lw_at lw_m5 211 rfl) rfl
theorem q1217 : (Jvm.Cond.instanceMethod ({ cls := "Phrasehall", name := "rank", desc := "(II)I" } : Jvm.MethodName)) ∈ lw_all := lw_g (lw_at lw_m5 216 rfl) rfl
theorem q1218 : (Jvm.Cond.selects "Phrasehall" ({ cls := "Phrasehall", name := "rank", desc := "(II)I" } : Jvm.MethodName) ({ cls := "Phrasehall", name := "rank", desc := "(II)I" } : Jvm.MethodName)) ∈ lw_all := lw_g (lw_at lw_m5 217 rfl) rfl
theorem q1219 : (Jvm.Cond.code ({ cls := "Phrasehall", name := "rank", desc := "(II)I" } : Jvm.MethodName) prog_1_method_38_code (5 : Nat) (Option.some Jvm.ClassFile.FieldType.int)) ∈ lw_all := lw_g (lw_at lw_m5 218 rfl) rfl
theorem q1224 : (Jvm.Cond.instanceMethod ({ cls := "Phrasehall", name := "meets", desc := "(III)I" } : Jvm.MethodName)) ∈ lw_all := lw_g (lw_at lw_m5 223 rfl) rfl
theorem q1225 : (Jvm.Cond.selects "Phrasehall" ({ cls := "Phrasehall", name := "meets", desc := "(III)I" } : Jvm.MethodName) ({ cls := "Phrasehall", name := "meets", desc := "(III)I" } : Jvm.MethodName)) ∈ lw_all := lw_g (lw_at lw_m5 224 rfl) rfl
theorem q1226 : (Jvm.Cond.code ({ cls := "Phrasehall", name := "meets", desc := "(III)I" } : Jvm.MethodName) prog_1_method_39_code (4 : Nat) (Option.some Jvm.ClassFile.FieldType.int)) ∈ lw_all := lw_g (lw_at lw_m5 225 rfl) rfl
theorem q1542 : (Jvm.Cond.castable "Phrasehall" "java/lang/Object") ∈ lw_tbl := lw_at lw_m7 61 rfl
theorem q1571 : (Jvm.Cond.fieldLinkNest "Phrasehall" (148 : Nat) "Phrasehall$Weapon" "least" "I" "Phrasehall") ∈ lw_tbl := lw_at lw_m7 90 rfl
theorem q1572 : (Jvm.Cond.fieldLinkNest "Phrasehall" (158 : Nat) "Phrasehall$Weapon" "lockout" "I" "Phrasehall") ∈ lw_tbl := lw_at lw_m7 91 rfl
theorem in_X1 : ∀ w ∈ wsX10, w ∈ lw_all := lw_in wsX10 [126, 128, 130, 132, 134, 136, 138, 140] (by decide +kernel) (by decide +kernel)

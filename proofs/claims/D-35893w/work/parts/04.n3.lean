/-! Phrasehall$Fencer -/
set_option maxRecDepth 100000
def RX3 : String := "Phrasehall$Fencer"
def TX3 : u_T := fun k => match k with
  | _ => ("Phrasehall$Fencer", "number", "I", true)
def tyX3 : Nat → FieldType := fun k => match k with
  | _ => .int
abbrev wsX30 : List Cond := u_ws RX3 TX3 1
theorem nmX3 : ∀ a, a < 1 → ∀ b, b < 1 → a ≠ b → (TX3 a).2.1 ≠ (TX3 b).2.1 := by decide +kernel
theorem tyX3_ok : ∀ k, k < 1 → parseFieldDescriptor (TX3 k).2.2.1 = some (tyX3 k) := by decide +kernel
abbrev cX3_init : ByteArray := prog_5_method_1_code
def yX3_init : MethodName := ⟨RX3, "<init>", "(I)V"⟩
def dkwX3_init_0 : List UInt8 := [42, 183, 0, 1, 42, 27, 181, 0, 7, 177]
abbrev dktX3_init_0 : List UInt8 := dkwX3_init_0 ++ []
theorem dksX3_init_0 : cX3_init.data.toList.drop 0 = dktX3_init_0 := by decide +kernel
theorem dX3_init_0 : decode cX3_init 0 = .ok (.aload_n 0, 1) := dk_42 (dk_at dksX3_init_0 0 rfl rfl)
theorem dX3_init_1 : decode cX3_init 1 = .ok (.invokespecial 1, 3) := dk_183 0 1 (dk_at dksX3_init_0 1 rfl rfl)
theorem dX3_init_4 : decode cX3_init 4 = .ok (.aload_n 0, 1) := dk_42 (dk_at dksX3_init_0 4 rfl rfl)
theorem dX3_init_5 : decode cX3_init 5 = .ok (.iload_n 1, 1) := dk_27 (dk_at dksX3_init_0 5 rfl rfl)
theorem dX3_init_6 : decode cX3_init 6 = .ok (.putfield 7, 3) := dk_181 0 7 (dk_at dksX3_init_0 6 rfl rfl)
theorem dX3_init_9 : decode cX3_init 9 = .ok (.return_, 1) := dk_177 (dk_at dksX3_init_0 9 rfl rfl)
theorem q51 : (Jvm.Cond.initialized "Phrasehall$Fencer") ∈ lw_all := lw_g (lw_at lw_m1 10 rfl) rfl
theorem q302 : (Jvm.Cond.instantiable "Phrasehall$Fencer" (1 : Nat)) ∈ lw_all := lw_g (lw_at lw_m2 21 rfl) rfl
theorem q304 : (Jvm.Cond.instanceMethod ({ cls := "Phrasehall$Fencer", name := "<init>", desc := "(I)V" } : Jvm.MethodName)) ∈ lw_all := lw_g (lw_at lw_m2 23 rfl) rfl
theorem q305 : (Jvm.Cond.code ({ cls := "Phrasehall$Fencer", name := "<init>", desc := "(I)V" } : Jvm.MethodName) prog_5_method_1_code (2 : Nat) (Option.none : Option Jvm.ClassFile.FieldType)) ∈ lw_all := lw_g (lw_at lw_m2 24 rfl) rfl
theorem q306 : (Jvm.Cond.methodLink "Phrasehall$Fencer" (1 : Nat) ({ cls := "java/lang/Object", name := "<init>", desc := "()V" } : Jvm.MethodName)) ∈ lw_all := lw_g (lw_at lw_m2 25 rfl) rfl
theorem q307 : (Jvm.Cond.fieldLink "Phrasehall$Fencer" (7 : Nat) "Phrasehall$Fencer" "number" "I") ∈ lw_all := lw_g (lw_at lw_m2 26 rfl) rfl
theorem q311 : (Jvm.Cond.laysFinal "Phrasehall$Fencer" "Phrasehall$Fencer" "number" "I") ∈ lw_all := lw_g (lw_at lw_m2 30 rfl) rfl
theorem q312 : (Jvm.Cond.soleField "Phrasehall$Fencer" "number") ∈ lw_all := lw_g (lw_at lw_m2 31 rfl) rfl
theorem q313 : (Jvm.Cond.superclass "Phrasehall$Fencer" "java/lang/Object") ∈ lw_all := lw_g (lw_at lw_m2 32 rfl) rfl
theorem q350 : (Jvm.Cond.selects "Phrasehall$Fencer" ({ cls := "java/lang/Object", name := "getClass", desc := "()Ljava/lang/Class;" } : Jvm.MethodName) ({ cls := "java/lang/Object", name := "getClass", desc := "()Ljava/lang/Class;" } : Jvm.MethodName)) ∈ lw_all := lw_g (lw_at lw_m2 69 rfl) rfl
theorem q1540 : (Jvm.Cond.castable "Phrasehall$Fencer" "java/lang/Object") ∈ lw_tbl := lw_at lw_m7 59 rfl
theorem in_X3 : ∀ w ∈ wsX30, w ∈ lw_all := lw_in wsX30 [311] (by decide +kernel) (by decide +kernel)
/-! Phrasehall$Bout -/
set_option maxRecDepth 100000
def RX4 : String := "Phrasehall$Bout"
def TX4 : u_T := fun k => match k with
  | 0 => ("Phrasehall$Bout", "fencers", "[LPhrasehall$Fencer;", true)
  | 1 => ("Phrasehall$Bout", "weapon", "LPhrasehall$Weapon;", true)
  | 2 => ("Phrasehall$Bout", "to", "I", true)
  | 3 => ("Phrasehall$Bout", "pool", "LPhrasehall$Pool;", true)
  | 4 => ("Phrasehall$Bout", "touches", "[I", true)
  | 5 => ("Phrasehall$Bout", "cards", "[I", true)
  | 6 => ("Phrasehall$Bout", "hadLast", "[Z", true)
  | 7 => ("Phrasehall$Bout", "winner", "I", false)
  | 8 => ("Phrasehall$Bout", "seconds", "I", false)
  | 9 => ("Phrasehall$Bout", "quiet", "I", false)
  | 10 => ("Phrasehall$Bout", "passive", "I", false)
  | 11 => ("Phrasehall$Bout", "drawn", "I", false)
  | _ => ("Phrasehall$Bout", "this$0", "LPhrasehall;", true)
def tyX4 : Nat → FieldType := fun k => match k with
  | 0 => .array (.object "Phrasehall$Fencer")
  | 1 => .object "Phrasehall$Weapon"
  | 2 => .int
  | 3 => .object "Phrasehall$Pool"
  | 4 => .array .int
  | 5 => .array .int
  | 6 => .array .boolean
  | 7 => .int
  | 8 => .int
  | 9 => .int
  | 10 => .int
  | 11 => .int
  | _ => .object "Phrasehall"
abbrev wsX40 : List Cond := u_ws RX4 TX4 13
set_option maxRecDepth 100000 in
theorem nmX4 : ∀ a, a < 13 → ∀ b, b < 13 → a ≠ b → (TX4 a).2.1 ≠ (TX4 b).2.1 := by decide +kernel
set_option maxRecDepth 100000 in
theorem tyX4_ok : ∀ k, k < 13 → parseFieldDescriptor (TX4 k).2.2.1 = some (tyX4 k) := by decide +kernel
abbrev cX4_init : ByteArray := prog_3_method_1_code
def yX4_init : MethodName := ⟨RX4, "<init>", "(LPhrasehall;LPhrasehall$Fencer;LPhrasehall$Fencer;LPhrasehall$Weapon;ILPhrasehall$Pool;)V"⟩
def dkwX4_init_3 : List UInt8 := [181, 0, 46, 177]
abbrev dktX4_init_3 : List UInt8 := dkwX4_init_3 ++ []
def dkwX4_init_2 : List UInt8 := [83, 89, 4, 45, 83, 181, 0, 35, 42, 25, 4, 181, 0, 39, 42, 21, 5, 181, 0, 43, 42, 25, 6]
abbrev dktX4_init_2 : List UInt8 := dkwX4_init_2 ++ dktX4_init_3
def dkwX4_init_1 : List UInt8 := [5, 188, 4, 181, 0, 22, 42, 2, 181, 0, 26, 42, 2, 181, 0, 30, 42, 5, 189, 0, 33, 89, 3, 44]
abbrev dktX4_init_1 : List UInt8 := dkwX4_init_1 ++ dktX4_init_2
def dkwX4_init_0 : List UInt8 := [42, 43, 181, 0, 3, 42, 183, 0, 9, 42, 5, 188, 10, 181, 0, 15, 42, 5, 188, 10, 181, 0, 19, 42]
abbrev dktX4_init_0 : List UInt8 := dkwX4_init_0 ++ dktX4_init_1
theorem dksX4_init_0 : cX4_init.data.toList.drop 0 = dktX4_init_0 := by decide +kernel
theorem dksX4_init_1 : cX4_init.data.toList.drop 24 = dktX4_init_1 := dk_seg dksX4_init_0 24 rfl rfl
theorem dksX4_init_2 : cX4_init.data.toList.drop 48 = dktX4_init_2 := dk_seg dksX4_init_1 24 rfl rfl
theorem dksX4_init_3 : cX4_init.data.toList.drop 71 = dktX4_init_3 := dk_seg dksX4_init_2 23 rfl rfl
theorem dX4_init_0 : decode cX4_init 0 = .ok (.aload_n 0, 1) := dk_42 (dk_at dksX4_init_0 0 rfl rfl)
theorem dX4_init_1 : decode cX4_init 1 = .ok (.aload_n 1, 1) := dk_43 (dk_at dksX4_init_0 1 rfl rfl)
theorem dX4_init_2 : decode cX4_init 2 = .ok (.putfield 3, 3) := dk_181 0 3 (dk_at dksX4_init_0 2 rfl rfl)
theorem dX4_init_5 : decode cX4_init 5 = .ok (.aload_n 0, 1) := dk_42 (dk_at dksX4_init_0 5 rfl rfl)
theorem dX4_init_6 : decode cX4_init 6 = .ok (.invokespecial 9, 3) := dk_183 0 9 (dk_at dksX4_init_0 6 rfl rfl)
theorem dX4_init_9 : decode cX4_init 9 = .ok (.aload_n 0, 1) := dk_42 (dk_at dksX4_init_0 9 rfl rfl)
theorem dX4_init_10 : decode cX4_init 10 = .ok (.iconst 2, 1) := dk_5 (dk_at dksX4_init_0 10 rfl rfl)
theorem dX4_init_11 : decode cX4_init 11 = .ok (.newarray .int, 2) := dk_188_10 (dk_at dksX4_init_0 11 rfl rfl)
theorem dX4_init_13 : decode cX4_init 13 = .ok (.putfield 15, 3) := dk_181 0 15 (dk_at dksX4_init_0 13 rfl rfl)
theorem dX4_init_16 : decode cX4_init 16 = .ok (.aload_n 0, 1) := dk_42 (dk_at dksX4_init_0 16 rfl rfl)
theorem dX4_init_17 : decode cX4_init 17 = .ok (.iconst 2, 1) := dk_5 (dk_at dksX4_init_0 17 rfl rfl)
theorem dX4_init_18 : decode cX4_init 18 = .ok (.newarray .int, 2) := dk_188_10 (dk_at dksX4_init_0 18 rfl rfl)
theorem dX4_init_20 : decode cX4_init 20 = .ok (.putfield 19, 3) := dk_181 0 19 (dk_at dksX4_init_0 20 rfl rfl)
theorem dX4_init_23 : decode cX4_init 23 = .ok (.aload_n 0, 1) := dk_42 (dk_at dksX4_init_0 23 rfl rfl)
theorem dX4_init_24 : decode cX4_init 24 = .ok (.iconst 2, 1) := dk_5 (dk_at dksX4_init_1 0 rfl rfl)
theorem dX4_init_25 : decode cX4_init 25 = .ok (.newarray .boolean, 2) := dk_188_4 (dk_at dksX4_init_1 1 rfl rfl)
theorem dX4_init_27 : decode cX4_init 27 = .ok (.putfield 22, 3) := dk_181 0 22 (dk_at dksX4_init_1 3 rfl rfl)
theorem dX4_init_30 : decode cX4_init 30 = .ok (.aload_n 0, 1) := dk_42 (dk_at dksX4_init_1 6 rfl rfl)
theorem dX4_init_31 : decode cX4_init 31 = .ok (.iconst (-1), 1) := dk_2 (dk_at dksX4_init_1 7 rfl rfl)
theorem dX4_init_32 : decode cX4_init 32 = .ok (.putfield 26, 3) := dk_181 0 26 (dk_at dksX4_init_1 8 rfl rfl)
theorem dX4_init_35 : decode cX4_init 35 = .ok (.aload_n 0, 1) := dk_42 (dk_at dksX4_init_1 11 rfl rfl)
theorem dX4_init_36 : decode cX4_init 36 = .ok (.iconst (-1), 1) := dk_2 (dk_at dksX4_init_1 12 rfl rfl)
theorem dX4_init_37 : decode cX4_init 37 = .ok (.putfield 30, 3) := dk_181 0 30 (dk_at dksX4_init_1 13 rfl rfl)
theorem dX4_init_40 : decode cX4_init 40 = .ok (.aload_n 0, 1) := dk_42 (dk_at dksX4_init_1 16 rfl rfl)
theorem dX4_init_41 : decode cX4_init 41 = .ok (.iconst 2, 1) := dk_5 (dk_at dksX4_init_1 17 rfl rfl)
theorem dX4_init_42 : decode cX4_init 42 = .ok (.anewarray 33, 3) := dk_189 0 33 (dk_at dksX4_init_1 18 rfl rfl)
theorem dX4_init_45 : decode cX4_init 45 = .ok (.dup, 1) := dk_89 (dk_at dksX4_init_1 21 rfl rfl)
theorem dX4_init_46 : decode cX4_init 46 = .ok (.iconst 0, 1) := dk_3 (dk_at dksX4_init_1 22 rfl rfl)
theorem dX4_init_47 : decode cX4_init 47 = .ok (.aload_n 2, 1) := dk_44 (dk_at dksX4_init_1 23 rfl rfl)
theorem dX4_init_48 : decode cX4_init 48 = .ok (.aastore, 1) := dk_83 (dk_at dksX4_init_2 0 rfl rfl)
theorem dX4_init_49 : decode cX4_init 49 = .ok (.dup, 1) := dk_89 (dk_at dksX4_init_2 1 rfl rfl)
theorem dX4_init_50 : decode cX4_init 50 = .ok (.iconst 1, 1) := dk_4 (dk_at dksX4_init_2 2 rfl rfl)
theorem dX4_init_51 : decode cX4_init 51 = .ok (.aload_n 3, 1) := dk_45 (dk_at dksX4_init_2 3 rfl rfl)
theorem dX4_init_52 : decode cX4_init 52 = .ok (.aastore, 1) := dk_83 (dk_at dksX4_init_2 4 rfl rfl)
theorem dX4_init_53 : decode cX4_init 53 = .ok (.putfield 35, 3) := dk_181 0 35 (dk_at dksX4_init_2 5 rfl rfl)
theorem dX4_init_56 : decode cX4_init 56 = .ok (.aload_n 0, 1) := dk_42 (dk_at dksX4_init_2 8 rfl rfl)
theorem dX4_init_57 : decode cX4_init 57 = .ok (.aload 4, 2) := dk_25 4 (dk_at dksX4_init_2 9 rfl rfl)
theorem dX4_init_59 : decode cX4_init 59 = .ok (.putfield 39, 3) := dk_181 0 39 (dk_at dksX4_init_2 11 rfl rfl)
theorem dX4_init_62 : decode cX4_init 62 = .ok (.aload_n 0, 1) := dk_42 (dk_at dksX4_init_2 14 rfl rfl)
theorem dX4_init_63 : decode cX4_init 63 = .ok (.iload 5, 2) := dk_21 5 (dk_at dksX4_init_2 15 rfl rfl)
theorem dX4_init_65 : decode cX4_init 65 = .ok (.putfield 43, 3) := dk_181 0 43 (dk_at dksX4_init_2 17 rfl rfl)
theorem dX4_init_68 : decode cX4_init 68 = .ok (.aload_n 0, 1) := dk_42 (dk_at dksX4_init_2 20 rfl rfl)
theorem dX4_init_69 : decode cX4_init 69 = .ok (.aload 6, 2) := dk_25 6 (dk_at dksX4_init_2 21 rfl rfl)
theorem dX4_init_71 : decode cX4_init 71 = .ok (.putfield 46, 3) := dk_181 0 46 (dk_at dksX4_init_3 0 rfl rfl)
theorem dX4_init_74 : decode cX4_init 74 = .ok (.return_, 1) := dk_177 (dk_at dksX4_init_3 3 rfl rfl)
abbrev cX4_gives : ByteArray := prog_3_method_4_code
def yX4_gives : MethodName := ⟨RX4, "gives", "(IZ)V"⟩
def dkwX4_gives_4 : List UInt8 := [180, 0, 15, 3, 46, 42, 180, 0, 15, 4, 46, 159, 0, 11, 42, 42, 182, 0, 79, 182, 0, 83, 177]
abbrev dktX4_gives_4 : List UInt8 := dkwX4_gives_4 ++ []
def dkwX4_gives_3 : List UInt8 := [161, 0, 7, 4, 167, 0, 4, 3, 62, 29, 154, 0, 26, 42, 180, 0, 30, 2, 159, 0, 26, 42]
abbrev dktX4_gives_3 : List UInt8 := dkwX4_gives_3 ++ dktX4_gives_4
def dkwX4_gives_2 : List UInt8 := [180, 0, 15, 3, 46, 42, 180, 0, 43, 162, 0, 16, 42, 180, 0, 15, 4, 46, 42, 180, 0, 43]
abbrev dktX4_gives_2 : List UInt8 := dkwX4_gives_2 ++ dktX4_gives_3
def dkwX4_gives_1 : List UInt8 := [96, 79, 42, 28, 153, 0, 11, 27, 158, 0, 7, 3, 167, 0, 7, 42, 180, 0, 76, 181, 0, 76, 42]
abbrev dktX4_gives_1 : List UInt8 := dkwX4_gives_1 ++ dktX4_gives_2
def dkwX4_gives_0 : List UInt8 := [42, 180, 0, 15, 3, 92, 46, 27, 4, 126, 96, 79, 42, 180, 0, 15, 4, 92, 46, 27, 4, 122, 4, 126]
abbrev dktX4_gives_0 : List UInt8 := dkwX4_gives_0 ++ dktX4_gives_1
theorem dksX4_gives_0 : cX4_gives.data.toList.drop 0 = dktX4_gives_0 := by decide +kernel
theorem dksX4_gives_1 : cX4_gives.data.toList.drop 24 = dktX4_gives_1 := dk_seg dksX4_gives_0 24 rfl rfl
theorem dksX4_gives_2 : cX4_gives.data.toList.drop 47 = dktX4_gives_2 := dk_seg dksX4_gives_1 23 rfl rfl
theorem dksX4_gives_3 : cX4_gives.data.toList.drop 69 = dktX4_gives_3 := dk_seg dksX4_gives_2 22 rfl rfl
theorem dksX4_gives_4 : cX4_gives.data.toList.drop 91 = dktX4_gives_4 := dk_seg dksX4_gives_3 22 rfl rfl
theorem dX4_gives_0 : decode cX4_gives 0 = .ok (.aload_n 0, 1) := dk_42 (dk_at dksX4_gives_0 0 rfl rfl)
theorem dX4_gives_1 : decode cX4_gives 1 = .ok (.getfield 15, 3) := dk_180 0 15 (dk_at dksX4_gives_0 1 rfl rfl)
theorem dX4_gives_4 : decode cX4_gives 4 = .ok (.iconst 0, 1) := dk_3 (dk_at dksX4_gives_0 4 rfl rfl)
theorem dX4_gives_5 : decode cX4_gives 5 = .ok (.dup2, 1) := dk_92 (dk_at dksX4_gives_0 5 rfl rfl)
theorem dX4_gives_6 : decode cX4_gives 6 = .ok (.iaload, 1) := dk_46 (dk_at dksX4_gives_0 6 rfl rfl)
theorem dX4_gives_7 : decode cX4_gives 7 = .ok (.iload_n 1, 1) := dk_27 (dk_at dksX4_gives_0 7 rfl rfl)
theorem dX4_gives_8 : decode cX4_gives 8 = .ok (.iconst 1, 1) := dk_4 (dk_at dksX4_gives_0 8 rfl rfl)
theorem dX4_gives_9 : decode cX4_gives 9 = .ok (.iand, 1) := dk_126 (dk_at dksX4_gives_0 9 rfl rfl)
theorem dX4_gives_10 : decode cX4_gives 10 = .ok (.iadd, 1) := dk_96 (dk_at dksX4_gives_0 10 rfl rfl)
theorem dX4_gives_11 : decode cX4_gives 11 = .ok (.iastore, 1) := dk_79 (dk_at dksX4_gives_0 11 rfl rfl)
theorem dX4_gives_12 : decode cX4_gives 12 = .ok (.aload_n 0, 1) := dk_42 (dk_at dksX4_gives_0 12 rfl rfl)
theorem dX4_gives_13 : decode cX4_gives 13 = .ok (.getfield 15, 3) := dk_180 0 15 (dk_at dksX4_gives_0 13 rfl rfl)
theorem dX4_gives_16 : decode cX4_gives 16 = .ok (.iconst 1, 1) := dk_4 (dk_at dksX4_gives_0 16 rfl rfl)
theorem dX4_gives_17 : decode cX4_gives 17 = .ok (.dup2, 1) := dk_92 (dk_at dksX4_gives_0 17 rfl rfl)
theorem dX4_gives_18 : decode cX4_gives 18 = .ok (.iaload, 1) := dk_46 (dk_at dksX4_gives_0 18 rfl rfl)
theorem dX4_gives_19 : decode cX4_gives 19 = .ok (.iload_n 1, 1) := dk_27 (dk_at dksX4_gives_0 19 rfl rfl)
theorem dX4_gives_20 : decode cX4_gives 20 = .ok (.iconst 1, 1) := dk_4 (dk_at dksX4_gives_0 20 rfl rfl)
theorem dX4_gives_21 : decode cX4_gives 21 = .ok (.ishr, 1) := dk_122 (dk_at dksX4_gives_0 21 rfl rfl)
theorem dX4_gives_22 : decode cX4_gives 22 = .ok (.iconst 1, 1) := dk_4 (dk_at dksX4_gives_0 22 rfl rfl)
theorem dX4_gives_23 : decode cX4_gives 23 = .ok (.iand, 1) := dk_126 (dk_at dksX4_gives_0 23 rfl rfl)
theorem dX4_gives_24 : decode cX4_gives 24 = .ok (.iadd, 1) := dk_96 (dk_at dksX4_gives_1 0 rfl rfl)
theorem dX4_gives_25 : decode cX4_gives 25 = .ok (.iastore, 1) := dk_79 (dk_at dksX4_gives_1 1 rfl rfl)
theorem dX4_gives_26 : decode cX4_gives 26 = .ok (.aload_n 0, 1) := dk_42 (dk_at dksX4_gives_1 2 rfl rfl)
theorem dX4_gives_27 : decode cX4_gives 27 = .ok (.iload_n 2, 1) := dk_28 (dk_at dksX4_gives_1 3 rfl rfl)
theorem dX4_gives_28 : decode cX4_gives 28 = .ok (.ifCond .eq 11, 3) := dk_153 0 11 (dk_at dksX4_gives_1 4 rfl rfl)
theorem dX4_gives_31 : decode cX4_gives 31 = .ok (.iload_n 1, 1) := dk_27 (dk_at dksX4_gives_1 7 rfl rfl)
theorem dX4_gives_32 : decode cX4_gives 32 = .ok (.ifCond .le 7, 3) := dk_158 0 7 (dk_at dksX4_gives_1 8 rfl rfl)
theorem dX4_gives_35 : decode cX4_gives 35 = .ok (.iconst 0, 1) := dk_3 (dk_at dksX4_gives_1 11 rfl rfl)
theorem dX4_gives_36 : decode cX4_gives 36 = .ok (.goto 7, 3) := dk_167 0 7 (dk_at dksX4_gives_1 12 rfl rfl)
theorem dX4_gives_39 : decode cX4_gives 39 = .ok (.aload_n 0, 1) := dk_42 (dk_at dksX4_gives_1 15 rfl rfl)
theorem dX4_gives_40 : decode cX4_gives 40 = .ok (.getfield 76, 3) := dk_180 0 76 (dk_at dksX4_gives_1 16 rfl rfl)
theorem dX4_gives_43 : decode cX4_gives 43 = .ok (.putfield 76, 3) := dk_181 0 76 (dk_at dksX4_gives_1 19 rfl rfl)
theorem dX4_gives_46 : decode cX4_gives 46 = .ok (.aload_n 0, 1) := dk_42 (dk_at dksX4_gives_1 22 rfl rfl)
theorem dX4_gives_47 : decode cX4_gives 47 = .ok (.getfield 15, 3) := dk_180 0 15 (dk_at dksX4_gives_2 0 rfl rfl)
theorem dX4_gives_50 : decode cX4_gives 50 = .ok (.iconst 0, 1) := dk_3 (dk_at dksX4_gives_2 3 rfl rfl)
theorem dX4_gives_51 : decode cX4_gives 51 = .ok (.iaload, 1) := dk_46 (dk_at dksX4_gives_2 4 rfl rfl)
theorem dX4_gives_52 : decode cX4_gives 52 = .ok (.aload_n 0, 1) := dk_42 (dk_at dksX4_gives_2 5 rfl rfl)
theorem dX4_gives_53 : decode cX4_gives 53 = .ok (.getfield 43, 3) := dk_180 0 43 (dk_at dksX4_gives_2 6 rfl rfl)
theorem dX4_gives_56 : decode cX4_gives 56 = .ok (.if_icmp .ge 16, 3) := dk_162 0 16 (dk_at dksX4_gives_2 9 rfl rfl)
theorem dX4_gives_59 : decode cX4_gives 59 = .ok (.aload_n 0, 1) := dk_42 (dk_at dksX4_gives_2 12 rfl rfl)
theorem dX4_gives_60 : decode cX4_gives 60 = .ok (.getfield 15, 3) := dk_180 0 15 (dk_at dksX4_gives_2 13 rfl rfl)
theorem dX4_gives_63 : decode cX4_gives 63 = .ok (.iconst 1, 1) := dk_4 (dk_at dksX4_gives_2 16 rfl rfl)
theorem dX4_gives_64 : decode cX4_gives 64 = .ok (.iaload, 1) := dk_46 (dk_at dksX4_gives_2 17 rfl rfl)
theorem dX4_gives_65 : decode cX4_gives 65 = .ok (.aload_n 0, 1) := dk_42 (dk_at dksX4_gives_2 18 rfl rfl)
theorem dX4_gives_66 : decode cX4_gives 66 = .ok (.getfield 43, 3) := dk_180 0 43 (dk_at dksX4_gives_2 19 rfl rfl)
theorem dX4_gives_69 : decode cX4_gives 69 = .ok (.if_icmp .lt 7, 3) := dk_161 0 7 (dk_at dksX4_gives_3 0 rfl rfl)
theorem dX4_gives_72 : decode cX4_gives 72 = .ok (.iconst 1, 1) := dk_4 (dk_at dksX4_gives_3 3 rfl rfl)
theorem dX4_gives_73 : decode cX4_gives 73 = .ok (.goto 4, 3) := dk_167 0 4 (dk_at dksX4_gives_3 4 rfl rfl)
theorem dX4_gives_76 : decode cX4_gives 76 = .ok (.iconst 0, 1) := dk_3 (dk_at dksX4_gives_3 7 rfl rfl)
theorem dX4_gives_77 : decode cX4_gives 77 = .ok (.istore_n 3, 1) := dk_62 (dk_at dksX4_gives_3 8 rfl rfl)
theorem dX4_gives_78 : decode cX4_gives 78 = .ok (.iload_n 3, 1) := dk_29 (dk_at dksX4_gives_3 9 rfl rfl)
theorem dX4_gives_79 : decode cX4_gives 79 = .ok (.ifCond .ne 26, 3) := dk_154 0 26 (dk_at dksX4_gives_3 10 rfl rfl)
theorem dX4_gives_82 : decode cX4_gives 82 = .ok (.aload_n 0, 1) := dk_42 (dk_at dksX4_gives_3 13 rfl rfl)
theorem dX4_gives_83 : decode cX4_gives 83 = .ok (.getfield 30, 3) := dk_180 0 30 (dk_at dksX4_gives_3 14 rfl rfl)
theorem dX4_gives_86 : decode cX4_gives 86 = .ok (.iconst (-1), 1) := dk_2 (dk_at dksX4_gives_3 17 rfl rfl)
theorem dX4_gives_87 : decode cX4_gives 87 = .ok (.if_icmp .eq 26, 3) := dk_159 0 26 (dk_at dksX4_gives_3 18 rfl rfl)
theorem dX4_gives_90 : decode cX4_gives 90 = .ok (.aload_n 0, 1) := dk_42 (dk_at dksX4_gives_3 21 rfl rfl)
theorem dX4_gives_91 : decode cX4_gives 91 = .ok (.getfield 15, 3) := dk_180 0 15 (dk_at dksX4_gives_4 0 rfl rfl)
theorem dX4_gives_94 : decode cX4_gives 94 = .ok (.iconst 0, 1) := dk_3 (dk_at dksX4_gives_4 3 rfl rfl)
theorem dX4_gives_95 : decode cX4_gives 95 = .ok (.iaload, 1) := dk_46 (dk_at dksX4_gives_4 4 rfl rfl)
theorem dX4_gives_96 : decode cX4_gives 96 = .ok (.aload_n 0, 1) := dk_42 (dk_at dksX4_gives_4 5 rfl rfl)
theorem dX4_gives_97 : decode cX4_gives 97 = .ok (.getfield 15, 3) := dk_180 0 15 (dk_at dksX4_gives_4 6 rfl rfl)
theorem dX4_gives_100 : decode cX4_gives 100 = .ok (.iconst 1, 1) := dk_4 (dk_at dksX4_gives_4 9 rfl rfl)
theorem dX4_gives_101 : decode cX4_gives 101 = .ok (.iaload, 1) := dk_46 (dk_at dksX4_gives_4 10 rfl rfl)
theorem dX4_gives_102 : decode cX4_gives 102 = .ok (.if_icmp .eq 11, 3) := dk_159 0 11 (dk_at dksX4_gives_4 11 rfl rfl)
theorem dX4_gives_105 : decode cX4_gives 105 = .ok (.aload_n 0, 1) := dk_42 (dk_at dksX4_gives_4 14 rfl rfl)
theorem dX4_gives_106 : decode cX4_gives 106 = .ok (.aload_n 0, 1) := dk_42 (dk_at dksX4_gives_4 15 rfl rfl)
theorem dX4_gives_107 : decode cX4_gives 107 = .ok (.invokevirtual 79, 3) := dk_182 0 79 (dk_at dksX4_gives_4 16 rfl rfl)
theorem dX4_gives_110 : decode cX4_gives 110 = .ok (.invokevirtual 83, 3) := dk_182 0 83 (dk_at dksX4_gives_4 19 rfl rfl)
theorem dX4_gives_113 : decode cX4_gives 113 = .ok (.return_, 1) := dk_177 (dk_at dksX4_gives_4 22 rfl rfl)
abbrev cX4_better : ByteArray := prog_3_method_2_code
def yX4_better : MethodName := ⟨RX4, "better", "()I"⟩
def dkwX4_better_2 : List UInt8 := [180, 0, 50, 162, 0, 7, 3, 167, 0, 4, 4, 172]
abbrev dktX4_better_2 : List UInt8 := dkwX4_better_2 ++ []
def dkwX4_better_1 : List UInt8 := [156, 0, 7, 4, 167, 0, 29, 42, 180, 0, 35, 3, 50, 180, 0, 50, 42, 180, 0, 35, 4, 50]
abbrev dktX4_better_1 : List UInt8 := dkwX4_better_1 ++ dktX4_better_2
def dkwX4_better_0 : List UInt8 := [42, 180, 0, 15, 3, 46, 42, 180, 0, 15, 4, 46, 100, 60, 27, 158, 0, 7, 3, 167, 0, 37, 27]
abbrev dktX4_better_0 : List UInt8 := dkwX4_better_0 ++ dktX4_better_1
theorem dksX4_better_0 : cX4_better.data.toList.drop 0 = dktX4_better_0 := by decide +kernel
theorem dksX4_better_1 : cX4_better.data.toList.drop 23 = dktX4_better_1 := dk_seg dksX4_better_0 23 rfl rfl
theorem dksX4_better_2 : cX4_better.data.toList.drop 45 = dktX4_better_2 := dk_seg dksX4_better_1 22 rfl rfl
theorem dX4_better_0 : decode cX4_better 0 = .ok (.aload_n 0, 1) := dk_42 (dk_at dksX4_better_0 0 rfl rfl)
theorem dX4_better_1 : decode cX4_better 1 = .ok (.getfield 15, 3) := dk_180 0 15 (dk_at dksX4_better_0 1 rfl rfl)
theorem dX4_better_4 : decode cX4_better 4 = .ok (.iconst 0, 1) := dk_3 (dk_at dksX4_better_0 4 rfl rfl)
theorem dX4_better_5 : decode cX4_better 5 = .ok (.iaload, 1) := dk_46 (dk_at dksX4_better_0 5 rfl rfl)
theorem dX4_better_6 : decode cX4_better 6 = .ok (.aload_n 0, 1) := dk_42 (dk_at dksX4_better_0 6 rfl rfl)
theorem dX4_better_7 : decode cX4_better 7 = .ok (.getfield 15, 3) := dk_180 0 15 (dk_at dksX4_better_0 7 rfl rfl)
theorem dX4_better_10 : decode cX4_better 10 = .ok (.iconst 1, 1) := dk_4 (dk_at dksX4_better_0 10 rfl rfl)
theorem dX4_better_11 : decode cX4_better 11 = .ok (.iaload, 1) := dk_46 (dk_at dksX4_better_0 11 rfl rfl)
theorem dX4_better_12 : decode cX4_better 12 = .ok (.isub, 1) := dk_100 (dk_at dksX4_better_0 12 rfl rfl)
theorem dX4_better_13 : decode cX4_better 13 = .ok (.istore_n 1, 1) := dk_60 (dk_at dksX4_better_0 13 rfl rfl)
theorem dX4_better_14 : decode cX4_better 14 = .ok (.iload_n 1, 1) := dk_27 (dk_at dksX4_better_0 14 rfl rfl)
theorem dX4_better_15 : decode cX4_better 15 = .ok (.ifCond .le 7, 3) := dk_158 0 7 (dk_at dksX4_better_0 15 rfl rfl)
theorem dX4_better_18 : decode cX4_better 18 = .ok (.iconst 0, 1) := dk_3 (dk_at dksX4_better_0 18 rfl rfl)
theorem dX4_better_19 : decode cX4_better 19 = .ok (.goto 37, 3) := dk_167 0 37 (dk_at dksX4_better_0 19 rfl rfl)
theorem dX4_better_22 : decode cX4_better 22 = .ok (.iload_n 1, 1) := dk_27 (dk_at dksX4_better_0 22 rfl rfl)
theorem dX4_better_23 : decode cX4_better 23 = .ok (.ifCond .ge 7, 3) := dk_156 0 7 (dk_at dksX4_better_1 0 rfl rfl)
theorem dX4_better_26 : decode cX4_better 26 = .ok (.iconst 1, 1) := dk_4 (dk_at dksX4_better_1 3 rfl rfl)
theorem dX4_better_27 : decode cX4_better 27 = .ok (.goto 29, 3) := dk_167 0 29 (dk_at dksX4_better_1 4 rfl rfl)
theorem dX4_better_30 : decode cX4_better 30 = .ok (.aload_n 0, 1) := dk_42 (dk_at dksX4_better_1 7 rfl rfl)
theorem dX4_better_31 : decode cX4_better 31 = .ok (.getfield 35, 3) := dk_180 0 35 (dk_at dksX4_better_1 8 rfl rfl)
theorem dX4_better_34 : decode cX4_better 34 = .ok (.iconst 0, 1) := dk_3 (dk_at dksX4_better_1 11 rfl rfl)
theorem dX4_better_35 : decode cX4_better 35 = .ok (.aaload, 1) := dk_50 (dk_at dksX4_better_1 12 rfl rfl)
theorem dX4_better_36 : decode cX4_better 36 = .ok (.getfield 50, 3) := dk_180 0 50 (dk_at dksX4_better_1 13 rfl rfl)
theorem dX4_better_39 : decode cX4_better 39 = .ok (.aload_n 0, 1) := dk_42 (dk_at dksX4_better_1 16 rfl rfl)
theorem dX4_better_40 : decode cX4_better 40 = .ok (.getfield 35, 3) := dk_180 0 35 (dk_at dksX4_better_1 17 rfl rfl)
theorem dX4_better_43 : decode cX4_better 43 = .ok (.iconst 1, 1) := dk_4 (dk_at dksX4_better_1 20 rfl rfl)
theorem dX4_better_44 : decode cX4_better 44 = .ok (.aaload, 1) := dk_50 (dk_at dksX4_better_1 21 rfl rfl)
theorem dX4_better_45 : decode cX4_better 45 = .ok (.getfield 50, 3) := dk_180 0 50 (dk_at dksX4_better_2 0 rfl rfl)
theorem dX4_better_48 : decode cX4_better 48 = .ok (.if_icmp .ge 7, 3) := dk_162 0 7 (dk_at dksX4_better_2 3 rfl rfl)
theorem dX4_better_51 : decode cX4_better 51 = .ok (.iconst 0, 1) := dk_3 (dk_at dksX4_better_2 6 rfl rfl)
theorem dX4_better_52 : decode cX4_better 52 = .ok (.goto 4, 3) := dk_167 0 4 (dk_at dksX4_better_2 7 rfl rfl)
theorem dX4_better_55 : decode cX4_better 55 = .ok (.iconst 1, 1) := dk_4 (dk_at dksX4_better_2 10 rfl rfl)
theorem dX4_better_56 : decode cX4_better 56 = .ok (.ireturn, 1) := dk_172 (dk_at dksX4_better_2 11 rfl rfl)
abbrev cX4_ends : ByteArray := prog_3_method_3_code
def yX4_ends : MethodName := ⟨RX4, "ends", "(I)V"⟩
def dkwX4_ends_2 : List UInt8 := [182, 0, 72, 177]
abbrev dktX4_ends_2 : List UInt8 := dkwX4_ends_2 ++ []
def dkwX4_ends_1 : List UInt8 := [180, 0, 46, 198, 0, 23, 42, 180, 0, 46, 42, 182, 0, 66, 153, 0, 12, 42, 180, 0, 46, 42, 4]
abbrev dktX4_ends_1 : List UInt8 := dkwX4_ends_1 ++ dktX4_ends_2
def dkwX4_ends_0 : List UInt8 := [42, 27, 181, 0, 26, 42, 180, 0, 3, 1, 181, 0, 53, 42, 180, 0, 3, 180, 0, 57, 182, 0, 61, 42]
abbrev dktX4_ends_0 : List UInt8 := dkwX4_ends_0 ++ dktX4_ends_1
theorem dksX4_ends_0 : cX4_ends.data.toList.drop 0 = dktX4_ends_0 := by decide +kernel
theorem dksX4_ends_1 : cX4_ends.data.toList.drop 24 = dktX4_ends_1 := dk_seg dksX4_ends_0 24 rfl rfl
theorem dksX4_ends_2 : cX4_ends.data.toList.drop 47 = dktX4_ends_2 := dk_seg dksX4_ends_1 23 rfl rfl
theorem dX4_ends_0 : decode cX4_ends 0 = .ok (.aload_n 0, 1) := dk_42 (dk_at dksX4_ends_0 0 rfl rfl)
theorem dX4_ends_1 : decode cX4_ends 1 = .ok (.iload_n 1, 1) := dk_27 (dk_at dksX4_ends_0 1 rfl rfl)
theorem dX4_ends_2 : decode cX4_ends 2 = .ok (.putfield 26, 3) := dk_181 0 26 (dk_at dksX4_ends_0 2 rfl rfl)
theorem dX4_ends_5 : decode cX4_ends 5 = .ok (.aload_n 0, 1) := dk_42 (dk_at dksX4_ends_0 5 rfl rfl)
theorem dX4_ends_6 : decode cX4_ends 6 = .ok (.getfield 3, 3) := dk_180 0 3 (dk_at dksX4_ends_0 6 rfl rfl)
theorem dX4_ends_9 : decode cX4_ends 9 = .ok (.aconst_null, 1) := dk_1 (dk_at dksX4_ends_0 9 rfl rfl)
theorem dX4_ends_10 : decode cX4_ends 10 = .ok (.putfield 53, 3) := dk_181 0 53 (dk_at dksX4_ends_0 10 rfl rfl)
theorem dX4_ends_13 : decode cX4_ends 13 = .ok (.aload_n 0, 1) := dk_42 (dk_at dksX4_ends_0 13 rfl rfl)
theorem dX4_ends_14 : decode cX4_ends 14 = .ok (.getfield 3, 3) := dk_180 0 3 (dk_at dksX4_ends_0 14 rfl rfl)
theorem dX4_ends_17 : decode cX4_ends 17 = .ok (.getfield 57, 3) := dk_180 0 57 (dk_at dksX4_ends_0 17 rfl rfl)
theorem dX4_ends_20 : decode cX4_ends 20 = .ok (.invokevirtual 61, 3) := dk_182 0 61 (dk_at dksX4_ends_0 20 rfl rfl)
theorem dX4_ends_23 : decode cX4_ends 23 = .ok (.aload_n 0, 1) := dk_42 (dk_at dksX4_ends_0 23 rfl rfl)
theorem dX4_ends_24 : decode cX4_ends 24 = .ok (.getfield 46, 3) := dk_180 0 46 (dk_at dksX4_ends_1 0 rfl rfl)
theorem dX4_ends_27 : decode cX4_ends 27 = .ok (.ifnull 23, 3) := dk_198 0 23 (dk_at dksX4_ends_1 3 rfl rfl)
theorem dX4_ends_30 : decode cX4_ends 30 = .ok (.aload_n 0, 1) := dk_42 (dk_at dksX4_ends_1 6 rfl rfl)
theorem dX4_ends_31 : decode cX4_ends 31 = .ok (.getfield 46, 3) := dk_180 0 46 (dk_at dksX4_ends_1 7 rfl rfl)
theorem dX4_ends_34 : decode cX4_ends 34 = .ok (.aload_n 0, 1) := dk_42 (dk_at dksX4_ends_1 10 rfl rfl)
theorem dX4_ends_35 : decode cX4_ends 35 = .ok (.invokevirtual 66, 3) := dk_182 0 66 (dk_at dksX4_ends_1 11 rfl rfl)
theorem dX4_ends_38 : decode cX4_ends 38 = .ok (.ifCond .eq 12, 3) := dk_153 0 12 (dk_at dksX4_ends_1 14 rfl rfl)
theorem dX4_ends_41 : decode cX4_ends 41 = .ok (.aload_n 0, 1) := dk_42 (dk_at dksX4_ends_1 17 rfl rfl)
theorem dX4_ends_42 : decode cX4_ends 42 = .ok (.getfield 46, 3) := dk_180 0 46 (dk_at dksX4_ends_1 18 rfl rfl)
theorem dX4_ends_45 : decode cX4_ends 45 = .ok (.aload_n 0, 1) := dk_42 (dk_at dksX4_ends_1 21 rfl rfl)
theorem dX4_ends_46 : decode cX4_ends 46 = .ok (.iconst 1, 1) := dk_4 (dk_at dksX4_ends_1 22 rfl rfl)
theorem dX4_ends_47 : decode cX4_ends 47 = .ok (.invokevirtual 72, 3) := dk_182 0 72 (dk_at dksX4_ends_2 0 rfl rfl)
theorem dX4_ends_50 : decode cX4_ends 50 = .ok (.return_, 1) := dk_177 (dk_at dksX4_ends_2 3 rfl rfl)
abbrev cX4_cards : ByteArray := prog_3_method_5_code
def yX4_cards : MethodName := ⟨RX4, "cards", "(II)I"⟩
def dkwX4_cards_5 : List UInt8 := [182, 0, 87, 21, 4, 172]
abbrev dktX4_cards_5 : List UInt8 := dkwX4_cards_5 ++ []
def dkwX4_cards_4 : List UInt8 := [182, 0, 83, 167, 0, 23, 21, 4, 5, 160, 0, 17, 42, 27, 154, 0, 7, 5, 167, 0, 4, 4, 4]
abbrev dktX4_cards_4 : List UInt8 := dkwX4_cards_4 ++ dktX4_cards_5
def dkwX4_cards_3 : List UInt8 := [154, 0, 8, 28, 6, 160, 0, 7, 4, 167, 0, 4, 3, 84, 21, 4, 6, 160, 0, 13, 42, 4, 27, 100]
abbrev dktX4_cards_3 : List UInt8 := dkwX4_cards_3 ++ dktX4_cards_4
def dkwX4_cards_2 : List UInt8 := [54, 4, 42, 180, 0, 19, 27, 92, 46, 4, 96, 79, 42, 180, 0, 22, 27, 42, 180, 0, 22, 27, 51]
abbrev dktX4_cards_2 : List UInt8 := dkwX4_cards_2 ++ dktX4_cards_3
def dkwX4_cards_1 : List UInt8 := [6, 167, 0, 22, 28, 4, 160, 0, 16, 42, 180, 0, 19, 27, 46, 154, 0, 7, 4, 167, 0, 4, 5]
abbrev dktX4_cards_1 : List UInt8 := dkwX4_cards_1 ++ dktX4_cards_2
def dkwX4_cards_0 : List UInt8 := [28, 6, 160, 0, 16, 42, 180, 0, 22, 27, 51, 153, 0, 7, 4, 167, 0, 4, 3, 62, 29, 153, 0, 7]
abbrev dktX4_cards_0 : List UInt8 := dkwX4_cards_0 ++ dktX4_cards_1
theorem dksX4_cards_0 : cX4_cards.data.toList.drop 0 = dktX4_cards_0 := by decide +kernel
theorem dksX4_cards_1 : cX4_cards.data.toList.drop 24 = dktX4_cards_1 := dk_seg dksX4_cards_0 24 rfl rfl
theorem dksX4_cards_2 : cX4_cards.data.toList.drop 47 = dktX4_cards_2 := dk_seg dksX4_cards_1 23 rfl rfl
theorem dksX4_cards_3 : cX4_cards.data.toList.drop 70 = dktX4_cards_3 := dk_seg dksX4_cards_2 23 rfl rfl
theorem dksX4_cards_4 : cX4_cards.data.toList.drop 94 = dktX4_cards_4 := dk_seg dksX4_cards_3 24 rfl rfl
theorem dksX4_cards_5 : cX4_cards.data.toList.drop 117 = dktX4_cards_5 := dk_seg dksX4_cards_4 23 rfl rfl
theorem dX4_cards_0 : decode cX4_cards 0 = .ok (.iload_n 2, 1) := dk_28 (dk_at dksX4_cards_0 0 rfl rfl)
theorem dX4_cards_1 : decode cX4_cards 1 = .ok (.iconst 3, 1) := dk_6 (dk_at dksX4_cards_0 1 rfl rfl)
theorem dX4_cards_2 : decode cX4_cards 2 = .ok (.if_icmp .ne 16, 3) := dk_160 0 16 (dk_at dksX4_cards_0 2 rfl rfl)
theorem dX4_cards_5 : decode cX4_cards 5 = .ok (.aload_n 0, 1) := dk_42 (dk_at dksX4_cards_0 5 rfl rfl)
theorem dX4_cards_6 : decode cX4_cards 6 = .ok (.getfield 22, 3) := dk_180 0 22 (dk_at dksX4_cards_0 6 rfl rfl)
theorem dX4_cards_9 : decode cX4_cards 9 = .ok (.iload_n 1, 1) := dk_27 (dk_at dksX4_cards_0 9 rfl rfl)
theorem dX4_cards_10 : decode cX4_cards 10 = .ok (.baload, 1) := dk_51 (dk_at dksX4_cards_0 10 rfl rfl)
theorem dX4_cards_11 : decode cX4_cards 11 = .ok (.ifCond .eq 7, 3) := dk_153 0 7 (dk_at dksX4_cards_0 11 rfl rfl)
theorem dX4_cards_14 : decode cX4_cards 14 = .ok (.iconst 1, 1) := dk_4 (dk_at dksX4_cards_0 14 rfl rfl)
theorem dX4_cards_15 : decode cX4_cards 15 = .ok (.goto 4, 3) := dk_167 0 4 (dk_at dksX4_cards_0 15 rfl rfl)
theorem dX4_cards_18 : decode cX4_cards 18 = .ok (.iconst 0, 1) := dk_3 (dk_at dksX4_cards_0 18 rfl rfl)
theorem dX4_cards_19 : decode cX4_cards 19 = .ok (.istore_n 3, 1) := dk_62 (dk_at dksX4_cards_0 19 rfl rfl)
theorem dX4_cards_20 : decode cX4_cards 20 = .ok (.iload_n 3, 1) := dk_29 (dk_at dksX4_cards_0 20 rfl rfl)
theorem dX4_cards_21 : decode cX4_cards 21 = .ok (.ifCond .eq 7, 3) := dk_153 0 7 (dk_at dksX4_cards_0 21 rfl rfl)
theorem dX4_cards_24 : decode cX4_cards 24 = .ok (.iconst 3, 1) := dk_6 (dk_at dksX4_cards_1 0 rfl rfl)
theorem dX4_cards_25 : decode cX4_cards 25 = .ok (.goto 22, 3) := dk_167 0 22 (dk_at dksX4_cards_1 1 rfl rfl)
theorem dX4_cards_28 : decode cX4_cards 28 = .ok (.iload_n 2, 1) := dk_28 (dk_at dksX4_cards_1 4 rfl rfl)
theorem dX4_cards_29 : decode cX4_cards 29 = .ok (.iconst 1, 1) := dk_4 (dk_at dksX4_cards_1 5 rfl rfl)
theorem dX4_cards_30 : decode cX4_cards 30 = .ok (.if_icmp .ne 16, 3) := dk_160 0 16 (dk_at dksX4_cards_1 6 rfl rfl)
theorem dX4_cards_33 : decode cX4_cards 33 = .ok (.aload_n 0, 1) := dk_42 (dk_at dksX4_cards_1 9 rfl rfl)
theorem dX4_cards_34 : decode cX4_cards 34 = .ok (.getfield 19, 3) := dk_180 0 19 (dk_at dksX4_cards_1 10 rfl rfl)
theorem dX4_cards_37 : decode cX4_cards 37 = .ok (.iload_n 1, 1) := dk_27 (dk_at dksX4_cards_1 13 rfl rfl)
theorem dX4_cards_38 : decode cX4_cards 38 = .ok (.iaload, 1) := dk_46 (dk_at dksX4_cards_1 14 rfl rfl)
theorem dX4_cards_39 : decode cX4_cards 39 = .ok (.ifCond .ne 7, 3) := dk_154 0 7 (dk_at dksX4_cards_1 15 rfl rfl)
theorem dX4_cards_42 : decode cX4_cards 42 = .ok (.iconst 1, 1) := dk_4 (dk_at dksX4_cards_1 18 rfl rfl)
theorem dX4_cards_43 : decode cX4_cards 43 = .ok (.goto 4, 3) := dk_167 0 4 (dk_at dksX4_cards_1 19 rfl rfl)
theorem dX4_cards_46 : decode cX4_cards 46 = .ok (.iconst 2, 1) := dk_5 (dk_at dksX4_cards_1 22 rfl rfl)
theorem dX4_cards_47 : decode cX4_cards 47 = .ok (.istore 4, 2) := dk_54 4 (dk_at dksX4_cards_2 0 rfl rfl)
theorem dX4_cards_49 : decode cX4_cards 49 = .ok (.aload_n 0, 1) := dk_42 (dk_at dksX4_cards_2 2 rfl rfl)
theorem dX4_cards_50 : decode cX4_cards 50 = .ok (.getfield 19, 3) := dk_180 0 19 (dk_at dksX4_cards_2 3 rfl rfl)
theorem dX4_cards_53 : decode cX4_cards 53 = .ok (.iload_n 1, 1) := dk_27 (dk_at dksX4_cards_2 6 rfl rfl)
theorem dX4_cards_54 : decode cX4_cards 54 = .ok (.dup2, 1) := dk_92 (dk_at dksX4_cards_2 7 rfl rfl)
theorem dX4_cards_55 : decode cX4_cards 55 = .ok (.iaload, 1) := dk_46 (dk_at dksX4_cards_2 8 rfl rfl)
theorem dX4_cards_56 : decode cX4_cards 56 = .ok (.iconst 1, 1) := dk_4 (dk_at dksX4_cards_2 9 rfl rfl)
theorem dX4_cards_57 : decode cX4_cards 57 = .ok (.iadd, 1) := dk_96 (dk_at dksX4_cards_2 10 rfl rfl)
theorem dX4_cards_58 : decode cX4_cards 58 = .ok (.iastore, 1) := dk_79 (dk_at dksX4_cards_2 11 rfl rfl)
theorem dX4_cards_59 : decode cX4_cards 59 = .ok (.aload_n 0, 1) := dk_42 (dk_at dksX4_cards_2 12 rfl rfl)
theorem dX4_cards_60 : decode cX4_cards 60 = .ok (.getfield 22, 3) := dk_180 0 22 (dk_at dksX4_cards_2 13 rfl rfl)
theorem dX4_cards_63 : decode cX4_cards 63 = .ok (.iload_n 1, 1) := dk_27 (dk_at dksX4_cards_2 16 rfl rfl)
theorem dX4_cards_64 : decode cX4_cards 64 = .ok (.aload_n 0, 1) := dk_42 (dk_at dksX4_cards_2 17 rfl rfl)
theorem dX4_cards_65 : decode cX4_cards 65 = .ok (.getfield 22, 3) := dk_180 0 22 (dk_at dksX4_cards_2 18 rfl rfl)
theorem dX4_cards_68 : decode cX4_cards 68 = .ok (.iload_n 1, 1) := dk_27 (dk_at dksX4_cards_2 21 rfl rfl)
theorem dX4_cards_69 : decode cX4_cards 69 = .ok (.baload, 1) := dk_51 (dk_at dksX4_cards_2 22 rfl rfl)
theorem dX4_cards_70 : decode cX4_cards 70 = .ok (.ifCond .ne 8, 3) := dk_154 0 8 (dk_at dksX4_cards_3 0 rfl rfl)
theorem dX4_cards_73 : decode cX4_cards 73 = .ok (.iload_n 2, 1) := dk_28 (dk_at dksX4_cards_3 3 rfl rfl)
theorem dX4_cards_74 : decode cX4_cards 74 = .ok (.iconst 3, 1) := dk_6 (dk_at dksX4_cards_3 4 rfl rfl)
theorem dX4_cards_75 : decode cX4_cards 75 = .ok (.if_icmp .ne 7, 3) := dk_160 0 7 (dk_at dksX4_cards_3 5 rfl rfl)
theorem dX4_cards_78 : decode cX4_cards 78 = .ok (.iconst 1, 1) := dk_4 (dk_at dksX4_cards_3 8 rfl rfl)
theorem dX4_cards_79 : decode cX4_cards 79 = .ok (.goto 4, 3) := dk_167 0 4 (dk_at dksX4_cards_3 9 rfl rfl)
theorem dX4_cards_82 : decode cX4_cards 82 = .ok (.iconst 0, 1) := dk_3 (dk_at dksX4_cards_3 12 rfl rfl)
theorem dX4_cards_83 : decode cX4_cards 83 = .ok (.bastore, 1) := dk_84 (dk_at dksX4_cards_3 13 rfl rfl)
theorem dX4_cards_84 : decode cX4_cards 84 = .ok (.iload 4, 2) := dk_21 4 (dk_at dksX4_cards_3 14 rfl rfl)
theorem dX4_cards_86 : decode cX4_cards 86 = .ok (.iconst 3, 1) := dk_6 (dk_at dksX4_cards_3 16 rfl rfl)
theorem dX4_cards_87 : decode cX4_cards 87 = .ok (.if_icmp .ne 13, 3) := dk_160 0 13 (dk_at dksX4_cards_3 17 rfl rfl)
theorem dX4_cards_90 : decode cX4_cards 90 = .ok (.aload_n 0, 1) := dk_42 (dk_at dksX4_cards_3 20 rfl rfl)
theorem dX4_cards_91 : decode cX4_cards 91 = .ok (.iconst 1, 1) := dk_4 (dk_at dksX4_cards_3 21 rfl rfl)
theorem dX4_cards_92 : decode cX4_cards 92 = .ok (.iload_n 1, 1) := dk_27 (dk_at dksX4_cards_3 22 rfl rfl)
theorem dX4_cards_93 : decode cX4_cards 93 = .ok (.isub, 1) := dk_100 (dk_at dksX4_cards_3 23 rfl rfl)
theorem dX4_cards_94 : decode cX4_cards 94 = .ok (.invokevirtual 83, 3) := dk_182 0 83 (dk_at dksX4_cards_4 0 rfl rfl)
theorem dX4_cards_97 : decode cX4_cards 97 = .ok (.goto 23, 3) := dk_167 0 23 (dk_at dksX4_cards_4 3 rfl rfl)
theorem dX4_cards_100 : decode cX4_cards 100 = .ok (.iload 4, 2) := dk_21 4 (dk_at dksX4_cards_4 6 rfl rfl)
theorem dX4_cards_102 : decode cX4_cards 102 = .ok (.iconst 2, 1) := dk_5 (dk_at dksX4_cards_4 8 rfl rfl)
theorem dX4_cards_103 : decode cX4_cards 103 = .ok (.if_icmp .ne 17, 3) := dk_160 0 17 (dk_at dksX4_cards_4 9 rfl rfl)
theorem dX4_cards_106 : decode cX4_cards 106 = .ok (.aload_n 0, 1) := dk_42 (dk_at dksX4_cards_4 12 rfl rfl)
theorem dX4_cards_107 : decode cX4_cards 107 = .ok (.iload_n 1, 1) := dk_27 (dk_at dksX4_cards_4 13 rfl rfl)
theorem dX4_cards_108 : decode cX4_cards 108 = .ok (.ifCond .ne 7, 3) := dk_154 0 7 (dk_at dksX4_cards_4 14 rfl rfl)
theorem dX4_cards_111 : decode cX4_cards 111 = .ok (.iconst 2, 1) := dk_5 (dk_at dksX4_cards_4 17 rfl rfl)
theorem dX4_cards_112 : decode cX4_cards 112 = .ok (.goto 4, 3) := dk_167 0 4 (dk_at dksX4_cards_4 18 rfl rfl)
theorem dX4_cards_115 : decode cX4_cards 115 = .ok (.iconst 1, 1) := dk_4 (dk_at dksX4_cards_4 21 rfl rfl)
theorem dX4_cards_116 : decode cX4_cards 116 = .ok (.iconst 1, 1) := dk_4 (dk_at dksX4_cards_4 22 rfl rfl)
theorem dX4_cards_117 : decode cX4_cards 117 = .ok (.invokevirtual 87, 3) := dk_182 0 87 (dk_at dksX4_cards_5 0 rfl rfl)
theorem dX4_cards_120 : decode cX4_cards 120 = .ok (.iload 4, 2) := dk_21 4 (dk_at dksX4_cards_5 3 rfl rfl)
theorem dX4_cards_122 : decode cX4_cards 122 = .ok (.ireturn, 1) := dk_172 (dk_at dksX4_cards_5 5 rfl rfl)
abbrev cX4_second : ByteArray := prog_3_method_6_code
def yX4_second : MethodName := ⟨RX4, "second", "()V"⟩
def dkwX4_second_3 : List UInt8 := [182, 0, 79, 182, 0, 83, 42, 180, 0, 26, 2, 160, 0, 7, 42, 182, 0, 97, 177]
abbrev dktX4_second_3 : List UInt8 := dkwX4_second_3 ++ []
def dkwX4_second_2 : List UInt8 := [5, 160, 0, 12, 42, 6, 3, 182, 0, 87, 167, 0, 19, 42, 180, 0, 94, 5, 164, 0, 11, 42, 42]
abbrev dktX4_second_2 : List UInt8 := dkwX4_second_2 ++ dktX4_second_3
def dkwX4_second_1 : List UInt8 := [16, 60, 160, 0, 51, 42, 3, 181, 0, 76, 42, 89, 180, 0, 94, 4, 96, 181, 0, 94, 42, 180, 0, 94]
abbrev dktX4_second_1 : List UInt8 := dkwX4_second_1 ++ dktX4_second_2
def dkwX4_second_0 : List UInt8 := [42, 89, 180, 0, 91, 4, 96, 181, 0, 91, 42, 89, 180, 0, 76, 4, 96, 181, 0, 76, 42, 180, 0, 76]
abbrev dktX4_second_0 : List UInt8 := dkwX4_second_0 ++ dktX4_second_1
theorem dksX4_second_0 : cX4_second.data.toList.drop 0 = dktX4_second_0 := by decide +kernel
theorem dksX4_second_1 : cX4_second.data.toList.drop 24 = dktX4_second_1 := dk_seg dksX4_second_0 24 rfl rfl
theorem dksX4_second_2 : cX4_second.data.toList.drop 48 = dktX4_second_2 := dk_seg dksX4_second_1 24 rfl rfl
theorem dksX4_second_3 : cX4_second.data.toList.drop 71 = dktX4_second_3 := dk_seg dksX4_second_2 23 rfl rfl
theorem dX4_second_0 : decode cX4_second 0 = .ok (.aload_n 0, 1) := dk_42 (dk_at dksX4_second_0 0 rfl rfl)
theorem dX4_second_1 : decode cX4_second 1 = .ok (.dup, 1) := dk_89 (dk_at dksX4_second_0 1 rfl rfl)
theorem dX4_second_2 : decode cX4_second 2 = .ok (.getfield 91, 3) := dk_180 0 91 (dk_at dksX4_second_0 2 rfl rfl)
theorem dX4_second_5 : decode cX4_second 5 = .ok (.iconst 1, 1) := dk_4 (dk_at dksX4_second_0 5 rfl rfl)
theorem dX4_second_6 : decode cX4_second 6 = .ok (.iadd, 1) := dk_96 (dk_at dksX4_second_0 6 rfl rfl)
theorem dX4_second_7 : decode cX4_second 7 = .ok (.putfield 91, 3) := dk_181 0 91 (dk_at dksX4_second_0 7 rfl rfl)
theorem dX4_second_10 : decode cX4_second 10 = .ok (.aload_n 0, 1) := dk_42 (dk_at dksX4_second_0 10 rfl rfl)
theorem dX4_second_11 : decode cX4_second 11 = .ok (.dup, 1) := dk_89 (dk_at dksX4_second_0 11 rfl rfl)
theorem dX4_second_12 : decode cX4_second 12 = .ok (.getfield 76, 3) := dk_180 0 76 (dk_at dksX4_second_0 12 rfl rfl)
theorem dX4_second_15 : decode cX4_second 15 = .ok (.iconst 1, 1) := dk_4 (dk_at dksX4_second_0 15 rfl rfl)
theorem dX4_second_16 : decode cX4_second 16 = .ok (.iadd, 1) := dk_96 (dk_at dksX4_second_0 16 rfl rfl)
theorem dX4_second_17 : decode cX4_second 17 = .ok (.putfield 76, 3) := dk_181 0 76 (dk_at dksX4_second_0 17 rfl rfl)
theorem dX4_second_20 : decode cX4_second 20 = .ok (.aload_n 0, 1) := dk_42 (dk_at dksX4_second_0 20 rfl rfl)
theorem dX4_second_21 : decode cX4_second 21 = .ok (.getfield 76, 3) := dk_180 0 76 (dk_at dksX4_second_0 21 rfl rfl)
theorem dX4_second_24 : decode cX4_second 24 = .ok (.bipush 60, 2) := dk_16 60 (dk_at dksX4_second_1 0 rfl rfl)
theorem dX4_second_26 : decode cX4_second 26 = .ok (.if_icmp .ne 51, 3) := dk_160 0 51 (dk_at dksX4_second_1 2 rfl rfl)
theorem dX4_second_29 : decode cX4_second 29 = .ok (.aload_n 0, 1) := dk_42 (dk_at dksX4_second_1 5 rfl rfl)
theorem dX4_second_30 : decode cX4_second 30 = .ok (.iconst 0, 1) := dk_3 (dk_at dksX4_second_1 6 rfl rfl)
theorem dX4_second_31 : decode cX4_second 31 = .ok (.putfield 76, 3) := dk_181 0 76 (dk_at dksX4_second_1 7 rfl rfl)
theorem dX4_second_34 : decode cX4_second 34 = .ok (.aload_n 0, 1) := dk_42 (dk_at dksX4_second_1 10 rfl rfl)
theorem dX4_second_35 : decode cX4_second 35 = .ok (.dup, 1) := dk_89 (dk_at dksX4_second_1 11 rfl rfl)
theorem dX4_second_36 : decode cX4_second 36 = .ok (.getfield 94, 3) := dk_180 0 94 (dk_at dksX4_second_1 12 rfl rfl)
theorem dX4_second_39 : decode cX4_second 39 = .ok (.iconst 1, 1) := dk_4 (dk_at dksX4_second_1 15 rfl rfl)
theorem dX4_second_40 : decode cX4_second 40 = .ok (.iadd, 1) := dk_96 (dk_at dksX4_second_1 16 rfl rfl)
theorem dX4_second_41 : decode cX4_second 41 = .ok (.putfield 94, 3) := dk_181 0 94 (dk_at dksX4_second_1 17 rfl rfl)
theorem dX4_second_44 : decode cX4_second 44 = .ok (.aload_n 0, 1) := dk_42 (dk_at dksX4_second_1 20 rfl rfl)
theorem dX4_second_45 : decode cX4_second 45 = .ok (.getfield 94, 3) := dk_180 0 94 (dk_at dksX4_second_1 21 rfl rfl)
theorem dX4_second_48 : decode cX4_second 48 = .ok (.iconst 2, 1) := dk_5 (dk_at dksX4_second_2 0 rfl rfl)
theorem dX4_second_49 : decode cX4_second 49 = .ok (.if_icmp .ne 12, 3) := dk_160 0 12 (dk_at dksX4_second_2 1 rfl rfl)
theorem dX4_second_52 : decode cX4_second 52 = .ok (.aload_n 0, 1) := dk_42 (dk_at dksX4_second_2 4 rfl rfl)
theorem dX4_second_53 : decode cX4_second 53 = .ok (.iconst 3, 1) := dk_6 (dk_at dksX4_second_2 5 rfl rfl)
theorem dX4_second_54 : decode cX4_second 54 = .ok (.iconst 0, 1) := dk_3 (dk_at dksX4_second_2 6 rfl rfl)
theorem dX4_second_55 : decode cX4_second 55 = .ok (.invokevirtual 87, 3) := dk_182 0 87 (dk_at dksX4_second_2 7 rfl rfl)
theorem dX4_second_58 : decode cX4_second 58 = .ok (.goto 19, 3) := dk_167 0 19 (dk_at dksX4_second_2 10 rfl rfl)
theorem dX4_second_61 : decode cX4_second 61 = .ok (.aload_n 0, 1) := dk_42 (dk_at dksX4_second_2 13 rfl rfl)
theorem dX4_second_62 : decode cX4_second 62 = .ok (.getfield 94, 3) := dk_180 0 94 (dk_at dksX4_second_2 14 rfl rfl)
theorem dX4_second_65 : decode cX4_second 65 = .ok (.iconst 2, 1) := dk_5 (dk_at dksX4_second_2 17 rfl rfl)
theorem dX4_second_66 : decode cX4_second 66 = .ok (.if_icmp .le 11, 3) := dk_164 0 11 (dk_at dksX4_second_2 18 rfl rfl)
theorem dX4_second_69 : decode cX4_second 69 = .ok (.aload_n 0, 1) := dk_42 (dk_at dksX4_second_2 21 rfl rfl)
theorem dX4_second_70 : decode cX4_second 70 = .ok (.aload_n 0, 1) := dk_42 (dk_at dksX4_second_2 22 rfl rfl)
theorem dX4_second_71 : decode cX4_second 71 = .ok (.invokevirtual 79, 3) := dk_182 0 79 (dk_at dksX4_second_3 0 rfl rfl)
theorem dX4_second_74 : decode cX4_second 74 = .ok (.invokevirtual 83, 3) := dk_182 0 83 (dk_at dksX4_second_3 3 rfl rfl)
theorem dX4_second_77 : decode cX4_second 77 = .ok (.aload_n 0, 1) := dk_42 (dk_at dksX4_second_3 6 rfl rfl)
theorem dX4_second_78 : decode cX4_second 78 = .ok (.getfield 26, 3) := dk_180 0 26 (dk_at dksX4_second_3 7 rfl rfl)
theorem dX4_second_81 : decode cX4_second 81 = .ok (.iconst (-1), 1) := dk_2 (dk_at dksX4_second_3 10 rfl rfl)
theorem dX4_second_82 : decode cX4_second 82 = .ok (.if_icmp .ne 7, 3) := dk_160 0 7 (dk_at dksX4_second_3 11 rfl rfl)
theorem dX4_second_85 : decode cX4_second 85 = .ok (.aload_n 0, 1) := dk_42 (dk_at dksX4_second_3 14 rfl rfl)
theorem dX4_second_86 : decode cX4_second 86 = .ok (.invokevirtual 97, 3) := dk_182 0 97 (dk_at dksX4_second_3 15 rfl rfl)
theorem dX4_second_89 : decode cX4_second 89 = .ok (.return_, 1) := dk_177 (dk_at dksX4_second_3 18 rfl rfl)
abbrev cX4_times : ByteArray := prog_3_method_7_code
def yX4_times : MethodName := ⟨RX4, "times", "()V"⟩
def dkwX4_times_3 : List UInt8 := [42, 42, 180, 0, 30, 182, 0, 83, 177]
abbrev dktX4_times_3 : List UInt8 := dkwX4_times_3 ++ []
def dkwX4_times_2 : List UInt8 := [160, 0, 14, 42, 42, 182, 0, 79, 182, 0, 83, 167, 0, 21, 42, 180, 0, 91, 17, 0, 240, 160, 0, 11]
abbrev dktX4_times_2 : List UInt8 := dkwX4_times_2 ++ dktX4_times_3
def dkwX4_times_1 : List UInt8 := [160, 0, 17, 42, 42, 180, 0, 3, 182, 0, 100, 181, 0, 30, 167, 0, 42, 42, 180, 0, 91, 17, 0, 180]
abbrev dktX4_times_1 : List UInt8 := dkwX4_times_1 ++ dktX4_times_2
def dkwX4_times_0 : List UInt8 := [42, 180, 0, 91, 17, 0, 180, 160, 0, 32, 42, 180, 0, 15, 3, 46, 42, 180, 0, 15, 4, 46]
abbrev dktX4_times_0 : List UInt8 := dkwX4_times_0 ++ dktX4_times_1
theorem dksX4_times_0 : cX4_times.data.toList.drop 0 = dktX4_times_0 := by decide +kernel
theorem dksX4_times_1 : cX4_times.data.toList.drop 22 = dktX4_times_1 := dk_seg dksX4_times_0 22 rfl rfl
theorem dksX4_times_2 : cX4_times.data.toList.drop 46 = dktX4_times_2 := dk_seg dksX4_times_1 24 rfl rfl
theorem dksX4_times_3 : cX4_times.data.toList.drop 70 = dktX4_times_3 := dk_seg dksX4_times_2 24 rfl rfl
theorem dX4_times_0 : decode cX4_times 0 = .ok (.aload_n 0, 1) := dk_42 (dk_at dksX4_times_0 0 rfl rfl)
theorem dX4_times_1 : decode cX4_times 1 = .ok (.getfield 91, 3) := dk_180 0 91 (dk_at dksX4_times_0 1 rfl rfl)
theorem dX4_times_4 : decode cX4_times 4 = .ok (.sipush 180, 3) := dk_17 0 180 (dk_at dksX4_times_0 4 rfl rfl)
theorem dX4_times_7 : decode cX4_times 7 = .ok (.if_icmp .ne 32, 3) := dk_160 0 32 (dk_at dksX4_times_0 7 rfl rfl)
theorem dX4_times_10 : decode cX4_times 10 = .ok (.aload_n 0, 1) := dk_42 (dk_at dksX4_times_0 10 rfl rfl)
theorem dX4_times_11 : decode cX4_times 11 = .ok (.getfield 15, 3) := dk_180 0 15 (dk_at dksX4_times_0 11 rfl rfl)
theorem dX4_times_14 : decode cX4_times 14 = .ok (.iconst 0, 1) := dk_3 (dk_at dksX4_times_0 14 rfl rfl)
theorem dX4_times_15 : decode cX4_times 15 = .ok (.iaload, 1) := dk_46 (dk_at dksX4_times_0 15 rfl rfl)
theorem dX4_times_16 : decode cX4_times 16 = .ok (.aload_n 0, 1) := dk_42 (dk_at dksX4_times_0 16 rfl rfl)
theorem dX4_times_17 : decode cX4_times 17 = .ok (.getfield 15, 3) := dk_180 0 15 (dk_at dksX4_times_0 17 rfl rfl)
theorem dX4_times_20 : decode cX4_times 20 = .ok (.iconst 1, 1) := dk_4 (dk_at dksX4_times_0 20 rfl rfl)
theorem dX4_times_21 : decode cX4_times 21 = .ok (.iaload, 1) := dk_46 (dk_at dksX4_times_0 21 rfl rfl)
theorem dX4_times_22 : decode cX4_times 22 = .ok (.if_icmp .ne 17, 3) := dk_160 0 17 (dk_at dksX4_times_1 0 rfl rfl)
theorem dX4_times_25 : decode cX4_times 25 = .ok (.aload_n 0, 1) := dk_42 (dk_at dksX4_times_1 3 rfl rfl)
theorem dX4_times_26 : decode cX4_times 26 = .ok (.aload_n 0, 1) := dk_42 (dk_at dksX4_times_1 4 rfl rfl)
theorem dX4_times_27 : decode cX4_times 27 = .ok (.getfield 3, 3) := dk_180 0 3 (dk_at dksX4_times_1 5 rfl rfl)
theorem dX4_times_30 : decode cX4_times 30 = .ok (.invokevirtual 100, 3) := dk_182 0 100 (dk_at dksX4_times_1 8 rfl rfl)
theorem dX4_times_33 : decode cX4_times 33 = .ok (.putfield 30, 3) := dk_181 0 30 (dk_at dksX4_times_1 11 rfl rfl)
theorem dX4_times_36 : decode cX4_times 36 = .ok (.goto 42, 3) := dk_167 0 42 (dk_at dksX4_times_1 14 rfl rfl)
theorem dX4_times_39 : decode cX4_times 39 = .ok (.aload_n 0, 1) := dk_42 (dk_at dksX4_times_1 17 rfl rfl)
theorem dX4_times_40 : decode cX4_times 40 = .ok (.getfield 91, 3) := dk_180 0 91 (dk_at dksX4_times_1 18 rfl rfl)
theorem dX4_times_43 : decode cX4_times 43 = .ok (.sipush 180, 3) := dk_17 0 180 (dk_at dksX4_times_1 21 rfl rfl)
theorem dX4_times_46 : decode cX4_times 46 = .ok (.if_icmp .ne 14, 3) := dk_160 0 14 (dk_at dksX4_times_2 0 rfl rfl)
theorem dX4_times_49 : decode cX4_times 49 = .ok (.aload_n 0, 1) := dk_42 (dk_at dksX4_times_2 3 rfl rfl)
theorem dX4_times_50 : decode cX4_times 50 = .ok (.aload_n 0, 1) := dk_42 (dk_at dksX4_times_2 4 rfl rfl)
theorem dX4_times_51 : decode cX4_times 51 = .ok (.invokevirtual 79, 3) := dk_182 0 79 (dk_at dksX4_times_2 5 rfl rfl)
theorem dX4_times_54 : decode cX4_times 54 = .ok (.invokevirtual 83, 3) := dk_182 0 83 (dk_at dksX4_times_2 8 rfl rfl)
theorem dX4_times_57 : decode cX4_times 57 = .ok (.goto 21, 3) := dk_167 0 21 (dk_at dksX4_times_2 11 rfl rfl)
theorem dX4_times_60 : decode cX4_times 60 = .ok (.aload_n 0, 1) := dk_42 (dk_at dksX4_times_2 14 rfl rfl)
theorem dX4_times_61 : decode cX4_times 61 = .ok (.getfield 91, 3) := dk_180 0 91 (dk_at dksX4_times_2 15 rfl rfl)
theorem dX4_times_64 : decode cX4_times 64 = .ok (.sipush 240, 3) := dk_17 0 240 (dk_at dksX4_times_2 18 rfl rfl)
theorem dX4_times_67 : decode cX4_times 67 = .ok (.if_icmp .ne 11, 3) := dk_160 0 11 (dk_at dksX4_times_2 21 rfl rfl)
theorem dX4_times_70 : decode cX4_times 70 = .ok (.aload_n 0, 1) := dk_42 (dk_at dksX4_times_3 0 rfl rfl)
theorem dX4_times_71 : decode cX4_times 71 = .ok (.aload_n 0, 1) := dk_42 (dk_at dksX4_times_3 1 rfl rfl)
theorem dX4_times_72 : decode cX4_times 72 = .ok (.getfield 30, 3) := dk_180 0 30 (dk_at dksX4_times_3 2 rfl rfl)
theorem dX4_times_75 : decode cX4_times 75 = .ok (.invokevirtual 83, 3) := dk_182 0 83 (dk_at dksX4_times_3 5 rfl rfl)
theorem dX4_times_78 : decode cX4_times 78 = .ok (.return_, 1) := dk_177 (dk_at dksX4_times_3 8 rfl rfl)
abbrev cX4_left : ByteArray := prog_3_method_8_code
def yX4_left : MethodName := ⟨RX4, "left", "()I"⟩
def dkwX4_left_1 : List UInt8 := [167, 0, 5, 16, 60, 96, 42, 180, 0, 91, 100, 172]
abbrev dktX4_left_1 : List UInt8 := dkwX4_left_1 ++ []
def dkwX4_left_0 : List UInt8 := [42, 180, 0, 26, 2, 159, 0, 7, 3, 167, 0, 26, 17, 0, 180, 42, 180, 0, 30, 2, 160, 0, 7, 3]
abbrev dktX4_left_0 : List UInt8 := dkwX4_left_0 ++ dktX4_left_1
theorem dksX4_left_0 : cX4_left.data.toList.drop 0 = dktX4_left_0 := by decide +kernel
theorem dksX4_left_1 : cX4_left.data.toList.drop 24 = dktX4_left_1 := dk_seg dksX4_left_0 24 rfl rfl
theorem dX4_left_0 : decode cX4_left 0 = .ok (.aload_n 0, 1) := dk_42 (dk_at dksX4_left_0 0 rfl rfl)
theorem dX4_left_1 : decode cX4_left 1 = .ok (.getfield 26, 3) := dk_180 0 26 (dk_at dksX4_left_0 1 rfl rfl)
theorem dX4_left_4 : decode cX4_left 4 = .ok (.iconst (-1), 1) := dk_2 (dk_at dksX4_left_0 4 rfl rfl)
theorem dX4_left_5 : decode cX4_left 5 = .ok (.if_icmp .eq 7, 3) := dk_159 0 7 (dk_at dksX4_left_0 5 rfl rfl)
theorem dX4_left_8 : decode cX4_left 8 = .ok (.iconst 0, 1) := dk_3 (dk_at dksX4_left_0 8 rfl rfl)
theorem dX4_left_9 : decode cX4_left 9 = .ok (.goto 26, 3) := dk_167 0 26 (dk_at dksX4_left_0 9 rfl rfl)
theorem dX4_left_12 : decode cX4_left 12 = .ok (.sipush 180, 3) := dk_17 0 180 (dk_at dksX4_left_0 12 rfl rfl)
theorem dX4_left_15 : decode cX4_left 15 = .ok (.aload_n 0, 1) := dk_42 (dk_at dksX4_left_0 15 rfl rfl)
theorem dX4_left_16 : decode cX4_left 16 = .ok (.getfield 30, 3) := dk_180 0 30 (dk_at dksX4_left_0 16 rfl rfl)
theorem dX4_left_19 : decode cX4_left 19 = .ok (.iconst (-1), 1) := dk_2 (dk_at dksX4_left_0 19 rfl rfl)
theorem dX4_left_20 : decode cX4_left 20 = .ok (.if_icmp .ne 7, 3) := dk_160 0 7 (dk_at dksX4_left_0 20 rfl rfl)
theorem dX4_left_23 : decode cX4_left 23 = .ok (.iconst 0, 1) := dk_3 (dk_at dksX4_left_0 23 rfl rfl)
theorem dX4_left_24 : decode cX4_left 24 = .ok (.goto 5, 3) := dk_167 0 5 (dk_at dksX4_left_1 0 rfl rfl)
theorem dX4_left_27 : decode cX4_left 27 = .ok (.bipush 60, 2) := dk_16 60 (dk_at dksX4_left_1 3 rfl rfl)
theorem dX4_left_29 : decode cX4_left 29 = .ok (.iadd, 1) := dk_96 (dk_at dksX4_left_1 5 rfl rfl)
theorem dX4_left_30 : decode cX4_left 30 = .ok (.aload_n 0, 1) := dk_42 (dk_at dksX4_left_1 6 rfl rfl)
theorem dX4_left_31 : decode cX4_left 31 = .ok (.getfield 91, 3) := dk_180 0 91 (dk_at dksX4_left_1 7 rfl rfl)
theorem dX4_left_34 : decode cX4_left 34 = .ok (.isub, 1) := dk_100 (dk_at dksX4_left_1 10 rfl rfl)
theorem dX4_left_35 : decode cX4_left 35 = .ok (.ireturn, 1) := dk_172 (dk_at dksX4_left_1 11 rfl rfl)
theorem q62 : (Jvm.Cond.initialized "Phrasehall$Bout") ∈ lw_all := lw_g (lw_at lw_m1 21 rfl) rfl
theorem q119 : (Jvm.Cond.fieldLinkNest "Phrasehall$Bout" (57 : Nat) "Phrasehall" "phrase" "Ljava/util/ArrayList;" "Phrasehall") ∈ lw_tbl := lw_at lw_m1 78 rfl
theorem q121 : (Jvm.Cond.fieldLinkNest "Phrasehall$Bout" (53 : Nat) "Phrasehall" "open" "LPhrasehall$Bout;" "Phrasehall") ∈ lw_tbl := lw_at lw_m1 80 rfl
theorem q308 : (Jvm.Cond.fieldLinkNest "Phrasehall$Bout" (50 : Nat) "Phrasehall$Fencer" "number" "I" "Phrasehall") ∈ lw_tbl := lw_at lw_m2 27 rfl
theorem q348 : (Jvm.Cond.selects "Phrasehall$Bout" ({ cls := "java/lang/Object", name := "getClass", desc := "()Ljava/lang/Class;" } : Jvm.MethodName) ({ cls := "java/lang/Object", name := "getClass", desc := "()Ljava/lang/Class;" } : Jvm.MethodName)) ∈ lw_all := lw_g (lw_at lw_m2 67 rfl) rfl
theorem q475 : (Jvm.Cond.instantiable "Phrasehall$Bout" (13 : Nat)) ∈ lw_all := lw_g (lw_at lw_m2 194 rfl) rfl
theorem q486 : (Jvm.Cond.instanceMethod ({ cls := "Phrasehall$Bout", name := "<init>", desc := "(LPhrasehall;LPhrasehall$Fencer;LPhrasehall$Fencer;LPhrasehall$Weapon;ILPhrasehall$Pool;)V" } : Jvm.MethodName)) ∈ lw_all := lw_g (lw_at lw_m2 205 rfl) rfl
theorem q487 : (Jvm.Cond.code ({ cls := "Phrasehall$Bout", name := "<init>", desc := "(LPhrasehall;LPhrasehall$Fencer;LPhrasehall$Fencer;LPhrasehall$Weapon;ILPhrasehall$Pool;)V" } : Jvm.MethodName) prog_3_method_1_code (7 : Nat) (Option.none : Option Jvm.ClassFile.FieldType)) ∈ lw_all := lw_g (lw_at lw_m2 206 rfl) rfl
theorem q488 : (Jvm.Cond.methodLink "Phrasehall$Bout" (9 : Nat) ({ cls := "java/lang/Object", name := "<init>", desc := "()V" } : Jvm.MethodName)) ∈ lw_all := lw_g (lw_at lw_m2 207 rfl) rfl
theorem q489 : (Jvm.Cond.classLink "Phrasehall$Bout" (33 : Nat) "Phrasehall$Fencer") ∈ lw_all := lw_g (lw_at lw_m2 208 rfl) rfl
theorem q491 : (Jvm.Cond.fieldLink "Phrasehall$Bout" (35 : Nat) "Phrasehall$Bout" "fencers" "[LPhrasehall$Fencer;") ∈ lw_all := lw_g (lw_at lw_m2 210 rfl) rfl
theorem q494 : (Jvm.Cond.fieldLink "Phrasehall$Bout" (39 : Nat) "Phrasehall$Bout" "weapon" "LPhrasehall$Weapon;") ∈ lw_all := lw_g (lw_at lw_m2 213 rfl) rfl
theorem q496 : (Jvm.Cond.fieldLink "Phrasehall$Bout" (43 : Nat) "Phrasehall$Bout" "to" "I") ∈ lw_all := lw_g (lw_at lw_m2 215 rfl) rfl
theorem q498 : (Jvm.Cond.fieldLink "Phrasehall$Bout" (46 : Nat) "Phrasehall$Bout" "pool" "LPhrasehall$Pool;") ∈ lw_all := lw_g (lw_at lw_m2 217 rfl) rfl
theorem q500 : (Jvm.Cond.fieldLink "Phrasehall$Bout" (15 : Nat) "Phrasehall$Bout" "touches" "[I") ∈ lw_all := lw_g (lw_at lw_m2 219 rfl) rfl
theorem q503 : (Jvm.Cond.fieldLink "Phrasehall$Bout" (19 : Nat) "Phrasehall$Bout" "cards" "[I") ∈ lw_all := lw_g (lw_at lw_m2 222 rfl) rfl
theorem q504 : (Jvm.Cond.fieldLink "Phrasehall$Bout" (22 : Nat) "Phrasehall$Bout" "hadLast" "[Z") ∈ lw_all := lw_g (lw_at lw_m2 223 rfl) rfl
theorem q505 : (Jvm.Cond.fieldLink "Phrasehall$Bout" (26 : Nat) "Phrasehall$Bout" "winner" "I") ∈ lw_all := lw_g (lw_at lw_m2 224 rfl) rfl
theorem q508 : (Jvm.Cond.fieldLink "Phrasehall$Bout" (91 : Nat) "Phrasehall$Bout" "seconds" "I") ∈ lw_all := lw_g (lw_at lw_m2 227 rfl) rfl
theorem q510 : (Jvm.Cond.fieldLink "Phrasehall$Bout" (76 : Nat) "Phrasehall$Bout" "quiet" "I") ∈ lw_all := lw_g (lw_at lw_m2 229 rfl) rfl
theorem q511 : (Jvm.Cond.fieldLink "Phrasehall$Bout" (94 : Nat) "Phrasehall$Bout" "passive" "I") ∈ lw_all := lw_g (lw_at lw_m2 230 rfl) rfl
theorem q513 : (Jvm.Cond.fieldLink "Phrasehall$Bout" (30 : Nat) "Phrasehall$Bout" "drawn" "I") ∈ lw_all := lw_g (lw_at lw_m2 232 rfl) rfl
theorem q515 : (Jvm.Cond.fieldLink "Phrasehall$Bout" (3 : Nat) "Phrasehall$Bout" "this$0" "LPhrasehall;") ∈ lw_all := lw_g (lw_at lw_m2 234 rfl) rfl
theorem q516 : (Jvm.Cond.laysFinal "Phrasehall$Bout" "Phrasehall$Bout" "fencers" "[LPhrasehall$Fencer;") ∈ lw_all := lw_g (lw_at lw_m2 235 rfl) rfl
theorem q517 : (Jvm.Cond.soleField "Phrasehall$Bout" "fencers") ∈ lw_all := lw_g (lw_at lw_m2 236 rfl) rfl
theorem q518 : (Jvm.Cond.laysFinal "Phrasehall$Bout" "Phrasehall$Bout" "weapon" "LPhrasehall$Weapon;") ∈ lw_all := lw_g (lw_at lw_m2 237 rfl) rfl
theorem q519 : (Jvm.Cond.soleField "Phrasehall$Bout" "weapon") ∈ lw_all := lw_g (lw_at lw_m2 238 rfl) rfl
theorem q520 : (Jvm.Cond.laysFinal "Phrasehall$Bout" "Phrasehall$Bout" "to" "I") ∈ lw_all := lw_g (lw_at lw_m2 239 rfl) rfl
theorem q521 : (Jvm.Cond.soleField "Phrasehall$Bout" "to") ∈ lw_all := lw_g (lw_at lw_m3 0 rfl) rfl
theorem q522 : (Jvm.Cond.laysFinal "Phrasehall$Bout" "Phrasehall$Bout" "pool" "LPhrasehall$Pool;") ∈ lw_all := lw_g (lw_at lw_m3 1 rfl) rfl
theorem q523 : (Jvm.Cond.soleField "Phrasehall$Bout" "pool") ∈ lw_all := lw_g (lw_at lw_m3 2 rfl) rfl
theorem q524 : (Jvm.Cond.laysFinal "Phrasehall$Bout" "Phrasehall$Bout" "touches" "[I") ∈ lw_all := lw_g (lw_at lw_m3 3 rfl) rfl
theorem q525 : (Jvm.Cond.soleField "Phrasehall$Bout" "touches") ∈ lw_all := lw_g (lw_at lw_m3 4 rfl) rfl
theorem q526 : (Jvm.Cond.laysFinal "Phrasehall$Bout" "Phrasehall$Bout" "cards" "[I") ∈ lw_all := lw_g (lw_at lw_m3 5 rfl) rfl
theorem q527 : (Jvm.Cond.soleField "Phrasehall$Bout" "cards") ∈ lw_all := lw_g (lw_at lw_m3 6 rfl) rfl
theorem q528 : (Jvm.Cond.laysFinal "Phrasehall$Bout" "Phrasehall$Bout" "hadLast" "[Z") ∈ lw_all := lw_g (lw_at lw_m3 7 rfl) rfl
theorem q529 : (Jvm.Cond.soleField "Phrasehall$Bout" "hadLast") ∈ lw_all := lw_g (lw_at lw_m3 8 rfl) rfl
theorem q530 : (Jvm.Cond.lays "Phrasehall$Bout" "Phrasehall$Bout" "winner" "I") ∈ lw_all := lw_g (lw_at lw_m3 9 rfl) rfl
theorem q531 : (Jvm.Cond.soleField "Phrasehall$Bout" "winner") ∈ lw_all := lw_g (lw_at lw_m3 10 rfl) rfl
theorem q532 : (Jvm.Cond.lays "Phrasehall$Bout" "Phrasehall$Bout" "seconds" "I") ∈ lw_all := lw_g (lw_at lw_m3 11 rfl) rfl
theorem q533 : (Jvm.Cond.soleField "Phrasehall$Bout" "seconds") ∈ lw_all := lw_g (lw_at lw_m3 12 rfl) rfl
theorem q534 : (Jvm.Cond.lays "Phrasehall$Bout" "Phrasehall$Bout" "quiet" "I") ∈ lw_all := lw_g (lw_at lw_m3 13 rfl) rfl
theorem q535 : (Jvm.Cond.soleField "Phrasehall$Bout" "quiet") ∈ lw_all := lw_g (lw_at lw_m3 14 rfl) rfl
theorem q536 : (Jvm.Cond.lays "Phrasehall$Bout" "Phrasehall$Bout" "passive" "I") ∈ lw_all := lw_g (lw_at lw_m3 15 rfl) rfl
theorem q537 : (Jvm.Cond.soleField "Phrasehall$Bout" "passive") ∈ lw_all := lw_g (lw_at lw_m3 16 rfl) rfl
theorem q538 : (Jvm.Cond.lays "Phrasehall$Bout" "Phrasehall$Bout" "drawn" "I") ∈ lw_all := lw_g (lw_at lw_m3 17 rfl) rfl
theorem q539 : (Jvm.Cond.soleField "Phrasehall$Bout" "drawn") ∈ lw_all := lw_g (lw_at lw_m3 18 rfl) rfl
theorem q540 : (Jvm.Cond.laysFinal "Phrasehall$Bout" "Phrasehall$Bout" "this$0" "LPhrasehall;") ∈ lw_all := lw_g (lw_at lw_m3 19 rfl) rfl
theorem q541 : (Jvm.Cond.soleField "Phrasehall$Bout" "this$0") ∈ lw_all := lw_g (lw_at lw_m3 20 rfl) rfl
theorem q542 : (Jvm.Cond.superclass "Phrasehall$Bout" "java/lang/Object") ∈ lw_all := lw_g (lw_at lw_m3 21 rfl) rfl
theorem q674 : (Jvm.Cond.instanceMethod ({ cls := "Phrasehall$Bout", name := "gives", desc := "(IZ)V" } : Jvm.MethodName)) ∈ lw_all := lw_g (lw_at lw_m3 153 rfl) rfl
theorem q675 : (Jvm.Cond.selects "Phrasehall$Bout" ({ cls := "Phrasehall$Bout", name := "gives", desc := "(IZ)V" } : Jvm.MethodName) ({ cls := "Phrasehall$Bout", name := "gives", desc := "(IZ)V" } : Jvm.MethodName)) ∈ lw_all := lw_g (lw_at lw_m3 154 rfl) rfl
theorem q676 : (Jvm.Cond.code ({ cls := "Phrasehall$Bout", name := "gives", desc := "(IZ)V" } : Jvm.MethodName) prog_3_method_4_code (4 : Nat) (Option.none : Option Jvm.ClassFile.FieldType)) ∈ lw_all := lw_g (lw_at lw_m3 155 rfl) rfl
theorem q677 : (Jvm.Cond.methodLink "Phrasehall$Bout" (79 : Nat) ({ cls := "Phrasehall$Bout", name := "better", desc := "()I" } : Jvm.MethodName)) ∈ lw_all := lw_g (lw_at lw_m3 156 rfl) rfl
theorem q678 : (Jvm.Cond.privateMethod ({ cls := "Phrasehall$Bout", name := "better", desc := "()I" } : Jvm.MethodName)) ∈ lw_tbl := lw_at lw_m3 157 rfl
theorem q679 : (Jvm.Cond.instanceMethod ({ cls := "Phrasehall$Bout", name := "better", desc := "()I" } : Jvm.MethodName)) ∈ lw_all := lw_g (lw_at lw_m3 158 rfl) rfl
theorem q680 : (Jvm.Cond.code ({ cls := "Phrasehall$Bout", name := "better", desc := "()I" } : Jvm.MethodName) prog_3_method_2_code (2 : Nat) (Option.some Jvm.ClassFile.FieldType.int)) ∈ lw_all := lw_g (lw_at lw_m3 159 rfl) rfl
theorem q681 : (Jvm.Cond.methodLink "Phrasehall$Bout" (83 : Nat) ({ cls := "Phrasehall$Bout", name := "ends", desc := "(I)V" } : Jvm.MethodName)) ∈ lw_all := lw_g (lw_at lw_m3 160 rfl) rfl
theorem q682 : (Jvm.Cond.instanceMethod ({ cls := "Phrasehall$Bout", name := "ends", desc := "(I)V" } : Jvm.MethodName)) ∈ lw_all := lw_g (lw_at lw_m3 161 rfl) rfl
theorem q683 : (Jvm.Cond.selects "Phrasehall$Bout" ({ cls := "Phrasehall$Bout", name := "ends", desc := "(I)V" } : Jvm.MethodName) ({ cls := "Phrasehall$Bout", name := "ends", desc := "(I)V" } : Jvm.MethodName)) ∈ lw_all := lw_g (lw_at lw_m3 162 rfl) rfl
theorem q684 : (Jvm.Cond.code ({ cls := "Phrasehall$Bout", name := "ends", desc := "(I)V" } : Jvm.MethodName) prog_3_method_3_code (2 : Nat) (Option.none : Option Jvm.ClassFile.FieldType)) ∈ lw_all := lw_g (lw_at lw_m3 163 rfl) rfl
theorem q685 : (Jvm.Cond.methodLink "Phrasehall$Bout" (61 : Nat) ({ cls := "java/util/ArrayList", name := "clear", desc := "()V" } : Jvm.MethodName)) ∈ lw_all := lw_g (lw_at lw_m3 164 rfl) rfl
theorem q686 : (Jvm.Cond.methodLink "Phrasehall$Bout" (66 : Nat) ({ cls := "Phrasehall$Pool", name := "counts", desc := "(LPhrasehall$Bout;)Z" } : Jvm.MethodName)) ∈ lw_all := lw_g (lw_at lw_m3 165 rfl) rfl
theorem q691 : (Jvm.Cond.methodLink "Phrasehall$Bout" (72 : Nat) ({ cls := "Phrasehall$Pool", name := "adds", desc := "(LPhrasehall$Bout;I)V" } : Jvm.MethodName)) ∈ lw_all := lw_g (lw_at lw_m3 170 rfl) rfl
theorem q707 : (Jvm.Cond.instanceMethod ({ cls := "Phrasehall$Bout", name := "cards", desc := "(II)I" } : Jvm.MethodName)) ∈ lw_all := lw_g (lw_at lw_m3 186 rfl) rfl
theorem q708 : (Jvm.Cond.selects "Phrasehall$Bout" ({ cls := "Phrasehall$Bout", name := "cards", desc := "(II)I" } : Jvm.MethodName) ({ cls := "Phrasehall$Bout", name := "cards", desc := "(II)I" } : Jvm.MethodName)) ∈ lw_all := lw_g (lw_at lw_m3 187 rfl) rfl
theorem q709 : (Jvm.Cond.code ({ cls := "Phrasehall$Bout", name := "cards", desc := "(II)I" } : Jvm.MethodName) prog_3_method_5_code (5 : Nat) (Option.some Jvm.ClassFile.FieldType.int)) ∈ lw_all := lw_g (lw_at lw_m3 188 rfl) rfl
theorem q710 : (Jvm.Cond.methodLink "Phrasehall$Bout" (87 : Nat) ({ cls := "Phrasehall$Bout", name := "gives", desc := "(IZ)V" } : Jvm.MethodName)) ∈ lw_all := lw_g (lw_at lw_m3 189 rfl) rfl
theorem q719 : (Jvm.Cond.instanceMethod ({ cls := "Phrasehall$Bout", name := "second", desc := "()V" } : Jvm.MethodName)) ∈ lw_all := lw_g (lw_at lw_m3 198 rfl) rfl
theorem q720 : (Jvm.Cond.selects "Phrasehall$Bout" ({ cls := "Phrasehall$Bout", name := "second", desc := "()V" } : Jvm.MethodName) ({ cls := "Phrasehall$Bout", name := "second", desc := "()V" } : Jvm.MethodName)) ∈ lw_all := lw_g (lw_at lw_m3 199 rfl) rfl
theorem q721 : (Jvm.Cond.code ({ cls := "Phrasehall$Bout", name := "second", desc := "()V" } : Jvm.MethodName) prog_3_method_6_code (1 : Nat) (Option.none : Option Jvm.ClassFile.FieldType)) ∈ lw_all := lw_g (lw_at lw_m3 200 rfl) rfl
theorem q722 : (Jvm.Cond.methodLink "Phrasehall$Bout" (97 : Nat) ({ cls := "Phrasehall$Bout", name := "times", desc := "()V" } : Jvm.MethodName)) ∈ lw_all := lw_g (lw_at lw_m3 201 rfl) rfl
theorem q723 : (Jvm.Cond.privateMethod ({ cls := "Phrasehall$Bout", name := "times", desc := "()V" } : Jvm.MethodName)) ∈ lw_tbl := lw_at lw_m3 202 rfl
theorem q724 : (Jvm.Cond.instanceMethod ({ cls := "Phrasehall$Bout", name := "times", desc := "()V" } : Jvm.MethodName)) ∈ lw_all := lw_g (lw_at lw_m3 203 rfl) rfl
theorem q725 : (Jvm.Cond.code ({ cls := "Phrasehall$Bout", name := "times", desc := "()V" } : Jvm.MethodName) prog_3_method_7_code (1 : Nat) (Option.none : Option Jvm.ClassFile.FieldType)) ∈ lw_all := lw_g (lw_at lw_m3 204 rfl) rfl
theorem q726 : (Jvm.Cond.methodLinkNest "Phrasehall$Bout" (100 : Nat) ({ cls := "Phrasehall", name := "draw", desc := "()I" } : Jvm.MethodName) "Phrasehall") ∈ lw_tbl := lw_at lw_m3 205 rfl
theorem q736 : (Jvm.Cond.instanceMethod ({ cls := "Phrasehall$Bout", name := "left", desc := "()I" } : Jvm.MethodName)) ∈ lw_all := lw_g (lw_at lw_m3 215 rfl) rfl
theorem q737 : (Jvm.Cond.selects "Phrasehall$Bout" ({ cls := "Phrasehall$Bout", name := "left", desc := "()I" } : Jvm.MethodName) ({ cls := "Phrasehall$Bout", name := "left", desc := "()I" } : Jvm.MethodName)) ∈ lw_all := lw_g (lw_at lw_m3 216 rfl) rfl
theorem q738 : (Jvm.Cond.code ({ cls := "Phrasehall$Bout", name := "left", desc := "()I" } : Jvm.MethodName) prog_3_method_8_code (1 : Nat) (Option.some Jvm.ClassFile.FieldType.int)) ∈ lw_all := lw_g (lw_at lw_m3 217 rfl) rfl
theorem q1549 : (Jvm.Cond.castable "Phrasehall$Bout" "java/lang/Object") ∈ lw_tbl := lw_at lw_m7 68 rfl
theorem in_X4 : ∀ w ∈ wsX40, w ∈ lw_all := lw_in wsX40 [516, 518, 520, 522, 524, 526, 528, 530, 532, 534, 536, 538, 540] (by decide +kernel) (by decide +kernel)
/-! Phrasehall$Weapon -/
set_option maxRecDepth 100000
def RX5 : String := "Phrasehall$Weapon"
abbrev cX5_of : ByteArray := prog_10_method_5_code
def yX5_of : MethodName := ⟨RX5, "of", "(I)LPhrasehall$Weapon;"⟩
def dkwX5_of_1 : List UInt8 := [176]
abbrev dktX5_of_1 : List UInt8 := dkwX5_of_1 ++ []
def dkwX5_of_0 : List UInt8 := [26, 154, 0, 9, 178, 0, 5, 167, 0, 17, 26, 4, 160, 0, 9, 178, 0, 9, 167, 0, 6, 178, 0, 12]
abbrev dktX5_of_0 : List UInt8 := dkwX5_of_0 ++ dktX5_of_1
theorem dksX5_of_0 : cX5_of.data.toList.drop 0 = dktX5_of_0 := by decide +kernel
theorem dksX5_of_1 : cX5_of.data.toList.drop 24 = dktX5_of_1 := dk_seg dksX5_of_0 24 rfl rfl
theorem dX5_of_0 : decode cX5_of 0 = .ok (.iload_n 0, 1) := dk_26 (dk_at dksX5_of_0 0 rfl rfl)
theorem dX5_of_1 : decode cX5_of 1 = .ok (.ifCond .ne 9, 3) := dk_154 0 9 (dk_at dksX5_of_0 1 rfl rfl)
theorem dX5_of_4 : decode cX5_of 4 = .ok (.getstatic 5, 3) := dk_178 0 5 (dk_at dksX5_of_0 4 rfl rfl)
theorem dX5_of_7 : decode cX5_of 7 = .ok (.goto 17, 3) := dk_167 0 17 (dk_at dksX5_of_0 7 rfl rfl)
theorem dX5_of_10 : decode cX5_of 10 = .ok (.iload_n 0, 1) := dk_26 (dk_at dksX5_of_0 10 rfl rfl)
theorem dX5_of_11 : decode cX5_of 11 = .ok (.iconst 1, 1) := dk_4 (dk_at dksX5_of_0 11 rfl rfl)
theorem dX5_of_12 : decode cX5_of 12 = .ok (.if_icmp .ne 9, 3) := dk_160 0 9 (dk_at dksX5_of_0 12 rfl rfl)
theorem dX5_of_15 : decode cX5_of 15 = .ok (.getstatic 9, 3) := dk_178 0 9 (dk_at dksX5_of_0 15 rfl rfl)
theorem dX5_of_18 : decode cX5_of 18 = .ok (.goto 6, 3) := dk_167 0 6 (dk_at dksX5_of_0 18 rfl rfl)
theorem dX5_of_21 : decode cX5_of 21 = .ok (.getstatic 12, 3) := dk_178 0 12 (dk_at dksX5_of_0 21 rfl rfl)
theorem dX5_of_24 : decode cX5_of 24 = .ok (.areturn, 1) := dk_176 (dk_at dksX5_of_1 0 rfl rfl)
abbrev cX5_counts : ByteArray := prog_10_method_4_code
def yX5_counts : MethodName := ⟨RX5, "counts", "(I)Z"⟩
def dkwX5_counts_0 : List UInt8 := [27, 154, 0, 7, 4, 167, 0, 4, 3, 172]
abbrev dktX5_counts_0 : List UInt8 := dkwX5_counts_0 ++ []
theorem dksX5_counts_0 : cX5_counts.data.toList.drop 0 = dktX5_counts_0 := by decide +kernel
theorem dX5_counts_0 : decode cX5_counts 0 = .ok (.iload_n 1, 1) := dk_27 (dk_at dksX5_counts_0 0 rfl rfl)
theorem dX5_counts_1 : decode cX5_counts 1 = .ok (.ifCond .ne 7, 3) := dk_154 0 7 (dk_at dksX5_counts_0 1 rfl rfl)
theorem dX5_counts_4 : decode cX5_counts 4 = .ok (.iconst 1, 1) := dk_4 (dk_at dksX5_counts_0 4 rfl rfl)
theorem dX5_counts_5 : decode cX5_counts 5 = .ok (.goto 4, 3) := dk_167 0 4 (dk_at dksX5_counts_0 5 rfl rfl)
theorem dX5_counts_8 : decode cX5_counts 8 = .ok (.iconst 0, 1) := dk_3 (dk_at dksX5_counts_0 8 rfl rfl)
theorem dX5_counts_9 : decode cX5_counts 9 = .ok (.ireturn, 1) := dk_172 (dk_at dksX5_counts_0 9 rfl rfl)
theorem q64 : (Jvm.Cond.initialized "Phrasehall$Weapon") ∈ lw_all := lw_g (lw_at lw_m1 23 rfl) rfl
theorem q354 : (Jvm.Cond.selects "Phrasehall$Weapon" ({ cls := "java/lang/Object", name := "getClass", desc := "()Ljava/lang/Class;" } : Jvm.MethodName) ({ cls := "java/lang/Object", name := "getClass", desc := "()Ljava/lang/Class;" } : Jvm.MethodName)) ∈ lw_all := lw_g (lw_at lw_m2 73 rfl) rfl
theorem q477 : (Jvm.Cond.static ({ cls := "Phrasehall$Weapon", name := "of", desc := "(I)LPhrasehall$Weapon;" } : Jvm.MethodName)) ∈ lw_all := lw_g (lw_at lw_m2 196 rfl) rfl
theorem q478 : (Jvm.Cond.code ({ cls := "Phrasehall$Weapon", name := "of", desc := "(I)LPhrasehall$Weapon;" } : Jvm.MethodName) prog_10_method_5_code (1 : Nat) (Option.some (Jvm.ClassFile.FieldType.object "Phrasehall$Weapon"))) ∈ lw_all := lw_g (lw_at lw_m2 197 rfl) rfl
theorem q479 : (Jvm.Cond.fieldLink "Phrasehall$Weapon" (5 : Nat) "Phrasehall$Weapon" "OF_FOIL" "LPhrasehall$Weapon;") ∈ lw_all := lw_g (lw_at lw_m2 198 rfl) rfl
theorem q480 : (Jvm.Cond.laysStatic "Phrasehall$Weapon" "OF_FOIL" "LPhrasehall$Weapon;") ∈ lw_tbl := lw_at lw_m2 199 rfl
theorem q481 : (Jvm.Cond.fieldLink "Phrasehall$Weapon" (9 : Nat) "Phrasehall$Weapon" "OF_EPEE" "LPhrasehall$Weapon;") ∈ lw_all := lw_g (lw_at lw_m2 200 rfl) rfl
theorem q482 : (Jvm.Cond.laysStatic "Phrasehall$Weapon" "OF_EPEE" "LPhrasehall$Weapon;") ∈ lw_tbl := lw_at lw_m2 201 rfl
theorem q483 : (Jvm.Cond.fieldLink "Phrasehall$Weapon" (12 : Nat) "Phrasehall$Weapon" "OF_SABRE" "LPhrasehall$Weapon;") ∈ lw_all := lw_g (lw_at lw_m2 202 rfl) rfl
theorem q484 : (Jvm.Cond.laysStatic "Phrasehall$Weapon" "OF_SABRE" "LPhrasehall$Weapon;") ∈ lw_tbl := lw_at lw_m2 203 rfl
theorem q643 : (Jvm.Cond.instanceMethod ({ cls := "Phrasehall$Weapon", name := "counts", desc := "(I)Z" } : Jvm.MethodName)) ∈ lw_all := lw_g (lw_at lw_m3 122 rfl) rfl
theorem q644 : (Jvm.Cond.selects "Phrasehall$Weapon" ({ cls := "Phrasehall$Weapon", name := "counts", desc := "(I)Z" } : Jvm.MethodName) ({ cls := "Phrasehall$Weapon", name := "counts", desc := "(I)Z" } : Jvm.MethodName)) ∈ lw_all := lw_g (lw_at lw_m3 123 rfl) rfl
theorem q645 : (Jvm.Cond.sameMethod "Phrasehall$Weapon" "Phrasehall$Weapon" "counts" "(I)Z") ∈ lw_all := lw_g (lw_at lw_m3 124 rfl) rfl
theorem q649 : (Jvm.Cond.code ({ cls := "Phrasehall$Weapon", name := "counts", desc := "(I)Z" } : Jvm.MethodName) prog_10_method_4_code (2 : Nat) (Option.some Jvm.ClassFile.FieldType.boolean)) ∈ lw_all := lw_g (lw_at lw_m3 128 rfl) rfl
theorem q1551 : (Jvm.Cond.castable "Phrasehall$Weapon" "java/lang/Object") ∈ lw_tbl := lw_at lw_m7 70 rfl
/-! Phrasehall$Action -/
set_option maxRecDepth 100000
def RX6 : String := "Phrasehall$Action"
def TX6 : u_T := fun k => match k with
  | 0 => ("Phrasehall$Action", "side", "I", true)
  | 1 => ("Phrasehall$Action", "kind", "I", true)
  | _ => ("Phrasehall$Action", "time", "I", true)
def tyX6 : Nat → FieldType := fun k => match k with
  | 0 => .int
  | 1 => .int
  | _ => .int
abbrev wsX60 : List Cond := u_ws RX6 TX6 3
theorem nmX6 : ∀ a, a < 3 → ∀ b, b < 3 → a ≠ b → (TX6 a).2.1 ≠ (TX6 b).2.1 := by decide +kernel
theorem tyX6_ok : ∀ k, k < 3 → parseFieldDescriptor (TX6 k).2.2.1 = some (tyX6 k) := by decide +kernel
abbrev cX6_side : ByteArray := prog_2_method_5_code
def yX6_side : MethodName := ⟨RX6, "side", "()I"⟩
theorem dX6_side_0 : decode cX6_side 0 = .ok (.aload_n 0, 1) := by decide +kernel
theorem dX6_side_1 : decode cX6_side 1 = .ok (.getfield 7, 3) := by decide +kernel
theorem dX6_side_4 : decode cX6_side 4 = .ok (.ireturn, 1) := by decide +kernel
abbrev cX6_time : ByteArray := prog_2_method_7_code
def yX6_time : MethodName := ⟨RX6, "time", "()I"⟩
theorem dX6_time_0 : decode cX6_time 0 = .ok (.aload_n 0, 1) := by decide +kernel
theorem dX6_time_1 : decode cX6_time 1 = .ok (.getfield 16, 3) := by decide +kernel
theorem dX6_time_4 : decode cX6_time 4 = .ok (.ireturn, 1) := by decide +kernel
abbrev cX6_kind : ByteArray := prog_2_method_6_code
def yX6_kind : MethodName := ⟨RX6, "kind", "()I"⟩
theorem dX6_kind_0 : decode cX6_kind 0 = .ok (.aload_n 0, 1) := by decide +kernel
theorem dX6_kind_1 : decode cX6_kind 1 = .ok (.getfield 13, 3) := by decide +kernel
theorem dX6_kind_4 : decode cX6_kind 4 = .ok (.ireturn, 1) := by decide +kernel
abbrev cX6_init : ByteArray := prog_2_method_1_code
def yX6_init : MethodName := ⟨RX6, "<init>", "(III)V"⟩
def dkwX6_init_0 : List UInt8 := [42, 183, 0, 1, 42, 27, 181, 0, 7, 42, 28, 181, 0, 13, 42, 29, 181, 0, 16, 177]
abbrev dktX6_init_0 : List UInt8 := dkwX6_init_0 ++ []
theorem dksX6_init_0 : cX6_init.data.toList.drop 0 = dktX6_init_0 := by decide +kernel
theorem dX6_init_0 : decode cX6_init 0 = .ok (.aload_n 0, 1) := dk_42 (dk_at dksX6_init_0 0 rfl rfl)
theorem dX6_init_1 : decode cX6_init 1 = .ok (.invokespecial 1, 3) := dk_183 0 1 (dk_at dksX6_init_0 1 rfl rfl)
theorem dX6_init_4 : decode cX6_init 4 = .ok (.aload_n 0, 1) := dk_42 (dk_at dksX6_init_0 4 rfl rfl)
theorem dX6_init_5 : decode cX6_init 5 = .ok (.iload_n 1, 1) := dk_27 (dk_at dksX6_init_0 5 rfl rfl)
theorem dX6_init_6 : decode cX6_init 6 = .ok (.putfield 7, 3) := dk_181 0 7 (dk_at dksX6_init_0 6 rfl rfl)
theorem dX6_init_9 : decode cX6_init 9 = .ok (.aload_n 0, 1) := dk_42 (dk_at dksX6_init_0 9 rfl rfl)
theorem dX6_init_10 : decode cX6_init 10 = .ok (.iload_n 2, 1) := dk_28 (dk_at dksX6_init_0 10 rfl rfl)
theorem dX6_init_11 : decode cX6_init 11 = .ok (.putfield 13, 3) := dk_181 0 13 (dk_at dksX6_init_0 11 rfl rfl)
theorem dX6_init_14 : decode cX6_init 14 = .ok (.aload_n 0, 1) := dk_42 (dk_at dksX6_init_0 14 rfl rfl)
theorem dX6_init_15 : decode cX6_init 15 = .ok (.iload_n 3, 1) := dk_29 (dk_at dksX6_init_0 15 rfl rfl)
theorem dX6_init_16 : decode cX6_init 16 = .ok (.putfield 16, 3) := dk_181 0 16 (dk_at dksX6_init_0 16 rfl rfl)
theorem dX6_init_19 : decode cX6_init 19 = .ok (.return_, 1) := dk_177 (dk_at dksX6_init_0 19 rfl rfl)
theorem q66 : (Jvm.Cond.initialized "Phrasehall$Action") ∈ lw_all := lw_g (lw_at lw_m1 25 rfl) rfl
theorem q198 : (Jvm.Cond.instanceMethod ({ cls := "Phrasehall$Action", name := "side", desc := "()I" } : Jvm.MethodName)) ∈ lw_all := lw_g (lw_at lw_m1 157 rfl) rfl
theorem q199 : (Jvm.Cond.selects "Phrasehall$Action" ({ cls := "Phrasehall$Action", name := "side", desc := "()I" } : Jvm.MethodName) ({ cls := "Phrasehall$Action", name := "side", desc := "()I" } : Jvm.MethodName)) ∈ lw_all := lw_g (lw_at lw_m1 158 rfl) rfl
theorem q200 : (Jvm.Cond.code ({ cls := "Phrasehall$Action", name := "side", desc := "()I" } : Jvm.MethodName) prog_2_method_5_code (1 : Nat) (Option.some Jvm.ClassFile.FieldType.int)) ∈ lw_all := lw_g (lw_at lw_m1 159 rfl) rfl
theorem q202 : (Jvm.Cond.instanceMethod ({ cls := "Phrasehall$Action", name := "time", desc := "()I" } : Jvm.MethodName)) ∈ lw_all := lw_g (lw_at lw_m1 161 rfl) rfl
theorem q203 : (Jvm.Cond.selects "Phrasehall$Action" ({ cls := "Phrasehall$Action", name := "time", desc := "()I" } : Jvm.MethodName) ({ cls := "Phrasehall$Action", name := "time", desc := "()I" } : Jvm.MethodName)) ∈ lw_all := lw_g (lw_at lw_m1 162 rfl) rfl
theorem q204 : (Jvm.Cond.code ({ cls := "Phrasehall$Action", name := "time", desc := "()I" } : Jvm.MethodName) prog_2_method_7_code (1 : Nat) (Option.some Jvm.ClassFile.FieldType.int)) ∈ lw_all := lw_g (lw_at lw_m1 163 rfl) rfl
theorem q206 : (Jvm.Cond.instanceMethod ({ cls := "Phrasehall$Action", name := "kind", desc := "()I" } : Jvm.MethodName)) ∈ lw_all := lw_g (lw_at lw_m1 165 rfl) rfl
theorem q207 : (Jvm.Cond.selects "Phrasehall$Action" ({ cls := "Phrasehall$Action", name := "kind", desc := "()I" } : Jvm.MethodName) ({ cls := "Phrasehall$Action", name := "kind", desc := "()I" } : Jvm.MethodName)) ∈ lw_all := lw_g (lw_at lw_m1 166 rfl) rfl
theorem q208 : (Jvm.Cond.code ({ cls := "Phrasehall$Action", name := "kind", desc := "()I" } : Jvm.MethodName) prog_2_method_6_code (1 : Nat) (Option.some Jvm.ClassFile.FieldType.int)) ∈ lw_all := lw_g (lw_at lw_m1 167 rfl) rfl
theorem q347 : (Jvm.Cond.selects "Phrasehall$Action" ({ cls := "java/lang/Object", name := "getClass", desc := "()Ljava/lang/Class;" } : Jvm.MethodName) ({ cls := "java/lang/Object", name := "getClass", desc := "()Ljava/lang/Class;" } : Jvm.MethodName)) ∈ lw_all := lw_g (lw_at lw_m2 66 rfl) rfl
theorem q556 : (Jvm.Cond.instantiable "Phrasehall$Action" (3 : Nat)) ∈ lw_all := lw_g (lw_at lw_m3 35 rfl) rfl
theorem q558 : (Jvm.Cond.instanceMethod ({ cls := "Phrasehall$Action", name := "<init>", desc := "(III)V" } : Jvm.MethodName)) ∈ lw_all := lw_g (lw_at lw_m3 37 rfl) rfl
theorem q559 : (Jvm.Cond.code ({ cls := "Phrasehall$Action", name := "<init>", desc := "(III)V" } : Jvm.MethodName) prog_2_method_1_code (4 : Nat) (Option.none : Option Jvm.ClassFile.FieldType)) ∈ lw_all := lw_g (lw_at lw_m3 38 rfl) rfl
theorem q560 : (Jvm.Cond.methodLink "Phrasehall$Action" (1 : Nat) ({ cls := "java/lang/Record", name := "<init>", desc := "()V" } : Jvm.MethodName)) ∈ lw_all := lw_g (lw_at lw_m3 39 rfl) rfl
theorem q564 : (Jvm.Cond.fieldLink "Phrasehall$Action" (7 : Nat) "Phrasehall$Action" "side" "I") ∈ lw_all := lw_g (lw_at lw_m3 43 rfl) rfl
theorem q565 : (Jvm.Cond.fieldLink "Phrasehall$Action" (13 : Nat) "Phrasehall$Action" "kind" "I") ∈ lw_all := lw_g (lw_at lw_m3 44 rfl) rfl
theorem q566 : (Jvm.Cond.fieldLink "Phrasehall$Action" (16 : Nat) "Phrasehall$Action" "time" "I") ∈ lw_all := lw_g (lw_at lw_m3 45 rfl) rfl
theorem q567 : (Jvm.Cond.laysFinal "Phrasehall$Action" "Phrasehall$Action" "side" "I") ∈ lw_all := lw_g (lw_at lw_m3 46 rfl) rfl
theorem q568 : (Jvm.Cond.soleField "Phrasehall$Action" "side") ∈ lw_all := lw_g (lw_at lw_m3 47 rfl) rfl
theorem q569 : (Jvm.Cond.laysFinal "Phrasehall$Action" "Phrasehall$Action" "kind" "I") ∈ lw_all := lw_g (lw_at lw_m3 48 rfl) rfl
theorem q570 : (Jvm.Cond.soleField "Phrasehall$Action" "kind") ∈ lw_all := lw_g (lw_at lw_m3 49 rfl) rfl
theorem q571 : (Jvm.Cond.laysFinal "Phrasehall$Action" "Phrasehall$Action" "time" "I") ∈ lw_all := lw_g (lw_at lw_m3 50 rfl) rfl
theorem q572 : (Jvm.Cond.soleField "Phrasehall$Action" "time") ∈ lw_all := lw_g (lw_at lw_m3 51 rfl) rfl
theorem q573 : (Jvm.Cond.superclass "Phrasehall$Action" "java/lang/Record") ∈ lw_all := lw_g (lw_at lw_m3 52 rfl) rfl
theorem q587 : (Jvm.Cond.castable "Phrasehall$Action" "Phrasehall$Part") ∈ lw_tbl := lw_at lw_m3 66 rfl
theorem q588 : (Jvm.Cond.selects "Phrasehall$Action" ({ cls := "Phrasehall$Part", name := "time", desc := "()I" } : Jvm.MethodName) ({ cls := "Phrasehall$Action", name := "time", desc := "()I" } : Jvm.MethodName)) ∈ lw_all := lw_g (lw_at lw_m3 67 rfl) rfl
theorem q589 : (Jvm.Cond.unhidden "Phrasehall$Action" "time" "()I") ∈ lw_tbl := lw_at lw_m3 68 rfl
theorem q590 : (Jvm.Cond.publicMethod ({ cls := "Phrasehall$Action", name := "time", desc := "()I" } : Jvm.MethodName)) ∈ lw_tbl := lw_at lw_m3 69 rfl
theorem q1552 : (Jvm.Cond.castable "Phrasehall$Action" "java/lang/Object") ∈ lw_tbl := lw_at lw_m7 71 rfl
theorem in_X6 : ∀ w ∈ wsX60, w ∈ lw_all := lw_in wsX60 [567, 569, 571] (by decide +kernel) (by decide +kernel)
/-! Phrasehall$Contact -/
set_option maxRecDepth 100000
def RX7 : String := "Phrasehall$Contact"
def TX7 : u_T := fun k => match k with
  | 0 => ("Phrasehall$Contact", "side", "I", true)
  | 1 => ("Phrasehall$Contact", "time", "I", true)
  | 2 => ("Phrasehall$Contact", "span", "I", true)
  | _ => ("Phrasehall$Contact", "target", "I", true)
def tyX7 : Nat → FieldType := fun k => match k with
  | 0 => .int
  | 1 => .int
  | 2 => .int
  | _ => .int
abbrev wsX70 : List Cond := u_ws RX7 TX7 4
theorem nmX7 : ∀ a, a < 4 → ∀ b, b < 4 → a ≠ b → (TX7 a).2.1 ≠ (TX7 b).2.1 := by decide +kernel
theorem tyX7_ok : ∀ k, k < 4 → parseFieldDescriptor (TX7 k).2.2.1 = some (tyX7 k) := by decide +kernel
abbrev cX7_time : ByteArray := prog_4_method_6_code
def yX7_time : MethodName := ⟨RX7, "time", "()I"⟩
theorem dX7_time_0 : decode cX7_time 0 = .ok (.aload_n 0, 1) := by decide +kernel
theorem dX7_time_1 : decode cX7_time 1 = .ok (.getfield 13, 3) := by decide +kernel
theorem dX7_time_4 : decode cX7_time 4 = .ok (.ireturn, 1) := by decide +kernel
abbrev cX7_init : ByteArray := prog_4_method_1_code
def yX7_init : MethodName := ⟨RX7, "<init>", "(IIII)V"⟩
def dkwX7_init_1 : List UInt8 := [181, 0, 19, 177]
abbrev dktX7_init_1 : List UInt8 := dkwX7_init_1 ++ []
def dkwX7_init_0 : List UInt8 := [42, 183, 0, 1, 42, 27, 181, 0, 7, 42, 28, 181, 0, 13, 42, 29, 181, 0, 16, 42, 21, 4]
abbrev dktX7_init_0 : List UInt8 := dkwX7_init_0 ++ dktX7_init_1
theorem dksX7_init_0 : cX7_init.data.toList.drop 0 = dktX7_init_0 := by decide +kernel
theorem dksX7_init_1 : cX7_init.data.toList.drop 22 = dktX7_init_1 := dk_seg dksX7_init_0 22 rfl rfl
theorem dX7_init_0 : decode cX7_init 0 = .ok (.aload_n 0, 1) := dk_42 (dk_at dksX7_init_0 0 rfl rfl)
theorem dX7_init_1 : decode cX7_init 1 = .ok (.invokespecial 1, 3) := dk_183 0 1 (dk_at dksX7_init_0 1 rfl rfl)
theorem dX7_init_4 : decode cX7_init 4 = .ok (.aload_n 0, 1) := dk_42 (dk_at dksX7_init_0 4 rfl rfl)
theorem dX7_init_5 : decode cX7_init 5 = .ok (.iload_n 1, 1) := dk_27 (dk_at dksX7_init_0 5 rfl rfl)
theorem dX7_init_6 : decode cX7_init 6 = .ok (.putfield 7, 3) := dk_181 0 7 (dk_at dksX7_init_0 6 rfl rfl)
theorem dX7_init_9 : decode cX7_init 9 = .ok (.aload_n 0, 1) := dk_42 (dk_at dksX7_init_0 9 rfl rfl)
theorem dX7_init_10 : decode cX7_init 10 = .ok (.iload_n 2, 1) := dk_28 (dk_at dksX7_init_0 10 rfl rfl)
theorem dX7_init_11 : decode cX7_init 11 = .ok (.putfield 13, 3) := dk_181 0 13 (dk_at dksX7_init_0 11 rfl rfl)
theorem dX7_init_14 : decode cX7_init 14 = .ok (.aload_n 0, 1) := dk_42 (dk_at dksX7_init_0 14 rfl rfl)
theorem dX7_init_15 : decode cX7_init 15 = .ok (.iload_n 3, 1) := dk_29 (dk_at dksX7_init_0 15 rfl rfl)
theorem dX7_init_16 : decode cX7_init 16 = .ok (.putfield 16, 3) := dk_181 0 16 (dk_at dksX7_init_0 16 rfl rfl)
theorem dX7_init_19 : decode cX7_init 19 = .ok (.aload_n 0, 1) := dk_42 (dk_at dksX7_init_0 19 rfl rfl)
theorem dX7_init_20 : decode cX7_init 20 = .ok (.iload 4, 2) := dk_21 4 (dk_at dksX7_init_0 20 rfl rfl)
theorem dX7_init_22 : decode cX7_init 22 = .ok (.putfield 19, 3) := dk_181 0 19 (dk_at dksX7_init_1 0 rfl rfl)
theorem dX7_init_25 : decode cX7_init 25 = .ok (.return_, 1) := dk_177 (dk_at dksX7_init_1 3 rfl rfl)
abbrev cX7_span : ByteArray := prog_4_method_7_code
def yX7_span : MethodName := ⟨RX7, "span", "()I"⟩
theorem dX7_span_0 : decode cX7_span 0 = .ok (.aload_n 0, 1) := by decide +kernel
theorem dX7_span_1 : decode cX7_span 1 = .ok (.getfield 16, 3) := by decide +kernel
theorem dX7_span_4 : decode cX7_span 4 = .ok (.ireturn, 1) := by decide +kernel
abbrev cX7_target : ByteArray := prog_4_method_8_code
def yX7_target : MethodName := ⟨RX7, "target", "()I"⟩
theorem dX7_target_0 : decode cX7_target 0 = .ok (.aload_n 0, 1) := by decide +kernel
theorem dX7_target_1 : decode cX7_target 1 = .ok (.getfield 19, 3) := by decide +kernel
theorem dX7_target_4 : decode cX7_target 4 = .ok (.ireturn, 1) := by decide +kernel
abbrev cX7_side : ByteArray := prog_4_method_5_code
def yX7_side : MethodName := ⟨RX7, "side", "()I"⟩
theorem dX7_side_0 : decode cX7_side 0 = .ok (.aload_n 0, 1) := by decide +kernel
theorem dX7_side_1 : decode cX7_side 1 = .ok (.getfield 7, 3) := by decide +kernel
theorem dX7_side_4 : decode cX7_side 4 = .ok (.ireturn, 1) := by decide +kernel
theorem q67 : (Jvm.Cond.initialized "Phrasehall$Contact") ∈ lw_all := lw_g (lw_at lw_m1 26 rfl) rfl
theorem q349 : (Jvm.Cond.selects "Phrasehall$Contact" ({ cls := "java/lang/Object", name := "getClass", desc := "()Ljava/lang/Class;" } : Jvm.MethodName) ({ cls := "java/lang/Object", name := "getClass", desc := "()Ljava/lang/Class;" } : Jvm.MethodName)) ∈ lw_all := lw_g (lw_at lw_m2 68 rfl) rfl
theorem q591 : (Jvm.Cond.castable "Phrasehall$Contact" "Phrasehall$Part") ∈ lw_tbl := lw_at lw_m3 70 rfl
theorem q592 : (Jvm.Cond.selects "Phrasehall$Contact" ({ cls := "Phrasehall$Part", name := "time", desc := "()I" } : Jvm.MethodName) ({ cls := "Phrasehall$Contact", name := "time", desc := "()I" } : Jvm.MethodName)) ∈ lw_all := lw_g (lw_at lw_m3 71 rfl) rfl
theorem q593 : (Jvm.Cond.unhidden "Phrasehall$Contact" "time" "()I") ∈ lw_tbl := lw_at lw_m3 72 rfl
theorem q594 : (Jvm.Cond.instanceMethod ({ cls := "Phrasehall$Contact", name := "time", desc := "()I" } : Jvm.MethodName)) ∈ lw_all := lw_g (lw_at lw_m3 73 rfl) rfl
theorem q595 : (Jvm.Cond.publicMethod ({ cls := "Phrasehall$Contact", name := "time", desc := "()I" } : Jvm.MethodName)) ∈ lw_tbl := lw_at lw_m3 74 rfl
theorem q596 : (Jvm.Cond.code ({ cls := "Phrasehall$Contact", name := "time", desc := "()I" } : Jvm.MethodName) prog_4_method_6_code (1 : Nat) (Option.some Jvm.ClassFile.FieldType.int)) ∈ lw_all := lw_g (lw_at lw_m3 75 rfl) rfl
theorem q605 : (Jvm.Cond.instantiable "Phrasehall$Contact" (4 : Nat)) ∈ lw_all := lw_g (lw_at lw_m3 84 rfl) rfl
theorem q607 : (Jvm.Cond.instanceMethod ({ cls := "Phrasehall$Contact", name := "<init>", desc := "(IIII)V" } : Jvm.MethodName)) ∈ lw_all := lw_g (lw_at lw_m3 86 rfl) rfl
theorem q608 : (Jvm.Cond.code ({ cls := "Phrasehall$Contact", name := "<init>", desc := "(IIII)V" } : Jvm.MethodName) prog_4_method_1_code (5 : Nat) (Option.none : Option Jvm.ClassFile.FieldType)) ∈ lw_all := lw_g (lw_at lw_m3 87 rfl) rfl
theorem q609 : (Jvm.Cond.methodLink "Phrasehall$Contact" (1 : Nat) ({ cls := "java/lang/Record", name := "<init>", desc := "()V" } : Jvm.MethodName)) ∈ lw_all := lw_g (lw_at lw_m3 88 rfl) rfl
theorem q610 : (Jvm.Cond.fieldLink "Phrasehall$Contact" (7 : Nat) "Phrasehall$Contact" "side" "I") ∈ lw_all := lw_g (lw_at lw_m3 89 rfl) rfl
theorem q611 : (Jvm.Cond.fieldLink "Phrasehall$Contact" (13 : Nat) "Phrasehall$Contact" "time" "I") ∈ lw_all := lw_g (lw_at lw_m3 90 rfl) rfl
theorem q612 : (Jvm.Cond.fieldLink "Phrasehall$Contact" (16 : Nat) "Phrasehall$Contact" "span" "I") ∈ lw_all := lw_g (lw_at lw_m3 91 rfl) rfl
theorem q613 : (Jvm.Cond.fieldLink "Phrasehall$Contact" (19 : Nat) "Phrasehall$Contact" "target" "I") ∈ lw_all := lw_g (lw_at lw_m3 92 rfl) rfl
theorem q614 : (Jvm.Cond.laysFinal "Phrasehall$Contact" "Phrasehall$Contact" "side" "I") ∈ lw_all := lw_g (lw_at lw_m3 93 rfl) rfl
theorem q615 : (Jvm.Cond.soleField "Phrasehall$Contact" "side") ∈ lw_all := lw_g (lw_at lw_m3 94 rfl) rfl
theorem q616 : (Jvm.Cond.laysFinal "Phrasehall$Contact" "Phrasehall$Contact" "time" "I") ∈ lw_all := lw_g (lw_at lw_m3 95 rfl) rfl
theorem q617 : (Jvm.Cond.soleField "Phrasehall$Contact" "time") ∈ lw_all := lw_g (lw_at lw_m3 96 rfl) rfl
theorem q618 : (Jvm.Cond.laysFinal "Phrasehall$Contact" "Phrasehall$Contact" "span" "I") ∈ lw_all := lw_g (lw_at lw_m3 97 rfl) rfl
theorem q619 : (Jvm.Cond.soleField "Phrasehall$Contact" "span") ∈ lw_all := lw_g (lw_at lw_m3 98 rfl) rfl
theorem q620 : (Jvm.Cond.laysFinal "Phrasehall$Contact" "Phrasehall$Contact" "target" "I") ∈ lw_all := lw_g (lw_at lw_m3 99 rfl) rfl
theorem q621 : (Jvm.Cond.soleField "Phrasehall$Contact" "target") ∈ lw_all := lw_g (lw_at lw_m3 100 rfl) rfl
theorem q622 : (Jvm.Cond.superclass "Phrasehall$Contact" "java/lang/Record") ∈ lw_all := lw_g (lw_at lw_m3 101 rfl) rfl
theorem q635 : (Jvm.Cond.instanceMethod ({ cls := "Phrasehall$Contact", name := "span", desc := "()I" } : Jvm.MethodName)) ∈ lw_all := lw_g (lw_at lw_m3 114 rfl) rfl
theorem q636 : (Jvm.Cond.selects "Phrasehall$Contact" ({ cls := "Phrasehall$Contact", name := "span", desc := "()I" } : Jvm.MethodName) ({ cls := "Phrasehall$Contact", name := "span", desc := "()I" } : Jvm.MethodName)) ∈ lw_all := lw_g (lw_at lw_m3 115 rfl) rfl
theorem q637 : (Jvm.Cond.code ({ cls := "Phrasehall$Contact", name := "span", desc := "()I" } : Jvm.MethodName) prog_4_method_7_code (1 : Nat) (Option.some Jvm.ClassFile.FieldType.int)) ∈ lw_all := lw_g (lw_at lw_m3 116 rfl) rfl
theorem q639 : (Jvm.Cond.instanceMethod ({ cls := "Phrasehall$Contact", name := "target", desc := "()I" } : Jvm.MethodName)) ∈ lw_all := lw_g (lw_at lw_m3 118 rfl) rfl
theorem q640 : (Jvm.Cond.selects "Phrasehall$Contact" ({ cls := "Phrasehall$Contact", name := "target", desc := "()I" } : Jvm.MethodName) ({ cls := "Phrasehall$Contact", name := "target", desc := "()I" } : Jvm.MethodName)) ∈ lw_all := lw_g (lw_at lw_m3 119 rfl) rfl
theorem q641 : (Jvm.Cond.code ({ cls := "Phrasehall$Contact", name := "target", desc := "()I" } : Jvm.MethodName) prog_4_method_8_code (1 : Nat) (Option.some Jvm.ClassFile.FieldType.int)) ∈ lw_all := lw_g (lw_at lw_m3 120 rfl) rfl
theorem q652 : (Jvm.Cond.instanceMethod ({ cls := "Phrasehall$Contact", name := "side", desc := "()I" } : Jvm.MethodName)) ∈ lw_all := lw_g (lw_at lw_m3 131 rfl) rfl
theorem q653 : (Jvm.Cond.selects "Phrasehall$Contact" ({ cls := "Phrasehall$Contact", name := "side", desc := "()I" } : Jvm.MethodName) ({ cls := "Phrasehall$Contact", name := "side", desc := "()I" } : Jvm.MethodName)) ∈ lw_all := lw_g (lw_at lw_m3 132 rfl) rfl
theorem q654 : (Jvm.Cond.code ({ cls := "Phrasehall$Contact", name := "side", desc := "()I" } : Jvm.MethodName) prog_4_method_5_code (1 : Nat) (Option.some Jvm.ClassFile.FieldType.int)) ∈ lw_all := lw_g (lw_at lw_m3 133 rfl) rfl
theorem q1529 : (Jvm.Cond.selects "Phrasehall$Contact" ({ cls := "Phrasehall$Contact", name := "time", desc := "()I" } : Jvm.MethodName) ({ cls := "Phrasehall$Contact", name := "time", desc := "()I" } : Jvm.MethodName)) ∈ lw_all := lw_g (lw_at lw_m7 48 rfl) rfl
theorem q1553 : (Jvm.Cond.castable "Phrasehall$Contact" "java/lang/Object") ∈ lw_tbl := lw_at lw_m7 72 rfl
theorem in_X7 : ∀ w ∈ wsX70, w ∈ lw_all := lw_in wsX70 [614, 616, 618, 620] (by decide +kernel) (by decide +kernel)
/-! Phrasehall$Way -/
set_option maxRecDepth 100000
def RX8 : String := "Phrasehall$Way"
def TX8 : u_T := fun k => match k with
  | 0 => ("Phrasehall$Way", "holder", "I", false)
  | 1 => ("Phrasehall$Way", "by", "I", false)
  | 2 => ("Phrasehall$Way", "since", "I", false)
  | 3 => ("Phrasehall$Way", "parried", "I", false)
  | _ => ("Phrasehall$Way", "parriedAt", "I", false)
def tyX8 : Nat → FieldType := fun k => match k with
  | 0 => .int
  | 1 => .int
  | 2 => .int
  | 3 => .int
  | _ => .int
abbrev wsX80 : List Cond := u_ws RX8 TX8 5
theorem nmX8 : ∀ a, a < 5 → ∀ b, b < 5 → a ≠ b → (TX8 a).2.1 ≠ (TX8 b).2.1 := by decide +kernel
theorem tyX8_ok : ∀ k, k < 5 → parseFieldDescriptor (TX8 k).2.2.1 = some (tyX8 k) := by decide +kernel
abbrev cX8_init : ByteArray := prog_9_method_1_code
def yX8_init : MethodName := ⟨RX8, "<init>", "()V"⟩
def dkwX8_init_0 : List UInt8 := [42, 183, 0, 3, 42, 2, 181, 0, 9, 42, 2, 181, 0, 15, 177]
abbrev dktX8_init_0 : List UInt8 := dkwX8_init_0 ++ []
theorem dksX8_init_0 : cX8_init.data.toList.drop 0 = dktX8_init_0 := by decide +kernel
theorem dX8_init_0 : decode cX8_init 0 = .ok (.aload_n 0, 1) := dk_42 (dk_at dksX8_init_0 0 rfl rfl)
theorem dX8_init_1 : decode cX8_init 1 = .ok (.invokespecial 3, 3) := dk_183 0 3 (dk_at dksX8_init_0 1 rfl rfl)
theorem dX8_init_4 : decode cX8_init 4 = .ok (.aload_n 0, 1) := dk_42 (dk_at dksX8_init_0 4 rfl rfl)
theorem dX8_init_5 : decode cX8_init 5 = .ok (.iconst (-1), 1) := dk_2 (dk_at dksX8_init_0 5 rfl rfl)
theorem dX8_init_6 : decode cX8_init 6 = .ok (.putfield 9, 3) := dk_181 0 9 (dk_at dksX8_init_0 6 rfl rfl)
theorem dX8_init_9 : decode cX8_init 9 = .ok (.aload_n 0, 1) := dk_42 (dk_at dksX8_init_0 9 rfl rfl)
theorem dX8_init_10 : decode cX8_init 10 = .ok (.iconst (-1), 1) := dk_2 (dk_at dksX8_init_0 10 rfl rfl)
theorem dX8_init_11 : decode cX8_init 11 = .ok (.putfield 15, 3) := dk_181 0 15 (dk_at dksX8_init_0 11 rfl rfl)
theorem dX8_init_14 : decode cX8_init 14 = .ok (.return_, 1) := dk_177 (dk_at dksX8_init_0 14 rfl rfl)
abbrev cX8_takes : ByteArray := prog_9_method_4_code
def yX8_takes : MethodName := ⟨RX8, "takes", "(LPhrasehall$Action;)V"⟩
def dkwX8_takes_10 : List UInt8 := [160, 0, 7, 2, 167, 0, 7, 42, 180, 0, 9, 181, 0, 9, 177]
abbrev dktX8_takes_10 : List UInt8 := dkwX8_takes_10 ++ []
def dkwX8_takes_9 : List UInt8 := [182, 0, 47, 154, 0, 33, 42, 28, 8, 29, 182, 0, 43, 167, 0, 23, 42, 42, 180, 0, 9, 28]
abbrev dktX8_takes_9 : List UInt8 := dkwX8_takes_9 ++ dktX8_takes_10
def dkwX8_takes_8 : List UInt8 := [167, 0, 59, 42, 180, 0, 9, 2, 160, 0, 51, 42, 180, 0, 15, 4, 28, 100, 160, 0, 41, 42, 29]
abbrev dktX8_takes_8 : List UInt8 := dkwX8_takes_8 ++ dktX8_takes_9
def dkwX8_takes_7 : List UInt8 := [180, 0, 15, 28, 160, 0, 77, 42, 29, 182, 0, 47, 153, 0, 69, 42, 28, 7, 29, 182, 0, 43]
abbrev dktX8_takes_7 : List UInt8 := dkwX8_takes_7 ++ dktX8_takes_8
def dkwX8_takes_6 : List UInt8 := [42, 28, 181, 0, 15, 42, 29, 181, 0, 24, 167, 0, 93, 42, 180, 0, 9, 2, 160, 0, 85, 42]
abbrev dktX8_takes_6 : List UInt8 := dkwX8_takes_6 ++ dktX8_takes_7
def dkwX8_takes_5 : List UInt8 := [182, 0, 43, 167, 0, 124, 21, 4, 153, 0, 119, 42, 180, 0, 18, 4, 159, 0, 111, 42, 2, 181, 0, 9]
abbrev dktX8_takes_5 : List UInt8 := dkwX8_takes_5 ++ dktX8_takes_6
def dkwX8_takes_4 : List UInt8 := [182, 0, 43, 167, 0, 147, 21, 4, 153, 0, 142, 42, 180, 0, 18, 4, 160, 0, 134, 42, 28, 3, 29]
abbrev dktX8_takes_4 : List UInt8 := dkwX8_takes_4 ++ dktX8_takes_5
def dkwX8_takes_3 : List UInt8 := [42, 28, 29, 21, 4, 182, 0, 39, 167, 0, 165, 42, 180, 0, 9, 2, 160, 0, 157, 42, 28, 4, 29]
abbrev dktX8_takes_3 : List UInt8 := dkwX8_takes_3 ++ dktX8_takes_4
def dkwX8_takes_2 : List UInt8 := [170, 0, 0, 0, 190, 0, 0, 0, 0, 0, 0, 0, 5, 0, 0, 0, 37, 0, 0, 0, 48, 0, 0, 0, 66, 0, 0, 0, 89, 0, 0, 0, 120, 0, 0, 0, 154]
abbrev dktX8_takes_2 : List UInt8 := dkwX8_takes_2 ++ dktX8_takes_3
def dkwX8_takes_1 : List UInt8 := [3, 54, 4, 43, 182, 0, 36]
abbrev dktX8_takes_1 : List UInt8 := dkwX8_takes_1 ++ dktX8_takes_2
def dkwX8_takes_0 : List UInt8 := [43, 182, 0, 27, 61, 43, 182, 0, 33, 62, 42, 180, 0, 9, 4, 28, 100, 160, 0, 7, 4, 167, 0, 4]
abbrev dktX8_takes_0 : List UInt8 := dkwX8_takes_0 ++ dktX8_takes_1
theorem dksX8_takes_0 : cX8_takes.data.toList.drop 0 = dktX8_takes_0 := by decide +kernel
theorem dksX8_takes_1 : cX8_takes.data.toList.drop 24 = dktX8_takes_1 := dk_seg dksX8_takes_0 24 rfl rfl
theorem dksX8_takes_2 : cX8_takes.data.toList.drop 31 = dktX8_takes_2 := dk_seg dksX8_takes_1 7 rfl rfl
theorem dksX8_takes_3 : cX8_takes.data.toList.drop 68 = dktX8_takes_3 := dk_seg dksX8_takes_2 37 rfl rfl
theorem dksX8_takes_4 : cX8_takes.data.toList.drop 91 = dktX8_takes_4 := dk_seg dksX8_takes_3 23 rfl rfl
theorem dksX8_takes_5 : cX8_takes.data.toList.drop 114 = dktX8_takes_5 := dk_seg dksX8_takes_4 23 rfl rfl
theorem dksX8_takes_6 : cX8_takes.data.toList.drop 138 = dktX8_takes_6 := dk_seg dksX8_takes_5 24 rfl rfl
theorem dksX8_takes_7 : cX8_takes.data.toList.drop 160 = dktX8_takes_7 := dk_seg dksX8_takes_6 22 rfl rfl
theorem dksX8_takes_8 : cX8_takes.data.toList.drop 182 = dktX8_takes_8 := dk_seg dksX8_takes_7 22 rfl rfl
theorem dksX8_takes_9 : cX8_takes.data.toList.drop 205 = dktX8_takes_9 := dk_seg dksX8_takes_8 23 rfl rfl
theorem dksX8_takes_10 : cX8_takes.data.toList.drop 227 = dktX8_takes_10 := dk_seg dksX8_takes_9 22 rfl rfl
theorem dX8_takes_0 : decode cX8_takes 0 = .ok (.aload_n 1, 1) := dk_43 (dk_at dksX8_takes_0 0 rfl rfl)
theorem dX8_takes_1 : decode cX8_takes 1 = .ok (.invokevirtual 27, 3) := dk_182 0 27 (dk_at dksX8_takes_0 1 rfl rfl)
theorem dX8_takes_4 : decode cX8_takes 4 = .ok (.istore_n 2, 1) := dk_61 (dk_at dksX8_takes_0 4 rfl rfl)
theorem dX8_takes_5 : decode cX8_takes 5 = .ok (.aload_n 1, 1) := dk_43 (dk_at dksX8_takes_0 5 rfl rfl)
theorem dX8_takes_6 : decode cX8_takes 6 = .ok (.invokevirtual 33, 3) := dk_182 0 33 (dk_at dksX8_takes_0 6 rfl rfl)
theorem dX8_takes_9 : decode cX8_takes 9 = .ok (.istore_n 3, 1) := dk_62 (dk_at dksX8_takes_0 9 rfl rfl)
theorem dX8_takes_10 : decode cX8_takes 10 = .ok (.aload_n 0, 1) := dk_42 (dk_at dksX8_takes_0 10 rfl rfl)
theorem dX8_takes_11 : decode cX8_takes 11 = .ok (.getfield 9, 3) := dk_180 0 9 (dk_at dksX8_takes_0 11 rfl rfl)
theorem dX8_takes_14 : decode cX8_takes 14 = .ok (.iconst 1, 1) := dk_4 (dk_at dksX8_takes_0 14 rfl rfl)
theorem dX8_takes_15 : decode cX8_takes 15 = .ok (.iload_n 2, 1) := dk_28 (dk_at dksX8_takes_0 15 rfl rfl)
theorem dX8_takes_16 : decode cX8_takes 16 = .ok (.isub, 1) := dk_100 (dk_at dksX8_takes_0 16 rfl rfl)
theorem dX8_takes_17 : decode cX8_takes 17 = .ok (.if_icmp .ne 7, 3) := dk_160 0 7 (dk_at dksX8_takes_0 17 rfl rfl)
theorem dX8_takes_20 : decode cX8_takes 20 = .ok (.iconst 1, 1) := dk_4 (dk_at dksX8_takes_0 20 rfl rfl)
theorem dX8_takes_21 : decode cX8_takes 21 = .ok (.goto 4, 3) := dk_167 0 4 (dk_at dksX8_takes_0 21 rfl rfl)
theorem dX8_takes_24 : decode cX8_takes 24 = .ok (.iconst 0, 1) := dk_3 (dk_at dksX8_takes_1 0 rfl rfl)
theorem dX8_takes_25 : decode cX8_takes 25 = .ok (.istore 4, 2) := dk_54 4 (dk_at dksX8_takes_1 1 rfl rfl)
theorem dX8_takes_27 : decode cX8_takes 27 = .ok (.aload_n 1, 1) := dk_43 (dk_at dksX8_takes_1 3 rfl rfl)
theorem dX8_takes_28 : decode cX8_takes 28 = .ok (.invokevirtual 36, 3) := dk_182 0 36 (dk_at dksX8_takes_1 4 rfl rfl)
theorem dX8_takes_31 : decode cX8_takes 31 = .ok (.tableswitch 190 0 5 #[37, 48, 66, 89, 120, 154], 37) := by decide +kernel
theorem dX8_takes_68 : decode cX8_takes 68 = .ok (.aload_n 0, 1) := dk_42 (dk_at dksX8_takes_3 0 rfl rfl)
theorem dX8_takes_69 : decode cX8_takes 69 = .ok (.iload_n 2, 1) := dk_28 (dk_at dksX8_takes_3 1 rfl rfl)
theorem dX8_takes_70 : decode cX8_takes 70 = .ok (.iload_n 3, 1) := dk_29 (dk_at dksX8_takes_3 2 rfl rfl)
theorem dX8_takes_71 : decode cX8_takes 71 = .ok (.iload 4, 2) := dk_21 4 (dk_at dksX8_takes_3 3 rfl rfl)
theorem dX8_takes_73 : decode cX8_takes 73 = .ok (.invokevirtual 39, 3) := dk_182 0 39 (dk_at dksX8_takes_3 5 rfl rfl)
theorem dX8_takes_76 : decode cX8_takes 76 = .ok (.goto 165, 3) := dk_167 0 165 (dk_at dksX8_takes_3 8 rfl rfl)
theorem dX8_takes_79 : decode cX8_takes 79 = .ok (.aload_n 0, 1) := dk_42 (dk_at dksX8_takes_3 11 rfl rfl)
theorem dX8_takes_80 : decode cX8_takes 80 = .ok (.getfield 9, 3) := dk_180 0 9 (dk_at dksX8_takes_3 12 rfl rfl)
theorem dX8_takes_83 : decode cX8_takes 83 = .ok (.iconst (-1), 1) := dk_2 (dk_at dksX8_takes_3 15 rfl rfl)
theorem dX8_takes_84 : decode cX8_takes 84 = .ok (.if_icmp .ne 157, 3) := dk_160 0 157 (dk_at dksX8_takes_3 16 rfl rfl)
theorem dX8_takes_87 : decode cX8_takes 87 = .ok (.aload_n 0, 1) := dk_42 (dk_at dksX8_takes_3 19 rfl rfl)
theorem dX8_takes_88 : decode cX8_takes 88 = .ok (.iload_n 2, 1) := dk_28 (dk_at dksX8_takes_3 20 rfl rfl)
theorem dX8_takes_89 : decode cX8_takes 89 = .ok (.iconst 1, 1) := dk_4 (dk_at dksX8_takes_3 21 rfl rfl)
theorem dX8_takes_90 : decode cX8_takes 90 = .ok (.iload_n 3, 1) := dk_29 (dk_at dksX8_takes_3 22 rfl rfl)
theorem dX8_takes_91 : decode cX8_takes 91 = .ok (.invokevirtual 43, 3) := dk_182 0 43 (dk_at dksX8_takes_4 0 rfl rfl)
theorem dX8_takes_94 : decode cX8_takes 94 = .ok (.goto 147, 3) := dk_167 0 147 (dk_at dksX8_takes_4 3 rfl rfl)
theorem dX8_takes_97 : decode cX8_takes 97 = .ok (.iload 4, 2) := dk_21 4 (dk_at dksX8_takes_4 6 rfl rfl)
theorem dX8_takes_99 : decode cX8_takes 99 = .ok (.ifCond .eq 142, 3) := dk_153 0 142 (dk_at dksX8_takes_4 8 rfl rfl)
theorem dX8_takes_102 : decode cX8_takes 102 = .ok (.aload_n 0, 1) := dk_42 (dk_at dksX8_takes_4 11 rfl rfl)
theorem dX8_takes_103 : decode cX8_takes 103 = .ok (.getfield 18, 3) := dk_180 0 18 (dk_at dksX8_takes_4 12 rfl rfl)
theorem dX8_takes_106 : decode cX8_takes 106 = .ok (.iconst 1, 1) := dk_4 (dk_at dksX8_takes_4 15 rfl rfl)
theorem dX8_takes_107 : decode cX8_takes 107 = .ok (.if_icmp .ne 134, 3) := dk_160 0 134 (dk_at dksX8_takes_4 16 rfl rfl)
theorem dX8_takes_110 : decode cX8_takes 110 = .ok (.aload_n 0, 1) := dk_42 (dk_at dksX8_takes_4 19 rfl rfl)
theorem dX8_takes_111 : decode cX8_takes 111 = .ok (.iload_n 2, 1) := dk_28 (dk_at dksX8_takes_4 20 rfl rfl)
theorem dX8_takes_112 : decode cX8_takes 112 = .ok (.iconst 0, 1) := dk_3 (dk_at dksX8_takes_4 21 rfl rfl)
theorem dX8_takes_113 : decode cX8_takes 113 = .ok (.iload_n 3, 1) := dk_29 (dk_at dksX8_takes_4 22 rfl rfl)
theorem dX8_takes_114 : decode cX8_takes 114 = .ok (.invokevirtual 43, 3) := dk_182 0 43 (dk_at dksX8_takes_5 0 rfl rfl)
theorem dX8_takes_117 : decode cX8_takes 117 = .ok (.goto 124, 3) := dk_167 0 124 (dk_at dksX8_takes_5 3 rfl rfl)
theorem dX8_takes_120 : decode cX8_takes 120 = .ok (.iload 4, 2) := dk_21 4 (dk_at dksX8_takes_5 6 rfl rfl)
theorem dX8_takes_122 : decode cX8_takes 122 = .ok (.ifCond .eq 119, 3) := dk_153 0 119 (dk_at dksX8_takes_5 8 rfl rfl)
theorem dX8_takes_125 : decode cX8_takes 125 = .ok (.aload_n 0, 1) := dk_42 (dk_at dksX8_takes_5 11 rfl rfl)
theorem dX8_takes_126 : decode cX8_takes 126 = .ok (.getfield 18, 3) := dk_180 0 18 (dk_at dksX8_takes_5 12 rfl rfl)
theorem dX8_takes_129 : decode cX8_takes 129 = .ok (.iconst 1, 1) := dk_4 (dk_at dksX8_takes_5 15 rfl rfl)
theorem dX8_takes_130 : decode cX8_takes 130 = .ok (.if_icmp .eq 111, 3) := dk_159 0 111 (dk_at dksX8_takes_5 16 rfl rfl)
theorem dX8_takes_133 : decode cX8_takes 133 = .ok (.aload_n 0, 1) := dk_42 (dk_at dksX8_takes_5 19 rfl rfl)
theorem dX8_takes_134 : decode cX8_takes 134 = .ok (.iconst (-1), 1) := dk_2 (dk_at dksX8_takes_5 20 rfl rfl)
theorem dX8_takes_135 : decode cX8_takes 135 = .ok (.putfield 9, 3) := dk_181 0 9 (dk_at dksX8_takes_5 21 rfl rfl)
theorem dX8_takes_138 : decode cX8_takes 138 = .ok (.aload_n 0, 1) := dk_42 (dk_at dksX8_takes_6 0 rfl rfl)
theorem dX8_takes_139 : decode cX8_takes 139 = .ok (.iload_n 2, 1) := dk_28 (dk_at dksX8_takes_6 1 rfl rfl)
theorem dX8_takes_140 : decode cX8_takes 140 = .ok (.putfield 15, 3) := dk_181 0 15 (dk_at dksX8_takes_6 2 rfl rfl)
theorem dX8_takes_143 : decode cX8_takes 143 = .ok (.aload_n 0, 1) := dk_42 (dk_at dksX8_takes_6 5 rfl rfl)
theorem dX8_takes_144 : decode cX8_takes 144 = .ok (.iload_n 3, 1) := dk_29 (dk_at dksX8_takes_6 6 rfl rfl)
theorem dX8_takes_145 : decode cX8_takes 145 = .ok (.putfield 24, 3) := dk_181 0 24 (dk_at dksX8_takes_6 7 rfl rfl)
theorem dX8_takes_148 : decode cX8_takes 148 = .ok (.goto 93, 3) := dk_167 0 93 (dk_at dksX8_takes_6 10 rfl rfl)
theorem dX8_takes_151 : decode cX8_takes 151 = .ok (.aload_n 0, 1) := dk_42 (dk_at dksX8_takes_6 13 rfl rfl)
theorem dX8_takes_152 : decode cX8_takes 152 = .ok (.getfield 9, 3) := dk_180 0 9 (dk_at dksX8_takes_6 14 rfl rfl)
theorem dX8_takes_155 : decode cX8_takes 155 = .ok (.iconst (-1), 1) := dk_2 (dk_at dksX8_takes_6 17 rfl rfl)
theorem dX8_takes_156 : decode cX8_takes 156 = .ok (.if_icmp .ne 85, 3) := dk_160 0 85 (dk_at dksX8_takes_6 18 rfl rfl)
theorem dX8_takes_159 : decode cX8_takes 159 = .ok (.aload_n 0, 1) := dk_42 (dk_at dksX8_takes_6 21 rfl rfl)
theorem dX8_takes_160 : decode cX8_takes 160 = .ok (.getfield 15, 3) := dk_180 0 15 (dk_at dksX8_takes_7 0 rfl rfl)
theorem dX8_takes_163 : decode cX8_takes 163 = .ok (.iload_n 2, 1) := dk_28 (dk_at dksX8_takes_7 3 rfl rfl)
theorem dX8_takes_164 : decode cX8_takes 164 = .ok (.if_icmp .ne 77, 3) := dk_160 0 77 (dk_at dksX8_takes_7 4 rfl rfl)
theorem dX8_takes_167 : decode cX8_takes 167 = .ok (.aload_n 0, 1) := dk_42 (dk_at dksX8_takes_7 7 rfl rfl)
theorem dX8_takes_168 : decode cX8_takes 168 = .ok (.iload_n 3, 1) := dk_29 (dk_at dksX8_takes_7 8 rfl rfl)
theorem dX8_takes_169 : decode cX8_takes 169 = .ok (.invokevirtual 47, 3) := dk_182 0 47 (dk_at dksX8_takes_7 9 rfl rfl)
theorem dX8_takes_172 : decode cX8_takes 172 = .ok (.ifCond .eq 69, 3) := dk_153 0 69 (dk_at dksX8_takes_7 12 rfl rfl)
theorem dX8_takes_175 : decode cX8_takes 175 = .ok (.aload_n 0, 1) := dk_42 (dk_at dksX8_takes_7 15 rfl rfl)
theorem dX8_takes_176 : decode cX8_takes 176 = .ok (.iload_n 2, 1) := dk_28 (dk_at dksX8_takes_7 16 rfl rfl)
theorem dX8_takes_177 : decode cX8_takes 177 = .ok (.iconst 4, 1) := dk_7 (dk_at dksX8_takes_7 17 rfl rfl)
theorem dX8_takes_178 : decode cX8_takes 178 = .ok (.iload_n 3, 1) := dk_29 (dk_at dksX8_takes_7 18 rfl rfl)
theorem dX8_takes_179 : decode cX8_takes 179 = .ok (.invokevirtual 43, 3) := dk_182 0 43 (dk_at dksX8_takes_7 19 rfl rfl)
theorem dX8_takes_182 : decode cX8_takes 182 = .ok (.goto 59, 3) := dk_167 0 59 (dk_at dksX8_takes_8 0 rfl rfl)
theorem dX8_takes_185 : decode cX8_takes 185 = .ok (.aload_n 0, 1) := dk_42 (dk_at dksX8_takes_8 3 rfl rfl)
theorem dX8_takes_186 : decode cX8_takes 186 = .ok (.getfield 9, 3) := dk_180 0 9 (dk_at dksX8_takes_8 4 rfl rfl)
theorem dX8_takes_189 : decode cX8_takes 189 = .ok (.iconst (-1), 1) := dk_2 (dk_at dksX8_takes_8 7 rfl rfl)
theorem dX8_takes_190 : decode cX8_takes 190 = .ok (.if_icmp .ne 51, 3) := dk_160 0 51 (dk_at dksX8_takes_8 8 rfl rfl)
theorem dX8_takes_193 : decode cX8_takes 193 = .ok (.aload_n 0, 1) := dk_42 (dk_at dksX8_takes_8 11 rfl rfl)
theorem dX8_takes_194 : decode cX8_takes 194 = .ok (.getfield 15, 3) := dk_180 0 15 (dk_at dksX8_takes_8 12 rfl rfl)
theorem dX8_takes_197 : decode cX8_takes 197 = .ok (.iconst 1, 1) := dk_4 (dk_at dksX8_takes_8 15 rfl rfl)
theorem dX8_takes_198 : decode cX8_takes 198 = .ok (.iload_n 2, 1) := dk_28 (dk_at dksX8_takes_8 16 rfl rfl)
theorem dX8_takes_199 : decode cX8_takes 199 = .ok (.isub, 1) := dk_100 (dk_at dksX8_takes_8 17 rfl rfl)
theorem dX8_takes_200 : decode cX8_takes 200 = .ok (.if_icmp .ne 41, 3) := dk_160 0 41 (dk_at dksX8_takes_8 18 rfl rfl)
theorem dX8_takes_203 : decode cX8_takes 203 = .ok (.aload_n 0, 1) := dk_42 (dk_at dksX8_takes_8 21 rfl rfl)
theorem dX8_takes_204 : decode cX8_takes 204 = .ok (.iload_n 3, 1) := dk_29 (dk_at dksX8_takes_8 22 rfl rfl)
theorem dX8_takes_205 : decode cX8_takes 205 = .ok (.invokevirtual 47, 3) := dk_182 0 47 (dk_at dksX8_takes_9 0 rfl rfl)
theorem dX8_takes_208 : decode cX8_takes 208 = .ok (.ifCond .ne 33, 3) := dk_154 0 33 (dk_at dksX8_takes_9 3 rfl rfl)
theorem dX8_takes_211 : decode cX8_takes 211 = .ok (.aload_n 0, 1) := dk_42 (dk_at dksX8_takes_9 6 rfl rfl)
theorem dX8_takes_212 : decode cX8_takes 212 = .ok (.iload_n 2, 1) := dk_28 (dk_at dksX8_takes_9 7 rfl rfl)
theorem dX8_takes_213 : decode cX8_takes 213 = .ok (.iconst 5, 1) := dk_8 (dk_at dksX8_takes_9 8 rfl rfl)
theorem dX8_takes_214 : decode cX8_takes 214 = .ok (.iload_n 3, 1) := dk_29 (dk_at dksX8_takes_9 9 rfl rfl)
theorem dX8_takes_215 : decode cX8_takes 215 = .ok (.invokevirtual 43, 3) := dk_182 0 43 (dk_at dksX8_takes_9 10 rfl rfl)
theorem dX8_takes_218 : decode cX8_takes 218 = .ok (.goto 23, 3) := dk_167 0 23 (dk_at dksX8_takes_9 13 rfl rfl)
theorem dX8_takes_221 : decode cX8_takes 221 = .ok (.aload_n 0, 1) := dk_42 (dk_at dksX8_takes_9 16 rfl rfl)
theorem dX8_takes_222 : decode cX8_takes 222 = .ok (.aload_n 0, 1) := dk_42 (dk_at dksX8_takes_9 17 rfl rfl)
theorem dX8_takes_223 : decode cX8_takes 223 = .ok (.getfield 9, 3) := dk_180 0 9 (dk_at dksX8_takes_9 18 rfl rfl)
theorem dX8_takes_226 : decode cX8_takes 226 = .ok (.iload_n 2, 1) := dk_28 (dk_at dksX8_takes_9 21 rfl rfl)
theorem dX8_takes_227 : decode cX8_takes 227 = .ok (.if_icmp .ne 7, 3) := dk_160 0 7 (dk_at dksX8_takes_10 0 rfl rfl)
theorem dX8_takes_230 : decode cX8_takes 230 = .ok (.iconst (-1), 1) := dk_2 (dk_at dksX8_takes_10 3 rfl rfl)
theorem dX8_takes_231 : decode cX8_takes 231 = .ok (.goto 7, 3) := dk_167 0 7 (dk_at dksX8_takes_10 4 rfl rfl)
theorem dX8_takes_234 : decode cX8_takes 234 = .ok (.aload_n 0, 1) := dk_42 (dk_at dksX8_takes_10 7 rfl rfl)
theorem dX8_takes_235 : decode cX8_takes 235 = .ok (.getfield 9, 3) := dk_180 0 9 (dk_at dksX8_takes_10 8 rfl rfl)
theorem dX8_takes_238 : decode cX8_takes 238 = .ok (.putfield 9, 3) := dk_181 0 9 (dk_at dksX8_takes_10 11 rfl rfl)
theorem dX8_takes_241 : decode cX8_takes 241 = .ok (.return_, 1) := dk_177 (dk_at dksX8_takes_10 14 rfl rfl)
abbrev cX8_attacks : ByteArray := prog_9_method_5_code
def yX8_attacks : MethodName := ⟨RX8, "attacks", "(IIZ)V"⟩
def dkwX8_attacks_1 : List UInt8 := [180, 0, 21, 100, 16, 40, 163, 0, 8, 42, 2, 181, 0, 9, 177]
abbrev dktX8_attacks_1 : List UInt8 := dkwX8_attacks_1 ++ []
def dkwX8_attacks_0 : List UInt8 := [29, 154, 0, 13, 42, 27, 3, 28, 182, 0, 43, 167, 0, 26, 42, 180, 0, 18, 154, 0, 19, 28, 42]
abbrev dktX8_attacks_0 : List UInt8 := dkwX8_attacks_0 ++ dktX8_attacks_1
theorem dksX8_attacks_0 : cX8_attacks.data.toList.drop 0 = dktX8_attacks_0 := by decide +kernel
theorem dksX8_attacks_1 : cX8_attacks.data.toList.drop 23 = dktX8_attacks_1 := dk_seg dksX8_attacks_0 23 rfl rfl
theorem dX8_attacks_0 : decode cX8_attacks 0 = .ok (.iload_n 3, 1) := dk_29 (dk_at dksX8_attacks_0 0 rfl rfl)
theorem dX8_attacks_1 : decode cX8_attacks 1 = .ok (.ifCond .ne 13, 3) := dk_154 0 13 (dk_at dksX8_attacks_0 1 rfl rfl)
theorem dX8_attacks_4 : decode cX8_attacks 4 = .ok (.aload_n 0, 1) := dk_42 (dk_at dksX8_attacks_0 4 rfl rfl)
theorem dX8_attacks_5 : decode cX8_attacks 5 = .ok (.iload_n 1, 1) := dk_27 (dk_at dksX8_attacks_0 5 rfl rfl)
theorem dX8_attacks_6 : decode cX8_attacks 6 = .ok (.iconst 0, 1) := dk_3 (dk_at dksX8_attacks_0 6 rfl rfl)
theorem dX8_attacks_7 : decode cX8_attacks 7 = .ok (.iload_n 2, 1) := dk_28 (dk_at dksX8_attacks_0 7 rfl rfl)
theorem dX8_attacks_8 : decode cX8_attacks 8 = .ok (.invokevirtual 43, 3) := dk_182 0 43 (dk_at dksX8_attacks_0 8 rfl rfl)
theorem dX8_attacks_11 : decode cX8_attacks 11 = .ok (.goto 26, 3) := dk_167 0 26 (dk_at dksX8_attacks_0 11 rfl rfl)
theorem dX8_attacks_14 : decode cX8_attacks 14 = .ok (.aload_n 0, 1) := dk_42 (dk_at dksX8_attacks_0 14 rfl rfl)
theorem dX8_attacks_15 : decode cX8_attacks 15 = .ok (.getfield 18, 3) := dk_180 0 18 (dk_at dksX8_attacks_0 15 rfl rfl)
theorem dX8_attacks_18 : decode cX8_attacks 18 = .ok (.ifCond .ne 19, 3) := dk_154 0 19 (dk_at dksX8_attacks_0 18 rfl rfl)
theorem dX8_attacks_21 : decode cX8_attacks 21 = .ok (.iload_n 2, 1) := dk_28 (dk_at dksX8_attacks_0 21 rfl rfl)
theorem dX8_attacks_22 : decode cX8_attacks 22 = .ok (.aload_n 0, 1) := dk_42 (dk_at dksX8_attacks_0 22 rfl rfl)
theorem dX8_attacks_23 : decode cX8_attacks 23 = .ok (.getfield 21, 3) := dk_180 0 21 (dk_at dksX8_attacks_1 0 rfl rfl)
theorem dX8_attacks_26 : decode cX8_attacks 26 = .ok (.isub, 1) := dk_100 (dk_at dksX8_attacks_1 3 rfl rfl)
theorem dX8_attacks_27 : decode cX8_attacks 27 = .ok (.bipush 40, 2) := dk_16 40 (dk_at dksX8_attacks_1 4 rfl rfl)
theorem dX8_attacks_29 : decode cX8_attacks 29 = .ok (.if_icmp .gt 8, 3) := dk_163 0 8 (dk_at dksX8_attacks_1 6 rfl rfl)
theorem dX8_attacks_32 : decode cX8_attacks 32 = .ok (.aload_n 0, 1) := dk_42 (dk_at dksX8_attacks_1 9 rfl rfl)
theorem dX8_attacks_33 : decode cX8_attacks 33 = .ok (.iconst (-1), 1) := dk_2 (dk_at dksX8_attacks_1 10 rfl rfl)
theorem dX8_attacks_34 : decode cX8_attacks 34 = .ok (.putfield 9, 3) := dk_181 0 9 (dk_at dksX8_attacks_1 11 rfl rfl)
theorem dX8_attacks_37 : decode cX8_attacks 37 = .ok (.return_, 1) := dk_177 (dk_at dksX8_attacks_1 14 rfl rfl)
abbrev cX8_gives : ByteArray := prog_9_method_2_code
def yX8_gives : MethodName := ⟨RX8, "gives", "(III)V"⟩
def dkwX8_gives_0 : List UInt8 := [42, 27, 181, 0, 9, 42, 28, 181, 0, 18, 42, 29, 181, 0, 21, 177]
abbrev dktX8_gives_0 : List UInt8 := dkwX8_gives_0 ++ []
theorem dksX8_gives_0 : cX8_gives.data.toList.drop 0 = dktX8_gives_0 := by decide +kernel
theorem dX8_gives_0 : decode cX8_gives 0 = .ok (.aload_n 0, 1) := dk_42 (dk_at dksX8_gives_0 0 rfl rfl)
theorem dX8_gives_1 : decode cX8_gives 1 = .ok (.iload_n 1, 1) := dk_27 (dk_at dksX8_gives_0 1 rfl rfl)
theorem dX8_gives_2 : decode cX8_gives 2 = .ok (.putfield 9, 3) := dk_181 0 9 (dk_at dksX8_gives_0 2 rfl rfl)
theorem dX8_gives_5 : decode cX8_gives 5 = .ok (.aload_n 0, 1) := dk_42 (dk_at dksX8_gives_0 5 rfl rfl)
theorem dX8_gives_6 : decode cX8_gives 6 = .ok (.iload_n 2, 1) := dk_28 (dk_at dksX8_gives_0 6 rfl rfl)
theorem dX8_gives_7 : decode cX8_gives 7 = .ok (.putfield 18, 3) := dk_181 0 18 (dk_at dksX8_gives_0 7 rfl rfl)
theorem dX8_gives_10 : decode cX8_gives 10 = .ok (.aload_n 0, 1) := dk_42 (dk_at dksX8_gives_0 10 rfl rfl)
theorem dX8_gives_11 : decode cX8_gives 11 = .ok (.iload_n 3, 1) := dk_29 (dk_at dksX8_gives_0 11 rfl rfl)
theorem dX8_gives_12 : decode cX8_gives 12 = .ok (.putfield 21, 3) := dk_181 0 21 (dk_at dksX8_gives_0 12 rfl rfl)
theorem dX8_gives_15 : decode cX8_gives 15 = .ok (.return_, 1) := dk_177 (dk_at dksX8_gives_0 15 rfl rfl)
abbrev cX8_isSoon : ByteArray := prog_9_method_3_code
def yX8_isSoon : MethodName := ⟨RX8, "isSoon", "(I)Z"⟩
def dkwX8_isSoon_0 : List UInt8 := [27, 42, 180, 0, 24, 100, 17, 1, 44, 163, 0, 7, 4, 167, 0, 4, 3, 172]
abbrev dktX8_isSoon_0 : List UInt8 := dkwX8_isSoon_0 ++ []
theorem dksX8_isSoon_0 : cX8_isSoon.data.toList.drop 0 = dktX8_isSoon_0 := by decide +kernel
theorem dX8_isSoon_0 : decode cX8_isSoon 0 = .ok (.iload_n 1, 1) := dk_27 (dk_at dksX8_isSoon_0 0 rfl rfl)
theorem dX8_isSoon_1 : decode cX8_isSoon 1 = .ok (.aload_n 0, 1) := dk_42 (dk_at dksX8_isSoon_0 1 rfl rfl)
theorem dX8_isSoon_2 : decode cX8_isSoon 2 = .ok (.getfield 24, 3) := dk_180 0 24 (dk_at dksX8_isSoon_0 2 rfl rfl)
theorem dX8_isSoon_5 : decode cX8_isSoon 5 = .ok (.isub, 1) := dk_100 (dk_at dksX8_isSoon_0 5 rfl rfl)
theorem dX8_isSoon_6 : decode cX8_isSoon 6 = .ok (.sipush 300, 3) := dk_17 1 44 (dk_at dksX8_isSoon_0 6 rfl rfl)
theorem dX8_isSoon_9 : decode cX8_isSoon 9 = .ok (.if_icmp .gt 7, 3) := dk_163 0 7 (dk_at dksX8_isSoon_0 9 rfl rfl)
theorem dX8_isSoon_12 : decode cX8_isSoon 12 = .ok (.iconst 1, 1) := dk_4 (dk_at dksX8_isSoon_0 12 rfl rfl)
theorem dX8_isSoon_13 : decode cX8_isSoon 13 = .ok (.goto 4, 3) := dk_167 0 4 (dk_at dksX8_isSoon_0 13 rfl rfl)
theorem dX8_isSoon_16 : decode cX8_isSoon 16 = .ok (.iconst 0, 1) := dk_3 (dk_at dksX8_isSoon_0 16 rfl rfl)
theorem dX8_isSoon_17 : decode cX8_isSoon 17 = .ok (.ireturn, 1) := dk_172 (dk_at dksX8_isSoon_0 17 rfl rfl)
theorem q68 : (Jvm.Cond.initialized "Phrasehall$Way") ∈ lw_all := lw_g (lw_at lw_m1 27 rfl) rfl
theorem q156 : (Jvm.Cond.instantiable "Phrasehall$Way" (5 : Nat)) ∈ lw_all := lw_g (lw_at lw_m1 115 rfl) rfl
theorem q158 : (Jvm.Cond.instanceMethod ({ cls := "Phrasehall$Way", name := "<init>", desc := "()V" } : Jvm.MethodName)) ∈ lw_all := lw_g (lw_at lw_m1 117 rfl) rfl
theorem q159 : (Jvm.Cond.code ({ cls := "Phrasehall$Way", name := "<init>", desc := "()V" } : Jvm.MethodName) prog_9_method_1_code (1 : Nat) (Option.none : Option Jvm.ClassFile.FieldType)) ∈ lw_all := lw_g (lw_at lw_m1 118 rfl) rfl
theorem q160 : (Jvm.Cond.methodLink "Phrasehall$Way" (3 : Nat) ({ cls := "java/lang/Object", name := "<init>", desc := "()V" } : Jvm.MethodName)) ∈ lw_all := lw_g (lw_at lw_m1 119 rfl) rfl
theorem q161 : (Jvm.Cond.fieldLink "Phrasehall$Way" (9 : Nat) "Phrasehall$Way" "holder" "I") ∈ lw_all := lw_g (lw_at lw_m1 120 rfl) rfl
theorem q163 : (Jvm.Cond.fieldLink "Phrasehall$Way" (18 : Nat) "Phrasehall$Way" "by" "I") ∈ lw_all := lw_g (lw_at lw_m1 122 rfl) rfl
theorem q164 : (Jvm.Cond.fieldLink "Phrasehall$Way" (21 : Nat) "Phrasehall$Way" "since" "I") ∈ lw_all := lw_g (lw_at lw_m1 123 rfl) rfl
theorem q165 : (Jvm.Cond.fieldLink "Phrasehall$Way" (15 : Nat) "Phrasehall$Way" "parried" "I") ∈ lw_all := lw_g (lw_at lw_m1 124 rfl) rfl
theorem q166 : (Jvm.Cond.fieldLink "Phrasehall$Way" (24 : Nat) "Phrasehall$Way" "parriedAt" "I") ∈ lw_all := lw_g (lw_at lw_m1 125 rfl) rfl
theorem q167 : (Jvm.Cond.lays "Phrasehall$Way" "Phrasehall$Way" "holder" "I") ∈ lw_all := lw_g (lw_at lw_m1 126 rfl) rfl
theorem q168 : (Jvm.Cond.soleField "Phrasehall$Way" "holder") ∈ lw_all := lw_g (lw_at lw_m1 127 rfl) rfl
theorem q169 : (Jvm.Cond.lays "Phrasehall$Way" "Phrasehall$Way" "by" "I") ∈ lw_all := lw_g (lw_at lw_m1 128 rfl) rfl
theorem q170 : (Jvm.Cond.soleField "Phrasehall$Way" "by") ∈ lw_all := lw_g (lw_at lw_m1 129 rfl) rfl
theorem q171 : (Jvm.Cond.lays "Phrasehall$Way" "Phrasehall$Way" "since" "I") ∈ lw_all := lw_g (lw_at lw_m1 130 rfl) rfl
theorem q172 : (Jvm.Cond.soleField "Phrasehall$Way" "since") ∈ lw_all := lw_g (lw_at lw_m1 131 rfl) rfl
theorem q173 : (Jvm.Cond.lays "Phrasehall$Way" "Phrasehall$Way" "parried" "I") ∈ lw_all := lw_g (lw_at lw_m1 132 rfl) rfl
theorem q174 : (Jvm.Cond.soleField "Phrasehall$Way" "parried") ∈ lw_all := lw_g (lw_at lw_m1 133 rfl) rfl
theorem q175 : (Jvm.Cond.lays "Phrasehall$Way" "Phrasehall$Way" "parriedAt" "I") ∈ lw_all := lw_g (lw_at lw_m1 134 rfl) rfl
theorem q176 : (Jvm.Cond.soleField "Phrasehall$Way" "parriedAt") ∈ lw_all := lw_g (lw_at lw_m1 135 rfl) rfl
theorem q177 : (Jvm.Cond.superclass "Phrasehall$Way" "java/lang/Object") ∈ lw_all := lw_g (lw_at lw_m1 136 rfl) rfl
theorem q194 : (Jvm.Cond.instanceMethod ({ cls := "Phrasehall$Way", name := "takes", desc := "(LPhrasehall$Action;)V" } : Jvm.MethodName)) ∈ lw_all := lw_g (lw_at lw_m1 153 rfl) rfl
theorem q195 : (Jvm.Cond.selects "Phrasehall$Way" ({ cls := "Phrasehall$Way", name := "takes", desc := "(LPhrasehall$Action;)V" } : Jvm.MethodName) ({ cls := "Phrasehall$Way", name := "takes", desc := "(LPhrasehall$Action;)V" } : Jvm.MethodName)) ∈ lw_all := lw_g (lw_at lw_m1 154 rfl) rfl
theorem q196 : (Jvm.Cond.code ({ cls := "Phrasehall$Way", name := "takes", desc := "(LPhrasehall$Action;)V" } : Jvm.MethodName) prog_9_method_4_code (5 : Nat) (Option.none : Option Jvm.ClassFile.FieldType)) ∈ lw_all := lw_g (lw_at lw_m1 155 rfl) rfl
theorem q197 : (Jvm.Cond.methodLink "Phrasehall$Way" (27 : Nat) ({ cls := "Phrasehall$Action", name := "side", desc := "()I" } : Jvm.MethodName)) ∈ lw_all := lw_g (lw_at lw_m1 156 rfl) rfl
theorem q201 : (Jvm.Cond.methodLink "Phrasehall$Way" (33 : Nat) ({ cls := "Phrasehall$Action", name := "time", desc := "()I" } : Jvm.MethodName)) ∈ lw_all := lw_g (lw_at lw_m1 160 rfl) rfl
theorem q205 : (Jvm.Cond.methodLink "Phrasehall$Way" (36 : Nat) ({ cls := "Phrasehall$Action", name := "kind", desc := "()I" } : Jvm.MethodName)) ∈ lw_all := lw_g (lw_at lw_m1 164 rfl) rfl
theorem q209 : (Jvm.Cond.methodLink "Phrasehall$Way" (39 : Nat) ({ cls := "Phrasehall$Way", name := "attacks", desc := "(IIZ)V" } : Jvm.MethodName)) ∈ lw_all := lw_g (lw_at lw_m1 168 rfl) rfl
theorem q210 : (Jvm.Cond.privateMethod ({ cls := "Phrasehall$Way", name := "attacks", desc := "(IIZ)V" } : Jvm.MethodName)) ∈ lw_tbl := lw_at lw_m1 169 rfl
theorem q211 : (Jvm.Cond.instanceMethod ({ cls := "Phrasehall$Way", name := "attacks", desc := "(IIZ)V" } : Jvm.MethodName)) ∈ lw_all := lw_g (lw_at lw_m1 170 rfl) rfl
theorem q212 : (Jvm.Cond.code ({ cls := "Phrasehall$Way", name := "attacks", desc := "(IIZ)V" } : Jvm.MethodName) prog_9_method_5_code (4 : Nat) (Option.none : Option Jvm.ClassFile.FieldType)) ∈ lw_all := lw_g (lw_at lw_m1 171 rfl) rfl
theorem q213 : (Jvm.Cond.methodLink "Phrasehall$Way" (43 : Nat) ({ cls := "Phrasehall$Way", name := "gives", desc := "(III)V" } : Jvm.MethodName)) ∈ lw_all := lw_g (lw_at lw_m1 172 rfl) rfl
theorem q214 : (Jvm.Cond.privateMethod ({ cls := "Phrasehall$Way", name := "gives", desc := "(III)V" } : Jvm.MethodName)) ∈ lw_tbl := lw_at lw_m1 173 rfl
theorem q215 : (Jvm.Cond.instanceMethod ({ cls := "Phrasehall$Way", name := "gives", desc := "(III)V" } : Jvm.MethodName)) ∈ lw_all := lw_g (lw_at lw_m1 174 rfl) rfl
theorem q216 : (Jvm.Cond.code ({ cls := "Phrasehall$Way", name := "gives", desc := "(III)V" } : Jvm.MethodName) prog_9_method_2_code (4 : Nat) (Option.none : Option Jvm.ClassFile.FieldType)) ∈ lw_all := lw_g (lw_at lw_m1 175 rfl) rfl
theorem q217 : (Jvm.Cond.methodLink "Phrasehall$Way" (47 : Nat) ({ cls := "Phrasehall$Way", name := "isSoon", desc := "(I)Z" } : Jvm.MethodName)) ∈ lw_all := lw_g (lw_at lw_m1 176 rfl) rfl
theorem q218 : (Jvm.Cond.privateMethod ({ cls := "Phrasehall$Way", name := "isSoon", desc := "(I)Z" } : Jvm.MethodName)) ∈ lw_tbl := lw_at lw_m1 177 rfl
theorem q219 : (Jvm.Cond.instanceMethod ({ cls := "Phrasehall$Way", name := "isSoon", desc := "(I)Z" } : Jvm.MethodName)) ∈ lw_all := lw_g (lw_at lw_m1 178 rfl) rfl
theorem q220 : (Jvm.Cond.code ({ cls := "Phrasehall$Way", name := "isSoon", desc := "(I)Z" } : Jvm.MethodName) prog_9_method_3_code (2 : Nat) (Option.some Jvm.ClassFile.FieldType.boolean)) ∈ lw_all := lw_g (lw_at lw_m1 179 rfl) rfl
theorem q353 : (Jvm.Cond.selects "Phrasehall$Way" ({ cls := "java/lang/Object", name := "getClass", desc := "()Ljava/lang/Class;" } : Jvm.MethodName) ({ cls := "java/lang/Object", name := "getClass", desc := "()Ljava/lang/Class;" } : Jvm.MethodName)) ∈ lw_all := lw_g (lw_at lw_m2 72 rfl) rfl
theorem q1554 : (Jvm.Cond.castable "Phrasehall$Way" "java/lang/Object") ∈ lw_tbl := lw_at lw_m7 73 rfl
theorem in_X8 : ∀ w ∈ wsX80, w ∈ lw_all := lw_in wsX80 [167, 169, 171, 173, 175] (by decide +kernel) (by decide +kernel)
/-! Phrasehall$Pool -/
set_option maxRecDepth 100000
def RX9 : String := "Phrasehall$Pool"
def TX9 : u_T := fun k => match k with
  | 0 => ("Phrasehall$Pool", "fencers", "I", true)
  | _ => ("Phrasehall$Pool", "tables", "[LPhrasehall$Table;", true)
def tyX9 : Nat → FieldType := fun k => match k with
  | 0 => .int
  | _ => .array (.object "Phrasehall$Table")
abbrev wsX90 : List Cond := u_ws RX9 TX9 2
theorem nmX9 : ∀ a, a < 2 → ∀ b, b < 2 → a ≠ b → (TX9 a).2.1 ≠ (TX9 b).2.1 := by decide +kernel
theorem tyX9_ok : ∀ k, k < 2 → parseFieldDescriptor (TX9 k).2.2.1 = some (tyX9 k) := by decide +kernel
abbrev cX9_has : ByteArray := prog_7_method_2_code
def yX9_has : MethodName := ⟨RX9, "has", "(I)Z"⟩
def dkwX9_has_0 : List UInt8 := [42, 180, 0, 17, 27, 122, 4, 126, 4, 160, 0, 7, 4, 167, 0, 4, 3, 172]
abbrev dktX9_has_0 : List UInt8 := dkwX9_has_0 ++ []
theorem dksX9_has_0 : cX9_has.data.toList.drop 0 = dktX9_has_0 := by decide +kernel
theorem dX9_has_0 : decode cX9_has 0 = .ok (.aload_n 0, 1) := dk_42 (dk_at dksX9_has_0 0 rfl rfl)
theorem dX9_has_1 : decode cX9_has 1 = .ok (.getfield 17, 3) := dk_180 0 17 (dk_at dksX9_has_0 1 rfl rfl)
theorem dX9_has_4 : decode cX9_has 4 = .ok (.iload_n 1, 1) := dk_27 (dk_at dksX9_has_0 4 rfl rfl)
theorem dX9_has_5 : decode cX9_has 5 = .ok (.ishr, 1) := dk_122 (dk_at dksX9_has_0 5 rfl rfl)
theorem dX9_has_6 : decode cX9_has 6 = .ok (.iconst 1, 1) := dk_4 (dk_at dksX9_has_0 6 rfl rfl)
theorem dX9_has_7 : decode cX9_has 7 = .ok (.iand, 1) := dk_126 (dk_at dksX9_has_0 7 rfl rfl)
theorem dX9_has_8 : decode cX9_has 8 = .ok (.iconst 1, 1) := dk_4 (dk_at dksX9_has_0 8 rfl rfl)
theorem dX9_has_9 : decode cX9_has 9 = .ok (.if_icmp .ne 7, 3) := dk_160 0 7 (dk_at dksX9_has_0 9 rfl rfl)
theorem dX9_has_12 : decode cX9_has 12 = .ok (.iconst 1, 1) := dk_4 (dk_at dksX9_has_0 12 rfl rfl)
theorem dX9_has_13 : decode cX9_has 13 = .ok (.goto 4, 3) := dk_167 0 4 (dk_at dksX9_has_0 13 rfl rfl)
theorem dX9_has_16 : decode cX9_has 16 = .ok (.iconst 0, 1) := dk_3 (dk_at dksX9_has_0 16 rfl rfl)
theorem dX9_has_17 : decode cX9_has 17 = .ok (.ireturn, 1) := dk_172 (dk_at dksX9_has_0 17 rfl rfl)
abbrev cX9_isIn : ByteArray := prog_7_method_3_code
def yX9_isIn : MethodName := ⟨RX9, "isIn", "(I)Z"⟩
def dkwX9_isIn_1 : List UInt8 := [3, 172]
abbrev dktX9_isIn_1 : List UInt8 := dkwX9_isIn_1 ++ []
def dkwX9_isIn_0 : List UInt8 := [42, 27, 182, 0, 22, 153, 0, 19, 42, 180, 0, 11, 27, 50, 180, 0, 26, 154, 0, 7, 4, 167, 0, 4]
abbrev dktX9_isIn_0 : List UInt8 := dkwX9_isIn_0 ++ dktX9_isIn_1
theorem dksX9_isIn_0 : cX9_isIn.data.toList.drop 0 = dktX9_isIn_0 := by decide +kernel
theorem dksX9_isIn_1 : cX9_isIn.data.toList.drop 24 = dktX9_isIn_1 := dk_seg dksX9_isIn_0 24 rfl rfl
theorem dX9_isIn_0 : decode cX9_isIn 0 = .ok (.aload_n 0, 1) := dk_42 (dk_at dksX9_isIn_0 0 rfl rfl)
theorem dX9_isIn_1 : decode cX9_isIn 1 = .ok (.iload_n 1, 1) := dk_27 (dk_at dksX9_isIn_0 1 rfl rfl)
theorem dX9_isIn_2 : decode cX9_isIn 2 = .ok (.invokevirtual 22, 3) := dk_182 0 22 (dk_at dksX9_isIn_0 2 rfl rfl)
theorem dX9_isIn_5 : decode cX9_isIn 5 = .ok (.ifCond .eq 19, 3) := dk_153 0 19 (dk_at dksX9_isIn_0 5 rfl rfl)
theorem dX9_isIn_8 : decode cX9_isIn 8 = .ok (.aload_n 0, 1) := dk_42 (dk_at dksX9_isIn_0 8 rfl rfl)
theorem dX9_isIn_9 : decode cX9_isIn 9 = .ok (.getfield 11, 3) := dk_180 0 11 (dk_at dksX9_isIn_0 9 rfl rfl)
theorem dX9_isIn_12 : decode cX9_isIn 12 = .ok (.iload_n 1, 1) := dk_27 (dk_at dksX9_isIn_0 12 rfl rfl)
theorem dX9_isIn_13 : decode cX9_isIn 13 = .ok (.aaload, 1) := dk_50 (dk_at dksX9_isIn_0 13 rfl rfl)
theorem dX9_isIn_14 : decode cX9_isIn 14 = .ok (.getfield 26, 3) := dk_180 0 26 (dk_at dksX9_isIn_0 14 rfl rfl)
theorem dX9_isIn_17 : decode cX9_isIn 17 = .ok (.ifCond .ne 7, 3) := dk_154 0 7 (dk_at dksX9_isIn_0 17 rfl rfl)
theorem dX9_isIn_20 : decode cX9_isIn 20 = .ok (.iconst 1, 1) := dk_4 (dk_at dksX9_isIn_0 20 rfl rfl)
theorem dX9_isIn_21 : decode cX9_isIn 21 = .ok (.goto 4, 3) := dk_167 0 4 (dk_at dksX9_isIn_0 21 rfl rfl)
theorem dX9_isIn_24 : decode cX9_isIn 24 = .ok (.iconst 0, 1) := dk_3 (dk_at dksX9_isIn_1 0 rfl rfl)
theorem dX9_isIn_25 : decode cX9_isIn 25 = .ok (.ireturn, 1) := dk_172 (dk_at dksX9_isIn_1 1 rfl rfl)
abbrev cX9_counts : ByteArray := prog_7_method_4_code
def yX9_counts : MethodName := ⟨RX9, "counts", "(LPhrasehall$Bout;)Z"⟩
def dkwX9_counts_1 : List UInt8 := [180, 0, 35, 182, 0, 40, 153, 0, 7, 4, 167, 0, 4, 3, 172]
abbrev dktX9_counts_1 : List UInt8 := dkwX9_counts_1 ++ []
def dkwX9_counts_0 : List UInt8 := [42, 43, 180, 0, 30, 3, 50, 180, 0, 35, 182, 0, 40, 153, 0, 23, 42, 43, 180, 0, 30, 4, 50]
abbrev dktX9_counts_0 : List UInt8 := dkwX9_counts_0 ++ dktX9_counts_1
theorem dksX9_counts_0 : cX9_counts.data.toList.drop 0 = dktX9_counts_0 := by decide +kernel
theorem dksX9_counts_1 : cX9_counts.data.toList.drop 23 = dktX9_counts_1 := dk_seg dksX9_counts_0 23 rfl rfl
theorem dX9_counts_0 : decode cX9_counts 0 = .ok (.aload_n 0, 1) := dk_42 (dk_at dksX9_counts_0 0 rfl rfl)
theorem dX9_counts_1 : decode cX9_counts 1 = .ok (.aload_n 1, 1) := dk_43 (dk_at dksX9_counts_0 1 rfl rfl)
theorem dX9_counts_2 : decode cX9_counts 2 = .ok (.getfield 30, 3) := dk_180 0 30 (dk_at dksX9_counts_0 2 rfl rfl)
theorem dX9_counts_5 : decode cX9_counts 5 = .ok (.iconst 0, 1) := dk_3 (dk_at dksX9_counts_0 5 rfl rfl)
theorem dX9_counts_6 : decode cX9_counts 6 = .ok (.aaload, 1) := dk_50 (dk_at dksX9_counts_0 6 rfl rfl)
theorem dX9_counts_7 : decode cX9_counts 7 = .ok (.getfield 35, 3) := dk_180 0 35 (dk_at dksX9_counts_0 7 rfl rfl)
theorem dX9_counts_10 : decode cX9_counts 10 = .ok (.invokevirtual 40, 3) := dk_182 0 40 (dk_at dksX9_counts_0 10 rfl rfl)
theorem dX9_counts_13 : decode cX9_counts 13 = .ok (.ifCond .eq 23, 3) := dk_153 0 23 (dk_at dksX9_counts_0 13 rfl rfl)
theorem dX9_counts_16 : decode cX9_counts 16 = .ok (.aload_n 0, 1) := dk_42 (dk_at dksX9_counts_0 16 rfl rfl)
theorem dX9_counts_17 : decode cX9_counts 17 = .ok (.aload_n 1, 1) := dk_43 (dk_at dksX9_counts_0 17 rfl rfl)
theorem dX9_counts_18 : decode cX9_counts 18 = .ok (.getfield 30, 3) := dk_180 0 30 (dk_at dksX9_counts_0 18 rfl rfl)
theorem dX9_counts_21 : decode cX9_counts 21 = .ok (.iconst 1, 1) := dk_4 (dk_at dksX9_counts_0 21 rfl rfl)
theorem dX9_counts_22 : decode cX9_counts 22 = .ok (.aaload, 1) := dk_50 (dk_at dksX9_counts_0 22 rfl rfl)
theorem dX9_counts_23 : decode cX9_counts 23 = .ok (.getfield 35, 3) := dk_180 0 35 (dk_at dksX9_counts_1 0 rfl rfl)
theorem dX9_counts_26 : decode cX9_counts 26 = .ok (.invokevirtual 40, 3) := dk_182 0 40 (dk_at dksX9_counts_1 3 rfl rfl)
theorem dX9_counts_29 : decode cX9_counts 29 = .ok (.ifCond .eq 7, 3) := dk_153 0 7 (dk_at dksX9_counts_1 6 rfl rfl)
theorem dX9_counts_32 : decode cX9_counts 32 = .ok (.iconst 1, 1) := dk_4 (dk_at dksX9_counts_1 9 rfl rfl)
theorem dX9_counts_33 : decode cX9_counts 33 = .ok (.goto 4, 3) := dk_167 0 4 (dk_at dksX9_counts_1 10 rfl rfl)
theorem dX9_counts_36 : decode cX9_counts 36 = .ok (.iconst 0, 1) := dk_3 (dk_at dksX9_counts_1 13 rfl rfl)
theorem dX9_counts_37 : decode cX9_counts 37 = .ok (.ireturn, 1) := dk_172 (dk_at dksX9_counts_1 14 rfl rfl)
abbrev cX9_adds : ByteArray := prog_7_method_5_code
def yX9_adds : MethodName := ⟨RX9, "adds", "(LPhrasehall$Bout;I)V"⟩
def dkwX9_adds_1 : List UInt8 := [182, 0, 43, 132, 3, 1, 167, 255, 228, 177]
abbrev dktX9_adds_1 : List UInt8 := dkwX9_adds_1 ++ []
def dkwX9_adds_0 : List UInt8 := [3, 62, 29, 5, 162, 0, 29, 42, 180, 0, 11, 43, 180, 0, 30, 29, 50, 180, 0, 35, 50, 43, 29, 28]
abbrev dktX9_adds_0 : List UInt8 := dkwX9_adds_0 ++ dktX9_adds_1
theorem dksX9_adds_0 : cX9_adds.data.toList.drop 0 = dktX9_adds_0 := by decide +kernel
theorem dksX9_adds_1 : cX9_adds.data.toList.drop 24 = dktX9_adds_1 := dk_seg dksX9_adds_0 24 rfl rfl
theorem dX9_adds_0 : decode cX9_adds 0 = .ok (.iconst 0, 1) := dk_3 (dk_at dksX9_adds_0 0 rfl rfl)
theorem dX9_adds_1 : decode cX9_adds 1 = .ok (.istore_n 3, 1) := dk_62 (dk_at dksX9_adds_0 1 rfl rfl)
theorem dX9_adds_2 : decode cX9_adds 2 = .ok (.iload_n 3, 1) := dk_29 (dk_at dksX9_adds_0 2 rfl rfl)
theorem dX9_adds_3 : decode cX9_adds 3 = .ok (.iconst 2, 1) := dk_5 (dk_at dksX9_adds_0 3 rfl rfl)
theorem dX9_adds_4 : decode cX9_adds 4 = .ok (.if_icmp .ge 29, 3) := dk_162 0 29 (dk_at dksX9_adds_0 4 rfl rfl)
theorem dX9_adds_7 : decode cX9_adds 7 = .ok (.aload_n 0, 1) := dk_42 (dk_at dksX9_adds_0 7 rfl rfl)
theorem dX9_adds_8 : decode cX9_adds 8 = .ok (.getfield 11, 3) := dk_180 0 11 (dk_at dksX9_adds_0 8 rfl rfl)
theorem dX9_adds_11 : decode cX9_adds 11 = .ok (.aload_n 1, 1) := dk_43 (dk_at dksX9_adds_0 11 rfl rfl)
theorem dX9_adds_12 : decode cX9_adds 12 = .ok (.getfield 30, 3) := dk_180 0 30 (dk_at dksX9_adds_0 12 rfl rfl)
theorem dX9_adds_15 : decode cX9_adds 15 = .ok (.iload_n 3, 1) := dk_29 (dk_at dksX9_adds_0 15 rfl rfl)
theorem dX9_adds_16 : decode cX9_adds 16 = .ok (.aaload, 1) := dk_50 (dk_at dksX9_adds_0 16 rfl rfl)
theorem dX9_adds_17 : decode cX9_adds 17 = .ok (.getfield 35, 3) := dk_180 0 35 (dk_at dksX9_adds_0 17 rfl rfl)
theorem dX9_adds_20 : decode cX9_adds 20 = .ok (.aaload, 1) := dk_50 (dk_at dksX9_adds_0 20 rfl rfl)
theorem dX9_adds_21 : decode cX9_adds 21 = .ok (.aload_n 1, 1) := dk_43 (dk_at dksX9_adds_0 21 rfl rfl)
theorem dX9_adds_22 : decode cX9_adds 22 = .ok (.iload_n 3, 1) := dk_29 (dk_at dksX9_adds_0 22 rfl rfl)
theorem dX9_adds_23 : decode cX9_adds 23 = .ok (.iload_n 2, 1) := dk_28 (dk_at dksX9_adds_0 23 rfl rfl)
theorem dX9_adds_24 : decode cX9_adds 24 = .ok (.invokevirtual 43, 3) := dk_182 0 43 (dk_at dksX9_adds_1 0 rfl rfl)
theorem dX9_adds_27 : decode cX9_adds 27 = .ok (.iinc 3 1, 3) := dk_132 3 1 (dk_at dksX9_adds_1 3 rfl rfl)
theorem dX9_adds_30 : decode cX9_adds 30 = .ok (.goto (-28), 3) := dk_167 255 228 (dk_at dksX9_adds_1 6 rfl rfl)
theorem dX9_adds_33 : decode cX9_adds 33 = .ok (.return_, 1) := dk_177 (dk_at dksX9_adds_1 9 rfl rfl)
abbrev cX9_init : ByteArray := prog_7_method_1_code
def yX9_init : MethodName := ⟨RX9, "<init>", "(I)V"⟩
def dkwX9_init_1 : List UInt8 := [162, 0, 22, 42, 180, 0, 11, 28, 187, 0, 9, 89, 183, 0, 21, 83, 132, 2, 1, 167, 255, 234, 177]
abbrev dktX9_init_1 : List UInt8 := dkwX9_init_1 ++ []
def dkwX9_init_0 : List UInt8 := [42, 183, 0, 3, 42, 16, 12, 189, 0, 9, 181, 0, 11, 42, 27, 181, 0, 17, 3, 61, 28, 16, 12]
abbrev dktX9_init_0 : List UInt8 := dkwX9_init_0 ++ dktX9_init_1
theorem dksX9_init_0 : cX9_init.data.toList.drop 0 = dktX9_init_0 := by decide +kernel
theorem dksX9_init_1 : cX9_init.data.toList.drop 23 = dktX9_init_1 := dk_seg dksX9_init_0 23 rfl rfl
theorem dX9_init_0 : decode cX9_init 0 = .ok (.aload_n 0, 1) := dk_42 (dk_at dksX9_init_0 0 rfl rfl)
theorem dX9_init_1 : decode cX9_init 1 = .ok (.invokespecial 3, 3) := dk_183 0 3 (dk_at dksX9_init_0 1 rfl rfl)
theorem dX9_init_4 : decode cX9_init 4 = .ok (.aload_n 0, 1) := dk_42 (dk_at dksX9_init_0 4 rfl rfl)
theorem dX9_init_5 : decode cX9_init 5 = .ok (.bipush 12, 2) := dk_16 12 (dk_at dksX9_init_0 5 rfl rfl)
theorem dX9_init_7 : decode cX9_init 7 = .ok (.anewarray 9, 3) := dk_189 0 9 (dk_at dksX9_init_0 7 rfl rfl)
theorem dX9_init_10 : decode cX9_init 10 = .ok (.putfield 11, 3) := dk_181 0 11 (dk_at dksX9_init_0 10 rfl rfl)
theorem dX9_init_13 : decode cX9_init 13 = .ok (.aload_n 0, 1) := dk_42 (dk_at dksX9_init_0 13 rfl rfl)
theorem dX9_init_14 : decode cX9_init 14 = .ok (.iload_n 1, 1) := dk_27 (dk_at dksX9_init_0 14 rfl rfl)
theorem dX9_init_15 : decode cX9_init 15 = .ok (.putfield 17, 3) := dk_181 0 17 (dk_at dksX9_init_0 15 rfl rfl)
theorem dX9_init_18 : decode cX9_init 18 = .ok (.iconst 0, 1) := dk_3 (dk_at dksX9_init_0 18 rfl rfl)
theorem dX9_init_19 : decode cX9_init 19 = .ok (.istore_n 2, 1) := dk_61 (dk_at dksX9_init_0 19 rfl rfl)
theorem dX9_init_20 : decode cX9_init 20 = .ok (.iload_n 2, 1) := dk_28 (dk_at dksX9_init_0 20 rfl rfl)
theorem dX9_init_21 : decode cX9_init 21 = .ok (.bipush 12, 2) := dk_16 12 (dk_at dksX9_init_0 21 rfl rfl)
theorem dX9_init_23 : decode cX9_init 23 = .ok (.if_icmp .ge 22, 3) := dk_162 0 22 (dk_at dksX9_init_1 0 rfl rfl)
theorem dX9_init_26 : decode cX9_init 26 = .ok (.aload_n 0, 1) := dk_42 (dk_at dksX9_init_1 3 rfl rfl)
theorem dX9_init_27 : decode cX9_init 27 = .ok (.getfield 11, 3) := dk_180 0 11 (dk_at dksX9_init_1 4 rfl rfl)
theorem dX9_init_30 : decode cX9_init 30 = .ok (.iload_n 2, 1) := dk_28 (dk_at dksX9_init_1 7 rfl rfl)
theorem dX9_init_31 : decode cX9_init 31 = .ok (.new 9, 3) := dk_187 0 9 (dk_at dksX9_init_1 8 rfl rfl)
theorem dX9_init_34 : decode cX9_init 34 = .ok (.dup, 1) := dk_89 (dk_at dksX9_init_1 11 rfl rfl)
theorem dX9_init_35 : decode cX9_init 35 = .ok (.invokespecial 21, 3) := dk_183 0 21 (dk_at dksX9_init_1 12 rfl rfl)
theorem dX9_init_38 : decode cX9_init 38 = .ok (.aastore, 1) := dk_83 (dk_at dksX9_init_1 15 rfl rfl)
theorem dX9_init_39 : decode cX9_init 39 = .ok (.iinc 2 1, 3) := dk_132 2 1 (dk_at dksX9_init_1 16 rfl rfl)
theorem dX9_init_42 : decode cX9_init 42 = .ok (.goto (-22), 3) := dk_167 255 234 (dk_at dksX9_init_1 19 rfl rfl)
theorem dX9_init_45 : decode cX9_init 45 = .ok (.return_, 1) := dk_177 (dk_at dksX9_init_1 22 rfl rfl)
abbrev cX9_ranks : ByteArray := prog_7_method_7_code
def yX9_ranks : MethodName := ⟨RX9, "ranks", "()Ljava/util/ArrayList;"⟩
def dkwX9_ranks_3 : List UInt8 := [167, 255, 195, 43, 176]
abbrev dktX9_ranks_3 : List UInt8 := dkwX9_ranks_3 ++ []
def dkwX9_ranks_2 : List UInt8 := [182, 0, 81, 153, 0, 9, 132, 3, 1, 167, 255, 226, 43, 29, 28, 184, 0, 85, 182, 0, 89, 132, 2, 1]
abbrev dktX9_ranks_2 : List UInt8 := dkwX9_ranks_2 ++ dktX9_ranks_3
def dkwX9_ranks_1 : List UInt8 := [3, 62, 29, 43, 182, 0, 68, 162, 0, 28, 42, 43, 29, 182, 0, 72, 192, 0, 76, 182, 0, 78, 28]
abbrev dktX9_ranks_1 : List UInt8 := dkwX9_ranks_1 ++ dktX9_ranks_2
def dkwX9_ranks_0 : List UInt8 := [187, 0, 65, 89, 183, 0, 67, 76, 3, 61, 28, 16, 12, 162, 0, 61, 42, 28, 182, 0, 40, 153, 0, 47]
abbrev dktX9_ranks_0 : List UInt8 := dkwX9_ranks_0 ++ dktX9_ranks_1
theorem dksX9_ranks_0 : cX9_ranks.data.toList.drop 0 = dktX9_ranks_0 := by decide +kernel
theorem dksX9_ranks_1 : cX9_ranks.data.toList.drop 24 = dktX9_ranks_1 := dk_seg dksX9_ranks_0 24 rfl rfl
theorem dksX9_ranks_2 : cX9_ranks.data.toList.drop 47 = dktX9_ranks_2 := dk_seg dksX9_ranks_1 23 rfl rfl
theorem dksX9_ranks_3 : cX9_ranks.data.toList.drop 71 = dktX9_ranks_3 := dk_seg dksX9_ranks_2 24 rfl rfl
theorem dX9_ranks_0 : decode cX9_ranks 0 = .ok (.new 65, 3) := dk_187 0 65 (dk_at dksX9_ranks_0 0 rfl rfl)
theorem dX9_ranks_3 : decode cX9_ranks 3 = .ok (.dup, 1) := dk_89 (dk_at dksX9_ranks_0 3 rfl rfl)
theorem dX9_ranks_4 : decode cX9_ranks 4 = .ok (.invokespecial 67, 3) := dk_183 0 67 (dk_at dksX9_ranks_0 4 rfl rfl)
theorem dX9_ranks_7 : decode cX9_ranks 7 = .ok (.astore_n 1, 1) := dk_76 (dk_at dksX9_ranks_0 7 rfl rfl)
theorem dX9_ranks_8 : decode cX9_ranks 8 = .ok (.iconst 0, 1) := dk_3 (dk_at dksX9_ranks_0 8 rfl rfl)
theorem dX9_ranks_9 : decode cX9_ranks 9 = .ok (.istore_n 2, 1) := dk_61 (dk_at dksX9_ranks_0 9 rfl rfl)
theorem dX9_ranks_10 : decode cX9_ranks 10 = .ok (.iload_n 2, 1) := dk_28 (dk_at dksX9_ranks_0 10 rfl rfl)
theorem dX9_ranks_11 : decode cX9_ranks 11 = .ok (.bipush 12, 2) := dk_16 12 (dk_at dksX9_ranks_0 11 rfl rfl)
theorem dX9_ranks_13 : decode cX9_ranks 13 = .ok (.if_icmp .ge 61, 3) := dk_162 0 61 (dk_at dksX9_ranks_0 13 rfl rfl)
theorem dX9_ranks_16 : decode cX9_ranks 16 = .ok (.aload_n 0, 1) := dk_42 (dk_at dksX9_ranks_0 16 rfl rfl)
theorem dX9_ranks_17 : decode cX9_ranks 17 = .ok (.iload_n 2, 1) := dk_28 (dk_at dksX9_ranks_0 17 rfl rfl)
theorem dX9_ranks_18 : decode cX9_ranks 18 = .ok (.invokevirtual 40, 3) := dk_182 0 40 (dk_at dksX9_ranks_0 18 rfl rfl)
theorem dX9_ranks_21 : decode cX9_ranks 21 = .ok (.ifCond .eq 47, 3) := dk_153 0 47 (dk_at dksX9_ranks_0 21 rfl rfl)
theorem dX9_ranks_24 : decode cX9_ranks 24 = .ok (.iconst 0, 1) := dk_3 (dk_at dksX9_ranks_1 0 rfl rfl)
theorem dX9_ranks_25 : decode cX9_ranks 25 = .ok (.istore_n 3, 1) := dk_62 (dk_at dksX9_ranks_1 1 rfl rfl)
theorem dX9_ranks_26 : decode cX9_ranks 26 = .ok (.iload_n 3, 1) := dk_29 (dk_at dksX9_ranks_1 2 rfl rfl)
theorem dX9_ranks_27 : decode cX9_ranks 27 = .ok (.aload_n 1, 1) := dk_43 (dk_at dksX9_ranks_1 3 rfl rfl)
theorem dX9_ranks_28 : decode cX9_ranks 28 = .ok (.invokevirtual 68, 3) := dk_182 0 68 (dk_at dksX9_ranks_1 4 rfl rfl)
theorem dX9_ranks_31 : decode cX9_ranks 31 = .ok (.if_icmp .ge 28, 3) := dk_162 0 28 (dk_at dksX9_ranks_1 7 rfl rfl)
theorem dX9_ranks_34 : decode cX9_ranks 34 = .ok (.aload_n 0, 1) := dk_42 (dk_at dksX9_ranks_1 10 rfl rfl)
theorem dX9_ranks_35 : decode cX9_ranks 35 = .ok (.aload_n 1, 1) := dk_43 (dk_at dksX9_ranks_1 11 rfl rfl)
theorem dX9_ranks_36 : decode cX9_ranks 36 = .ok (.iload_n 3, 1) := dk_29 (dk_at dksX9_ranks_1 12 rfl rfl)
theorem dX9_ranks_37 : decode cX9_ranks 37 = .ok (.invokevirtual 72, 3) := dk_182 0 72 (dk_at dksX9_ranks_1 13 rfl rfl)
theorem dX9_ranks_40 : decode cX9_ranks 40 = .ok (.checkcast 76, 3) := dk_192 0 76 (dk_at dksX9_ranks_1 16 rfl rfl)
theorem dX9_ranks_43 : decode cX9_ranks 43 = .ok (.invokevirtual 78, 3) := dk_182 0 78 (dk_at dksX9_ranks_1 19 rfl rfl)
theorem dX9_ranks_46 : decode cX9_ranks 46 = .ok (.iload_n 2, 1) := dk_28 (dk_at dksX9_ranks_1 22 rfl rfl)
theorem dX9_ranks_47 : decode cX9_ranks 47 = .ok (.invokevirtual 81, 3) := dk_182 0 81 (dk_at dksX9_ranks_2 0 rfl rfl)
theorem dX9_ranks_50 : decode cX9_ranks 50 = .ok (.ifCond .eq 9, 3) := dk_153 0 9 (dk_at dksX9_ranks_2 3 rfl rfl)
theorem dX9_ranks_53 : decode cX9_ranks 53 = .ok (.iinc 3 1, 3) := dk_132 3 1 (dk_at dksX9_ranks_2 6 rfl rfl)
theorem dX9_ranks_56 : decode cX9_ranks 56 = .ok (.goto (-30), 3) := dk_167 255 226 (dk_at dksX9_ranks_2 9 rfl rfl)
theorem dX9_ranks_59 : decode cX9_ranks 59 = .ok (.aload_n 1, 1) := dk_43 (dk_at dksX9_ranks_2 12 rfl rfl)
theorem dX9_ranks_60 : decode cX9_ranks 60 = .ok (.iload_n 3, 1) := dk_29 (dk_at dksX9_ranks_2 13 rfl rfl)
theorem dX9_ranks_61 : decode cX9_ranks 61 = .ok (.iload_n 2, 1) := dk_28 (dk_at dksX9_ranks_2 14 rfl rfl)
theorem dX9_ranks_62 : decode cX9_ranks 62 = .ok (.invokestatic 85, 3) := dk_184 0 85 (dk_at dksX9_ranks_2 15 rfl rfl)
theorem dX9_ranks_65 : decode cX9_ranks 65 = .ok (.invokevirtual 89, 3) := dk_182 0 89 (dk_at dksX9_ranks_2 18 rfl rfl)
theorem dX9_ranks_68 : decode cX9_ranks 68 = .ok (.iinc 2 1, 3) := dk_132 2 1 (dk_at dksX9_ranks_2 21 rfl rfl)
theorem dX9_ranks_71 : decode cX9_ranks 71 = .ok (.goto (-61), 3) := dk_167 255 195 (dk_at dksX9_ranks_3 0 rfl rfl)
theorem dX9_ranks_74 : decode cX9_ranks 74 = .ok (.aload_n 1, 1) := dk_43 (dk_at dksX9_ranks_3 3 rfl rfl)
theorem dX9_ranks_75 : decode cX9_ranks 75 = .ok (.areturn, 1) := dk_176 (dk_at dksX9_ranks_3 4 rfl rfl)
abbrev cX9_isAhead : ByteArray := prog_7_method_6_code
def yX9_isAhead : MethodName := ⟨RX9, "isAhead", "(II)Z"⟩
def dkwX9_isAhead_5 : List UInt8 := [167, 0, 13, 27, 28, 162, 0, 7, 4, 167, 0, 4, 3, 172]
abbrev dktX9_isAhead_5 : List UInt8 := dkwX9_isAhead_5 ++ []
def dkwX9_isAhead_4 : List UInt8 := [25, 4, 180, 0, 59, 100, 54, 5, 21, 5, 153, 0, 16, 21, 5, 158, 0, 7, 4, 167, 0, 17, 3]
abbrev dktX9_isAhead_4 : List UInt8 := dkwX9_isAhead_4 ++ dktX9_isAhead_5
def dkwX9_isAhead_3 : List UInt8 := [25, 4, 180, 0, 62, 100, 100, 54, 5, 21, 5, 153, 0, 8, 21, 5, 167, 0, 13, 45, 180, 0, 59]
abbrev dktX9_isAhead_3 : List UInt8 := dkwX9_isAhead_3 ++ dktX9_isAhead_4
def dkwX9_isAhead_2 : List UInt8 := [21, 5, 153, 0, 8, 21, 5, 167, 0, 24, 45, 180, 0, 59, 45, 180, 0, 62, 100, 25, 4, 180, 0, 59]
abbrev dktX9_isAhead_2 : List UInt8 := dkwX9_isAhead_2 ++ dktX9_isAhead_3
def dkwX9_isAhead_1 : List UInt8 := [180, 0, 50, 184, 0, 53, 104, 25, 4, 180, 0, 47, 4, 45, 180, 0, 50, 184, 0, 53, 104, 100, 54, 5]
abbrev dktX9_isAhead_1 : List UInt8 := dkwX9_isAhead_1 ++ dktX9_isAhead_2
def dkwX9_isAhead_0 : List UInt8 := [42, 180, 0, 11, 27, 50, 78, 42, 180, 0, 11, 28, 50, 58, 4, 45, 180, 0, 47, 4, 25, 4]
abbrev dktX9_isAhead_0 : List UInt8 := dkwX9_isAhead_0 ++ dktX9_isAhead_1
theorem dksX9_isAhead_0 : cX9_isAhead.data.toList.drop 0 = dktX9_isAhead_0 := by decide +kernel
theorem dksX9_isAhead_1 : cX9_isAhead.data.toList.drop 22 = dktX9_isAhead_1 := dk_seg dksX9_isAhead_0 22 rfl rfl
theorem dksX9_isAhead_2 : cX9_isAhead.data.toList.drop 46 = dktX9_isAhead_2 := dk_seg dksX9_isAhead_1 24 rfl rfl
theorem dksX9_isAhead_3 : cX9_isAhead.data.toList.drop 70 = dktX9_isAhead_3 := dk_seg dksX9_isAhead_2 24 rfl rfl
theorem dksX9_isAhead_4 : cX9_isAhead.data.toList.drop 93 = dktX9_isAhead_4 := dk_seg dksX9_isAhead_3 23 rfl rfl
theorem dksX9_isAhead_5 : cX9_isAhead.data.toList.drop 116 = dktX9_isAhead_5 := dk_seg dksX9_isAhead_4 23 rfl rfl
theorem dX9_isAhead_0 : decode cX9_isAhead 0 = .ok (.aload_n 0, 1) := dk_42 (dk_at dksX9_isAhead_0 0 rfl rfl)
theorem dX9_isAhead_1 : decode cX9_isAhead 1 = .ok (.getfield 11, 3) := dk_180 0 11 (dk_at dksX9_isAhead_0 1 rfl rfl)
theorem dX9_isAhead_4 : decode cX9_isAhead 4 = .ok (.iload_n 1, 1) := dk_27 (dk_at dksX9_isAhead_0 4 rfl rfl)
theorem dX9_isAhead_5 : decode cX9_isAhead 5 = .ok (.aaload, 1) := dk_50 (dk_at dksX9_isAhead_0 5 rfl rfl)
theorem dX9_isAhead_6 : decode cX9_isAhead 6 = .ok (.astore_n 3, 1) := dk_78 (dk_at dksX9_isAhead_0 6 rfl rfl)
theorem dX9_isAhead_7 : decode cX9_isAhead 7 = .ok (.aload_n 0, 1) := dk_42 (dk_at dksX9_isAhead_0 7 rfl rfl)
theorem dX9_isAhead_8 : decode cX9_isAhead 8 = .ok (.getfield 11, 3) := dk_180 0 11 (dk_at dksX9_isAhead_0 8 rfl rfl)
theorem dX9_isAhead_11 : decode cX9_isAhead 11 = .ok (.iload_n 2, 1) := dk_28 (dk_at dksX9_isAhead_0 11 rfl rfl)
theorem dX9_isAhead_12 : decode cX9_isAhead 12 = .ok (.aaload, 1) := dk_50 (dk_at dksX9_isAhead_0 12 rfl rfl)
theorem dX9_isAhead_13 : decode cX9_isAhead 13 = .ok (.astore 4, 2) := dk_58 4 (dk_at dksX9_isAhead_0 13 rfl rfl)
theorem dX9_isAhead_15 : decode cX9_isAhead 15 = .ok (.aload_n 3, 1) := dk_45 (dk_at dksX9_isAhead_0 15 rfl rfl)
theorem dX9_isAhead_16 : decode cX9_isAhead 16 = .ok (.getfield 47, 3) := dk_180 0 47 (dk_at dksX9_isAhead_0 16 rfl rfl)
theorem dX9_isAhead_19 : decode cX9_isAhead 19 = .ok (.iconst 1, 1) := dk_4 (dk_at dksX9_isAhead_0 19 rfl rfl)
theorem dX9_isAhead_20 : decode cX9_isAhead 20 = .ok (.aload 4, 2) := dk_25 4 (dk_at dksX9_isAhead_0 20 rfl rfl)
theorem dX9_isAhead_22 : decode cX9_isAhead 22 = .ok (.getfield 50, 3) := dk_180 0 50 (dk_at dksX9_isAhead_1 0 rfl rfl)
theorem dX9_isAhead_25 : decode cX9_isAhead 25 = .ok (.invokestatic 53, 3) := dk_184 0 53 (dk_at dksX9_isAhead_1 3 rfl rfl)
theorem dX9_isAhead_28 : decode cX9_isAhead 28 = .ok (.imul, 1) := dk_104 (dk_at dksX9_isAhead_1 6 rfl rfl)
theorem dX9_isAhead_29 : decode cX9_isAhead 29 = .ok (.aload 4, 2) := dk_25 4 (dk_at dksX9_isAhead_1 7 rfl rfl)
theorem dX9_isAhead_31 : decode cX9_isAhead 31 = .ok (.getfield 47, 3) := dk_180 0 47 (dk_at dksX9_isAhead_1 9 rfl rfl)
theorem dX9_isAhead_34 : decode cX9_isAhead 34 = .ok (.iconst 1, 1) := dk_4 (dk_at dksX9_isAhead_1 12 rfl rfl)
theorem dX9_isAhead_35 : decode cX9_isAhead 35 = .ok (.aload_n 3, 1) := dk_45 (dk_at dksX9_isAhead_1 13 rfl rfl)
theorem dX9_isAhead_36 : decode cX9_isAhead 36 = .ok (.getfield 50, 3) := dk_180 0 50 (dk_at dksX9_isAhead_1 14 rfl rfl)
theorem dX9_isAhead_39 : decode cX9_isAhead 39 = .ok (.invokestatic 53, 3) := dk_184 0 53 (dk_at dksX9_isAhead_1 17 rfl rfl)
theorem dX9_isAhead_42 : decode cX9_isAhead 42 = .ok (.imul, 1) := dk_104 (dk_at dksX9_isAhead_1 20 rfl rfl)
theorem dX9_isAhead_43 : decode cX9_isAhead 43 = .ok (.isub, 1) := dk_100 (dk_at dksX9_isAhead_1 21 rfl rfl)
theorem dX9_isAhead_44 : decode cX9_isAhead 44 = .ok (.istore 5, 2) := dk_54 5 (dk_at dksX9_isAhead_1 22 rfl rfl)
theorem dX9_isAhead_46 : decode cX9_isAhead 46 = .ok (.iload 5, 2) := dk_21 5 (dk_at dksX9_isAhead_2 0 rfl rfl)
theorem dX9_isAhead_48 : decode cX9_isAhead 48 = .ok (.ifCond .eq 8, 3) := dk_153 0 8 (dk_at dksX9_isAhead_2 2 rfl rfl)
theorem dX9_isAhead_51 : decode cX9_isAhead 51 = .ok (.iload 5, 2) := dk_21 5 (dk_at dksX9_isAhead_2 5 rfl rfl)
theorem dX9_isAhead_53 : decode cX9_isAhead 53 = .ok (.goto 24, 3) := dk_167 0 24 (dk_at dksX9_isAhead_2 7 rfl rfl)
theorem dX9_isAhead_56 : decode cX9_isAhead 56 = .ok (.aload_n 3, 1) := dk_45 (dk_at dksX9_isAhead_2 10 rfl rfl)
theorem dX9_isAhead_57 : decode cX9_isAhead 57 = .ok (.getfield 59, 3) := dk_180 0 59 (dk_at dksX9_isAhead_2 11 rfl rfl)
theorem dX9_isAhead_60 : decode cX9_isAhead 60 = .ok (.aload_n 3, 1) := dk_45 (dk_at dksX9_isAhead_2 14 rfl rfl)
theorem dX9_isAhead_61 : decode cX9_isAhead 61 = .ok (.getfield 62, 3) := dk_180 0 62 (dk_at dksX9_isAhead_2 15 rfl rfl)
theorem dX9_isAhead_64 : decode cX9_isAhead 64 = .ok (.isub, 1) := dk_100 (dk_at dksX9_isAhead_2 18 rfl rfl)
theorem dX9_isAhead_65 : decode cX9_isAhead 65 = .ok (.aload 4, 2) := dk_25 4 (dk_at dksX9_isAhead_2 19 rfl rfl)
theorem dX9_isAhead_67 : decode cX9_isAhead 67 = .ok (.getfield 59, 3) := dk_180 0 59 (dk_at dksX9_isAhead_2 21 rfl rfl)
theorem dX9_isAhead_70 : decode cX9_isAhead 70 = .ok (.aload 4, 2) := dk_25 4 (dk_at dksX9_isAhead_3 0 rfl rfl)
theorem dX9_isAhead_72 : decode cX9_isAhead 72 = .ok (.getfield 62, 3) := dk_180 0 62 (dk_at dksX9_isAhead_3 2 rfl rfl)
theorem dX9_isAhead_75 : decode cX9_isAhead 75 = .ok (.isub, 1) := dk_100 (dk_at dksX9_isAhead_3 5 rfl rfl)
theorem dX9_isAhead_76 : decode cX9_isAhead 76 = .ok (.isub, 1) := dk_100 (dk_at dksX9_isAhead_3 6 rfl rfl)
theorem dX9_isAhead_77 : decode cX9_isAhead 77 = .ok (.istore 5, 2) := dk_54 5 (dk_at dksX9_isAhead_3 7 rfl rfl)
theorem dX9_isAhead_79 : decode cX9_isAhead 79 = .ok (.iload 5, 2) := dk_21 5 (dk_at dksX9_isAhead_3 9 rfl rfl)
theorem dX9_isAhead_81 : decode cX9_isAhead 81 = .ok (.ifCond .eq 8, 3) := dk_153 0 8 (dk_at dksX9_isAhead_3 11 rfl rfl)
theorem dX9_isAhead_84 : decode cX9_isAhead 84 = .ok (.iload 5, 2) := dk_21 5 (dk_at dksX9_isAhead_3 14 rfl rfl)
theorem dX9_isAhead_86 : decode cX9_isAhead 86 = .ok (.goto 13, 3) := dk_167 0 13 (dk_at dksX9_isAhead_3 16 rfl rfl)
theorem dX9_isAhead_89 : decode cX9_isAhead 89 = .ok (.aload_n 3, 1) := dk_45 (dk_at dksX9_isAhead_3 19 rfl rfl)
theorem dX9_isAhead_90 : decode cX9_isAhead 90 = .ok (.getfield 59, 3) := dk_180 0 59 (dk_at dksX9_isAhead_3 20 rfl rfl)
theorem dX9_isAhead_93 : decode cX9_isAhead 93 = .ok (.aload 4, 2) := dk_25 4 (dk_at dksX9_isAhead_4 0 rfl rfl)
theorem dX9_isAhead_95 : decode cX9_isAhead 95 = .ok (.getfield 59, 3) := dk_180 0 59 (dk_at dksX9_isAhead_4 2 rfl rfl)
theorem dX9_isAhead_98 : decode cX9_isAhead 98 = .ok (.isub, 1) := dk_100 (dk_at dksX9_isAhead_4 5 rfl rfl)
theorem dX9_isAhead_99 : decode cX9_isAhead 99 = .ok (.istore 5, 2) := dk_54 5 (dk_at dksX9_isAhead_4 6 rfl rfl)
theorem dX9_isAhead_101 : decode cX9_isAhead 101 = .ok (.iload 5, 2) := dk_21 5 (dk_at dksX9_isAhead_4 8 rfl rfl)
theorem dX9_isAhead_103 : decode cX9_isAhead 103 = .ok (.ifCond .eq 16, 3) := dk_153 0 16 (dk_at dksX9_isAhead_4 10 rfl rfl)
theorem dX9_isAhead_106 : decode cX9_isAhead 106 = .ok (.iload 5, 2) := dk_21 5 (dk_at dksX9_isAhead_4 13 rfl rfl)
theorem dX9_isAhead_108 : decode cX9_isAhead 108 = .ok (.ifCond .le 7, 3) := dk_158 0 7 (dk_at dksX9_isAhead_4 15 rfl rfl)
theorem dX9_isAhead_111 : decode cX9_isAhead 111 = .ok (.iconst 1, 1) := dk_4 (dk_at dksX9_isAhead_4 18 rfl rfl)
theorem dX9_isAhead_112 : decode cX9_isAhead 112 = .ok (.goto 17, 3) := dk_167 0 17 (dk_at dksX9_isAhead_4 19 rfl rfl)
theorem dX9_isAhead_115 : decode cX9_isAhead 115 = .ok (.iconst 0, 1) := dk_3 (dk_at dksX9_isAhead_4 22 rfl rfl)
theorem dX9_isAhead_116 : decode cX9_isAhead 116 = .ok (.goto 13, 3) := dk_167 0 13 (dk_at dksX9_isAhead_5 0 rfl rfl)
theorem dX9_isAhead_119 : decode cX9_isAhead 119 = .ok (.iload_n 1, 1) := dk_27 (dk_at dksX9_isAhead_5 3 rfl rfl)
theorem dX9_isAhead_120 : decode cX9_isAhead 120 = .ok (.iload_n 2, 1) := dk_28 (dk_at dksX9_isAhead_5 4 rfl rfl)
theorem dX9_isAhead_121 : decode cX9_isAhead 121 = .ok (.if_icmp .ge 7, 3) := dk_162 0 7 (dk_at dksX9_isAhead_5 5 rfl rfl)
theorem dX9_isAhead_124 : decode cX9_isAhead 124 = .ok (.iconst 1, 1) := dk_4 (dk_at dksX9_isAhead_5 8 rfl rfl)
theorem dX9_isAhead_125 : decode cX9_isAhead 125 = .ok (.goto 4, 3) := dk_167 0 4 (dk_at dksX9_isAhead_5 9 rfl rfl)
theorem dX9_isAhead_128 : decode cX9_isAhead 128 = .ok (.iconst 0, 1) := dk_3 (dk_at dksX9_isAhead_5 12 rfl rfl)
theorem dX9_isAhead_129 : decode cX9_isAhead 129 = .ok (.ireturn, 1) := dk_172 (dk_at dksX9_isAhead_5 13 rfl rfl)
theorem q71 : (Jvm.Cond.initialized "Phrasehall$Pool") ∈ lw_all := lw_g (lw_at lw_m1 30 rfl) rfl
theorem q309 : (Jvm.Cond.fieldLinkNest "Phrasehall$Pool" (35 : Nat) "Phrasehall$Fencer" "number" "I" "Phrasehall") ∈ lw_tbl := lw_at lw_m2 28 rfl
theorem q351 : (Jvm.Cond.selects "Phrasehall$Pool" ({ cls := "java/lang/Object", name := "getClass", desc := "()Ljava/lang/Class;" } : Jvm.MethodName) ({ cls := "java/lang/Object", name := "getClass", desc := "()Ljava/lang/Class;" } : Jvm.MethodName)) ∈ lw_all := lw_g (lw_at lw_m2 70 rfl) rfl
theorem q448 : (Jvm.Cond.instanceMethod ({ cls := "Phrasehall$Pool", name := "has", desc := "(I)Z" } : Jvm.MethodName)) ∈ lw_all := lw_g (lw_at lw_m2 167 rfl) rfl
theorem q449 : (Jvm.Cond.selects "Phrasehall$Pool" ({ cls := "Phrasehall$Pool", name := "has", desc := "(I)Z" } : Jvm.MethodName) ({ cls := "Phrasehall$Pool", name := "has", desc := "(I)Z" } : Jvm.MethodName)) ∈ lw_all := lw_g (lw_at lw_m2 168 rfl) rfl
theorem q450 : (Jvm.Cond.code ({ cls := "Phrasehall$Pool", name := "has", desc := "(I)Z" } : Jvm.MethodName) prog_7_method_2_code (2 : Nat) (Option.some Jvm.ClassFile.FieldType.boolean)) ∈ lw_all := lw_g (lw_at lw_m2 169 rfl) rfl
theorem q470 : (Jvm.Cond.instanceMethod ({ cls := "Phrasehall$Pool", name := "isIn", desc := "(I)Z" } : Jvm.MethodName)) ∈ lw_all := lw_g (lw_at lw_m2 189 rfl) rfl
theorem q471 : (Jvm.Cond.selects "Phrasehall$Pool" ({ cls := "Phrasehall$Pool", name := "isIn", desc := "(I)Z" } : Jvm.MethodName) ({ cls := "Phrasehall$Pool", name := "isIn", desc := "(I)Z" } : Jvm.MethodName)) ∈ lw_all := lw_g (lw_at lw_m2 190 rfl) rfl
theorem q472 : (Jvm.Cond.code ({ cls := "Phrasehall$Pool", name := "isIn", desc := "(I)Z" } : Jvm.MethodName) prog_7_method_3_code (2 : Nat) (Option.some Jvm.ClassFile.FieldType.boolean)) ∈ lw_all := lw_g (lw_at lw_m2 191 rfl) rfl
theorem q473 : (Jvm.Cond.methodLink "Phrasehall$Pool" (22 : Nat) ({ cls := "Phrasehall$Pool", name := "has", desc := "(I)Z" } : Jvm.MethodName)) ∈ lw_all := lw_g (lw_at lw_m2 192 rfl) rfl
theorem q492 : (Jvm.Cond.fieldLinkNest "Phrasehall$Pool" (30 : Nat) "Phrasehall$Bout" "fencers" "[LPhrasehall$Fencer;" "Phrasehall") ∈ lw_tbl := lw_at lw_m2 211 rfl
theorem q687 : (Jvm.Cond.instanceMethod ({ cls := "Phrasehall$Pool", name := "counts", desc := "(LPhrasehall$Bout;)Z" } : Jvm.MethodName)) ∈ lw_all := lw_g (lw_at lw_m3 166 rfl) rfl
theorem q688 : (Jvm.Cond.selects "Phrasehall$Pool" ({ cls := "Phrasehall$Pool", name := "counts", desc := "(LPhrasehall$Bout;)Z" } : Jvm.MethodName) ({ cls := "Phrasehall$Pool", name := "counts", desc := "(LPhrasehall$Bout;)Z" } : Jvm.MethodName)) ∈ lw_all := lw_g (lw_at lw_m3 167 rfl) rfl
theorem q689 : (Jvm.Cond.code ({ cls := "Phrasehall$Pool", name := "counts", desc := "(LPhrasehall$Bout;)Z" } : Jvm.MethodName) prog_7_method_4_code (2 : Nat) (Option.some Jvm.ClassFile.FieldType.boolean)) ∈ lw_all := lw_g (lw_at lw_m3 168 rfl) rfl
theorem q690 : (Jvm.Cond.methodLink "Phrasehall$Pool" (40 : Nat) ({ cls := "Phrasehall$Pool", name := "isIn", desc := "(I)Z" } : Jvm.MethodName)) ∈ lw_all := lw_g (lw_at lw_m3 169 rfl) rfl
theorem q692 : (Jvm.Cond.instanceMethod ({ cls := "Phrasehall$Pool", name := "adds", desc := "(LPhrasehall$Bout;I)V" } : Jvm.MethodName)) ∈ lw_all := lw_g (lw_at lw_m3 171 rfl) rfl
theorem q693 : (Jvm.Cond.selects "Phrasehall$Pool" ({ cls := "Phrasehall$Pool", name := "adds", desc := "(LPhrasehall$Bout;I)V" } : Jvm.MethodName) ({ cls := "Phrasehall$Pool", name := "adds", desc := "(LPhrasehall$Bout;I)V" } : Jvm.MethodName)) ∈ lw_all := lw_g (lw_at lw_m3 172 rfl) rfl
theorem q694 : (Jvm.Cond.code ({ cls := "Phrasehall$Pool", name := "adds", desc := "(LPhrasehall$Bout;I)V" } : Jvm.MethodName) prog_7_method_5_code (4 : Nat) (Option.none : Option Jvm.ClassFile.FieldType)) ∈ lw_all := lw_g (lw_at lw_m3 173 rfl) rfl
theorem q695 : (Jvm.Cond.methodLink "Phrasehall$Pool" (43 : Nat) ({ cls := "Phrasehall$Table", name := "adds", desc := "(LPhrasehall$Bout;II)V" } : Jvm.MethodName)) ∈ lw_all := lw_g (lw_at lw_m3 174 rfl) rfl
theorem q768 : (Jvm.Cond.instantiable "Phrasehall$Pool" (2 : Nat)) ∈ lw_all := lw_g (lw_at lw_m4 7 rfl) rfl
theorem q770 : (Jvm.Cond.instanceMethod ({ cls := "Phrasehall$Pool", name := "<init>", desc := "(I)V" } : Jvm.MethodName)) ∈ lw_all := lw_g (lw_at lw_m4 9 rfl) rfl
theorem q771 : (Jvm.Cond.code ({ cls := "Phrasehall$Pool", name := "<init>", desc := "(I)V" } : Jvm.MethodName) prog_7_method_1_code (3 : Nat) (Option.none : Option Jvm.ClassFile.FieldType)) ∈ lw_all := lw_g (lw_at lw_m4 10 rfl) rfl
theorem q772 : (Jvm.Cond.methodLink "Phrasehall$Pool" (3 : Nat) ({ cls := "java/lang/Object", name := "<init>", desc := "()V" } : Jvm.MethodName)) ∈ lw_all := lw_g (lw_at lw_m4 11 rfl) rfl
theorem q773 : (Jvm.Cond.classLink "Phrasehall$Pool" (9 : Nat) "Phrasehall$Table") ∈ lw_all := lw_g (lw_at lw_m4 12 rfl) rfl
theorem q776 : (Jvm.Cond.methodLinkNest "Phrasehall$Pool" (21 : Nat) ({ cls := "Phrasehall$Table", name := "<init>", desc := "()V" } : Jvm.MethodName) "Phrasehall") ∈ lw_tbl := lw_at lw_m4 15 rfl
theorem q781 : (Jvm.Cond.fieldLinkNest "Phrasehall$Pool" (50 : Nat) "Phrasehall$Table" "bouts" "I" "Phrasehall") ∈ lw_tbl := lw_at lw_m4 20 rfl
theorem q783 : (Jvm.Cond.fieldLinkNest "Phrasehall$Pool" (47 : Nat) "Phrasehall$Table" "wins" "I" "Phrasehall") ∈ lw_tbl := lw_at lw_m4 22 rfl
theorem q785 : (Jvm.Cond.fieldLinkNest "Phrasehall$Pool" (59 : Nat) "Phrasehall$Table" "given" "I" "Phrasehall") ∈ lw_tbl := lw_at lw_m4 24 rfl
theorem q787 : (Jvm.Cond.fieldLinkNest "Phrasehall$Pool" (62 : Nat) "Phrasehall$Table" "got" "I" "Phrasehall") ∈ lw_tbl := lw_at lw_m4 26 rfl
theorem q788 : (Jvm.Cond.fieldLinkNest "Phrasehall$Pool" (26 : Nat) "Phrasehall$Table" "isGone" "Z" "Phrasehall") ∈ lw_tbl := lw_at lw_m4 27 rfl
theorem q801 : (Jvm.Cond.fieldLink "Phrasehall$Pool" (17 : Nat) "Phrasehall$Pool" "fencers" "I") ∈ lw_all := lw_g (lw_at lw_m4 40 rfl) rfl
theorem q802 : (Jvm.Cond.fieldLink "Phrasehall$Pool" (11 : Nat) "Phrasehall$Pool" "tables" "[LPhrasehall$Table;") ∈ lw_all := lw_g (lw_at lw_m4 41 rfl) rfl
theorem q804 : (Jvm.Cond.laysFinal "Phrasehall$Pool" "Phrasehall$Pool" "fencers" "I") ∈ lw_all := lw_g (lw_at lw_m4 43 rfl) rfl
theorem q805 : (Jvm.Cond.soleField "Phrasehall$Pool" "fencers") ∈ lw_all := lw_g (lw_at lw_m4 44 rfl) rfl
theorem q806 : (Jvm.Cond.laysFinal "Phrasehall$Pool" "Phrasehall$Pool" "tables" "[LPhrasehall$Table;") ∈ lw_all := lw_g (lw_at lw_m4 45 rfl) rfl
theorem q807 : (Jvm.Cond.soleField "Phrasehall$Pool" "tables") ∈ lw_all := lw_g (lw_at lw_m4 46 rfl) rfl
theorem q808 : (Jvm.Cond.superclass "Phrasehall$Pool" "java/lang/Object") ∈ lw_all := lw_g (lw_at lw_m4 47 rfl) rfl
theorem q879 : (Jvm.Cond.instanceMethod ({ cls := "Phrasehall$Pool", name := "ranks", desc := "()Ljava/util/ArrayList;" } : Jvm.MethodName)) ∈ lw_all := lw_g (lw_at lw_m4 118 rfl) rfl
theorem q880 : (Jvm.Cond.selects "Phrasehall$Pool" ({ cls := "Phrasehall$Pool", name := "ranks", desc := "()Ljava/util/ArrayList;" } : Jvm.MethodName) ({ cls := "Phrasehall$Pool", name := "ranks", desc := "()Ljava/util/ArrayList;" } : Jvm.MethodName)) ∈ lw_all := lw_g (lw_at lw_m4 119 rfl) rfl
theorem q881 : (Jvm.Cond.code ({ cls := "Phrasehall$Pool", name := "ranks", desc := "()Ljava/util/ArrayList;" } : Jvm.MethodName) prog_7_method_7_code (4 : Nat) (Option.some (Jvm.ClassFile.FieldType.object "java/util/ArrayList"))) ∈ lw_all := lw_g (lw_at lw_m4 120 rfl) rfl
theorem q882 : (Jvm.Cond.classLink "Phrasehall$Pool" (65 : Nat) "java/util/ArrayList") ∈ lw_all := lw_g (lw_at lw_m4 121 rfl) rfl
theorem q883 : (Jvm.Cond.methodLink "Phrasehall$Pool" (67 : Nat) ({ cls := "java/util/ArrayList", name := "<init>", desc := "()V" } : Jvm.MethodName)) ∈ lw_all := lw_g (lw_at lw_m4 122 rfl) rfl
theorem q884 : (Jvm.Cond.methodLink "Phrasehall$Pool" (68 : Nat) ({ cls := "java/util/ArrayList", name := "size", desc := "()I" } : Jvm.MethodName)) ∈ lw_all := lw_g (lw_at lw_m4 123 rfl) rfl
theorem q885 : (Jvm.Cond.methodLink "Phrasehall$Pool" (72 : Nat) ({ cls := "java/util/ArrayList", name := "get", desc := "(I)Ljava/lang/Object;" } : Jvm.MethodName)) ∈ lw_all := lw_g (lw_at lw_m4 124 rfl) rfl
theorem q886 : (Jvm.Cond.classLink "Phrasehall$Pool" (76 : Nat) "java/lang/Integer") ∈ lw_all := lw_g (lw_at lw_m4 125 rfl) rfl
theorem q887 : (Jvm.Cond.methodLink "Phrasehall$Pool" (78 : Nat) ({ cls := "java/lang/Integer", name := "intValue", desc := "()I" } : Jvm.MethodName)) ∈ lw_all := lw_g (lw_at lw_m4 126 rfl) rfl
theorem q891 : (Jvm.Cond.methodLink "Phrasehall$Pool" (81 : Nat) ({ cls := "Phrasehall$Pool", name := "isAhead", desc := "(II)Z" } : Jvm.MethodName)) ∈ lw_all := lw_g (lw_at lw_m4 130 rfl) rfl
theorem q892 : (Jvm.Cond.privateMethod ({ cls := "Phrasehall$Pool", name := "isAhead", desc := "(II)Z" } : Jvm.MethodName)) ∈ lw_tbl := lw_at lw_m4 131 rfl
theorem q893 : (Jvm.Cond.instanceMethod ({ cls := "Phrasehall$Pool", name := "isAhead", desc := "(II)Z" } : Jvm.MethodName)) ∈ lw_all := lw_g (lw_at lw_m4 132 rfl) rfl
theorem q894 : (Jvm.Cond.code ({ cls := "Phrasehall$Pool", name := "isAhead", desc := "(II)Z" } : Jvm.MethodName) prog_7_method_6_code (6 : Nat) (Option.some Jvm.ClassFile.FieldType.boolean)) ∈ lw_all := lw_g (lw_at lw_m4 133 rfl) rfl
theorem q895 : (Jvm.Cond.methodLink "Phrasehall$Pool" (53 : Nat) ({ cls := "java/lang/Math", name := "max", desc := "(II)I" } : Jvm.MethodName)) ∈ lw_all := lw_g (lw_at lw_m4 134 rfl) rfl
theorem q896 : (Jvm.Cond.methodLink "Phrasehall$Pool" (85 : Nat) ({ cls := "java/lang/Integer", name := "valueOf", desc := "(I)Ljava/lang/Integer;" } : Jvm.MethodName)) ∈ lw_all := lw_g (lw_at lw_m4 135 rfl) rfl
theorem q916 : (Jvm.Cond.methodLink "Phrasehall$Pool" (89 : Nat) ({ cls := "java/util/ArrayList", name := "add", desc := "(ILjava/lang/Object;)V" } : Jvm.MethodName)) ∈ lw_all := lw_g (lw_at lw_m4 155 rfl) rfl
theorem q1555 : (Jvm.Cond.castable "Phrasehall$Pool" "java/lang/Object") ∈ lw_tbl := lw_at lw_m7 74 rfl
theorem in_X9 : ∀ w ∈ wsX90, w ∈ lw_all := lw_in wsX90 [804, 806] (by decide +kernel) (by decide +kernel)
/-! Phrasehall$Table -/
set_option maxRecDepth 100000
def RX10 : String := "Phrasehall$Table"
def TX10 : u_T := fun k => match k with
  | 0 => ("Phrasehall$Table", "bouts", "I", false)
  | 1 => ("Phrasehall$Table", "wins", "I", false)
  | 2 => ("Phrasehall$Table", "given", "I", false)
  | 3 => ("Phrasehall$Table", "got", "I", false)
  | _ => ("Phrasehall$Table", "isGone", "Z", false)
def tyX10 : Nat → FieldType := fun k => match k with
  | 0 => .int
  | 1 => .int
  | 2 => .int
  | 3 => .int
  | _ => .boolean
abbrev wsX100 : List Cond := u_ws RX10 TX10 5
theorem nmX10 : ∀ a, a < 5 → ∀ b, b < 5 → a ≠ b → (TX10 a).2.1 ≠ (TX10 b).2.1 := by decide +kernel
theorem tyX10_ok : ∀ k, k < 5 → parseFieldDescriptor (TX10 k).2.2.1 = some (tyX10 k) := by decide +kernel
abbrev cX10_adds : ByteArray := prog_8_method_2_code
def yX10_adds : MethodName := ⟨RX10, "adds", "(LPhrasehall$Bout;II)V"⟩
def dkwX10_adds_2 : List UInt8 := [181, 0, 21, 42, 89, 180, 0, 28, 29, 43, 180, 0, 24, 4, 28, 100, 46, 104, 96, 181, 0, 28, 177]
abbrev dktX10_adds_2 : List UInt8 := dkwX10_adds_2 ++ []
def dkwX10_adds_1 : List UInt8 := [167, 0, 4, 3, 96, 181, 0, 13, 42, 89, 180, 0, 21, 29, 43, 180, 0, 24, 28, 46, 104, 96]
abbrev dktX10_adds_1 : List UInt8 := dkwX10_adds_1 ++ dktX10_adds_2
def dkwX10_adds_0 : List UInt8 := [42, 89, 180, 0, 7, 29, 96, 181, 0, 7, 42, 89, 180, 0, 13, 43, 180, 0, 16, 28, 160, 0, 7, 29]
abbrev dktX10_adds_0 : List UInt8 := dkwX10_adds_0 ++ dktX10_adds_1
theorem dksX10_adds_0 : cX10_adds.data.toList.drop 0 = dktX10_adds_0 := by decide +kernel
theorem dksX10_adds_1 : cX10_adds.data.toList.drop 24 = dktX10_adds_1 := dk_seg dksX10_adds_0 24 rfl rfl
theorem dksX10_adds_2 : cX10_adds.data.toList.drop 46 = dktX10_adds_2 := dk_seg dksX10_adds_1 22 rfl rfl
theorem dX10_adds_0 : decode cX10_adds 0 = .ok (.aload_n 0, 1) := dk_42 (dk_at dksX10_adds_0 0 rfl rfl)
theorem dX10_adds_1 : decode cX10_adds 1 = .ok (.dup, 1) := dk_89 (dk_at dksX10_adds_0 1 rfl rfl)
theorem dX10_adds_2 : decode cX10_adds 2 = .ok (.getfield 7, 3) := dk_180 0 7 (dk_at dksX10_adds_0 2 rfl rfl)
theorem dX10_adds_5 : decode cX10_adds 5 = .ok (.iload_n 3, 1) := dk_29 (dk_at dksX10_adds_0 5 rfl rfl)
theorem dX10_adds_6 : decode cX10_adds 6 = .ok (.iadd, 1) := dk_96 (dk_at dksX10_adds_0 6 rfl rfl)
theorem dX10_adds_7 : decode cX10_adds 7 = .ok (.putfield 7, 3) := dk_181 0 7 (dk_at dksX10_adds_0 7 rfl rfl)
theorem dX10_adds_10 : decode cX10_adds 10 = .ok (.aload_n 0, 1) := dk_42 (dk_at dksX10_adds_0 10 rfl rfl)
theorem dX10_adds_11 : decode cX10_adds 11 = .ok (.dup, 1) := dk_89 (dk_at dksX10_adds_0 11 rfl rfl)
theorem dX10_adds_12 : decode cX10_adds 12 = .ok (.getfield 13, 3) := dk_180 0 13 (dk_at dksX10_adds_0 12 rfl rfl)
theorem dX10_adds_15 : decode cX10_adds 15 = .ok (.aload_n 1, 1) := dk_43 (dk_at dksX10_adds_0 15 rfl rfl)
theorem dX10_adds_16 : decode cX10_adds 16 = .ok (.getfield 16, 3) := dk_180 0 16 (dk_at dksX10_adds_0 16 rfl rfl)
theorem dX10_adds_19 : decode cX10_adds 19 = .ok (.iload_n 2, 1) := dk_28 (dk_at dksX10_adds_0 19 rfl rfl)
theorem dX10_adds_20 : decode cX10_adds 20 = .ok (.if_icmp .ne 7, 3) := dk_160 0 7 (dk_at dksX10_adds_0 20 rfl rfl)
theorem dX10_adds_23 : decode cX10_adds 23 = .ok (.iload_n 3, 1) := dk_29 (dk_at dksX10_adds_0 23 rfl rfl)
theorem dX10_adds_24 : decode cX10_adds 24 = .ok (.goto 4, 3) := dk_167 0 4 (dk_at dksX10_adds_1 0 rfl rfl)
theorem dX10_adds_27 : decode cX10_adds 27 = .ok (.iconst 0, 1) := dk_3 (dk_at dksX10_adds_1 3 rfl rfl)
theorem dX10_adds_28 : decode cX10_adds 28 = .ok (.iadd, 1) := dk_96 (dk_at dksX10_adds_1 4 rfl rfl)
theorem dX10_adds_29 : decode cX10_adds 29 = .ok (.putfield 13, 3) := dk_181 0 13 (dk_at dksX10_adds_1 5 rfl rfl)
theorem dX10_adds_32 : decode cX10_adds 32 = .ok (.aload_n 0, 1) := dk_42 (dk_at dksX10_adds_1 8 rfl rfl)
theorem dX10_adds_33 : decode cX10_adds 33 = .ok (.dup, 1) := dk_89 (dk_at dksX10_adds_1 9 rfl rfl)
theorem dX10_adds_34 : decode cX10_adds 34 = .ok (.getfield 21, 3) := dk_180 0 21 (dk_at dksX10_adds_1 10 rfl rfl)
theorem dX10_adds_37 : decode cX10_adds 37 = .ok (.iload_n 3, 1) := dk_29 (dk_at dksX10_adds_1 13 rfl rfl)
theorem dX10_adds_38 : decode cX10_adds 38 = .ok (.aload_n 1, 1) := dk_43 (dk_at dksX10_adds_1 14 rfl rfl)
theorem dX10_adds_39 : decode cX10_adds 39 = .ok (.getfield 24, 3) := dk_180 0 24 (dk_at dksX10_adds_1 15 rfl rfl)
theorem dX10_adds_42 : decode cX10_adds 42 = .ok (.iload_n 2, 1) := dk_28 (dk_at dksX10_adds_1 18 rfl rfl)
theorem dX10_adds_43 : decode cX10_adds 43 = .ok (.iaload, 1) := dk_46 (dk_at dksX10_adds_1 19 rfl rfl)
theorem dX10_adds_44 : decode cX10_adds 44 = .ok (.imul, 1) := dk_104 (dk_at dksX10_adds_1 20 rfl rfl)
theorem dX10_adds_45 : decode cX10_adds 45 = .ok (.iadd, 1) := dk_96 (dk_at dksX10_adds_1 21 rfl rfl)
theorem dX10_adds_46 : decode cX10_adds 46 = .ok (.putfield 21, 3) := dk_181 0 21 (dk_at dksX10_adds_2 0 rfl rfl)
theorem dX10_adds_49 : decode cX10_adds 49 = .ok (.aload_n 0, 1) := dk_42 (dk_at dksX10_adds_2 3 rfl rfl)
theorem dX10_adds_50 : decode cX10_adds 50 = .ok (.dup, 1) := dk_89 (dk_at dksX10_adds_2 4 rfl rfl)
theorem dX10_adds_51 : decode cX10_adds 51 = .ok (.getfield 28, 3) := dk_180 0 28 (dk_at dksX10_adds_2 5 rfl rfl)
theorem dX10_adds_54 : decode cX10_adds 54 = .ok (.iload_n 3, 1) := dk_29 (dk_at dksX10_adds_2 8 rfl rfl)
theorem dX10_adds_55 : decode cX10_adds 55 = .ok (.aload_n 1, 1) := dk_43 (dk_at dksX10_adds_2 9 rfl rfl)
theorem dX10_adds_56 : decode cX10_adds 56 = .ok (.getfield 24, 3) := dk_180 0 24 (dk_at dksX10_adds_2 10 rfl rfl)
theorem dX10_adds_59 : decode cX10_adds 59 = .ok (.iconst 1, 1) := dk_4 (dk_at dksX10_adds_2 13 rfl rfl)
theorem dX10_adds_60 : decode cX10_adds 60 = .ok (.iload_n 2, 1) := dk_28 (dk_at dksX10_adds_2 14 rfl rfl)
theorem dX10_adds_61 : decode cX10_adds 61 = .ok (.isub, 1) := dk_100 (dk_at dksX10_adds_2 15 rfl rfl)
theorem dX10_adds_62 : decode cX10_adds 62 = .ok (.iaload, 1) := dk_46 (dk_at dksX10_adds_2 16 rfl rfl)
theorem dX10_adds_63 : decode cX10_adds 63 = .ok (.imul, 1) := dk_104 (dk_at dksX10_adds_2 17 rfl rfl)
theorem dX10_adds_64 : decode cX10_adds 64 = .ok (.iadd, 1) := dk_96 (dk_at dksX10_adds_2 18 rfl rfl)
theorem dX10_adds_65 : decode cX10_adds 65 = .ok (.putfield 28, 3) := dk_181 0 28 (dk_at dksX10_adds_2 19 rfl rfl)
theorem dX10_adds_68 : decode cX10_adds 68 = .ok (.return_, 1) := dk_177 (dk_at dksX10_adds_2 22 rfl rfl)
abbrev cX10_init : ByteArray := prog_8_method_1_code
def yX10_init : MethodName := ⟨RX10, "<init>", "()V"⟩
theorem dX10_init_0 : decode cX10_init 0 = .ok (.aload_n 0, 1) := by decide +kernel
theorem dX10_init_1 : decode cX10_init 1 = .ok (.invokespecial 1, 3) := by decide +kernel
theorem dX10_init_4 : decode cX10_init 4 = .ok (.return_, 1) := by decide +kernel
abbrev cX10_told : ByteArray := prog_8_method_3_code
def yX10_told : MethodName := ⟨RX10, "told", "(I)I"⟩
def dkwX10_told_1 : List UInt8 := [5, 160, 0, 10, 42, 180, 0, 21, 167, 0, 7, 42, 180, 0, 28, 172]
abbrev dktX10_told_1 : List UInt8 := dkwX10_told_1 ++ []
def dkwX10_told_0 : List UInt8 := [27, 154, 0, 10, 42, 180, 0, 7, 167, 0, 31, 27, 4, 160, 0, 10, 42, 180, 0, 13, 167, 0, 19, 27]
abbrev dktX10_told_0 : List UInt8 := dkwX10_told_0 ++ dktX10_told_1
theorem dksX10_told_0 : cX10_told.data.toList.drop 0 = dktX10_told_0 := by decide +kernel
theorem dksX10_told_1 : cX10_told.data.toList.drop 24 = dktX10_told_1 := dk_seg dksX10_told_0 24 rfl rfl
theorem dX10_told_0 : decode cX10_told 0 = .ok (.iload_n 1, 1) := dk_27 (dk_at dksX10_told_0 0 rfl rfl)
theorem dX10_told_1 : decode cX10_told 1 = .ok (.ifCond .ne 10, 3) := dk_154 0 10 (dk_at dksX10_told_0 1 rfl rfl)
theorem dX10_told_4 : decode cX10_told 4 = .ok (.aload_n 0, 1) := dk_42 (dk_at dksX10_told_0 4 rfl rfl)
theorem dX10_told_5 : decode cX10_told 5 = .ok (.getfield 7, 3) := dk_180 0 7 (dk_at dksX10_told_0 5 rfl rfl)
theorem dX10_told_8 : decode cX10_told 8 = .ok (.goto 31, 3) := dk_167 0 31 (dk_at dksX10_told_0 8 rfl rfl)
theorem dX10_told_11 : decode cX10_told 11 = .ok (.iload_n 1, 1) := dk_27 (dk_at dksX10_told_0 11 rfl rfl)
theorem dX10_told_12 : decode cX10_told 12 = .ok (.iconst 1, 1) := dk_4 (dk_at dksX10_told_0 12 rfl rfl)
theorem dX10_told_13 : decode cX10_told 13 = .ok (.if_icmp .ne 10, 3) := dk_160 0 10 (dk_at dksX10_told_0 13 rfl rfl)
theorem dX10_told_16 : decode cX10_told 16 = .ok (.aload_n 0, 1) := dk_42 (dk_at dksX10_told_0 16 rfl rfl)
theorem dX10_told_17 : decode cX10_told 17 = .ok (.getfield 13, 3) := dk_180 0 13 (dk_at dksX10_told_0 17 rfl rfl)
theorem dX10_told_20 : decode cX10_told 20 = .ok (.goto 19, 3) := dk_167 0 19 (dk_at dksX10_told_0 20 rfl rfl)
theorem dX10_told_23 : decode cX10_told 23 = .ok (.iload_n 1, 1) := dk_27 (dk_at dksX10_told_0 23 rfl rfl)
theorem dX10_told_24 : decode cX10_told 24 = .ok (.iconst 2, 1) := dk_5 (dk_at dksX10_told_1 0 rfl rfl)
theorem dX10_told_25 : decode cX10_told 25 = .ok (.if_icmp .ne 10, 3) := dk_160 0 10 (dk_at dksX10_told_1 1 rfl rfl)
theorem dX10_told_28 : decode cX10_told 28 = .ok (.aload_n 0, 1) := dk_42 (dk_at dksX10_told_1 4 rfl rfl)
theorem dX10_told_29 : decode cX10_told 29 = .ok (.getfield 21, 3) := dk_180 0 21 (dk_at dksX10_told_1 5 rfl rfl)
theorem dX10_told_32 : decode cX10_told 32 = .ok (.goto 7, 3) := dk_167 0 7 (dk_at dksX10_told_1 8 rfl rfl)
theorem dX10_told_35 : decode cX10_told 35 = .ok (.aload_n 0, 1) := dk_42 (dk_at dksX10_told_1 11 rfl rfl)
theorem dX10_told_36 : decode cX10_told 36 = .ok (.getfield 28, 3) := dk_180 0 28 (dk_at dksX10_told_1 12 rfl rfl)
theorem dX10_told_39 : decode cX10_told 39 = .ok (.ireturn, 1) := dk_172 (dk_at dksX10_told_1 15 rfl rfl)
theorem q72 : (Jvm.Cond.initialized "Phrasehall$Table") ∈ lw_all := lw_g (lw_at lw_m1 31 rfl) rfl
theorem q352 : (Jvm.Cond.selects "Phrasehall$Table" ({ cls := "java/lang/Object", name := "getClass", desc := "()Ljava/lang/Class;" } : Jvm.MethodName) ({ cls := "java/lang/Object", name := "getClass", desc := "()Ljava/lang/Class;" } : Jvm.MethodName)) ∈ lw_all := lw_g (lw_at lw_m2 71 rfl) rfl
theorem q501 : (Jvm.Cond.fieldLinkNest "Phrasehall$Table" (24 : Nat) "Phrasehall$Bout" "touches" "[I" "Phrasehall") ∈ lw_tbl := lw_at lw_m2 220 rfl
theorem q506 : (Jvm.Cond.fieldLinkNest "Phrasehall$Table" (16 : Nat) "Phrasehall$Bout" "winner" "I" "Phrasehall") ∈ lw_tbl := lw_at lw_m2 225 rfl
theorem q696 : (Jvm.Cond.instanceMethod ({ cls := "Phrasehall$Table", name := "adds", desc := "(LPhrasehall$Bout;II)V" } : Jvm.MethodName)) ∈ lw_all := lw_g (lw_at lw_m3 175 rfl) rfl
theorem q697 : (Jvm.Cond.selects "Phrasehall$Table" ({ cls := "Phrasehall$Table", name := "adds", desc := "(LPhrasehall$Bout;II)V" } : Jvm.MethodName) ({ cls := "Phrasehall$Table", name := "adds", desc := "(LPhrasehall$Bout;II)V" } : Jvm.MethodName)) ∈ lw_all := lw_g (lw_at lw_m3 176 rfl) rfl
theorem q698 : (Jvm.Cond.code ({ cls := "Phrasehall$Table", name := "adds", desc := "(LPhrasehall$Bout;II)V" } : Jvm.MethodName) prog_8_method_2_code (4 : Nat) (Option.none : Option Jvm.ClassFile.FieldType)) ∈ lw_all := lw_g (lw_at lw_m3 177 rfl) rfl
theorem q775 : (Jvm.Cond.instantiable "Phrasehall$Table" (5 : Nat)) ∈ lw_all := lw_g (lw_at lw_m4 14 rfl) rfl
theorem q777 : (Jvm.Cond.instanceMethod ({ cls := "Phrasehall$Table", name := "<init>", desc := "()V" } : Jvm.MethodName)) ∈ lw_all := lw_g (lw_at lw_m4 16 rfl) rfl
theorem q778 : (Jvm.Cond.code ({ cls := "Phrasehall$Table", name := "<init>", desc := "()V" } : Jvm.MethodName) prog_8_method_1_code (1 : Nat) (Option.none : Option Jvm.ClassFile.FieldType)) ∈ lw_all := lw_g (lw_at lw_m4 17 rfl) rfl
theorem q779 : (Jvm.Cond.methodLink "Phrasehall$Table" (1 : Nat) ({ cls := "java/lang/Object", name := "<init>", desc := "()V" } : Jvm.MethodName)) ∈ lw_all := lw_g (lw_at lw_m4 18 rfl) rfl
theorem q780 : (Jvm.Cond.fieldLink "Phrasehall$Table" (7 : Nat) "Phrasehall$Table" "bouts" "I") ∈ lw_all := lw_g (lw_at lw_m4 19 rfl) rfl
theorem q782 : (Jvm.Cond.fieldLink "Phrasehall$Table" (13 : Nat) "Phrasehall$Table" "wins" "I") ∈ lw_all := lw_g (lw_at lw_m4 21 rfl) rfl
theorem q784 : (Jvm.Cond.fieldLink "Phrasehall$Table" (21 : Nat) "Phrasehall$Table" "given" "I") ∈ lw_all := lw_g (lw_at lw_m4 23 rfl) rfl
theorem q786 : (Jvm.Cond.fieldLink "Phrasehall$Table" (28 : Nat) "Phrasehall$Table" "got" "I") ∈ lw_all := lw_g (lw_at lw_m4 25 rfl) rfl
theorem q790 : (Jvm.Cond.lays "Phrasehall$Table" "Phrasehall$Table" "bouts" "I") ∈ lw_all := lw_g (lw_at lw_m4 29 rfl) rfl
theorem q791 : (Jvm.Cond.soleField "Phrasehall$Table" "bouts") ∈ lw_all := lw_g (lw_at lw_m4 30 rfl) rfl
theorem q792 : (Jvm.Cond.lays "Phrasehall$Table" "Phrasehall$Table" "wins" "I") ∈ lw_all := lw_g (lw_at lw_m4 31 rfl) rfl
theorem q793 : (Jvm.Cond.soleField "Phrasehall$Table" "wins") ∈ lw_all := lw_g (lw_at lw_m4 32 rfl) rfl
theorem q794 : (Jvm.Cond.lays "Phrasehall$Table" "Phrasehall$Table" "given" "I") ∈ lw_all := lw_g (lw_at lw_m4 33 rfl) rfl
theorem q795 : (Jvm.Cond.soleField "Phrasehall$Table" "given") ∈ lw_all := lw_g (lw_at lw_m4 34 rfl) rfl
theorem q796 : (Jvm.Cond.lays "Phrasehall$Table" "Phrasehall$Table" "got" "I") ∈ lw_all := lw_g (lw_at lw_m4 35 rfl) rfl
theorem q797 : (Jvm.Cond.soleField "Phrasehall$Table" "got") ∈ lw_all := lw_g (lw_at lw_m4 36 rfl) rfl
theorem q798 : (Jvm.Cond.lays "Phrasehall$Table" "Phrasehall$Table" "isGone" "Z") ∈ lw_all := lw_g (lw_at lw_m4 37 rfl) rfl
theorem q799 : (Jvm.Cond.soleField "Phrasehall$Table" "isGone") ∈ lw_all := lw_g (lw_at lw_m4 38 rfl) rfl
theorem q800 : (Jvm.Cond.superclass "Phrasehall$Table" "java/lang/Object") ∈ lw_all := lw_g (lw_at lw_m4 39 rfl) rfl
theorem q1200 : (Jvm.Cond.instanceMethod ({ cls := "Phrasehall$Table", name := "told", desc := "(I)I" } : Jvm.MethodName)) ∈ lw_all := lw_g (lw_at lw_m5 199 rfl) rfl
theorem q1201 : (Jvm.Cond.selects "Phrasehall$Table" ({ cls := "Phrasehall$Table", name := "told", desc := "(I)I" } : Jvm.MethodName) ({ cls := "Phrasehall$Table", name := "told", desc := "(I)I" } : Jvm.MethodName)) ∈ lw_all := lw_g (lw_at lw_m5 200 rfl) rfl
theorem q1202 : (Jvm.Cond.code ({ cls := "Phrasehall$Table", name := "told", desc := "(I)I" } : Jvm.MethodName) prog_8_method_3_code (2 : Nat) (Option.some Jvm.ClassFile.FieldType.int)) ∈ lw_all := lw_g (lw_at lw_m5 201 rfl) rfl
theorem q1541 : (Jvm.Cond.castable "Phrasehall$Table" "java/lang/Object") ∈ lw_tbl := lw_at lw_m7 60 rfl
theorem in_X10 : ∀ w ∈ wsX100, w ∈ lw_all := lw_in wsX100 [790, 792, 794, 796, 798] (by decide +kernel) (by decide +kernel)
/-! Phrasehall$Weapon$1 -/
set_option maxRecDepth 100000
def RX11 : String := "Phrasehall$Weapon$1"
abbrev cX11_counts : ByteArray := prog_11_method_2_code
def yX11_counts : MethodName := ⟨RX11, "counts", "(I)Z"⟩
def dkwX11_counts_0 : List UInt8 := [27, 5, 159, 0, 7, 4, 167, 0, 4, 3, 172]
abbrev dktX11_counts_0 : List UInt8 := dkwX11_counts_0 ++ []
theorem dksX11_counts_0 : cX11_counts.data.toList.drop 0 = dktX11_counts_0 := by decide +kernel
theorem dX11_counts_0 : decode cX11_counts 0 = .ok (.iload_n 1, 1) := dk_27 (dk_at dksX11_counts_0 0 rfl rfl)
theorem dX11_counts_1 : decode cX11_counts 1 = .ok (.iconst 2, 1) := dk_5 (dk_at dksX11_counts_0 1 rfl rfl)
theorem dX11_counts_2 : decode cX11_counts 2 = .ok (.if_icmp .eq 7, 3) := dk_159 0 7 (dk_at dksX11_counts_0 2 rfl rfl)
theorem dX11_counts_5 : decode cX11_counts 5 = .ok (.iconst 1, 1) := dk_4 (dk_at dksX11_counts_0 5 rfl rfl)
theorem dX11_counts_6 : decode cX11_counts 6 = .ok (.goto 4, 3) := dk_167 0 4 (dk_at dksX11_counts_0 6 rfl rfl)
theorem dX11_counts_9 : decode cX11_counts 9 = .ok (.iconst 0, 1) := dk_3 (dk_at dksX11_counts_0 9 rfl rfl)
theorem dX11_counts_10 : decode cX11_counts 10 = .ok (.ireturn, 1) := dk_172 (dk_at dksX11_counts_0 10 rfl rfl)
theorem q355 : (Jvm.Cond.selects "Phrasehall$Weapon$1" ({ cls := "java/lang/Object", name := "getClass", desc := "()Ljava/lang/Class;" } : Jvm.MethodName) ({ cls := "java/lang/Object", name := "getClass", desc := "()Ljava/lang/Class;" } : Jvm.MethodName)) ∈ lw_all := lw_g (lw_at lw_m2 74 rfl) rfl
theorem q646 : (Jvm.Cond.selects "Phrasehall$Weapon$1" ({ cls := "Phrasehall$Weapon", name := "counts", desc := "(I)Z" } : Jvm.MethodName) ({ cls := "Phrasehall$Weapon$1", name := "counts", desc := "(I)Z" } : Jvm.MethodName)) ∈ lw_all := lw_g (lw_at lw_m3 125 rfl) rfl
theorem q647 : (Jvm.Cond.instanceMethod ({ cls := "Phrasehall$Weapon$1", name := "counts", desc := "(I)Z" } : Jvm.MethodName)) ∈ lw_all := lw_g (lw_at lw_m3 126 rfl) rfl
theorem q648 : (Jvm.Cond.code ({ cls := "Phrasehall$Weapon$1", name := "counts", desc := "(I)Z" } : Jvm.MethodName) prog_11_method_2_code (2 : Nat) (Option.some Jvm.ClassFile.FieldType.boolean)) ∈ lw_all := lw_g (lw_at lw_m3 127 rfl) rfl
theorem q1550 : (Jvm.Cond.castable "Phrasehall$Weapon$1" "java/lang/Object") ∈ lw_tbl := lw_at lw_m7 69 rfl

/-! ActorTrees$Actor -/
set_option maxRecDepth 100000
def RX5 : String := "ActorTrees$Actor"
def TX5 : u_T := fun k => match k with
  | 0 => ("ActorTrees$Actor", "number", "I", true)
  | 1 => ("ActorTrees$Actor", "parent", "I", true)
  | 2 => ("ActorTrees$Actor", "own", "I", true)
  | 3 => ("ActorTrees$Actor", "strategy", "I", true)
  | 4 => ("ActorTrees$Actor", "how", "LActorTrees$Strategy;", true)
  | 5 => ("ActorTrees$Actor", "budget", "I", true)
  | 6 => ("ActorTrees$Actor", "window", "I", true)
  | 7 => ("ActorTrees$Actor", "live", "Z", false)
  | 8 => ("ActorTrees$Actor", "count", "I", false)
  | 9 => ("ActorTrees$Actor", "stack", "[I", true)
  | 10 => ("ActorTrees$Actor", "stacked", "I", false)
  | 11 => ("ActorTrees$Actor", "mails", "LActorTrees$Queue;", true)
  | 12 => ("ActorTrees$Actor", "stash", "LActorTrees$Queue;", true)
  | 13 => ("ActorTrees$Actor", "watchers", "LActorTrees$Queue;", true)
  | 14 => ("ActorTrees$Actor", "noted", "LActorTrees$Queue;", true)
  | 15 => ("ActorTrees$Actor", "isOwn", "LActorTrees$Test;", true)
  | _ => ("ActorTrees$Actor", "isOwnTimer", "LActorTrees$Test;", true)
def tyX5 : Nat → FieldType := fun k => match k with
  | 0 => .int
  | 1 => .int
  | 2 => .int
  | 3 => .int
  | 4 => .object "ActorTrees$Strategy"
  | 5 => .int
  | 6 => .int
  | 7 => .boolean
  | 8 => .int
  | 9 => .array .int
  | 10 => .int
  | 11 => .object "ActorTrees$Queue"
  | 12 => .object "ActorTrees$Queue"
  | 13 => .object "ActorTrees$Queue"
  | 14 => .object "ActorTrees$Queue"
  | 15 => .object "ActorTrees$Test"
  | _ => .object "ActorTrees$Test"
abbrev wsX50 : List Cond := u_ws RX5 TX5 17
set_option maxRecDepth 100000 in
theorem nmX5 : ∀ a, a < 17 → ∀ b, b < 17 → a ≠ b → (TX5 a).2.1 ≠ (TX5 b).2.1 := by decide +kernel
set_option maxRecDepth 100000 in
theorem tyX5_ok : ∀ k, k < 17 → parseFieldDescriptor (TX5 k).2.2.1 = some (tyX5 k) := by decide +kernel
abbrev cX5_init : ByteArray := prog_2_method_1_code
def yX5_init : MethodName := ⟨RX5, "<init>", "(IIIIII)V"⟩
def dkwX5_init_6 : List UInt8 := [3, 29, 79, 177]
abbrev dktX5_init_6 : List UInt8 := dkwX5_init_6 ++ []
def dkwX5_init_5 : List UInt8 := [42, 27, 186, 0, 70, 0, 0, 181, 0, 74, 42, 27, 186, 0, 78, 0, 0, 181, 0, 79, 42, 180, 0, 15]
abbrev dktX5_init_5 : List UInt8 := dkwX5_init_5 ++ dktX5_init_6
def dkwX5_init_4 : List UInt8 := [181, 0, 53, 42, 21, 5, 181, 0, 56, 42, 21, 6, 181, 0, 59, 42, 21, 4, 184, 0, 62, 181, 0, 66]
abbrev dktX5_init_4 : List UInt8 := dkwX5_init_4 ++ dktX5_init_5
def dkwX5_init_3 : List UInt8 := [183, 0, 25, 181, 0, 41, 42, 27, 181, 0, 44, 42, 28, 181, 0, 47, 42, 29, 181, 0, 50, 42, 21, 4]
abbrev dktX5_init_3 : List UInt8 := dkwX5_init_3 ++ dktX5_init_4
def dkwX5_init_2 : List UInt8 := [181, 0, 32, 42, 187, 0, 23, 89, 16, 12, 183, 0, 25, 181, 0, 35, 42, 187, 0, 23, 89, 18, 40]
abbrev dktX5_init_2 : List UInt8 := dkwX5_init_2 ++ dktX5_init_3
def dkwX5_init_1 : List UInt8 := [187, 0, 23, 89, 16, 12, 183, 0, 25, 181, 0, 28, 42, 187, 0, 23, 89, 16, 6, 183, 0, 25]
abbrev dktX5_init_1 : List UInt8 := dkwX5_init_1 ++ dktX5_init_2
def dkwX5_init_0 : List UInt8 := [42, 183, 0, 3, 42, 4, 181, 0, 9, 42, 8, 188, 10, 181, 0, 15, 42, 4, 181, 0, 19, 42]
abbrev dktX5_init_0 : List UInt8 := dkwX5_init_0 ++ dktX5_init_1
theorem dksX5_init_0 : cX5_init.data.toList.drop 0 = dktX5_init_0 := by decide +kernel
theorem dksX5_init_1 : cX5_init.data.toList.drop 22 = dktX5_init_1 := dk_seg dksX5_init_0 22 rfl rfl
theorem dksX5_init_2 : cX5_init.data.toList.drop 44 = dktX5_init_2 := dk_seg dksX5_init_1 22 rfl rfl
theorem dksX5_init_3 : cX5_init.data.toList.drop 67 = dktX5_init_3 := dk_seg dksX5_init_2 23 rfl rfl
theorem dksX5_init_4 : cX5_init.data.toList.drop 91 = dktX5_init_4 := dk_seg dksX5_init_3 24 rfl rfl
theorem dksX5_init_5 : cX5_init.data.toList.drop 115 = dktX5_init_5 := dk_seg dksX5_init_4 24 rfl rfl
theorem dksX5_init_6 : cX5_init.data.toList.drop 139 = dktX5_init_6 := dk_seg dksX5_init_5 24 rfl rfl
theorem dX5_init_0 : decode cX5_init 0 = .ok (.aload_n 0, 1) := dk_42 (dk_at dksX5_init_0 0 rfl rfl)
theorem dX5_init_1 : decode cX5_init 1 = .ok (.invokespecial 3, 3) := dk_183 0 3 (dk_at dksX5_init_0 1 rfl rfl)
theorem dX5_init_4 : decode cX5_init 4 = .ok (.aload_n 0, 1) := dk_42 (dk_at dksX5_init_0 4 rfl rfl)
theorem dX5_init_5 : decode cX5_init 5 = .ok (.iconst 1, 1) := dk_4 (dk_at dksX5_init_0 5 rfl rfl)
theorem dX5_init_6 : decode cX5_init 6 = .ok (.putfield 9, 3) := dk_181 0 9 (dk_at dksX5_init_0 6 rfl rfl)
theorem dX5_init_9 : decode cX5_init 9 = .ok (.aload_n 0, 1) := dk_42 (dk_at dksX5_init_0 9 rfl rfl)
theorem dX5_init_10 : decode cX5_init 10 = .ok (.iconst 5, 1) := dk_8 (dk_at dksX5_init_0 10 rfl rfl)
theorem dX5_init_11 : decode cX5_init 11 = .ok (.newarray .int, 2) := dk_188_10 (dk_at dksX5_init_0 11 rfl rfl)
theorem dX5_init_13 : decode cX5_init 13 = .ok (.putfield 15, 3) := dk_181 0 15 (dk_at dksX5_init_0 13 rfl rfl)
theorem dX5_init_16 : decode cX5_init 16 = .ok (.aload_n 0, 1) := dk_42 (dk_at dksX5_init_0 16 rfl rfl)
theorem dX5_init_17 : decode cX5_init 17 = .ok (.iconst 1, 1) := dk_4 (dk_at dksX5_init_0 17 rfl rfl)
theorem dX5_init_18 : decode cX5_init 18 = .ok (.putfield 19, 3) := dk_181 0 19 (dk_at dksX5_init_0 18 rfl rfl)
theorem dX5_init_21 : decode cX5_init 21 = .ok (.aload_n 0, 1) := dk_42 (dk_at dksX5_init_0 21 rfl rfl)
theorem dX5_init_22 : decode cX5_init 22 = .ok (.new 23, 3) := dk_187 0 23 (dk_at dksX5_init_1 0 rfl rfl)
theorem dX5_init_25 : decode cX5_init 25 = .ok (.dup, 1) := dk_89 (dk_at dksX5_init_1 3 rfl rfl)
theorem dX5_init_26 : decode cX5_init 26 = .ok (.bipush 12, 2) := dk_16 12 (dk_at dksX5_init_1 4 rfl rfl)
theorem dX5_init_28 : decode cX5_init 28 = .ok (.invokespecial 25, 3) := dk_183 0 25 (dk_at dksX5_init_1 6 rfl rfl)
theorem dX5_init_31 : decode cX5_init 31 = .ok (.putfield 28, 3) := dk_181 0 28 (dk_at dksX5_init_1 9 rfl rfl)
theorem dX5_init_34 : decode cX5_init 34 = .ok (.aload_n 0, 1) := dk_42 (dk_at dksX5_init_1 12 rfl rfl)
theorem dX5_init_35 : decode cX5_init 35 = .ok (.new 23, 3) := dk_187 0 23 (dk_at dksX5_init_1 13 rfl rfl)
theorem dX5_init_38 : decode cX5_init 38 = .ok (.dup, 1) := dk_89 (dk_at dksX5_init_1 16 rfl rfl)
theorem dX5_init_39 : decode cX5_init 39 = .ok (.bipush 6, 2) := dk_16 6 (dk_at dksX5_init_1 17 rfl rfl)
theorem dX5_init_41 : decode cX5_init 41 = .ok (.invokespecial 25, 3) := dk_183 0 25 (dk_at dksX5_init_1 19 rfl rfl)
theorem dX5_init_44 : decode cX5_init 44 = .ok (.putfield 32, 3) := dk_181 0 32 (dk_at dksX5_init_2 0 rfl rfl)
theorem dX5_init_47 : decode cX5_init 47 = .ok (.aload_n 0, 1) := dk_42 (dk_at dksX5_init_2 3 rfl rfl)
theorem dX5_init_48 : decode cX5_init 48 = .ok (.new 23, 3) := dk_187 0 23 (dk_at dksX5_init_2 4 rfl rfl)
theorem dX5_init_51 : decode cX5_init 51 = .ok (.dup, 1) := dk_89 (dk_at dksX5_init_2 7 rfl rfl)
theorem dX5_init_52 : decode cX5_init 52 = .ok (.bipush 12, 2) := dk_16 12 (dk_at dksX5_init_2 8 rfl rfl)
theorem dX5_init_54 : decode cX5_init 54 = .ok (.invokespecial 25, 3) := dk_183 0 25 (dk_at dksX5_init_2 10 rfl rfl)
theorem dX5_init_57 : decode cX5_init 57 = .ok (.putfield 35, 3) := dk_181 0 35 (dk_at dksX5_init_2 13 rfl rfl)
theorem dX5_init_60 : decode cX5_init 60 = .ok (.aload_n 0, 1) := dk_42 (dk_at dksX5_init_2 16 rfl rfl)
theorem dX5_init_61 : decode cX5_init 61 = .ok (.new 23, 3) := dk_187 0 23 (dk_at dksX5_init_2 17 rfl rfl)
theorem dX5_init_64 : decode cX5_init 64 = .ok (.dup, 1) := dk_89 (dk_at dksX5_init_2 20 rfl rfl)
theorem dX5_init_65 : decode cX5_init 65 = .ok (.ldc 40, 2) := dk_18 40 (dk_at dksX5_init_2 21 rfl rfl)
theorem dX5_init_67 : decode cX5_init 67 = .ok (.invokespecial 25, 3) := dk_183 0 25 (dk_at dksX5_init_3 0 rfl rfl)
theorem dX5_init_70 : decode cX5_init 70 = .ok (.putfield 41, 3) := dk_181 0 41 (dk_at dksX5_init_3 3 rfl rfl)
theorem dX5_init_73 : decode cX5_init 73 = .ok (.aload_n 0, 1) := dk_42 (dk_at dksX5_init_3 6 rfl rfl)
theorem dX5_init_74 : decode cX5_init 74 = .ok (.iload_n 1, 1) := dk_27 (dk_at dksX5_init_3 7 rfl rfl)
theorem dX5_init_75 : decode cX5_init 75 = .ok (.putfield 44, 3) := dk_181 0 44 (dk_at dksX5_init_3 8 rfl rfl)
theorem dX5_init_78 : decode cX5_init 78 = .ok (.aload_n 0, 1) := dk_42 (dk_at dksX5_init_3 11 rfl rfl)
theorem dX5_init_79 : decode cX5_init 79 = .ok (.iload_n 2, 1) := dk_28 (dk_at dksX5_init_3 12 rfl rfl)
theorem dX5_init_80 : decode cX5_init 80 = .ok (.putfield 47, 3) := dk_181 0 47 (dk_at dksX5_init_3 13 rfl rfl)
theorem dX5_init_83 : decode cX5_init 83 = .ok (.aload_n 0, 1) := dk_42 (dk_at dksX5_init_3 16 rfl rfl)
theorem dX5_init_84 : decode cX5_init 84 = .ok (.iload_n 3, 1) := dk_29 (dk_at dksX5_init_3 17 rfl rfl)
theorem dX5_init_85 : decode cX5_init 85 = .ok (.putfield 50, 3) := dk_181 0 50 (dk_at dksX5_init_3 18 rfl rfl)
theorem dX5_init_88 : decode cX5_init 88 = .ok (.aload_n 0, 1) := dk_42 (dk_at dksX5_init_3 21 rfl rfl)
theorem dX5_init_89 : decode cX5_init 89 = .ok (.iload 4, 2) := dk_21 4 (dk_at dksX5_init_3 22 rfl rfl)
theorem dX5_init_91 : decode cX5_init 91 = .ok (.putfield 53, 3) := dk_181 0 53 (dk_at dksX5_init_4 0 rfl rfl)
theorem dX5_init_94 : decode cX5_init 94 = .ok (.aload_n 0, 1) := dk_42 (dk_at dksX5_init_4 3 rfl rfl)
theorem dX5_init_95 : decode cX5_init 95 = .ok (.iload 5, 2) := dk_21 5 (dk_at dksX5_init_4 4 rfl rfl)
theorem dX5_init_97 : decode cX5_init 97 = .ok (.putfield 56, 3) := dk_181 0 56 (dk_at dksX5_init_4 6 rfl rfl)
theorem dX5_init_100 : decode cX5_init 100 = .ok (.aload_n 0, 1) := dk_42 (dk_at dksX5_init_4 9 rfl rfl)
theorem dX5_init_101 : decode cX5_init 101 = .ok (.iload 6, 2) := dk_21 6 (dk_at dksX5_init_4 10 rfl rfl)
theorem dX5_init_103 : decode cX5_init 103 = .ok (.putfield 59, 3) := dk_181 0 59 (dk_at dksX5_init_4 12 rfl rfl)
theorem dX5_init_106 : decode cX5_init 106 = .ok (.aload_n 0, 1) := dk_42 (dk_at dksX5_init_4 15 rfl rfl)
theorem dX5_init_107 : decode cX5_init 107 = .ok (.iload 4, 2) := dk_21 4 (dk_at dksX5_init_4 16 rfl rfl)
theorem dX5_init_109 : decode cX5_init 109 = .ok (.invokestatic 62, 3) := dk_184 0 62 (dk_at dksX5_init_4 18 rfl rfl)
theorem dX5_init_112 : decode cX5_init 112 = .ok (.putfield 66, 3) := dk_181 0 66 (dk_at dksX5_init_4 21 rfl rfl)
theorem dX5_init_115 : decode cX5_init 115 = .ok (.aload_n 0, 1) := dk_42 (dk_at dksX5_init_5 0 rfl rfl)
theorem dX5_init_116 : decode cX5_init 116 = .ok (.iload_n 1, 1) := dk_27 (dk_at dksX5_init_5 1 rfl rfl)
theorem dX5_init_117 : decode cX5_init 117 = .ok (.invokedynamic 70, 5) := by decide +kernel
theorem dX5_init_122 : decode cX5_init 122 = .ok (.putfield 74, 3) := dk_181 0 74 (dk_at dksX5_init_5 7 rfl rfl)
theorem dX5_init_125 : decode cX5_init 125 = .ok (.aload_n 0, 1) := dk_42 (dk_at dksX5_init_5 10 rfl rfl)
theorem dX5_init_126 : decode cX5_init 126 = .ok (.iload_n 1, 1) := dk_27 (dk_at dksX5_init_5 11 rfl rfl)
theorem dX5_init_127 : decode cX5_init 127 = .ok (.invokedynamic 78, 5) := by decide +kernel
theorem dX5_init_132 : decode cX5_init 132 = .ok (.putfield 79, 3) := dk_181 0 79 (dk_at dksX5_init_5 17 rfl rfl)
theorem dX5_init_135 : decode cX5_init 135 = .ok (.aload_n 0, 1) := dk_42 (dk_at dksX5_init_5 20 rfl rfl)
theorem dX5_init_136 : decode cX5_init 136 = .ok (.getfield 15, 3) := dk_180 0 15 (dk_at dksX5_init_5 21 rfl rfl)
theorem dX5_init_139 : decode cX5_init 139 = .ok (.iconst 0, 1) := dk_3 (dk_at dksX5_init_6 0 rfl rfl)
theorem dX5_init_140 : decode cX5_init 140 = .ok (.iload_n 3, 1) := dk_29 (dk_at dksX5_init_6 1 rfl rfl)
theorem dX5_init_141 : decode cX5_init 141 = .ok (.iastore, 1) := dk_79 (dk_at dksX5_init_6 2 rfl rfl)
theorem dX5_init_142 : decode cX5_init 142 = .ok (.return_, 1) := dk_177 (dk_at dksX5_init_6 3 rfl rfl)
abbrev cX5_lambda_new_0 : ByteArray := prog_2_method_12_code
def yX5_lambda_new_0 : MethodName := ⟨RX5, "lambda$new$0", "(ILjava/lang/Integer;)Z"⟩
def dkwX5_lambda_new_0_0 : List UInt8 := [43, 182, 0, 123, 26, 160, 0, 7, 4, 167, 0, 4, 3, 172]
abbrev dktX5_lambda_new_0_0 : List UInt8 := dkwX5_lambda_new_0_0 ++ []
theorem dksX5_lambda_new_0_0 : cX5_lambda_new_0.data.toList.drop 0 = dktX5_lambda_new_0_0 := by decide +kernel
theorem dX5_lambda_new_0_0 : decode cX5_lambda_new_0 0 = .ok (.aload_n 1, 1) := dk_43 (dk_at dksX5_lambda_new_0_0 0 rfl rfl)
theorem dX5_lambda_new_0_1 : decode cX5_lambda_new_0 1 = .ok (.invokevirtual 123, 3) := dk_182 0 123 (dk_at dksX5_lambda_new_0_0 1 rfl rfl)
theorem dX5_lambda_new_0_4 : decode cX5_lambda_new_0 4 = .ok (.iload_n 0, 1) := dk_26 (dk_at dksX5_lambda_new_0_0 4 rfl rfl)
theorem dX5_lambda_new_0_5 : decode cX5_lambda_new_0 5 = .ok (.if_icmp .ne 7, 3) := dk_160 0 7 (dk_at dksX5_lambda_new_0_0 5 rfl rfl)
theorem dX5_lambda_new_0_8 : decode cX5_lambda_new_0 8 = .ok (.iconst 1, 1) := dk_4 (dk_at dksX5_lambda_new_0_0 8 rfl rfl)
theorem dX5_lambda_new_0_9 : decode cX5_lambda_new_0 9 = .ok (.goto 4, 3) := dk_167 0 4 (dk_at dksX5_lambda_new_0_0 9 rfl rfl)
theorem dX5_lambda_new_0_12 : decode cX5_lambda_new_0 12 = .ok (.iconst 0, 1) := dk_3 (dk_at dksX5_lambda_new_0_0 12 rfl rfl)
theorem dX5_lambda_new_0_13 : decode cX5_lambda_new_0 13 = .ok (.ireturn, 1) := dk_172 (dk_at dksX5_lambda_new_0_0 13 rfl rfl)
abbrev cX5_lambda_new_1 : ByteArray := prog_2_method_11_code
def yX5_lambda_new_1 : MethodName := ⟨RX5, "lambda$new$1", "(ILActorTrees$Timer;)Z"⟩
def dkwX5_lambda_new_1_0 : List UInt8 := [43, 180, 0, 152, 26, 160, 0, 7, 4, 167, 0, 4, 3, 172]
abbrev dktX5_lambda_new_1_0 : List UInt8 := dkwX5_lambda_new_1_0 ++ []
theorem dksX5_lambda_new_1_0 : cX5_lambda_new_1.data.toList.drop 0 = dktX5_lambda_new_1_0 := by decide +kernel
theorem dX5_lambda_new_1_0 : decode cX5_lambda_new_1 0 = .ok (.aload_n 1, 1) := dk_43 (dk_at dksX5_lambda_new_1_0 0 rfl rfl)
theorem dX5_lambda_new_1_1 : decode cX5_lambda_new_1 1 = .ok (.getfield 152, 3) := dk_180 0 152 (dk_at dksX5_lambda_new_1_0 1 rfl rfl)
theorem dX5_lambda_new_1_4 : decode cX5_lambda_new_1 4 = .ok (.iload_n 0, 1) := dk_26 (dk_at dksX5_lambda_new_1_0 4 rfl rfl)
theorem dX5_lambda_new_1_5 : decode cX5_lambda_new_1 5 = .ok (.if_icmp .ne 7, 3) := dk_160 0 7 (dk_at dksX5_lambda_new_1_0 5 rfl rfl)
theorem dX5_lambda_new_1_8 : decode cX5_lambda_new_1 8 = .ok (.iconst 1, 1) := dk_4 (dk_at dksX5_lambda_new_1_0 8 rfl rfl)
theorem dX5_lambda_new_1_9 : decode cX5_lambda_new_1 9 = .ok (.goto 4, 3) := dk_167 0 4 (dk_at dksX5_lambda_new_1_0 9 rfl rfl)
theorem dX5_lambda_new_1_12 : decode cX5_lambda_new_1 12 = .ok (.iconst 0, 1) := dk_3 (dk_at dksX5_lambda_new_1_0 12 rfl rfl)
theorem dX5_lambda_new_1_13 : decode cX5_lambda_new_1 13 = .ok (.ireturn, 1) := dk_172 (dk_at dksX5_lambda_new_1_0 13 rfl rfl)
abbrev cX5_does : ByteArray := prog_2_method_3_code
def yX5_does : MethodName := ⟨RX5, "does", "()I"⟩
def dkwX5_does_0 : List UInt8 := [42, 180, 0, 15, 42, 180, 0, 19, 4, 100, 46, 172]
abbrev dktX5_does_0 : List UInt8 := dkwX5_does_0 ++ []
theorem dksX5_does_0 : cX5_does.data.toList.drop 0 = dktX5_does_0 := by decide +kernel
theorem dX5_does_0 : decode cX5_does 0 = .ok (.aload_n 0, 1) := dk_42 (dk_at dksX5_does_0 0 rfl rfl)
theorem dX5_does_1 : decode cX5_does 1 = .ok (.getfield 15, 3) := dk_180 0 15 (dk_at dksX5_does_0 1 rfl rfl)
theorem dX5_does_4 : decode cX5_does 4 = .ok (.aload_n 0, 1) := dk_42 (dk_at dksX5_does_0 4 rfl rfl)
theorem dX5_does_5 : decode cX5_does 5 = .ok (.getfield 19, 3) := dk_180 0 19 (dk_at dksX5_does_0 5 rfl rfl)
theorem dX5_does_8 : decode cX5_does 8 = .ok (.iconst 1, 1) := dk_4 (dk_at dksX5_does_0 8 rfl rfl)
theorem dX5_does_9 : decode cX5_does 9 = .ok (.isub, 1) := dk_100 (dk_at dksX5_does_0 9 rfl rfl)
theorem dX5_does_10 : decode cX5_does 10 = .ok (.iaload, 1) := dk_46 (dk_at dksX5_does_0 10 rfl rfl)
theorem dX5_does_11 : decode cX5_does 11 = .ok (.ireturn, 1) := dk_172 (dk_at dksX5_does_0 11 rfl rfl)
abbrev cX5_failures : ByteArray := prog_2_method_8_code
def yX5_failures : MethodName := ⟨RX5, "failures", "(I)I"⟩
def dkwX5_failures_2 : List UInt8 := [132, 2, 1, 167, 255, 219, 28, 172]
abbrev dktX5_failures_2 : List UInt8 := dkwX5_failures_2 ++ []
def dkwX5_failures_1 : List UInt8 := [185, 0, 145, 1, 0, 192, 0, 38, 182, 0, 123, 54, 4, 21, 4, 27, 42, 180, 0, 59, 100, 161, 0, 6]
abbrev dktX5_failures_1 : List UInt8 := dkwX5_failures_1 ++ dktX5_failures_2
def dkwX5_failures_0 : List UInt8 := [3, 61, 42, 180, 0, 41, 182, 0, 135, 78, 45, 185, 0, 139, 1, 0, 153, 0, 34, 45]
abbrev dktX5_failures_0 : List UInt8 := dkwX5_failures_0 ++ dktX5_failures_1
theorem dksX5_failures_0 : cX5_failures.data.toList.drop 0 = dktX5_failures_0 := by decide +kernel
theorem dksX5_failures_1 : cX5_failures.data.toList.drop 20 = dktX5_failures_1 := dk_seg dksX5_failures_0 20 rfl rfl
theorem dksX5_failures_2 : cX5_failures.data.toList.drop 44 = dktX5_failures_2 := dk_seg dksX5_failures_1 24 rfl rfl
theorem dX5_failures_0 : decode cX5_failures 0 = .ok (.iconst 0, 1) := dk_3 (dk_at dksX5_failures_0 0 rfl rfl)
theorem dX5_failures_1 : decode cX5_failures 1 = .ok (.istore_n 2, 1) := dk_61 (dk_at dksX5_failures_0 1 rfl rfl)
theorem dX5_failures_2 : decode cX5_failures 2 = .ok (.aload_n 0, 1) := dk_42 (dk_at dksX5_failures_0 2 rfl rfl)
theorem dX5_failures_3 : decode cX5_failures 3 = .ok (.getfield 41, 3) := dk_180 0 41 (dk_at dksX5_failures_0 3 rfl rfl)
theorem dX5_failures_6 : decode cX5_failures 6 = .ok (.invokevirtual 135, 3) := dk_182 0 135 (dk_at dksX5_failures_0 6 rfl rfl)
theorem dX5_failures_9 : decode cX5_failures 9 = .ok (.astore_n 3, 1) := dk_78 (dk_at dksX5_failures_0 9 rfl rfl)
theorem dX5_failures_10 : decode cX5_failures 10 = .ok (.aload_n 3, 1) := dk_45 (dk_at dksX5_failures_0 10 rfl rfl)
theorem dX5_failures_11 : decode cX5_failures 11 = .ok (.invokeinterface 139 1, 5) := by decide +kernel
theorem dX5_failures_16 : decode cX5_failures 16 = .ok (.ifCond .eq 34, 3) := dk_153 0 34 (dk_at dksX5_failures_0 16 rfl rfl)
theorem dX5_failures_19 : decode cX5_failures 19 = .ok (.aload_n 3, 1) := dk_45 (dk_at dksX5_failures_0 19 rfl rfl)
theorem dX5_failures_20 : decode cX5_failures 20 = .ok (.invokeinterface 145 1, 5) := by decide +kernel
theorem dX5_failures_25 : decode cX5_failures 25 = .ok (.checkcast 38, 3) := dk_192 0 38 (dk_at dksX5_failures_1 5 rfl rfl)
theorem dX5_failures_28 : decode cX5_failures 28 = .ok (.invokevirtual 123, 3) := dk_182 0 123 (dk_at dksX5_failures_1 8 rfl rfl)
theorem dX5_failures_31 : decode cX5_failures 31 = .ok (.istore 4, 2) := dk_54 4 (dk_at dksX5_failures_1 11 rfl rfl)
theorem dX5_failures_33 : decode cX5_failures 33 = .ok (.iload 4, 2) := dk_21 4 (dk_at dksX5_failures_1 13 rfl rfl)
theorem dX5_failures_35 : decode cX5_failures 35 = .ok (.iload_n 1, 1) := dk_27 (dk_at dksX5_failures_1 15 rfl rfl)
theorem dX5_failures_36 : decode cX5_failures 36 = .ok (.aload_n 0, 1) := dk_42 (dk_at dksX5_failures_1 16 rfl rfl)
theorem dX5_failures_37 : decode cX5_failures 37 = .ok (.getfield 59, 3) := dk_180 0 59 (dk_at dksX5_failures_1 17 rfl rfl)
theorem dX5_failures_40 : decode cX5_failures 40 = .ok (.isub, 1) := dk_100 (dk_at dksX5_failures_1 20 rfl rfl)
theorem dX5_failures_41 : decode cX5_failures 41 = .ok (.if_icmp .lt 6, 3) := dk_161 0 6 (dk_at dksX5_failures_1 21 rfl rfl)
theorem dX5_failures_44 : decode cX5_failures 44 = .ok (.iinc 2 1, 3) := dk_132 2 1 (dk_at dksX5_failures_2 0 rfl rfl)
theorem dX5_failures_47 : decode cX5_failures 47 = .ok (.goto (-37), 3) := dk_167 255 219 (dk_at dksX5_failures_2 3 rfl rfl)
theorem dX5_failures_50 : decode cX5_failures 50 = .ok (.iload_n 2, 1) := dk_28 (dk_at dksX5_failures_2 6 rfl rfl)
theorem dX5_failures_51 : decode cX5_failures 51 = .ok (.ireturn, 1) := dk_172 (dk_at dksX5_failures_2 7 rfl rfl)
abbrev cX5_forgets : ByteArray := prog_2_method_9_code
def yX5_forgets : MethodName := ⟨RX5, "forgets", "(LActorTrees$Actor;)V"⟩
def dkwX5_forgets_0 : List UInt8 := [42, 180, 0, 35, 43, 180, 0, 74, 182, 0, 148, 177]
abbrev dktX5_forgets_0 : List UInt8 := dkwX5_forgets_0 ++ []
theorem dksX5_forgets_0 : cX5_forgets.data.toList.drop 0 = dktX5_forgets_0 := by decide +kernel
theorem dX5_forgets_0 : decode cX5_forgets 0 = .ok (.aload_n 0, 1) := dk_42 (dk_at dksX5_forgets_0 0 rfl rfl)
theorem dX5_forgets_1 : decode cX5_forgets 1 = .ok (.getfield 35, 3) := dk_180 0 35 (dk_at dksX5_forgets_0 1 rfl rfl)
theorem dX5_forgets_4 : decode cX5_forgets 4 = .ok (.aload_n 1, 1) := dk_43 (dk_at dksX5_forgets_0 4 rfl rfl)
theorem dX5_forgets_5 : decode cX5_forgets 5 = .ok (.getfield 74, 3) := dk_180 0 74 (dk_at dksX5_forgets_0 5 rfl rfl)
theorem dX5_forgets_8 : decode cX5_forgets 8 = .ok (.invokevirtual 148, 3) := dk_182 0 148 (dk_at dksX5_forgets_0 8 rfl rfl)
theorem dX5_forgets_11 : decode cX5_forgets 11 = .ok (.return_, 1) := dk_177 (dk_at dksX5_forgets_0 11 rfl rfl)
abbrev cX5_stashes : ByteArray := prog_2_method_6_code
def yX5_stashes : MethodName := ⟨RX5, "stashes", "(LActorTrees$Message;)V"⟩
def dkwX5_stashes_0 : List UInt8 := [42, 180, 0, 32, 43, 182, 0, 103, 154, 0, 11, 187, 0, 107, 89, 183, 0, 109, 191, 177]
abbrev dktX5_stashes_0 : List UInt8 := dkwX5_stashes_0 ++ []
theorem dksX5_stashes_0 : cX5_stashes.data.toList.drop 0 = dktX5_stashes_0 := by decide +kernel
theorem dX5_stashes_0 : decode cX5_stashes 0 = .ok (.aload_n 0, 1) := dk_42 (dk_at dksX5_stashes_0 0 rfl rfl)
theorem dX5_stashes_1 : decode cX5_stashes 1 = .ok (.getfield 32, 3) := dk_180 0 32 (dk_at dksX5_stashes_0 1 rfl rfl)
theorem dX5_stashes_4 : decode cX5_stashes 4 = .ok (.aload_n 1, 1) := dk_43 (dk_at dksX5_stashes_0 4 rfl rfl)
theorem dX5_stashes_5 : decode cX5_stashes 5 = .ok (.invokevirtual 103, 3) := dk_182 0 103 (dk_at dksX5_stashes_0 5 rfl rfl)
theorem dX5_stashes_8 : decode cX5_stashes 8 = .ok (.ifCond .ne 11, 3) := dk_154 0 11 (dk_at dksX5_stashes_0 8 rfl rfl)
theorem dX5_stashes_11 : decode cX5_stashes 11 = .ok (.new 107, 3) := dk_187 0 107 (dk_at dksX5_stashes_0 11 rfl rfl)
theorem dX5_stashes_14 : decode cX5_stashes 14 = .ok (.dup, 1) := dk_89 (dk_at dksX5_stashes_0 14 rfl rfl)
theorem dX5_stashes_15 : decode cX5_stashes 15 = .ok (.invokespecial 109, 3) := dk_183 0 109 (dk_at dksX5_stashes_0 15 rfl rfl)
theorem dX5_stashes_18 : decode cX5_stashes 18 = .ok (.athrow, 1) := dk_191 (dk_at dksX5_stashes_0 18 rfl rfl)
theorem dX5_stashes_19 : decode cX5_stashes 19 = .ok (.return_, 1) := dk_177 (dk_at dksX5_stashes_0 19 rfl rfl)
abbrev cX5_goesBack : ByteArray := prog_2_method_5_code
def yX5_goesBack : MethodName := ⟨RX5, "goesBack", "()V"⟩
def dkwX5_goesBack_0 : List UInt8 := [42, 180, 0, 19, 4, 164, 0, 13, 42, 89, 180, 0, 19, 4, 100, 181, 0, 19, 177]
abbrev dktX5_goesBack_0 : List UInt8 := dkwX5_goesBack_0 ++ []
theorem dksX5_goesBack_0 : cX5_goesBack.data.toList.drop 0 = dktX5_goesBack_0 := by decide +kernel
theorem dX5_goesBack_0 : decode cX5_goesBack 0 = .ok (.aload_n 0, 1) := dk_42 (dk_at dksX5_goesBack_0 0 rfl rfl)
theorem dX5_goesBack_1 : decode cX5_goesBack 1 = .ok (.getfield 19, 3) := dk_180 0 19 (dk_at dksX5_goesBack_0 1 rfl rfl)
theorem dX5_goesBack_4 : decode cX5_goesBack 4 = .ok (.iconst 1, 1) := dk_4 (dk_at dksX5_goesBack_0 4 rfl rfl)
theorem dX5_goesBack_5 : decode cX5_goesBack 5 = .ok (.if_icmp .le 13, 3) := dk_164 0 13 (dk_at dksX5_goesBack_0 5 rfl rfl)
theorem dX5_goesBack_8 : decode cX5_goesBack 8 = .ok (.aload_n 0, 1) := dk_42 (dk_at dksX5_goesBack_0 8 rfl rfl)
theorem dX5_goesBack_9 : decode cX5_goesBack 9 = .ok (.dup, 1) := dk_89 (dk_at dksX5_goesBack_0 9 rfl rfl)
theorem dX5_goesBack_10 : decode cX5_goesBack 10 = .ok (.getfield 19, 3) := dk_180 0 19 (dk_at dksX5_goesBack_0 10 rfl rfl)
theorem dX5_goesBack_13 : decode cX5_goesBack 13 = .ok (.iconst 1, 1) := dk_4 (dk_at dksX5_goesBack_0 13 rfl rfl)
theorem dX5_goesBack_14 : decode cX5_goesBack 14 = .ok (.isub, 1) := dk_100 (dk_at dksX5_goesBack_0 14 rfl rfl)
theorem dX5_goesBack_15 : decode cX5_goesBack 15 = .ok (.putfield 19, 3) := dk_181 0 19 (dk_at dksX5_goesBack_0 15 rfl rfl)
theorem dX5_goesBack_18 : decode cX5_goesBack 18 = .ok (.return_, 1) := dk_177 (dk_at dksX5_goesBack_0 18 rfl rfl)
abbrev cX5_becomes : ByteArray := prog_2_method_4_code
def yX5_becomes : MethodName := ⟨RX5, "becomes", "(I)V"⟩
def dkwX5_becomes_1 : List UInt8 := [180, 0, 19, 4, 96, 181, 0, 19, 177]
abbrev dktX5_becomes_1 : List UInt8 := dkwX5_becomes_1 ++ []
def dkwX5_becomes_0 : List UInt8 := [42, 180, 0, 15, 42, 180, 0, 19, 27, 79, 167, 0, 12, 77, 187, 0, 100, 89, 183, 0, 102, 191, 42, 89]
abbrev dktX5_becomes_0 : List UInt8 := dkwX5_becomes_0 ++ dktX5_becomes_1
theorem dksX5_becomes_0 : cX5_becomes.data.toList.drop 0 = dktX5_becomes_0 := by decide +kernel
theorem dksX5_becomes_1 : cX5_becomes.data.toList.drop 24 = dktX5_becomes_1 := dk_seg dksX5_becomes_0 24 rfl rfl
theorem dX5_becomes_0 : decode cX5_becomes 0 = .ok (.aload_n 0, 1) := dk_42 (dk_at dksX5_becomes_0 0 rfl rfl)
theorem dX5_becomes_1 : decode cX5_becomes 1 = .ok (.getfield 15, 3) := dk_180 0 15 (dk_at dksX5_becomes_0 1 rfl rfl)
theorem dX5_becomes_4 : decode cX5_becomes 4 = .ok (.aload_n 0, 1) := dk_42 (dk_at dksX5_becomes_0 4 rfl rfl)
theorem dX5_becomes_5 : decode cX5_becomes 5 = .ok (.getfield 19, 3) := dk_180 0 19 (dk_at dksX5_becomes_0 5 rfl rfl)
theorem dX5_becomes_8 : decode cX5_becomes 8 = .ok (.iload_n 1, 1) := dk_27 (dk_at dksX5_becomes_0 8 rfl rfl)
theorem dX5_becomes_9 : decode cX5_becomes 9 = .ok (.iastore, 1) := dk_79 (dk_at dksX5_becomes_0 9 rfl rfl)
theorem dX5_becomes_10 : decode cX5_becomes 10 = .ok (.goto 12, 3) := dk_167 0 12 (dk_at dksX5_becomes_0 10 rfl rfl)
theorem dX5_becomes_13 : decode cX5_becomes 13 = .ok (.astore_n 2, 1) := dk_77 (dk_at dksX5_becomes_0 13 rfl rfl)
theorem dX5_becomes_14 : decode cX5_becomes 14 = .ok (.new 100, 3) := dk_187 0 100 (dk_at dksX5_becomes_0 14 rfl rfl)
theorem dX5_becomes_17 : decode cX5_becomes 17 = .ok (.dup, 1) := dk_89 (dk_at dksX5_becomes_0 17 rfl rfl)
theorem dX5_becomes_18 : decode cX5_becomes 18 = .ok (.invokespecial 102, 3) := dk_183 0 102 (dk_at dksX5_becomes_0 18 rfl rfl)
theorem dX5_becomes_21 : decode cX5_becomes 21 = .ok (.athrow, 1) := dk_191 (dk_at dksX5_becomes_0 21 rfl rfl)
theorem dX5_becomes_22 : decode cX5_becomes 22 = .ok (.aload_n 0, 1) := dk_42 (dk_at dksX5_becomes_0 22 rfl rfl)
theorem dX5_becomes_23 : decode cX5_becomes 23 = .ok (.dup, 1) := dk_89 (dk_at dksX5_becomes_0 23 rfl rfl)
theorem dX5_becomes_24 : decode cX5_becomes 24 = .ok (.getfield 19, 3) := dk_180 0 19 (dk_at dksX5_becomes_1 0 rfl rfl)
theorem dX5_becomes_27 : decode cX5_becomes 27 = .ok (.iconst 1, 1) := dk_4 (dk_at dksX5_becomes_1 3 rfl rfl)
theorem dX5_becomes_28 : decode cX5_becomes 28 = .ok (.iadd, 1) := dk_96 (dk_at dksX5_becomes_1 4 rfl rfl)
theorem dX5_becomes_29 : decode cX5_becomes 29 = .ok (.putfield 19, 3) := dk_181 0 19 (dk_at dksX5_becomes_1 5 rfl rfl)
theorem dX5_becomes_32 : decode cX5_becomes 32 = .ok (.return_, 1) := dk_177 (dk_at dksX5_becomes_1 8 rfl rfl)
abbrev cX5_isWatchedBy : ByteArray := prog_2_method_10_code
def yX5_isWatchedBy : MethodName := ⟨RX5, "isWatchedBy", "(I)Z"⟩
def dkwX5_isWatchedBy_1 : List UInt8 := [192, 0, 38, 182, 0, 123, 62, 29, 27, 160, 0, 5, 4, 172, 167, 255, 227, 3, 172]
abbrev dktX5_isWatchedBy_1 : List UInt8 := dkwX5_isWatchedBy_1 ++ []
def dkwX5_isWatchedBy_0 : List UInt8 := [42, 180, 0, 35, 182, 0, 135, 77, 44, 185, 0, 139, 1, 0, 153, 0, 26, 44, 185, 0, 145, 1, 0]
abbrev dktX5_isWatchedBy_0 : List UInt8 := dkwX5_isWatchedBy_0 ++ dktX5_isWatchedBy_1
theorem dksX5_isWatchedBy_0 : cX5_isWatchedBy.data.toList.drop 0 = dktX5_isWatchedBy_0 := by decide +kernel
theorem dksX5_isWatchedBy_1 : cX5_isWatchedBy.data.toList.drop 23 = dktX5_isWatchedBy_1 := dk_seg dksX5_isWatchedBy_0 23 rfl rfl
theorem dX5_isWatchedBy_0 : decode cX5_isWatchedBy 0 = .ok (.aload_n 0, 1) := dk_42 (dk_at dksX5_isWatchedBy_0 0 rfl rfl)
theorem dX5_isWatchedBy_1 : decode cX5_isWatchedBy 1 = .ok (.getfield 35, 3) := dk_180 0 35 (dk_at dksX5_isWatchedBy_0 1 rfl rfl)
theorem dX5_isWatchedBy_4 : decode cX5_isWatchedBy 4 = .ok (.invokevirtual 135, 3) := dk_182 0 135 (dk_at dksX5_isWatchedBy_0 4 rfl rfl)
theorem dX5_isWatchedBy_7 : decode cX5_isWatchedBy 7 = .ok (.astore_n 2, 1) := dk_77 (dk_at dksX5_isWatchedBy_0 7 rfl rfl)
theorem dX5_isWatchedBy_8 : decode cX5_isWatchedBy 8 = .ok (.aload_n 2, 1) := dk_44 (dk_at dksX5_isWatchedBy_0 8 rfl rfl)
theorem dX5_isWatchedBy_9 : decode cX5_isWatchedBy 9 = .ok (.invokeinterface 139 1, 5) := by decide +kernel
theorem dX5_isWatchedBy_14 : decode cX5_isWatchedBy 14 = .ok (.ifCond .eq 26, 3) := dk_153 0 26 (dk_at dksX5_isWatchedBy_0 14 rfl rfl)
theorem dX5_isWatchedBy_17 : decode cX5_isWatchedBy 17 = .ok (.aload_n 2, 1) := dk_44 (dk_at dksX5_isWatchedBy_0 17 rfl rfl)
theorem dX5_isWatchedBy_18 : decode cX5_isWatchedBy 18 = .ok (.invokeinterface 145 1, 5) := by decide +kernel
theorem dX5_isWatchedBy_23 : decode cX5_isWatchedBy 23 = .ok (.checkcast 38, 3) := dk_192 0 38 (dk_at dksX5_isWatchedBy_1 0 rfl rfl)
theorem dX5_isWatchedBy_26 : decode cX5_isWatchedBy 26 = .ok (.invokevirtual 123, 3) := dk_182 0 123 (dk_at dksX5_isWatchedBy_1 3 rfl rfl)
theorem dX5_isWatchedBy_29 : decode cX5_isWatchedBy 29 = .ok (.istore_n 3, 1) := dk_62 (dk_at dksX5_isWatchedBy_1 6 rfl rfl)
theorem dX5_isWatchedBy_30 : decode cX5_isWatchedBy 30 = .ok (.iload_n 3, 1) := dk_29 (dk_at dksX5_isWatchedBy_1 7 rfl rfl)
theorem dX5_isWatchedBy_31 : decode cX5_isWatchedBy 31 = .ok (.iload_n 1, 1) := dk_27 (dk_at dksX5_isWatchedBy_1 8 rfl rfl)
theorem dX5_isWatchedBy_32 : decode cX5_isWatchedBy 32 = .ok (.if_icmp .ne 5, 3) := dk_160 0 5 (dk_at dksX5_isWatchedBy_1 9 rfl rfl)
theorem dX5_isWatchedBy_35 : decode cX5_isWatchedBy 35 = .ok (.iconst 1, 1) := dk_4 (dk_at dksX5_isWatchedBy_1 12 rfl rfl)
theorem dX5_isWatchedBy_36 : decode cX5_isWatchedBy 36 = .ok (.ireturn, 1) := dk_172 (dk_at dksX5_isWatchedBy_1 13 rfl rfl)
theorem dX5_isWatchedBy_37 : decode cX5_isWatchedBy 37 = .ok (.goto (-29), 3) := dk_167 255 227 (dk_at dksX5_isWatchedBy_1 14 rfl rfl)
theorem dX5_isWatchedBy_40 : decode cX5_isWatchedBy 40 = .ok (.iconst 0, 1) := dk_3 (dk_at dksX5_isWatchedBy_1 17 rfl rfl)
theorem dX5_isWatchedBy_41 : decode cX5_isWatchedBy 41 = .ok (.ireturn, 1) := dk_172 (dk_at dksX5_isWatchedBy_1 18 rfl rfl)
abbrev cX5_notes : ByteArray := prog_2_method_7_code
def yX5_notes : MethodName := ⟨RX5, "notes", "(I)V"⟩
def dkwX5_notes_2 : List UInt8 := [180, 0, 41, 27, 184, 0, 131, 182, 0, 103, 87, 177]
abbrev dktX5_notes_2 : List UInt8 := dkwX5_notes_2 ++ []
def dkwX5_notes_1 : List UInt8 := [182, 0, 123, 27, 42, 180, 0, 59, 100, 162, 0, 14, 42, 180, 0, 41, 182, 0, 127, 87, 167, 255, 213, 42]
abbrev dktX5_notes_1 : List UInt8 := dkwX5_notes_1 ++ dktX5_notes_2
def dkwX5_notes_0 : List UInt8 := [42, 180, 0, 41, 180, 0, 110, 158, 0, 39, 42, 180, 0, 41, 180, 0, 113, 180, 0, 117, 192, 0, 38]
abbrev dktX5_notes_0 : List UInt8 := dkwX5_notes_0 ++ dktX5_notes_1
theorem dksX5_notes_0 : cX5_notes.data.toList.drop 0 = dktX5_notes_0 := by decide +kernel
theorem dksX5_notes_1 : cX5_notes.data.toList.drop 23 = dktX5_notes_1 := dk_seg dksX5_notes_0 23 rfl rfl
theorem dksX5_notes_2 : cX5_notes.data.toList.drop 47 = dktX5_notes_2 := dk_seg dksX5_notes_1 24 rfl rfl
theorem dX5_notes_0 : decode cX5_notes 0 = .ok (.aload_n 0, 1) := dk_42 (dk_at dksX5_notes_0 0 rfl rfl)
theorem dX5_notes_1 : decode cX5_notes 1 = .ok (.getfield 41, 3) := dk_180 0 41 (dk_at dksX5_notes_0 1 rfl rfl)
theorem dX5_notes_4 : decode cX5_notes 4 = .ok (.getfield 110, 3) := dk_180 0 110 (dk_at dksX5_notes_0 4 rfl rfl)
theorem dX5_notes_7 : decode cX5_notes 7 = .ok (.ifCond .le 39, 3) := dk_158 0 39 (dk_at dksX5_notes_0 7 rfl rfl)
theorem dX5_notes_10 : decode cX5_notes 10 = .ok (.aload_n 0, 1) := dk_42 (dk_at dksX5_notes_0 10 rfl rfl)
theorem dX5_notes_11 : decode cX5_notes 11 = .ok (.getfield 41, 3) := dk_180 0 41 (dk_at dksX5_notes_0 11 rfl rfl)
theorem dX5_notes_14 : decode cX5_notes 14 = .ok (.getfield 113, 3) := dk_180 0 113 (dk_at dksX5_notes_0 14 rfl rfl)
theorem dX5_notes_17 : decode cX5_notes 17 = .ok (.getfield 117, 3) := dk_180 0 117 (dk_at dksX5_notes_0 17 rfl rfl)
theorem dX5_notes_20 : decode cX5_notes 20 = .ok (.checkcast 38, 3) := dk_192 0 38 (dk_at dksX5_notes_0 20 rfl rfl)
theorem dX5_notes_23 : decode cX5_notes 23 = .ok (.invokevirtual 123, 3) := dk_182 0 123 (dk_at dksX5_notes_1 0 rfl rfl)
theorem dX5_notes_26 : decode cX5_notes 26 = .ok (.iload_n 1, 1) := dk_27 (dk_at dksX5_notes_1 3 rfl rfl)
theorem dX5_notes_27 : decode cX5_notes 27 = .ok (.aload_n 0, 1) := dk_42 (dk_at dksX5_notes_1 4 rfl rfl)
theorem dX5_notes_28 : decode cX5_notes 28 = .ok (.getfield 59, 3) := dk_180 0 59 (dk_at dksX5_notes_1 5 rfl rfl)
theorem dX5_notes_31 : decode cX5_notes 31 = .ok (.isub, 1) := dk_100 (dk_at dksX5_notes_1 8 rfl rfl)
theorem dX5_notes_32 : decode cX5_notes 32 = .ok (.if_icmp .ge 14, 3) := dk_162 0 14 (dk_at dksX5_notes_1 9 rfl rfl)
theorem dX5_notes_35 : decode cX5_notes 35 = .ok (.aload_n 0, 1) := dk_42 (dk_at dksX5_notes_1 12 rfl rfl)
theorem dX5_notes_36 : decode cX5_notes 36 = .ok (.getfield 41, 3) := dk_180 0 41 (dk_at dksX5_notes_1 13 rfl rfl)
theorem dX5_notes_39 : decode cX5_notes 39 = .ok (.invokevirtual 127, 3) := dk_182 0 127 (dk_at dksX5_notes_1 16 rfl rfl)
theorem dX5_notes_42 : decode cX5_notes 42 = .ok (.pop, 1) := dk_87 (dk_at dksX5_notes_1 19 rfl rfl)
theorem dX5_notes_43 : decode cX5_notes 43 = .ok (.goto (-43), 3) := dk_167 255 213 (dk_at dksX5_notes_1 20 rfl rfl)
theorem dX5_notes_46 : decode cX5_notes 46 = .ok (.aload_n 0, 1) := dk_42 (dk_at dksX5_notes_1 23 rfl rfl)
theorem dX5_notes_47 : decode cX5_notes 47 = .ok (.getfield 41, 3) := dk_180 0 41 (dk_at dksX5_notes_2 0 rfl rfl)
theorem dX5_notes_50 : decode cX5_notes 50 = .ok (.iload_n 1, 1) := dk_27 (dk_at dksX5_notes_2 3 rfl rfl)
theorem dX5_notes_51 : decode cX5_notes 51 = .ok (.invokestatic 131, 3) := dk_184 0 131 (dk_at dksX5_notes_2 4 rfl rfl)
theorem dX5_notes_54 : decode cX5_notes 54 = .ok (.invokevirtual 103, 3) := dk_182 0 103 (dk_at dksX5_notes_2 7 rfl rfl)
theorem dX5_notes_57 : decode cX5_notes 57 = .ok (.pop, 1) := dk_87 (dk_at dksX5_notes_2 10 rfl rfl)
theorem dX5_notes_58 : decode cX5_notes 58 = .ok (.return_, 1) := dk_177 (dk_at dksX5_notes_2 11 rfl rfl)
abbrev cX5_copy : ByteArray := prog_2_method_2_code
def yX5_copy : MethodName := ⟨RX5, "copy", "()LActorTrees$Actor;"⟩
def dkwX5_copy_4 : List UInt8 := [180, 0, 35, 42, 180, 0, 35, 182, 0, 94, 43, 180, 0, 41, 42, 180, 0, 41, 182, 0, 94, 43, 176]
abbrev dktX5_copy_4 : List UInt8 := dkwX5_copy_4 ++ []
def dkwX5_copy_3 : List UInt8 := [180, 0, 28, 42, 180, 0, 28, 182, 0, 94, 43, 180, 0, 32, 42, 180, 0, 32, 182, 0, 94, 43]
abbrev dktX5_copy_3 : List UInt8 := dkwX5_copy_3 ++ dktX5_copy_4
def dkwX5_copy_2 : List UInt8 := [42, 180, 0, 15, 3, 43, 180, 0, 15, 3, 8, 184, 0, 88, 43, 42, 180, 0, 19, 181, 0, 19, 43]
abbrev dktX5_copy_2 : List UInt8 := dkwX5_copy_2 ++ dktX5_copy_3
def dkwX5_copy_1 : List UInt8 := [42, 180, 0, 59, 183, 0, 82, 76, 43, 42, 180, 0, 9, 181, 0, 9, 43, 42, 180, 0, 85, 181, 0, 85]
abbrev dktX5_copy_1 : List UInt8 := dkwX5_copy_1 ++ dktX5_copy_2
def dkwX5_copy_0 : List UInt8 := [187, 0, 10, 89, 42, 180, 0, 44, 42, 180, 0, 47, 42, 180, 0, 50, 42, 180, 0, 53, 42, 180, 0, 56]
abbrev dktX5_copy_0 : List UInt8 := dkwX5_copy_0 ++ dktX5_copy_1
theorem dksX5_copy_0 : cX5_copy.data.toList.drop 0 = dktX5_copy_0 := by decide +kernel
theorem dksX5_copy_1 : cX5_copy.data.toList.drop 24 = dktX5_copy_1 := dk_seg dksX5_copy_0 24 rfl rfl
theorem dksX5_copy_2 : cX5_copy.data.toList.drop 48 = dktX5_copy_2 := dk_seg dksX5_copy_1 24 rfl rfl
theorem dksX5_copy_3 : cX5_copy.data.toList.drop 71 = dktX5_copy_3 := dk_seg dksX5_copy_2 23 rfl rfl
theorem dksX5_copy_4 : cX5_copy.data.toList.drop 93 = dktX5_copy_4 := dk_seg dksX5_copy_3 22 rfl rfl
theorem dX5_copy_0 : decode cX5_copy 0 = .ok (.new 10, 3) := dk_187 0 10 (dk_at dksX5_copy_0 0 rfl rfl)
theorem dX5_copy_3 : decode cX5_copy 3 = .ok (.dup, 1) := dk_89 (dk_at dksX5_copy_0 3 rfl rfl)
theorem dX5_copy_4 : decode cX5_copy 4 = .ok (.aload_n 0, 1) := dk_42 (dk_at dksX5_copy_0 4 rfl rfl)
theorem dX5_copy_5 : decode cX5_copy 5 = .ok (.getfield 44, 3) := dk_180 0 44 (dk_at dksX5_copy_0 5 rfl rfl)
theorem dX5_copy_8 : decode cX5_copy 8 = .ok (.aload_n 0, 1) := dk_42 (dk_at dksX5_copy_0 8 rfl rfl)
theorem dX5_copy_9 : decode cX5_copy 9 = .ok (.getfield 47, 3) := dk_180 0 47 (dk_at dksX5_copy_0 9 rfl rfl)
theorem dX5_copy_12 : decode cX5_copy 12 = .ok (.aload_n 0, 1) := dk_42 (dk_at dksX5_copy_0 12 rfl rfl)
theorem dX5_copy_13 : decode cX5_copy 13 = .ok (.getfield 50, 3) := dk_180 0 50 (dk_at dksX5_copy_0 13 rfl rfl)
theorem dX5_copy_16 : decode cX5_copy 16 = .ok (.aload_n 0, 1) := dk_42 (dk_at dksX5_copy_0 16 rfl rfl)
theorem dX5_copy_17 : decode cX5_copy 17 = .ok (.getfield 53, 3) := dk_180 0 53 (dk_at dksX5_copy_0 17 rfl rfl)
theorem dX5_copy_20 : decode cX5_copy 20 = .ok (.aload_n 0, 1) := dk_42 (dk_at dksX5_copy_0 20 rfl rfl)
theorem dX5_copy_21 : decode cX5_copy 21 = .ok (.getfield 56, 3) := dk_180 0 56 (dk_at dksX5_copy_0 21 rfl rfl)
theorem dX5_copy_24 : decode cX5_copy 24 = .ok (.aload_n 0, 1) := dk_42 (dk_at dksX5_copy_1 0 rfl rfl)
theorem dX5_copy_25 : decode cX5_copy 25 = .ok (.getfield 59, 3) := dk_180 0 59 (dk_at dksX5_copy_1 1 rfl rfl)
theorem dX5_copy_28 : decode cX5_copy 28 = .ok (.invokespecial 82, 3) := dk_183 0 82 (dk_at dksX5_copy_1 4 rfl rfl)
theorem dX5_copy_31 : decode cX5_copy 31 = .ok (.astore_n 1, 1) := dk_76 (dk_at dksX5_copy_1 7 rfl rfl)
theorem dX5_copy_32 : decode cX5_copy 32 = .ok (.aload_n 1, 1) := dk_43 (dk_at dksX5_copy_1 8 rfl rfl)
theorem dX5_copy_33 : decode cX5_copy 33 = .ok (.aload_n 0, 1) := dk_42 (dk_at dksX5_copy_1 9 rfl rfl)
theorem dX5_copy_34 : decode cX5_copy 34 = .ok (.getfield 9, 3) := dk_180 0 9 (dk_at dksX5_copy_1 10 rfl rfl)
theorem dX5_copy_37 : decode cX5_copy 37 = .ok (.putfield 9, 3) := dk_181 0 9 (dk_at dksX5_copy_1 13 rfl rfl)
theorem dX5_copy_40 : decode cX5_copy 40 = .ok (.aload_n 1, 1) := dk_43 (dk_at dksX5_copy_1 16 rfl rfl)
theorem dX5_copy_41 : decode cX5_copy 41 = .ok (.aload_n 0, 1) := dk_42 (dk_at dksX5_copy_1 17 rfl rfl)
theorem dX5_copy_42 : decode cX5_copy 42 = .ok (.getfield 85, 3) := dk_180 0 85 (dk_at dksX5_copy_1 18 rfl rfl)
theorem dX5_copy_45 : decode cX5_copy 45 = .ok (.putfield 85, 3) := dk_181 0 85 (dk_at dksX5_copy_1 21 rfl rfl)
theorem dX5_copy_48 : decode cX5_copy 48 = .ok (.aload_n 0, 1) := dk_42 (dk_at dksX5_copy_2 0 rfl rfl)
theorem dX5_copy_49 : decode cX5_copy 49 = .ok (.getfield 15, 3) := dk_180 0 15 (dk_at dksX5_copy_2 1 rfl rfl)
theorem dX5_copy_52 : decode cX5_copy 52 = .ok (.iconst 0, 1) := dk_3 (dk_at dksX5_copy_2 4 rfl rfl)
theorem dX5_copy_53 : decode cX5_copy 53 = .ok (.aload_n 1, 1) := dk_43 (dk_at dksX5_copy_2 5 rfl rfl)
theorem dX5_copy_54 : decode cX5_copy 54 = .ok (.getfield 15, 3) := dk_180 0 15 (dk_at dksX5_copy_2 6 rfl rfl)
theorem dX5_copy_57 : decode cX5_copy 57 = .ok (.iconst 0, 1) := dk_3 (dk_at dksX5_copy_2 9 rfl rfl)
theorem dX5_copy_58 : decode cX5_copy 58 = .ok (.iconst 5, 1) := dk_8 (dk_at dksX5_copy_2 10 rfl rfl)
theorem dX5_copy_59 : decode cX5_copy 59 = .ok (.invokestatic 88, 3) := dk_184 0 88 (dk_at dksX5_copy_2 11 rfl rfl)
theorem dX5_copy_62 : decode cX5_copy 62 = .ok (.aload_n 1, 1) := dk_43 (dk_at dksX5_copy_2 14 rfl rfl)
theorem dX5_copy_63 : decode cX5_copy 63 = .ok (.aload_n 0, 1) := dk_42 (dk_at dksX5_copy_2 15 rfl rfl)
theorem dX5_copy_64 : decode cX5_copy 64 = .ok (.getfield 19, 3) := dk_180 0 19 (dk_at dksX5_copy_2 16 rfl rfl)
theorem dX5_copy_67 : decode cX5_copy 67 = .ok (.putfield 19, 3) := dk_181 0 19 (dk_at dksX5_copy_2 19 rfl rfl)
theorem dX5_copy_70 : decode cX5_copy 70 = .ok (.aload_n 1, 1) := dk_43 (dk_at dksX5_copy_2 22 rfl rfl)
theorem dX5_copy_71 : decode cX5_copy 71 = .ok (.getfield 28, 3) := dk_180 0 28 (dk_at dksX5_copy_3 0 rfl rfl)
theorem dX5_copy_74 : decode cX5_copy 74 = .ok (.aload_n 0, 1) := dk_42 (dk_at dksX5_copy_3 3 rfl rfl)
theorem dX5_copy_75 : decode cX5_copy 75 = .ok (.getfield 28, 3) := dk_180 0 28 (dk_at dksX5_copy_3 4 rfl rfl)
theorem dX5_copy_78 : decode cX5_copy 78 = .ok (.invokevirtual 94, 3) := dk_182 0 94 (dk_at dksX5_copy_3 7 rfl rfl)
theorem dX5_copy_81 : decode cX5_copy 81 = .ok (.aload_n 1, 1) := dk_43 (dk_at dksX5_copy_3 10 rfl rfl)
theorem dX5_copy_82 : decode cX5_copy 82 = .ok (.getfield 32, 3) := dk_180 0 32 (dk_at dksX5_copy_3 11 rfl rfl)
theorem dX5_copy_85 : decode cX5_copy 85 = .ok (.aload_n 0, 1) := dk_42 (dk_at dksX5_copy_3 14 rfl rfl)
theorem dX5_copy_86 : decode cX5_copy 86 = .ok (.getfield 32, 3) := dk_180 0 32 (dk_at dksX5_copy_3 15 rfl rfl)
theorem dX5_copy_89 : decode cX5_copy 89 = .ok (.invokevirtual 94, 3) := dk_182 0 94 (dk_at dksX5_copy_3 18 rfl rfl)
theorem dX5_copy_92 : decode cX5_copy 92 = .ok (.aload_n 1, 1) := dk_43 (dk_at dksX5_copy_3 21 rfl rfl)
theorem dX5_copy_93 : decode cX5_copy 93 = .ok (.getfield 35, 3) := dk_180 0 35 (dk_at dksX5_copy_4 0 rfl rfl)
theorem dX5_copy_96 : decode cX5_copy 96 = .ok (.aload_n 0, 1) := dk_42 (dk_at dksX5_copy_4 3 rfl rfl)
theorem dX5_copy_97 : decode cX5_copy 97 = .ok (.getfield 35, 3) := dk_180 0 35 (dk_at dksX5_copy_4 4 rfl rfl)
theorem dX5_copy_100 : decode cX5_copy 100 = .ok (.invokevirtual 94, 3) := dk_182 0 94 (dk_at dksX5_copy_4 7 rfl rfl)
theorem dX5_copy_103 : decode cX5_copy 103 = .ok (.aload_n 1, 1) := dk_43 (dk_at dksX5_copy_4 10 rfl rfl)
theorem dX5_copy_104 : decode cX5_copy 104 = .ok (.getfield 41, 3) := dk_180 0 41 (dk_at dksX5_copy_4 11 rfl rfl)
theorem dX5_copy_107 : decode cX5_copy 107 = .ok (.aload_n 0, 1) := dk_42 (dk_at dksX5_copy_4 14 rfl rfl)
theorem dX5_copy_108 : decode cX5_copy 108 = .ok (.getfield 41, 3) := dk_180 0 41 (dk_at dksX5_copy_4 15 rfl rfl)
theorem dX5_copy_111 : decode cX5_copy 111 = .ok (.invokevirtual 94, 3) := dk_182 0 94 (dk_at dksX5_copy_4 18 rfl rfl)
theorem dX5_copy_114 : decode cX5_copy 114 = .ok (.aload_n 1, 1) := dk_43 (dk_at dksX5_copy_4 21 rfl rfl)
theorem dX5_copy_115 : decode cX5_copy 115 = .ok (.areturn, 1) := dk_176 (dk_at dksX5_copy_4 22 rfl rfl)
theorem q79 : (Jvm.Cond.initialized "ActorTrees$Actor") ∈ lw_all := lw_g (lw_at lw_m1 6 rfl) rfl
theorem q132 : (Jvm.Cond.fieldLinkNest "ActorTrees$Actor" (113 : Nat) "ActorTrees$Queue" "first" "LActorTrees$Queue$Cell;" "ActorTrees") ∈ lw_tbl := lw_at lw_m1 59 rfl
theorem q136 : (Jvm.Cond.fieldLinkNest "ActorTrees$Actor" (110 : Nat) "ActorTrees$Queue" "many" "I" "ActorTrees") ∈ lw_tbl := lw_at lw_m1 63 rfl
theorem q256 : (Jvm.Cond.instantiable "ActorTrees$Actor" (17 : Nat)) ∈ lw_all := lw_g (lw_at lw_m1 183 rfl) rfl
theorem q258 : (Jvm.Cond.instanceMethod ({ cls := "ActorTrees$Actor", name := "<init>", desc := "(IIIIII)V" } : Jvm.MethodName)) ∈ lw_all := lw_g (lw_at lw_m1 185 rfl) rfl
theorem q259 : (Jvm.Cond.code ({ cls := "ActorTrees$Actor", name := "<init>", desc := "(IIIIII)V" } : Jvm.MethodName) prog_2_method_1_code (7 : Nat) (Option.none : Option Jvm.ClassFile.FieldType)) ∈ lw_all := lw_g (lw_at lw_m1 186 rfl) rfl
theorem q260 : (Jvm.Cond.methodLink "ActorTrees$Actor" (3 : Nat) ({ cls := "java/lang/Object", name := "<init>", desc := "()V" } : Jvm.MethodName)) ∈ lw_all := lw_g (lw_at lw_m1 187 rfl) rfl
theorem q261 : (Jvm.Cond.classLink "ActorTrees$Actor" (23 : Nat) "ActorTrees$Queue") ∈ lw_all := lw_g (lw_at lw_m1 188 rfl) rfl
theorem q262 : (Jvm.Cond.methodLink "ActorTrees$Actor" (25 : Nat) ({ cls := "ActorTrees$Queue", name := "<init>", desc := "(I)V" } : Jvm.MethodName)) ∈ lw_all := lw_g (lw_at lw_m1 189 rfl) rfl
theorem q263 : (Jvm.Cond.constant "ActorTrees$Actor" (40 : Nat) (2147483647 : Int32)) ∈ lw_all := lw_g (lw_at lw_m1 190 rfl) rfl
theorem q264 : (Jvm.Cond.methodLinkNest "ActorTrees$Actor" (62 : Nat) ({ cls := "ActorTrees", name := "strategyOf", desc := "(I)LActorTrees$Strategy;" } : Jvm.MethodName) "ActorTrees") ∈ lw_tbl := lw_at lw_m1 191 rfl
theorem q273 : (Jvm.Cond.static ({ cls := "ActorTrees$Actor", name := "lambda$new$0", desc := "(ILjava/lang/Integer;)Z" } : Jvm.MethodName)) ∈ lw_all := lw_g (lw_at lw_m1 200 rfl) rfl
theorem q274 : (Jvm.Cond.code ({ cls := "ActorTrees$Actor", name := "lambda$new$0", desc := "(ILjava/lang/Integer;)Z" } : Jvm.MethodName) prog_2_method_12_code (2 : Nat) (Option.some Jvm.ClassFile.FieldType.boolean)) ∈ lw_all := lw_g (lw_at lw_m1 201 rfl) rfl
theorem q275 : (Jvm.Cond.methodLink "ActorTrees$Actor" (123 : Nat) ({ cls := "java/lang/Integer", name := "intValue", desc := "()I" } : Jvm.MethodName)) ∈ lw_all := lw_g (lw_at lw_m1 202 rfl) rfl
theorem q279 : (Jvm.Cond.static ({ cls := "ActorTrees$Actor", name := "lambda$new$1", desc := "(ILActorTrees$Timer;)Z" } : Jvm.MethodName)) ∈ lw_all := lw_g (lw_at lw_m1 206 rfl) rfl
theorem q280 : (Jvm.Cond.code ({ cls := "ActorTrees$Actor", name := "lambda$new$1", desc := "(ILActorTrees$Timer;)Z" } : Jvm.MethodName) prog_2_method_11_code (2 : Nat) (Option.some Jvm.ClassFile.FieldType.boolean)) ∈ lw_all := lw_g (lw_at lw_m1 207 rfl) rfl
theorem q281 : (Jvm.Cond.fieldLink "ActorTrees$Actor" (44 : Nat) "ActorTrees$Actor" "number" "I") ∈ lw_all := lw_g (lw_at lw_m1 208 rfl) rfl
theorem q284 : (Jvm.Cond.fieldLink "ActorTrees$Actor" (47 : Nat) "ActorTrees$Actor" "parent" "I") ∈ lw_all := lw_g (lw_at lw_m1 211 rfl) rfl
theorem q288 : (Jvm.Cond.fieldLink "ActorTrees$Actor" (50 : Nat) "ActorTrees$Actor" "own" "I") ∈ lw_all := lw_g (lw_at lw_m1 215 rfl) rfl
theorem q290 : (Jvm.Cond.fieldLink "ActorTrees$Actor" (53 : Nat) "ActorTrees$Actor" "strategy" "I") ∈ lw_all := lw_g (lw_at lw_m1 217 rfl) rfl
theorem q292 : (Jvm.Cond.fieldLink "ActorTrees$Actor" (66 : Nat) "ActorTrees$Actor" "how" "LActorTrees$Strategy;") ∈ lw_all := lw_g (lw_at lw_m1 219 rfl) rfl
theorem q294 : (Jvm.Cond.fieldLink "ActorTrees$Actor" (56 : Nat) "ActorTrees$Actor" "budget" "I") ∈ lw_all := lw_g (lw_at lw_m1 221 rfl) rfl
theorem q297 : (Jvm.Cond.fieldLink "ActorTrees$Actor" (59 : Nat) "ActorTrees$Actor" "window" "I") ∈ lw_all := lw_g (lw_at lw_m1 224 rfl) rfl
theorem q299 : (Jvm.Cond.fieldLink "ActorTrees$Actor" (9 : Nat) "ActorTrees$Actor" "live" "Z") ∈ lw_all := lw_g (lw_at lw_m1 226 rfl) rfl
theorem q303 : (Jvm.Cond.fieldLink "ActorTrees$Actor" (85 : Nat) "ActorTrees$Actor" "count" "I") ∈ lw_all := lw_g (lw_at lw_m1 230 rfl) rfl
theorem q307 : (Jvm.Cond.fieldLink "ActorTrees$Actor" (15 : Nat) "ActorTrees$Actor" "stack" "[I") ∈ lw_all := lw_g (lw_at lw_m1 234 rfl) rfl
theorem q309 : (Jvm.Cond.fieldLink "ActorTrees$Actor" (19 : Nat) "ActorTrees$Actor" "stacked" "I") ∈ lw_all := lw_g (lw_at lw_m1 236 rfl) rfl
theorem q312 : (Jvm.Cond.fieldLink "ActorTrees$Actor" (28 : Nat) "ActorTrees$Actor" "mails" "LActorTrees$Queue;") ∈ lw_all := lw_g (lw_at lw_m1 239 rfl) rfl
theorem q315 : (Jvm.Cond.fieldLink "ActorTrees$Actor" (32 : Nat) "ActorTrees$Actor" "stash" "LActorTrees$Queue;") ∈ lw_all := lw_g (lw_at lw_m2 2 rfl) rfl
theorem q318 : (Jvm.Cond.fieldLink "ActorTrees$Actor" (35 : Nat) "ActorTrees$Actor" "watchers" "LActorTrees$Queue;") ∈ lw_all := lw_g (lw_at lw_m2 5 rfl) rfl
theorem q322 : (Jvm.Cond.fieldLink "ActorTrees$Actor" (41 : Nat) "ActorTrees$Actor" "noted" "LActorTrees$Queue;") ∈ lw_all := lw_g (lw_at lw_m2 9 rfl) rfl
theorem q324 : (Jvm.Cond.fieldLink "ActorTrees$Actor" (74 : Nat) "ActorTrees$Actor" "isOwn" "LActorTrees$Test;") ∈ lw_all := lw_g (lw_at lw_m2 11 rfl) rfl
theorem q325 : (Jvm.Cond.fieldLink "ActorTrees$Actor" (79 : Nat) "ActorTrees$Actor" "isOwnTimer" "LActorTrees$Test;") ∈ lw_all := lw_g (lw_at lw_m2 12 rfl) rfl
theorem q327 : (Jvm.Cond.laysFinal "ActorTrees$Actor" "ActorTrees$Actor" "number" "I") ∈ lw_all := lw_g (lw_at lw_m2 14 rfl) rfl
theorem q328 : (Jvm.Cond.soleField "ActorTrees$Actor" "number") ∈ lw_all := lw_g (lw_at lw_m2 15 rfl) rfl
theorem q329 : (Jvm.Cond.laysFinal "ActorTrees$Actor" "ActorTrees$Actor" "parent" "I") ∈ lw_all := lw_g (lw_at lw_m2 16 rfl) rfl
theorem q330 : (Jvm.Cond.soleField "ActorTrees$Actor" "parent") ∈ lw_all := lw_g (lw_at lw_m2 17 rfl) rfl
theorem q331 : (Jvm.Cond.laysFinal "ActorTrees$Actor" "ActorTrees$Actor" "own" "I") ∈ lw_all := lw_g (lw_at lw_m2 18 rfl) rfl
theorem q332 : (Jvm.Cond.soleField "ActorTrees$Actor" "own") ∈ lw_all := lw_g (lw_at lw_m2 19 rfl) rfl
theorem q333 : (Jvm.Cond.laysFinal "ActorTrees$Actor" "ActorTrees$Actor" "strategy" "I") ∈ lw_all := lw_g (lw_at lw_m2 20 rfl) rfl
theorem q334 : (Jvm.Cond.soleField "ActorTrees$Actor" "strategy") ∈ lw_all := lw_g (lw_at lw_m2 21 rfl) rfl
theorem q335 : (Jvm.Cond.laysFinal "ActorTrees$Actor" "ActorTrees$Actor" "how" "LActorTrees$Strategy;") ∈ lw_all := lw_g (lw_at lw_m2 22 rfl) rfl
theorem q336 : (Jvm.Cond.soleField "ActorTrees$Actor" "how") ∈ lw_all := lw_g (lw_at lw_m2 23 rfl) rfl
theorem q337 : (Jvm.Cond.laysFinal "ActorTrees$Actor" "ActorTrees$Actor" "budget" "I") ∈ lw_all := lw_g (lw_at lw_m2 24 rfl) rfl
theorem q338 : (Jvm.Cond.soleField "ActorTrees$Actor" "budget") ∈ lw_all := lw_g (lw_at lw_m2 25 rfl) rfl
theorem q339 : (Jvm.Cond.laysFinal "ActorTrees$Actor" "ActorTrees$Actor" "window" "I") ∈ lw_all := lw_g (lw_at lw_m2 26 rfl) rfl
theorem q340 : (Jvm.Cond.soleField "ActorTrees$Actor" "window") ∈ lw_all := lw_g (lw_at lw_m2 27 rfl) rfl
theorem q341 : (Jvm.Cond.lays "ActorTrees$Actor" "ActorTrees$Actor" "live" "Z") ∈ lw_all := lw_g (lw_at lw_m2 28 rfl) rfl
theorem q342 : (Jvm.Cond.soleField "ActorTrees$Actor" "live") ∈ lw_all := lw_g (lw_at lw_m2 29 rfl) rfl
theorem q343 : (Jvm.Cond.lays "ActorTrees$Actor" "ActorTrees$Actor" "count" "I") ∈ lw_all := lw_g (lw_at lw_m2 30 rfl) rfl
theorem q344 : (Jvm.Cond.soleField "ActorTrees$Actor" "count") ∈ lw_all := lw_g (lw_at lw_m2 31 rfl) rfl
theorem q345 : (Jvm.Cond.laysFinal "ActorTrees$Actor" "ActorTrees$Actor" "stack" "[I") ∈ lw_all := lw_g (lw_at lw_m2 32 rfl) rfl
theorem q346 : (Jvm.Cond.soleField "ActorTrees$Actor" "stack") ∈ lw_all := lw_g (lw_at lw_m2 33 rfl) rfl
theorem q347 : (Jvm.Cond.lays "ActorTrees$Actor" "ActorTrees$Actor" "stacked" "I") ∈ lw_all := lw_g (lw_at lw_m2 34 rfl) rfl
theorem q348 : (Jvm.Cond.soleField "ActorTrees$Actor" "stacked") ∈ lw_all := lw_g (lw_at lw_m2 35 rfl) rfl
theorem q349 : (Jvm.Cond.laysFinal "ActorTrees$Actor" "ActorTrees$Actor" "mails" "LActorTrees$Queue;") ∈ lw_all := lw_g (lw_at lw_m2 36 rfl) rfl
theorem q350 : (Jvm.Cond.soleField "ActorTrees$Actor" "mails") ∈ lw_all := lw_g (lw_at lw_m2 37 rfl) rfl
theorem q351 : (Jvm.Cond.laysFinal "ActorTrees$Actor" "ActorTrees$Actor" "stash" "LActorTrees$Queue;") ∈ lw_all := lw_g (lw_at lw_m2 38 rfl) rfl
theorem q352 : (Jvm.Cond.soleField "ActorTrees$Actor" "stash") ∈ lw_all := lw_g (lw_at lw_m2 39 rfl) rfl
theorem q353 : (Jvm.Cond.laysFinal "ActorTrees$Actor" "ActorTrees$Actor" "watchers" "LActorTrees$Queue;") ∈ lw_all := lw_g (lw_at lw_m2 40 rfl) rfl
theorem q354 : (Jvm.Cond.soleField "ActorTrees$Actor" "watchers") ∈ lw_all := lw_g (lw_at lw_m2 41 rfl) rfl
theorem q355 : (Jvm.Cond.laysFinal "ActorTrees$Actor" "ActorTrees$Actor" "noted" "LActorTrees$Queue;") ∈ lw_all := lw_g (lw_at lw_m2 42 rfl) rfl
theorem q356 : (Jvm.Cond.soleField "ActorTrees$Actor" "noted") ∈ lw_all := lw_g (lw_at lw_m2 43 rfl) rfl
theorem q357 : (Jvm.Cond.laysFinal "ActorTrees$Actor" "ActorTrees$Actor" "isOwn" "LActorTrees$Test;") ∈ lw_all := lw_g (lw_at lw_m2 44 rfl) rfl
theorem q358 : (Jvm.Cond.soleField "ActorTrees$Actor" "isOwn") ∈ lw_all := lw_g (lw_at lw_m2 45 rfl) rfl
theorem q359 : (Jvm.Cond.laysFinal "ActorTrees$Actor" "ActorTrees$Actor" "isOwnTimer" "LActorTrees$Test;") ∈ lw_all := lw_g (lw_at lw_m2 46 rfl) rfl
theorem q360 : (Jvm.Cond.soleField "ActorTrees$Actor" "isOwnTimer") ∈ lw_all := lw_g (lw_at lw_m2 47 rfl) rfl
theorem q361 : (Jvm.Cond.superclass "ActorTrees$Actor" "java/lang/Object") ∈ lw_all := lw_g (lw_at lw_m2 48 rfl) rfl
theorem q407 : (Jvm.Cond.fieldLinkNest "ActorTrees$Actor" (117 : Nat) "ActorTrees$Queue$Cell" "thing" "Ljava/lang/Object;" "ActorTrees") ∈ lw_tbl := lw_at lw_m2 94 rfl
theorem q427 : (Jvm.Cond.instanceMethod ({ cls := "ActorTrees$Actor", name := "does", desc := "()I" } : Jvm.MethodName)) ∈ lw_all := lw_g (lw_at lw_m2 114 rfl) rfl
theorem q428 : (Jvm.Cond.selects "ActorTrees$Actor" ({ cls := "ActorTrees$Actor", name := "does", desc := "()I" } : Jvm.MethodName) ({ cls := "ActorTrees$Actor", name := "does", desc := "()I" } : Jvm.MethodName)) ∈ lw_all := lw_g (lw_at lw_m2 115 rfl) rfl
theorem q429 : (Jvm.Cond.code ({ cls := "ActorTrees$Actor", name := "does", desc := "()I" } : Jvm.MethodName) prog_2_method_3_code (1 : Nat) (Option.some Jvm.ClassFile.FieldType.int)) ∈ lw_all := lw_g (lw_at lw_m2 116 rfl) rfl
theorem q472 : (Jvm.Cond.instanceMethod ({ cls := "ActorTrees$Actor", name := "failures", desc := "(I)I" } : Jvm.MethodName)) ∈ lw_all := lw_g (lw_at lw_m2 159 rfl) rfl
theorem q473 : (Jvm.Cond.selects "ActorTrees$Actor" ({ cls := "ActorTrees$Actor", name := "failures", desc := "(I)I" } : Jvm.MethodName) ({ cls := "ActorTrees$Actor", name := "failures", desc := "(I)I" } : Jvm.MethodName)) ∈ lw_all := lw_g (lw_at lw_m2 160 rfl) rfl
theorem q474 : (Jvm.Cond.code ({ cls := "ActorTrees$Actor", name := "failures", desc := "(I)I" } : Jvm.MethodName) prog_2_method_8_code (5 : Nat) (Option.some Jvm.ClassFile.FieldType.int)) ∈ lw_all := lw_g (lw_at lw_m2 161 rfl) rfl
theorem q475 : (Jvm.Cond.methodLink "ActorTrees$Actor" (135 : Nat) ({ cls := "ActorTrees$Queue", name := "iterator", desc := "()Ljava/util/Iterator;" } : Jvm.MethodName)) ∈ lw_all := lw_g (lw_at lw_m2 162 rfl) rfl
theorem q476 : (Jvm.Cond.interfaceEntry "ActorTrees$Actor" (139 : Nat)) ∈ lw_tbl := lw_at lw_m2 163 rfl
theorem q477 : (Jvm.Cond.methodLink "ActorTrees$Actor" (139 : Nat) ({ cls := "java/util/Iterator", name := "hasNext", desc := "()Z" } : Jvm.MethodName)) ∈ lw_all := lw_g (lw_at lw_m2 164 rfl) rfl
theorem q478 : (Jvm.Cond.interfaceEntry "ActorTrees$Actor" (145 : Nat)) ∈ lw_tbl := lw_at lw_m2 165 rfl
theorem q479 : (Jvm.Cond.methodLink "ActorTrees$Actor" (145 : Nat) ({ cls := "java/util/Iterator", name := "next", desc := "()Ljava/lang/Object;" } : Jvm.MethodName)) ∈ lw_all := lw_g (lw_at lw_m2 166 rfl) rfl
theorem q480 : (Jvm.Cond.classLink "ActorTrees$Actor" (38 : Nat) "java/lang/Integer") ∈ lw_all := lw_g (lw_at lw_m2 167 rfl) rfl
theorem q663 : (Jvm.Cond.instanceMethod ({ cls := "ActorTrees$Actor", name := "forgets", desc := "(LActorTrees$Actor;)V" } : Jvm.MethodName)) ∈ lw_all := lw_g (lw_at lw_m3 110 rfl) rfl
theorem q664 : (Jvm.Cond.selects "ActorTrees$Actor" ({ cls := "ActorTrees$Actor", name := "forgets", desc := "(LActorTrees$Actor;)V" } : Jvm.MethodName) ({ cls := "ActorTrees$Actor", name := "forgets", desc := "(LActorTrees$Actor;)V" } : Jvm.MethodName)) ∈ lw_all := lw_g (lw_at lw_m3 111 rfl) rfl
theorem q665 : (Jvm.Cond.code ({ cls := "ActorTrees$Actor", name := "forgets", desc := "(LActorTrees$Actor;)V" } : Jvm.MethodName) prog_2_method_9_code (2 : Nat) (Option.none : Option Jvm.ClassFile.FieldType)) ∈ lw_all := lw_g (lw_at lw_m3 112 rfl) rfl
theorem q666 : (Jvm.Cond.methodLink "ActorTrees$Actor" (148 : Nat) ({ cls := "ActorTrees$Queue", name := "drops", desc := "(LActorTrees$Test;)V" } : Jvm.MethodName)) ∈ lw_all := lw_g (lw_at lw_m3 113 rfl) rfl
theorem q784 : (Jvm.Cond.instanceMethod ({ cls := "ActorTrees$Actor", name := "stashes", desc := "(LActorTrees$Message;)V" } : Jvm.MethodName)) ∈ lw_all := lw_g (lw_at lw_m3 231 rfl) rfl
theorem q785 : (Jvm.Cond.selects "ActorTrees$Actor" ({ cls := "ActorTrees$Actor", name := "stashes", desc := "(LActorTrees$Message;)V" } : Jvm.MethodName) ({ cls := "ActorTrees$Actor", name := "stashes", desc := "(LActorTrees$Message;)V" } : Jvm.MethodName)) ∈ lw_all := lw_g (lw_at lw_m3 232 rfl) rfl
theorem q786 : (Jvm.Cond.code ({ cls := "ActorTrees$Actor", name := "stashes", desc := "(LActorTrees$Message;)V" } : Jvm.MethodName) prog_2_method_6_code (2 : Nat) (Option.none : Option Jvm.ClassFile.FieldType)) ∈ lw_all := lw_g (lw_at lw_m3 233 rfl) rfl
theorem q787 : (Jvm.Cond.methodLink "ActorTrees$Actor" (103 : Nat) ({ cls := "ActorTrees$Queue", name := "puts", desc := "(Ljava/lang/Object;)Z" } : Jvm.MethodName)) ∈ lw_all := lw_g (lw_at lw_m3 234 rfl) rfl
theorem q788 : (Jvm.Cond.classLink "ActorTrees$Actor" (107 : Nat) "ActorTrees$StashFull") ∈ lw_all := lw_g (lw_at lw_m3 235 rfl) rfl
theorem q798 : (Jvm.Cond.methodLinkNest "ActorTrees$Actor" (109 : Nat) ({ cls := "ActorTrees$StashFull", name := "<init>", desc := "()V" } : Jvm.MethodName) "ActorTrees") ∈ lw_tbl := lw_at lw_m4 5 rfl
theorem q829 : (Jvm.Cond.instanceMethod ({ cls := "ActorTrees$Actor", name := "goesBack", desc := "()V" } : Jvm.MethodName)) ∈ lw_all := lw_g (lw_at lw_m4 36 rfl) rfl
theorem q830 : (Jvm.Cond.selects "ActorTrees$Actor" ({ cls := "ActorTrees$Actor", name := "goesBack", desc := "()V" } : Jvm.MethodName) ({ cls := "ActorTrees$Actor", name := "goesBack", desc := "()V" } : Jvm.MethodName)) ∈ lw_all := lw_g (lw_at lw_m4 37 rfl) rfl
theorem q831 : (Jvm.Cond.code ({ cls := "ActorTrees$Actor", name := "goesBack", desc := "()V" } : Jvm.MethodName) prog_2_method_5_code (1 : Nat) (Option.none : Option Jvm.ClassFile.FieldType)) ∈ lw_all := lw_g (lw_at lw_m4 38 rfl) rfl
theorem q833 : (Jvm.Cond.instanceMethod ({ cls := "ActorTrees$Actor", name := "becomes", desc := "(I)V" } : Jvm.MethodName)) ∈ lw_all := lw_g (lw_at lw_m4 40 rfl) rfl
theorem q834 : (Jvm.Cond.selects "ActorTrees$Actor" ({ cls := "ActorTrees$Actor", name := "becomes", desc := "(I)V" } : Jvm.MethodName) ({ cls := "ActorTrees$Actor", name := "becomes", desc := "(I)V" } : Jvm.MethodName)) ∈ lw_all := lw_g (lw_at lw_m4 41 rfl) rfl
theorem q835 : (Jvm.Cond.codeWith ({ cls := "ActorTrees$Actor", name := "becomes", desc := "(I)V" } : Jvm.MethodName) prog_2_method_4_code (3 : Nat) (Option.none : Option Jvm.ClassFile.FieldType) [((0 : Nat), (10 : Nat), (13 : Nat), (98 : Nat))]) ∈ lw_all := lw_g (lw_at lw_m4 42 rfl) rfl
theorem q836 : (Jvm.Cond.classLink "ActorTrees$Actor" (98 : Nat) "java/lang/ArrayIndexOutOfBoundsException") ∈ lw_all := lw_g (lw_at lw_m4 43 rfl) rfl
theorem q868 : (Jvm.Cond.classLink "ActorTrees$Actor" (100 : Nat) "ActorTrees$StackFull") ∈ lw_all := lw_g (lw_at lw_m4 75 rfl) rfl
theorem q877 : (Jvm.Cond.methodLinkNest "ActorTrees$Actor" (102 : Nat) ({ cls := "ActorTrees$StackFull", name := "<init>", desc := "()V" } : Jvm.MethodName) "ActorTrees") ∈ lw_tbl := lw_at lw_m4 84 rfl
theorem q899 : (Jvm.Cond.fieldLinkNest "ActorTrees$Actor" (152 : Nat) "ActorTrees$Timer" "actor" "I" "ActorTrees") ∈ lw_tbl := lw_at lw_m4 106 rfl
theorem q933 : (Jvm.Cond.instanceMethod ({ cls := "ActorTrees$Actor", name := "isWatchedBy", desc := "(I)Z" } : Jvm.MethodName)) ∈ lw_all := lw_g (lw_at lw_m4 140 rfl) rfl
theorem q934 : (Jvm.Cond.selects "ActorTrees$Actor" ({ cls := "ActorTrees$Actor", name := "isWatchedBy", desc := "(I)Z" } : Jvm.MethodName) ({ cls := "ActorTrees$Actor", name := "isWatchedBy", desc := "(I)Z" } : Jvm.MethodName)) ∈ lw_all := lw_g (lw_at lw_m4 141 rfl) rfl
theorem q935 : (Jvm.Cond.code ({ cls := "ActorTrees$Actor", name := "isWatchedBy", desc := "(I)Z" } : Jvm.MethodName) prog_2_method_10_code (4 : Nat) (Option.some Jvm.ClassFile.FieldType.boolean)) ∈ lw_all := lw_g (lw_at lw_m4 142 rfl) rfl
theorem q985 : (Jvm.Cond.instanceMethod ({ cls := "ActorTrees$Actor", name := "notes", desc := "(I)V" } : Jvm.MethodName)) ∈ lw_all := lw_g (lw_at lw_m4 192 rfl) rfl
theorem q986 : (Jvm.Cond.selects "ActorTrees$Actor" ({ cls := "ActorTrees$Actor", name := "notes", desc := "(I)V" } : Jvm.MethodName) ({ cls := "ActorTrees$Actor", name := "notes", desc := "(I)V" } : Jvm.MethodName)) ∈ lw_all := lw_g (lw_at lw_m4 193 rfl) rfl
theorem q987 : (Jvm.Cond.code ({ cls := "ActorTrees$Actor", name := "notes", desc := "(I)V" } : Jvm.MethodName) prog_2_method_7_code (2 : Nat) (Option.none : Option Jvm.ClassFile.FieldType)) ∈ lw_all := lw_g (lw_at lw_m4 194 rfl) rfl
theorem q988 : (Jvm.Cond.methodLink "ActorTrees$Actor" (127 : Nat) ({ cls := "ActorTrees$Queue", name := "takes", desc := "()Ljava/lang/Object;" } : Jvm.MethodName)) ∈ lw_all := lw_g (lw_at lw_m4 195 rfl) rfl
theorem q989 : (Jvm.Cond.methodLink "ActorTrees$Actor" (131 : Nat) ({ cls := "java/lang/Integer", name := "valueOf", desc := "(I)Ljava/lang/Integer;" } : Jvm.MethodName)) ∈ lw_all := lw_g (lw_at lw_m4 196 rfl) rfl
theorem q1044 : (Jvm.Cond.instanceMethod ({ cls := "ActorTrees$Actor", name := "copy", desc := "()LActorTrees$Actor;" } : Jvm.MethodName)) ∈ lw_all := lw_g (lw_at lw_m5 11 rfl) rfl
theorem q1045 : (Jvm.Cond.selects "ActorTrees$Actor" ({ cls := "ActorTrees$Actor", name := "copy", desc := "()LActorTrees$Actor;" } : Jvm.MethodName) ({ cls := "ActorTrees$Actor", name := "copy", desc := "()LActorTrees$Actor;" } : Jvm.MethodName)) ∈ lw_all := lw_g (lw_at lw_m5 12 rfl) rfl
theorem q1046 : (Jvm.Cond.code ({ cls := "ActorTrees$Actor", name := "copy", desc := "()LActorTrees$Actor;" } : Jvm.MethodName) prog_2_method_2_code (2 : Nat) (Option.some (Jvm.ClassFile.FieldType.object "ActorTrees$Actor"))) ∈ lw_all := lw_g (lw_at lw_m5 13 rfl) rfl
theorem q1047 : (Jvm.Cond.classLink "ActorTrees$Actor" (10 : Nat) "ActorTrees$Actor") ∈ lw_all := lw_g (lw_at lw_m5 14 rfl) rfl
theorem q1048 : (Jvm.Cond.methodLink "ActorTrees$Actor" (82 : Nat) ({ cls := "ActorTrees$Actor", name := "<init>", desc := "(IIIIII)V" } : Jvm.MethodName)) ∈ lw_all := lw_g (lw_at lw_m5 15 rfl) rfl
theorem q1049 : (Jvm.Cond.methodLink "ActorTrees$Actor" (88 : Nat) ({ cls := "java/lang/System", name := "arraycopy", desc := "(Ljava/lang/Object;ILjava/lang/Object;II)V" } : Jvm.MethodName)) ∈ lw_all := lw_g (lw_at lw_m5 16 rfl) rfl
theorem q1052 : (Jvm.Cond.methodLink "ActorTrees$Actor" (94 : Nat) ({ cls := "ActorTrees$Queue", name := "all", desc := "(LActorTrees$Queue;)V" } : Jvm.MethodName)) ∈ lw_all := lw_g (lw_at lw_m5 19 rfl) rfl
theorem q1685 : (Jvm.Cond.castable "ActorTrees$Actor" "java/lang/Object") ∈ lw_tbl := lw_at lw_m7 172 rfl
theorem in_X5 : ∀ w ∈ wsX50, w ∈ lw_all := lw_in wsX50 [327, 329, 331, 333, 335, 337, 339, 341, 343, 345, 347, 349, 351, 353, 355, 357, 359] (by decide +kernel) (by decide +kernel)
/-! ActorTrees$Message -/
set_option maxRecDepth 100000
def RX6 : String := "ActorTrees$Message"
abbrev cX6_init : ByteArray := prog_7_method_1_code
def yX6_init : MethodName := ⟨RX6, "<init>", "(I)V"⟩
def dkwX6_init_0 : List UInt8 := [42, 183, 0, 1, 42, 27, 181, 0, 7, 177]
abbrev dktX6_init_0 : List UInt8 := dkwX6_init_0 ++ []
theorem dksX6_init_0 : cX6_init.data.toList.drop 0 = dktX6_init_0 := by decide +kernel
theorem dX6_init_0 : decode cX6_init 0 = .ok (.aload_n 0, 1) := dk_42 (dk_at dksX6_init_0 0 rfl rfl)
theorem dX6_init_1 : decode cX6_init 1 = .ok (.invokespecial 1, 3) := dk_183 0 1 (dk_at dksX6_init_0 1 rfl rfl)
theorem dX6_init_4 : decode cX6_init 4 = .ok (.aload_n 0, 1) := dk_42 (dk_at dksX6_init_0 4 rfl rfl)
theorem dX6_init_5 : decode cX6_init 5 = .ok (.iload_n 1, 1) := dk_27 (dk_at dksX6_init_0 5 rfl rfl)
theorem dX6_init_6 : decode cX6_init 6 = .ok (.putfield 7, 3) := dk_181 0 7 (dk_at dksX6_init_0 6 rfl rfl)
theorem dX6_init_9 : decode cX6_init 9 = .ok (.return_, 1) := dk_177 (dk_at dksX6_init_0 9 rfl rfl)
theorem q80 : (Jvm.Cond.initialized "ActorTrees$Message") ∈ lw_all := lw_g (lw_at lw_m1 7 rfl) rfl
theorem q377 : (Jvm.Cond.instanceMethod ({ cls := "ActorTrees$Message", name := "<init>", desc := "(I)V" } : Jvm.MethodName)) ∈ lw_all := lw_g (lw_at lw_m2 64 rfl) rfl
theorem q378 : (Jvm.Cond.code ({ cls := "ActorTrees$Message", name := "<init>", desc := "(I)V" } : Jvm.MethodName) prog_7_method_1_code (2 : Nat) (Option.none : Option Jvm.ClassFile.FieldType)) ∈ lw_all := lw_g (lw_at lw_m2 65 rfl) rfl
theorem q379 : (Jvm.Cond.methodLink "ActorTrees$Message" (1 : Nat) ({ cls := "java/lang/Object", name := "<init>", desc := "()V" } : Jvm.MethodName)) ∈ lw_all := lw_g (lw_at lw_m2 66 rfl) rfl
theorem q382 : (Jvm.Cond.fieldLink "ActorTrees$Message" (7 : Nat) "ActorTrees$Message" "from" "I") ∈ lw_all := lw_g (lw_at lw_m2 69 rfl) rfl
theorem q388 : (Jvm.Cond.soleField "ActorTrees$Message" "from") ∈ lw_all := lw_g (lw_at lw_m2 75 rfl) rfl
theorem q595 : (Jvm.Cond.declares ({ cls := "ActorTrees$Message", name := "code", desc := "()I" } : Jvm.MethodName)) ∈ lw_tbl := lw_at lw_m3 42 rfl
theorem q596 : (Jvm.Cond.sameMethod "ActorTrees$Message" "ActorTrees$Message" "code" "()I") ∈ lw_all := lw_g (lw_at lw_m3 43 rfl) rfl
/-! ActorTrees$Count -/
set_option maxRecDepth 100000
def RX7 : String := "ActorTrees$Count"
def TX7 : u_T := fun k => match k with
  | 0 => ("ActorTrees$Message", "from", "I", true)
  | _ => ("ActorTrees$Count", "n", "I", true)
def tyX7 : Nat → FieldType := fun k => match k with
  | 0 => .int
  | _ => .int
abbrev wsX70 : List Cond := u_ws RX7 TX7 2
theorem nmX7 : ∀ a, a < 2 → ∀ b, b < 2 → a ≠ b → (TX7 a).2.1 ≠ (TX7 b).2.1 := by decide +kernel
theorem tyX7_ok : ∀ k, k < 2 → parseFieldDescriptor (TX7 k).2.2.1 = some (tyX7 k) := by decide +kernel
abbrev cX7_init : ByteArray := prog_4_method_1_code
def yX7_init : MethodName := ⟨RX7, "<init>", "(II)V"⟩
def dkwX7_init_0 : List UInt8 := [42, 27, 183, 0, 1, 42, 28, 181, 0, 7, 177]
abbrev dktX7_init_0 : List UInt8 := dkwX7_init_0 ++ []
theorem dksX7_init_0 : cX7_init.data.toList.drop 0 = dktX7_init_0 := by decide +kernel
theorem dX7_init_0 : decode cX7_init 0 = .ok (.aload_n 0, 1) := dk_42 (dk_at dksX7_init_0 0 rfl rfl)
theorem dX7_init_1 : decode cX7_init 1 = .ok (.iload_n 1, 1) := dk_27 (dk_at dksX7_init_0 1 rfl rfl)
theorem dX7_init_2 : decode cX7_init 2 = .ok (.invokespecial 1, 3) := dk_183 0 1 (dk_at dksX7_init_0 2 rfl rfl)
theorem dX7_init_5 : decode cX7_init 5 = .ok (.aload_n 0, 1) := dk_42 (dk_at dksX7_init_0 5 rfl rfl)
theorem dX7_init_6 : decode cX7_init 6 = .ok (.iload_n 2, 1) := dk_28 (dk_at dksX7_init_0 6 rfl rfl)
theorem dX7_init_7 : decode cX7_init 7 = .ok (.putfield 7, 3) := dk_181 0 7 (dk_at dksX7_init_0 7 rfl rfl)
theorem dX7_init_10 : decode cX7_init 10 = .ok (.return_, 1) := dk_177 (dk_at dksX7_init_0 10 rfl rfl)
abbrev cX7_code : ByteArray := prog_4_method_2_code
def yX7_code : MethodName := ⟨RX7, "code", "()I"⟩
theorem dX7_code_0 : decode cX7_code 0 = .ok (.aload_n 0, 1) := by decide +kernel
theorem dX7_code_1 : decode cX7_code 1 = .ok (.getfield 7, 3) := by decide +kernel
theorem dX7_code_4 : decode cX7_code 4 = .ok (.ireturn, 1) := by decide +kernel
theorem q81 : (Jvm.Cond.initialized "ActorTrees$Count") ∈ lw_all := lw_g (lw_at lw_m1 8 rfl) rfl
theorem q372 : (Jvm.Cond.instantiable "ActorTrees$Count" (2 : Nat)) ∈ lw_all := lw_g (lw_at lw_m2 59 rfl) rfl
theorem q374 : (Jvm.Cond.instanceMethod ({ cls := "ActorTrees$Count", name := "<init>", desc := "(II)V" } : Jvm.MethodName)) ∈ lw_all := lw_g (lw_at lw_m2 61 rfl) rfl
theorem q375 : (Jvm.Cond.code ({ cls := "ActorTrees$Count", name := "<init>", desc := "(II)V" } : Jvm.MethodName) prog_4_method_1_code (3 : Nat) (Option.none : Option Jvm.ClassFile.FieldType)) ∈ lw_all := lw_g (lw_at lw_m2 62 rfl) rfl
theorem q376 : (Jvm.Cond.methodLink "ActorTrees$Count" (1 : Nat) ({ cls := "ActorTrees$Message", name := "<init>", desc := "(I)V" } : Jvm.MethodName)) ∈ lw_all := lw_g (lw_at lw_m2 63 rfl) rfl
theorem q380 : (Jvm.Cond.fieldLink "ActorTrees$Count" (7 : Nat) "ActorTrees$Count" "n" "I") ∈ lw_all := lw_g (lw_at lw_m2 67 rfl) rfl
theorem q385 : (Jvm.Cond.laysFinal "ActorTrees$Count" "ActorTrees$Count" "n" "I") ∈ lw_all := lw_g (lw_at lw_m2 72 rfl) rfl
theorem q386 : (Jvm.Cond.soleField "ActorTrees$Count" "n") ∈ lw_all := lw_g (lw_at lw_m2 73 rfl) rfl
theorem q387 : (Jvm.Cond.laysFinal "ActorTrees$Count" "ActorTrees$Message" "from" "I") ∈ lw_all := lw_g (lw_at lw_m2 74 rfl) rfl
theorem q389 : (Jvm.Cond.superclass "ActorTrees$Count" "ActorTrees$Message") ∈ lw_all := lw_g (lw_at lw_m2 76 rfl) rfl
theorem q597 : (Jvm.Cond.selects "ActorTrees$Count" ({ cls := "ActorTrees$Message", name := "code", desc := "()I" } : Jvm.MethodName) ({ cls := "ActorTrees$Count", name := "code", desc := "()I" } : Jvm.MethodName)) ∈ lw_all := lw_g (lw_at lw_m3 44 rfl) rfl
theorem q598 : (Jvm.Cond.instanceMethod ({ cls := "ActorTrees$Count", name := "code", desc := "()I" } : Jvm.MethodName)) ∈ lw_all := lw_g (lw_at lw_m3 45 rfl) rfl
theorem q599 : (Jvm.Cond.code ({ cls := "ActorTrees$Count", name := "code", desc := "()I" } : Jvm.MethodName) prog_4_method_2_code (1 : Nat) (Option.some Jvm.ClassFile.FieldType.int)) ∈ lw_all := lw_g (lw_at lw_m3 46 rfl) rfl
theorem q1678 : (Jvm.Cond.castable "ActorTrees$Count" "ActorTrees$Message") ∈ lw_tbl := lw_at lw_m7 165 rfl
theorem q1686 : (Jvm.Cond.castable "ActorTrees$Count" "java/lang/Object") ∈ lw_tbl := lw_at lw_m7 173 rfl
theorem in_X7 : ∀ w ∈ wsX70, w ∈ lw_all := lw_in wsX70 [387, 385] (by decide +kernel) (by decide +kernel)
/-! ActorTrees$Queue$Cell -/
set_option maxRecDepth 100000
def RX8 : String := "ActorTrees$Queue$Cell"
def TX8 : u_T := fun k => match k with
  | 0 => ("ActorTrees$Queue$Cell", "thing", "Ljava/lang/Object;", true)
  | 1 => ("ActorTrees$Queue$Cell", "next", "LActorTrees$Queue$Cell;", false)
  | _ => ("ActorTrees$Queue$Cell", "this$0", "LActorTrees$Queue;", true)
def tyX8 : Nat → FieldType := fun k => match k with
  | 0 => .object "java/lang/Object"
  | 1 => .object "ActorTrees$Queue$Cell"
  | _ => .object "ActorTrees$Queue"
abbrev wsX80 : List Cond := u_ws RX8 TX8 3
theorem nmX8 : ∀ a, a < 3 → ∀ b, b < 3 → a ≠ b → (TX8 a).2.1 ≠ (TX8 b).2.1 := by decide +kernel
theorem tyX8_ok : ∀ k, k < 3 → parseFieldDescriptor (TX8 k).2.2.1 = some (tyX8 k) := by decide +kernel
abbrev cX8_init : ByteArray := prog_10_method_1_code
def yX8_init : MethodName := ⟨RX8, "<init>", "(LActorTrees$Queue;Ljava/lang/Object;)V"⟩
def dkwX8_init_0 : List UInt8 := [42, 43, 181, 0, 1, 42, 183, 0, 7, 42, 44, 181, 0, 13, 177]
abbrev dktX8_init_0 : List UInt8 := dkwX8_init_0 ++ []
theorem dksX8_init_0 : cX8_init.data.toList.drop 0 = dktX8_init_0 := by decide +kernel
theorem dX8_init_0 : decode cX8_init 0 = .ok (.aload_n 0, 1) := dk_42 (dk_at dksX8_init_0 0 rfl rfl)
theorem dX8_init_1 : decode cX8_init 1 = .ok (.aload_n 1, 1) := dk_43 (dk_at dksX8_init_0 1 rfl rfl)
theorem dX8_init_2 : decode cX8_init 2 = .ok (.putfield 1, 3) := dk_181 0 1 (dk_at dksX8_init_0 2 rfl rfl)
theorem dX8_init_5 : decode cX8_init 5 = .ok (.aload_n 0, 1) := dk_42 (dk_at dksX8_init_0 5 rfl rfl)
theorem dX8_init_6 : decode cX8_init 6 = .ok (.invokespecial 7, 3) := dk_183 0 7 (dk_at dksX8_init_0 6 rfl rfl)
theorem dX8_init_9 : decode cX8_init 9 = .ok (.aload_n 0, 1) := dk_42 (dk_at dksX8_init_0 9 rfl rfl)
theorem dX8_init_10 : decode cX8_init 10 = .ok (.aload_n 2, 1) := dk_44 (dk_at dksX8_init_0 10 rfl rfl)
theorem dX8_init_11 : decode cX8_init 11 = .ok (.putfield 13, 3) := dk_181 0 13 (dk_at dksX8_init_0 11 rfl rfl)
theorem dX8_init_14 : decode cX8_init 14 = .ok (.return_, 1) := dk_177 (dk_at dksX8_init_0 14 rfl rfl)
theorem q82 : (Jvm.Cond.initialized "ActorTrees$Queue$Cell") ∈ lw_all := lw_g (lw_at lw_m1 9 rfl) rfl
theorem q399 : (Jvm.Cond.instantiable "ActorTrees$Queue$Cell" (3 : Nat)) ∈ lw_all := lw_g (lw_at lw_m2 86 rfl) rfl
theorem q401 : (Jvm.Cond.instanceMethod ({ cls := "ActorTrees$Queue$Cell", name := "<init>", desc := "(LActorTrees$Queue;Ljava/lang/Object;)V" } : Jvm.MethodName)) ∈ lw_all := lw_g (lw_at lw_m2 88 rfl) rfl
theorem q402 : (Jvm.Cond.code ({ cls := "ActorTrees$Queue$Cell", name := "<init>", desc := "(LActorTrees$Queue;Ljava/lang/Object;)V" } : Jvm.MethodName) prog_10_method_1_code (3 : Nat) (Option.none : Option Jvm.ClassFile.FieldType)) ∈ lw_all := lw_g (lw_at lw_m2 89 rfl) rfl
theorem q403 : (Jvm.Cond.methodLink "ActorTrees$Queue$Cell" (7 : Nat) ({ cls := "java/lang/Object", name := "<init>", desc := "()V" } : Jvm.MethodName)) ∈ lw_all := lw_g (lw_at lw_m2 90 rfl) rfl
theorem q404 : (Jvm.Cond.fieldLink "ActorTrees$Queue$Cell" (13 : Nat) "ActorTrees$Queue$Cell" "thing" "Ljava/lang/Object;") ∈ lw_all := lw_g (lw_at lw_m2 91 rfl) rfl
theorem q410 : (Jvm.Cond.fieldLink "ActorTrees$Queue$Cell" (1 : Nat) "ActorTrees$Queue$Cell" "this$0" "LActorTrees$Queue;") ∈ lw_all := lw_g (lw_at lw_m2 97 rfl) rfl
theorem q411 : (Jvm.Cond.laysFinal "ActorTrees$Queue$Cell" "ActorTrees$Queue$Cell" "thing" "Ljava/lang/Object;") ∈ lw_all := lw_g (lw_at lw_m2 98 rfl) rfl
theorem q412 : (Jvm.Cond.soleField "ActorTrees$Queue$Cell" "thing") ∈ lw_all := lw_g (lw_at lw_m2 99 rfl) rfl
theorem q413 : (Jvm.Cond.lays "ActorTrees$Queue$Cell" "ActorTrees$Queue$Cell" "next" "LActorTrees$Queue$Cell;") ∈ lw_all := lw_g (lw_at lw_m2 100 rfl) rfl
theorem q414 : (Jvm.Cond.soleField "ActorTrees$Queue$Cell" "next") ∈ lw_all := lw_g (lw_at lw_m2 101 rfl) rfl
theorem q415 : (Jvm.Cond.laysFinal "ActorTrees$Queue$Cell" "ActorTrees$Queue$Cell" "this$0" "LActorTrees$Queue;") ∈ lw_all := lw_g (lw_at lw_m2 102 rfl) rfl
theorem q416 : (Jvm.Cond.soleField "ActorTrees$Queue$Cell" "this$0") ∈ lw_all := lw_g (lw_at lw_m2 103 rfl) rfl
theorem q417 : (Jvm.Cond.superclass "ActorTrees$Queue$Cell" "java/lang/Object") ∈ lw_all := lw_g (lw_at lw_m2 104 rfl) rfl
theorem q1687 : (Jvm.Cond.castable "ActorTrees$Queue$Cell" "java/lang/Object") ∈ lw_tbl := lw_at lw_m7 174 rfl
theorem in_X8 : ∀ w ∈ wsX80, w ∈ lw_all := lw_in wsX80 [411, 413, 415] (by decide +kernel) (by decide +kernel)
/-! ActorTrees$Queue$Walk -/
set_option maxRecDepth 100000
def RX9 : String := "ActorTrees$Queue$Walk"
def TX9 : u_T := fun k => match k with
  | 0 => ("ActorTrees$Queue$Walk", "at", "LActorTrees$Queue$Cell;", false)
  | _ => ("ActorTrees$Queue$Walk", "this$0", "LActorTrees$Queue;", true)
def tyX9 : Nat → FieldType := fun k => match k with
  | 0 => .object "ActorTrees$Queue$Cell"
  | _ => .object "ActorTrees$Queue"
abbrev wsX90 : List Cond := u_ws RX9 TX9 2
theorem nmX9 : ∀ a, a < 2 → ∀ b, b < 2 → a ≠ b → (TX9 a).2.1 ≠ (TX9 b).2.1 := by decide +kernel
theorem tyX9_ok : ∀ k, k < 2 → parseFieldDescriptor (TX9 k).2.2.1 = some (tyX9 k) := by decide +kernel
abbrev cX9_init : ByteArray := prog_11_method_1_code
def yX9_init : MethodName := ⟨RX9, "<init>", "(LActorTrees$Queue;)V"⟩
def dkwX9_init_0 : List UInt8 := [42, 43, 181, 0, 1, 42, 183, 0, 7, 42, 42, 180, 0, 1, 180, 0, 13, 181, 0, 19, 177]
abbrev dktX9_init_0 : List UInt8 := dkwX9_init_0 ++ []
theorem dksX9_init_0 : cX9_init.data.toList.drop 0 = dktX9_init_0 := by decide +kernel
theorem dX9_init_0 : decode cX9_init 0 = .ok (.aload_n 0, 1) := dk_42 (dk_at dksX9_init_0 0 rfl rfl)
theorem dX9_init_1 : decode cX9_init 1 = .ok (.aload_n 1, 1) := dk_43 (dk_at dksX9_init_0 1 rfl rfl)
theorem dX9_init_2 : decode cX9_init 2 = .ok (.putfield 1, 3) := dk_181 0 1 (dk_at dksX9_init_0 2 rfl rfl)
theorem dX9_init_5 : decode cX9_init 5 = .ok (.aload_n 0, 1) := dk_42 (dk_at dksX9_init_0 5 rfl rfl)
theorem dX9_init_6 : decode cX9_init 6 = .ok (.invokespecial 7, 3) := dk_183 0 7 (dk_at dksX9_init_0 6 rfl rfl)
theorem dX9_init_9 : decode cX9_init 9 = .ok (.aload_n 0, 1) := dk_42 (dk_at dksX9_init_0 9 rfl rfl)
theorem dX9_init_10 : decode cX9_init 10 = .ok (.aload_n 0, 1) := dk_42 (dk_at dksX9_init_0 10 rfl rfl)
theorem dX9_init_11 : decode cX9_init 11 = .ok (.getfield 1, 3) := dk_180 0 1 (dk_at dksX9_init_0 11 rfl rfl)
theorem dX9_init_14 : decode cX9_init 14 = .ok (.getfield 13, 3) := dk_180 0 13 (dk_at dksX9_init_0 14 rfl rfl)
theorem dX9_init_17 : decode cX9_init 17 = .ok (.putfield 19, 3) := dk_181 0 19 (dk_at dksX9_init_0 17 rfl rfl)
theorem dX9_init_20 : decode cX9_init 20 = .ok (.return_, 1) := dk_177 (dk_at dksX9_init_0 20 rfl rfl)
abbrev cX9_hasNext : ByteArray := prog_11_method_2_code
def yX9_hasNext : MethodName := ⟨RX9, "hasNext", "()Z"⟩
def dkwX9_hasNext_0 : List UInt8 := [42, 180, 0, 19, 198, 0, 7, 4, 167, 0, 4, 3, 172]
abbrev dktX9_hasNext_0 : List UInt8 := dkwX9_hasNext_0 ++ []
theorem dksX9_hasNext_0 : cX9_hasNext.data.toList.drop 0 = dktX9_hasNext_0 := by decide +kernel
theorem dX9_hasNext_0 : decode cX9_hasNext 0 = .ok (.aload_n 0, 1) := dk_42 (dk_at dksX9_hasNext_0 0 rfl rfl)
theorem dX9_hasNext_1 : decode cX9_hasNext 1 = .ok (.getfield 19, 3) := dk_180 0 19 (dk_at dksX9_hasNext_0 1 rfl rfl)
theorem dX9_hasNext_4 : decode cX9_hasNext 4 = .ok (.ifnull 7, 3) := dk_198 0 7 (dk_at dksX9_hasNext_0 4 rfl rfl)
theorem dX9_hasNext_7 : decode cX9_hasNext 7 = .ok (.iconst 1, 1) := dk_4 (dk_at dksX9_hasNext_0 7 rfl rfl)
theorem dX9_hasNext_8 : decode cX9_hasNext 8 = .ok (.goto 4, 3) := dk_167 0 4 (dk_at dksX9_hasNext_0 8 rfl rfl)
theorem dX9_hasNext_11 : decode cX9_hasNext 11 = .ok (.iconst 0, 1) := dk_3 (dk_at dksX9_hasNext_0 11 rfl rfl)
theorem dX9_hasNext_12 : decode cX9_hasNext 12 = .ok (.ireturn, 1) := dk_172 (dk_at dksX9_hasNext_0 12 rfl rfl)
abbrev cX9_next : ByteArray := prog_11_method_3_code
def yX9_next : MethodName := ⟨RX9, "next", "()Ljava/lang/Object;"⟩
def dkwX9_next_0 : List UInt8 := [42, 180, 0, 19, 180, 0, 22, 76, 42, 42, 180, 0, 19, 180, 0, 28, 181, 0, 19, 43, 176]
abbrev dktX9_next_0 : List UInt8 := dkwX9_next_0 ++ []
theorem dksX9_next_0 : cX9_next.data.toList.drop 0 = dktX9_next_0 := by decide +kernel
theorem dX9_next_0 : decode cX9_next 0 = .ok (.aload_n 0, 1) := dk_42 (dk_at dksX9_next_0 0 rfl rfl)
theorem dX9_next_1 : decode cX9_next 1 = .ok (.getfield 19, 3) := dk_180 0 19 (dk_at dksX9_next_0 1 rfl rfl)
theorem dX9_next_4 : decode cX9_next 4 = .ok (.getfield 22, 3) := dk_180 0 22 (dk_at dksX9_next_0 4 rfl rfl)
theorem dX9_next_7 : decode cX9_next 7 = .ok (.astore_n 1, 1) := dk_76 (dk_at dksX9_next_0 7 rfl rfl)
theorem dX9_next_8 : decode cX9_next 8 = .ok (.aload_n 0, 1) := dk_42 (dk_at dksX9_next_0 8 rfl rfl)
theorem dX9_next_9 : decode cX9_next 9 = .ok (.aload_n 0, 1) := dk_42 (dk_at dksX9_next_0 9 rfl rfl)
theorem dX9_next_10 : decode cX9_next 10 = .ok (.getfield 19, 3) := dk_180 0 19 (dk_at dksX9_next_0 10 rfl rfl)
theorem dX9_next_13 : decode cX9_next 13 = .ok (.getfield 28, 3) := dk_180 0 28 (dk_at dksX9_next_0 13 rfl rfl)
theorem dX9_next_16 : decode cX9_next 16 = .ok (.putfield 19, 3) := dk_181 0 19 (dk_at dksX9_next_0 16 rfl rfl)
theorem dX9_next_19 : decode cX9_next 19 = .ok (.aload_n 1, 1) := dk_43 (dk_at dksX9_next_0 19 rfl rfl)
theorem dX9_next_20 : decode cX9_next 20 = .ok (.areturn, 1) := dk_176 (dk_at dksX9_next_0 20 rfl rfl)
theorem q83 : (Jvm.Cond.initialized "ActorTrees$Queue$Walk") ∈ lw_all := lw_g (lw_at lw_m1 10 rfl) rfl
theorem q130 : (Jvm.Cond.fieldLinkNest "ActorTrees$Queue$Walk" (13 : Nat) "ActorTrees$Queue" "first" "LActorTrees$Queue$Cell;" "ActorTrees") ∈ lw_tbl := lw_at lw_m1 57 rfl
theorem q405 : (Jvm.Cond.fieldLinkNest "ActorTrees$Queue$Walk" (22 : Nat) "ActorTrees$Queue$Cell" "thing" "Ljava/lang/Object;" "ActorTrees") ∈ lw_tbl := lw_at lw_m2 92 rfl
theorem q408 : (Jvm.Cond.fieldLinkNest "ActorTrees$Queue$Walk" (28 : Nat) "ActorTrees$Queue$Cell" "next" "LActorTrees$Queue$Cell;" "ActorTrees") ∈ lw_tbl := lw_at lw_m2 95 rfl
theorem q439 : (Jvm.Cond.instantiable "ActorTrees$Queue$Walk" (2 : Nat)) ∈ lw_all := lw_g (lw_at lw_m2 126 rfl) rfl
theorem q441 : (Jvm.Cond.instanceMethod ({ cls := "ActorTrees$Queue$Walk", name := "<init>", desc := "(LActorTrees$Queue;)V" } : Jvm.MethodName)) ∈ lw_all := lw_g (lw_at lw_m2 128 rfl) rfl
theorem q442 : (Jvm.Cond.code ({ cls := "ActorTrees$Queue$Walk", name := "<init>", desc := "(LActorTrees$Queue;)V" } : Jvm.MethodName) prog_11_method_1_code (2 : Nat) (Option.none : Option Jvm.ClassFile.FieldType)) ∈ lw_all := lw_g (lw_at lw_m2 129 rfl) rfl
theorem q443 : (Jvm.Cond.methodLink "ActorTrees$Queue$Walk" (7 : Nat) ({ cls := "java/lang/Object", name := "<init>", desc := "()V" } : Jvm.MethodName)) ∈ lw_all := lw_g (lw_at lw_m2 130 rfl) rfl
theorem q444 : (Jvm.Cond.fieldLink "ActorTrees$Queue$Walk" (19 : Nat) "ActorTrees$Queue$Walk" "at" "LActorTrees$Queue$Cell;") ∈ lw_all := lw_g (lw_at lw_m2 131 rfl) rfl
theorem q445 : (Jvm.Cond.fieldLink "ActorTrees$Queue$Walk" (1 : Nat) "ActorTrees$Queue$Walk" "this$0" "LActorTrees$Queue;") ∈ lw_all := lw_g (lw_at lw_m2 132 rfl) rfl
theorem q446 : (Jvm.Cond.lays "ActorTrees$Queue$Walk" "ActorTrees$Queue$Walk" "at" "LActorTrees$Queue$Cell;") ∈ lw_all := lw_g (lw_at lw_m2 133 rfl) rfl
theorem q447 : (Jvm.Cond.soleField "ActorTrees$Queue$Walk" "at") ∈ lw_all := lw_g (lw_at lw_m2 134 rfl) rfl
theorem q448 : (Jvm.Cond.laysFinal "ActorTrees$Queue$Walk" "ActorTrees$Queue$Walk" "this$0" "LActorTrees$Queue;") ∈ lw_all := lw_g (lw_at lw_m2 135 rfl) rfl
theorem q449 : (Jvm.Cond.soleField "ActorTrees$Queue$Walk" "this$0") ∈ lw_all := lw_g (lw_at lw_m2 136 rfl) rfl
theorem q450 : (Jvm.Cond.superclass "ActorTrees$Queue$Walk" "java/lang/Object") ∈ lw_all := lw_g (lw_at lw_m2 137 rfl) rfl
theorem q455 : (Jvm.Cond.castable "ActorTrees$Queue$Walk" "java/util/Iterator") ∈ lw_tbl := lw_at lw_m2 142 rfl
theorem q456 : (Jvm.Cond.selects "ActorTrees$Queue$Walk" ({ cls := "java/util/Iterator", name := "hasNext", desc := "()Z" } : Jvm.MethodName) ({ cls := "ActorTrees$Queue$Walk", name := "hasNext", desc := "()Z" } : Jvm.MethodName)) ∈ lw_all := lw_g (lw_at lw_m2 143 rfl) rfl
theorem q457 : (Jvm.Cond.unhidden "ActorTrees$Queue$Walk" "hasNext" "()Z") ∈ lw_tbl := lw_at lw_m2 144 rfl
theorem q458 : (Jvm.Cond.instanceMethod ({ cls := "ActorTrees$Queue$Walk", name := "hasNext", desc := "()Z" } : Jvm.MethodName)) ∈ lw_all := lw_g (lw_at lw_m2 145 rfl) rfl
theorem q459 : (Jvm.Cond.publicMethod ({ cls := "ActorTrees$Queue$Walk", name := "hasNext", desc := "()Z" } : Jvm.MethodName)) ∈ lw_tbl := lw_at lw_m2 146 rfl
theorem q460 : (Jvm.Cond.code ({ cls := "ActorTrees$Queue$Walk", name := "hasNext", desc := "()Z" } : Jvm.MethodName) prog_11_method_2_code (1 : Nat) (Option.some Jvm.ClassFile.FieldType.boolean)) ∈ lw_all := lw_g (lw_at lw_m2 147 rfl) rfl
theorem q465 : (Jvm.Cond.selects "ActorTrees$Queue$Walk" ({ cls := "java/util/Iterator", name := "next", desc := "()Ljava/lang/Object;" } : Jvm.MethodName) ({ cls := "ActorTrees$Queue$Walk", name := "next", desc := "()Ljava/lang/Object;" } : Jvm.MethodName)) ∈ lw_all := lw_g (lw_at lw_m2 152 rfl) rfl
theorem q466 : (Jvm.Cond.unhidden "ActorTrees$Queue$Walk" "next" "()Ljava/lang/Object;") ∈ lw_tbl := lw_at lw_m2 153 rfl
theorem q467 : (Jvm.Cond.instanceMethod ({ cls := "ActorTrees$Queue$Walk", name := "next", desc := "()Ljava/lang/Object;" } : Jvm.MethodName)) ∈ lw_all := lw_g (lw_at lw_m2 154 rfl) rfl
theorem q468 : (Jvm.Cond.publicMethod ({ cls := "ActorTrees$Queue$Walk", name := "next", desc := "()Ljava/lang/Object;" } : Jvm.MethodName)) ∈ lw_tbl := lw_at lw_m2 155 rfl
theorem q469 : (Jvm.Cond.code ({ cls := "ActorTrees$Queue$Walk", name := "next", desc := "()Ljava/lang/Object;" } : Jvm.MethodName) prog_11_method_3_code (2 : Nat) (Option.some (Jvm.ClassFile.FieldType.object "java/lang/Object"))) ∈ lw_all := lw_g (lw_at lw_m2 156 rfl) rfl
theorem q1688 : (Jvm.Cond.castable "ActorTrees$Queue$Walk" "java/lang/Object") ∈ lw_tbl := lw_at lw_m7 175 rfl
theorem in_X9 : ∀ w ∈ wsX90, w ∈ lw_all := lw_in wsX90 [446, 448] (by decide +kernel) (by decide +kernel)
/-! ActorTrees$Death -/
set_option maxRecDepth 100000
def RX10 : String := "ActorTrees$Death"
def TX10 : u_T := fun k => match k with
  | 0 => ("ActorTrees$Message", "from", "I", true)
  | _ => ("ActorTrees$Death", "who", "I", true)
def tyX10 : Nat → FieldType := fun k => match k with
  | 0 => .int
  | _ => .int
abbrev wsX100 : List Cond := u_ws RX10 TX10 2
theorem nmX10 : ∀ a, a < 2 → ∀ b, b < 2 → a ≠ b → (TX10 a).2.1 ≠ (TX10 b).2.1 := by decide +kernel
theorem tyX10_ok : ∀ k, k < 2 → parseFieldDescriptor (TX10 k).2.2.1 = some (tyX10 k) := by decide +kernel
abbrev cX10_code : ByteArray := prog_5_method_2_code
def yX10_code : MethodName := ⟨RX10, "code", "()I"⟩
def dkwX10_code_0 : List UInt8 := [17, 0, 200, 42, 180, 0, 7, 96, 172]
abbrev dktX10_code_0 : List UInt8 := dkwX10_code_0 ++ []
theorem dksX10_code_0 : cX10_code.data.toList.drop 0 = dktX10_code_0 := by decide +kernel
theorem dX10_code_0 : decode cX10_code 0 = .ok (.sipush 200, 3) := dk_17 0 200 (dk_at dksX10_code_0 0 rfl rfl)
theorem dX10_code_3 : decode cX10_code 3 = .ok (.aload_n 0, 1) := dk_42 (dk_at dksX10_code_0 3 rfl rfl)
theorem dX10_code_4 : decode cX10_code 4 = .ok (.getfield 7, 3) := dk_180 0 7 (dk_at dksX10_code_0 4 rfl rfl)
theorem dX10_code_7 : decode cX10_code 7 = .ok (.iadd, 1) := dk_96 (dk_at dksX10_code_0 7 rfl rfl)
theorem dX10_code_8 : decode cX10_code 8 = .ok (.ireturn, 1) := dk_172 (dk_at dksX10_code_0 8 rfl rfl)
abbrev cX10_init : ByteArray := prog_5_method_1_code
def yX10_init : MethodName := ⟨RX10, "<init>", "(I)V"⟩
def dkwX10_init_0 : List UInt8 := [42, 2, 183, 0, 1, 42, 27, 181, 0, 7, 177]
abbrev dktX10_init_0 : List UInt8 := dkwX10_init_0 ++ []
theorem dksX10_init_0 : cX10_init.data.toList.drop 0 = dktX10_init_0 := by decide +kernel
theorem dX10_init_0 : decode cX10_init 0 = .ok (.aload_n 0, 1) := dk_42 (dk_at dksX10_init_0 0 rfl rfl)
theorem dX10_init_1 : decode cX10_init 1 = .ok (.iconst (-1), 1) := dk_2 (dk_at dksX10_init_0 1 rfl rfl)
theorem dX10_init_2 : decode cX10_init 2 = .ok (.invokespecial 1, 3) := dk_183 0 1 (dk_at dksX10_init_0 2 rfl rfl)
theorem dX10_init_5 : decode cX10_init 5 = .ok (.aload_n 0, 1) := dk_42 (dk_at dksX10_init_0 5 rfl rfl)
theorem dX10_init_6 : decode cX10_init 6 = .ok (.iload_n 1, 1) := dk_27 (dk_at dksX10_init_0 6 rfl rfl)
theorem dX10_init_7 : decode cX10_init 7 = .ok (.putfield 7, 3) := dk_181 0 7 (dk_at dksX10_init_0 7 rfl rfl)
theorem dX10_init_10 : decode cX10_init 10 = .ok (.return_, 1) := dk_177 (dk_at dksX10_init_0 10 rfl rfl)
theorem q90 : (Jvm.Cond.initialized "ActorTrees$Death") ∈ lw_all := lw_g (lw_at lw_m1 17 rfl) rfl
theorem q600 : (Jvm.Cond.selects "ActorTrees$Death" ({ cls := "ActorTrees$Message", name := "code", desc := "()I" } : Jvm.MethodName) ({ cls := "ActorTrees$Death", name := "code", desc := "()I" } : Jvm.MethodName)) ∈ lw_all := lw_g (lw_at lw_m3 47 rfl) rfl
theorem q601 : (Jvm.Cond.instanceMethod ({ cls := "ActorTrees$Death", name := "code", desc := "()I" } : Jvm.MethodName)) ∈ lw_all := lw_g (lw_at lw_m3 48 rfl) rfl
theorem q602 : (Jvm.Cond.code ({ cls := "ActorTrees$Death", name := "code", desc := "()I" } : Jvm.MethodName) prog_5_method_2_code (1 : Nat) (Option.some Jvm.ClassFile.FieldType.int)) ∈ lw_all := lw_g (lw_at lw_m3 49 rfl) rfl
theorem q674 : (Jvm.Cond.instantiable "ActorTrees$Death" (2 : Nat)) ∈ lw_all := lw_g (lw_at lw_m3 121 rfl) rfl
theorem q676 : (Jvm.Cond.instanceMethod ({ cls := "ActorTrees$Death", name := "<init>", desc := "(I)V" } : Jvm.MethodName)) ∈ lw_all := lw_g (lw_at lw_m3 123 rfl) rfl
theorem q677 : (Jvm.Cond.code ({ cls := "ActorTrees$Death", name := "<init>", desc := "(I)V" } : Jvm.MethodName) prog_5_method_1_code (2 : Nat) (Option.none : Option Jvm.ClassFile.FieldType)) ∈ lw_all := lw_g (lw_at lw_m3 124 rfl) rfl
theorem q678 : (Jvm.Cond.methodLink "ActorTrees$Death" (1 : Nat) ({ cls := "ActorTrees$Message", name := "<init>", desc := "(I)V" } : Jvm.MethodName)) ∈ lw_all := lw_g (lw_at lw_m3 125 rfl) rfl
theorem q679 : (Jvm.Cond.fieldLink "ActorTrees$Death" (7 : Nat) "ActorTrees$Death" "who" "I") ∈ lw_all := lw_g (lw_at lw_m3 126 rfl) rfl
theorem q681 : (Jvm.Cond.laysFinal "ActorTrees$Death" "ActorTrees$Death" "who" "I") ∈ lw_all := lw_g (lw_at lw_m3 128 rfl) rfl
theorem q682 : (Jvm.Cond.soleField "ActorTrees$Death" "who") ∈ lw_all := lw_g (lw_at lw_m3 129 rfl) rfl
theorem q683 : (Jvm.Cond.laysFinal "ActorTrees$Death" "ActorTrees$Message" "from" "I") ∈ lw_all := lw_g (lw_at lw_m3 130 rfl) rfl
theorem q684 : (Jvm.Cond.superclass "ActorTrees$Death" "ActorTrees$Message") ∈ lw_all := lw_g (lw_at lw_m3 131 rfl) rfl
theorem q1679 : (Jvm.Cond.castable "ActorTrees$Death" "ActorTrees$Message") ∈ lw_tbl := lw_at lw_m7 166 rfl
theorem q1690 : (Jvm.Cond.castable "ActorTrees$Death" "java/lang/Object") ∈ lw_tbl := lw_at lw_m7 177 rfl
theorem in_X10 : ∀ w ∈ wsX100, w ∈ lw_all := lw_in wsX100 [683, 681] (by decide +kernel) (by decide +kernel)
/-! ActorTrees$Failure -/
set_option maxRecDepth 100000
def RX11 : String := "ActorTrees$Failure"
def TX11 : u_T := fun k => match k with
  | 0 => ("java/lang/Throwable", "cause", "Ljava/lang/Throwable;", false)
  | 1 => ("java/lang/Throwable", "stackTrace", "[Ljava/lang/StackTraceElement;", false)
  | 2 => ("java/lang/Throwable", "suppressedExceptions", "Ljava/util/List;", false)
  | 3 => ("java/lang/Throwable", "detailMessage", "Ljava/lang/String;", false)
  | 4 => ("java/lang/Throwable", "backtrace", "Ljava/lang/Object;", false)
  | 5 => ("java/lang/Throwable", "depth", "I", false)
  | 6 => ("ActorTrees$Failure", "actor", "I", true)
  | _ => ("ActorTrees$Failure", "why", "I", true)
def tyX11 : Nat → FieldType := fun k => match k with
  | 0 => .object "java/lang/Throwable"
  | 1 => .array (.object "java/lang/StackTraceElement")
  | 2 => .object "java/util/List"
  | 3 => .object "java/lang/String"
  | 4 => .object "java/lang/Object"
  | 5 => .int
  | 6 => .int
  | _ => .int
abbrev wsX110 : List Cond := u_ws RX11 TX11 8
theorem nmX11 : ∀ a, a < 8 → ∀ b, b < 8 → a ≠ b → (TX11 a).2.1 ≠ (TX11 b).2.1 := by decide +kernel
theorem tyX11_ok : ∀ k, k < 8 → parseFieldDescriptor (TX11 k).2.2.1 = some (tyX11 k) := by decide +kernel
abbrev cX11_init : ByteArray := prog_6_method_1_code
def yX11_init : MethodName := ⟨RX11, "<init>", "(II)V"⟩
def dkwX11_init_0 : List UInt8 := [42, 27, 28, 1, 183, 0, 1, 177]
abbrev dktX11_init_0 : List UInt8 := dkwX11_init_0 ++ []
theorem dksX11_init_0 : cX11_init.data.toList.drop 0 = dktX11_init_0 := by decide +kernel
theorem dX11_init_0 : decode cX11_init 0 = .ok (.aload_n 0, 1) := dk_42 (dk_at dksX11_init_0 0 rfl rfl)
theorem dX11_init_1 : decode cX11_init 1 = .ok (.iload_n 1, 1) := dk_27 (dk_at dksX11_init_0 1 rfl rfl)
theorem dX11_init_2 : decode cX11_init 2 = .ok (.iload_n 2, 1) := dk_28 (dk_at dksX11_init_0 2 rfl rfl)
theorem dX11_init_3 : decode cX11_init 3 = .ok (.aconst_null, 1) := dk_1 (dk_at dksX11_init_0 3 rfl rfl)
theorem dX11_init_4 : decode cX11_init 4 = .ok (.invokespecial 1, 3) := dk_183 0 1 (dk_at dksX11_init_0 4 rfl rfl)
theorem dX11_init_7 : decode cX11_init 7 = .ok (.return_, 1) := dk_177 (dk_at dksX11_init_0 7 rfl rfl)
abbrev cX11_init_2 : ByteArray := prog_6_method_2_code
def yX11_init_2 : MethodName := ⟨RX11, "<init>", "(IILjava/lang/Throwable;)V"⟩
def dkwX11_init_2_0 : List UInt8 := [42, 18, 7, 45, 183, 0, 9, 42, 27, 181, 0, 14, 42, 28, 181, 0, 18, 177]
abbrev dktX11_init_2_0 : List UInt8 := dkwX11_init_2_0 ++ []
theorem dksX11_init_2_0 : cX11_init_2.data.toList.drop 0 = dktX11_init_2_0 := by decide +kernel
theorem dX11_init_2_0 : decode cX11_init_2 0 = .ok (.aload_n 0, 1) := dk_42 (dk_at dksX11_init_2_0 0 rfl rfl)
theorem dX11_init_2_1 : decode cX11_init_2 1 = .ok (.ldc 7, 2) := dk_18 7 (dk_at dksX11_init_2_0 1 rfl rfl)
theorem dX11_init_2_3 : decode cX11_init_2 3 = .ok (.aload_n 3, 1) := dk_45 (dk_at dksX11_init_2_0 3 rfl rfl)
theorem dX11_init_2_4 : decode cX11_init_2 4 = .ok (.invokespecial 9, 3) := dk_183 0 9 (dk_at dksX11_init_2_0 4 rfl rfl)
theorem dX11_init_2_7 : decode cX11_init_2 7 = .ok (.aload_n 0, 1) := dk_42 (dk_at dksX11_init_2_0 7 rfl rfl)
theorem dX11_init_2_8 : decode cX11_init_2 8 = .ok (.iload_n 1, 1) := dk_27 (dk_at dksX11_init_2_0 8 rfl rfl)
theorem dX11_init_2_9 : decode cX11_init_2 9 = .ok (.putfield 14, 3) := dk_181 0 14 (dk_at dksX11_init_2_0 9 rfl rfl)
theorem dX11_init_2_12 : decode cX11_init_2 12 = .ok (.aload_n 0, 1) := dk_42 (dk_at dksX11_init_2_0 12 rfl rfl)
theorem dX11_init_2_13 : decode cX11_init_2 13 = .ok (.iload_n 2, 1) := dk_28 (dk_at dksX11_init_2_0 13 rfl rfl)
theorem dX11_init_2_14 : decode cX11_init_2 14 = .ok (.putfield 18, 3) := dk_181 0 18 (dk_at dksX11_init_2_0 14 rfl rfl)
theorem dX11_init_2_17 : decode cX11_init_2 17 = .ok (.return_, 1) := dk_177 (dk_at dksX11_init_2_0 17 rfl rfl)
abbrev cX11_at : ByteArray := prog_6_method_5_code
def yX11_at : MethodName := ⟨RX11, "at", "(I)LActorTrees$Failure;"⟩
def dkwX11_at_1 : List UInt8 := [44, 176]
abbrev dktX11_at_1 : List UInt8 := dkwX11_at_1 ++ []
def dkwX11_at_0 : List UInt8 := [42, 77, 3, 62, 29, 27, 162, 0, 18, 44, 198, 0, 14, 44, 182, 0, 25, 77, 132, 3, 1, 167, 255, 239]
abbrev dktX11_at_0 : List UInt8 := dkwX11_at_0 ++ dktX11_at_1
theorem dksX11_at_0 : cX11_at.data.toList.drop 0 = dktX11_at_0 := by decide +kernel
theorem dksX11_at_1 : cX11_at.data.toList.drop 24 = dktX11_at_1 := dk_seg dksX11_at_0 24 rfl rfl
theorem dX11_at_0 : decode cX11_at 0 = .ok (.aload_n 0, 1) := dk_42 (dk_at dksX11_at_0 0 rfl rfl)
theorem dX11_at_1 : decode cX11_at 1 = .ok (.astore_n 2, 1) := dk_77 (dk_at dksX11_at_0 1 rfl rfl)
theorem dX11_at_2 : decode cX11_at 2 = .ok (.iconst 0, 1) := dk_3 (dk_at dksX11_at_0 2 rfl rfl)
theorem dX11_at_3 : decode cX11_at 3 = .ok (.istore_n 3, 1) := dk_62 (dk_at dksX11_at_0 3 rfl rfl)
theorem dX11_at_4 : decode cX11_at 4 = .ok (.iload_n 3, 1) := dk_29 (dk_at dksX11_at_0 4 rfl rfl)
theorem dX11_at_5 : decode cX11_at 5 = .ok (.iload_n 1, 1) := dk_27 (dk_at dksX11_at_0 5 rfl rfl)
theorem dX11_at_6 : decode cX11_at 6 = .ok (.if_icmp .ge 18, 3) := dk_162 0 18 (dk_at dksX11_at_0 6 rfl rfl)
theorem dX11_at_9 : decode cX11_at 9 = .ok (.aload_n 2, 1) := dk_44 (dk_at dksX11_at_0 9 rfl rfl)
theorem dX11_at_10 : decode cX11_at 10 = .ok (.ifnull 14, 3) := dk_198 0 14 (dk_at dksX11_at_0 10 rfl rfl)
theorem dX11_at_13 : decode cX11_at 13 = .ok (.aload_n 2, 1) := dk_44 (dk_at dksX11_at_0 13 rfl rfl)
theorem dX11_at_14 : decode cX11_at 14 = .ok (.invokevirtual 25, 3) := dk_182 0 25 (dk_at dksX11_at_0 14 rfl rfl)
theorem dX11_at_17 : decode cX11_at 17 = .ok (.astore_n 2, 1) := dk_77 (dk_at dksX11_at_0 17 rfl rfl)
theorem dX11_at_18 : decode cX11_at 18 = .ok (.iinc 3 1, 3) := dk_132 3 1 (dk_at dksX11_at_0 18 rfl rfl)
theorem dX11_at_21 : decode cX11_at 21 = .ok (.goto (-17), 3) := dk_167 255 239 (dk_at dksX11_at_0 21 rfl rfl)
theorem dX11_at_24 : decode cX11_at 24 = .ok (.aload_n 2, 1) := dk_44 (dk_at dksX11_at_1 0 rfl rfl)
theorem dX11_at_25 : decode cX11_at 25 = .ok (.areturn, 1) := dk_176 (dk_at dksX11_at_1 1 rfl rfl)
abbrev cX11_below : ByteArray := prog_6_method_3_code
def yX11_below : MethodName := ⟨RX11, "below", "()LActorTrees$Failure;"⟩
def dkwX11_below_0 : List UInt8 := [42, 182, 0, 21, 77, 44, 193, 0, 2, 153, 0, 12, 44, 192, 0, 2, 76, 43, 167, 0, 4, 1, 176]
abbrev dktX11_below_0 : List UInt8 := dkwX11_below_0 ++ []
theorem dksX11_below_0 : cX11_below.data.toList.drop 0 = dktX11_below_0 := by decide +kernel
theorem dX11_below_0 : decode cX11_below 0 = .ok (.aload_n 0, 1) := dk_42 (dk_at dksX11_below_0 0 rfl rfl)
theorem dX11_below_1 : decode cX11_below 1 = .ok (.invokevirtual 21, 3) := dk_182 0 21 (dk_at dksX11_below_0 1 rfl rfl)
theorem dX11_below_4 : decode cX11_below 4 = .ok (.astore_n 2, 1) := dk_77 (dk_at dksX11_below_0 4 rfl rfl)
theorem dX11_below_5 : decode cX11_below 5 = .ok (.aload_n 2, 1) := dk_44 (dk_at dksX11_below_0 5 rfl rfl)
theorem dX11_below_6 : decode cX11_below 6 = .ok (.instanceof 2, 3) := dk_193 0 2 (dk_at dksX11_below_0 6 rfl rfl)
theorem dX11_below_9 : decode cX11_below 9 = .ok (.ifCond .eq 12, 3) := dk_153 0 12 (dk_at dksX11_below_0 9 rfl rfl)
theorem dX11_below_12 : decode cX11_below 12 = .ok (.aload_n 2, 1) := dk_44 (dk_at dksX11_below_0 12 rfl rfl)
theorem dX11_below_13 : decode cX11_below 13 = .ok (.checkcast 2, 3) := dk_192 0 2 (dk_at dksX11_below_0 13 rfl rfl)
theorem dX11_below_16 : decode cX11_below 16 = .ok (.astore_n 1, 1) := dk_76 (dk_at dksX11_below_0 16 rfl rfl)
theorem dX11_below_17 : decode cX11_below 17 = .ok (.aload_n 1, 1) := dk_43 (dk_at dksX11_below_0 17 rfl rfl)
theorem dX11_below_18 : decode cX11_below 18 = .ok (.goto 4, 3) := dk_167 0 4 (dk_at dksX11_below_0 18 rfl rfl)
theorem dX11_below_21 : decode cX11_below 21 = .ok (.aconst_null, 1) := dk_1 (dk_at dksX11_below_0 21 rfl rfl)
theorem dX11_below_22 : decode cX11_below 22 = .ok (.areturn, 1) := dk_176 (dk_at dksX11_below_0 22 rfl rfl)
abbrev cX11_deep : ByteArray := prog_6_method_4_code
def yX11_deep : MethodName := ⟨RX11, "deep", "()I"⟩
def dkwX11_deep_0 : List UInt8 := [42, 182, 0, 25, 76, 43, 199, 0, 7, 4, 167, 0, 9, 4, 43, 182, 0, 29, 96, 172]
abbrev dktX11_deep_0 : List UInt8 := dkwX11_deep_0 ++ []
theorem dksX11_deep_0 : cX11_deep.data.toList.drop 0 = dktX11_deep_0 := by decide +kernel
theorem dX11_deep_0 : decode cX11_deep 0 = .ok (.aload_n 0, 1) := dk_42 (dk_at dksX11_deep_0 0 rfl rfl)
theorem dX11_deep_1 : decode cX11_deep 1 = .ok (.invokevirtual 25, 3) := dk_182 0 25 (dk_at dksX11_deep_0 1 rfl rfl)
theorem dX11_deep_4 : decode cX11_deep 4 = .ok (.astore_n 1, 1) := dk_76 (dk_at dksX11_deep_0 4 rfl rfl)
theorem dX11_deep_5 : decode cX11_deep 5 = .ok (.aload_n 1, 1) := dk_43 (dk_at dksX11_deep_0 5 rfl rfl)
theorem dX11_deep_6 : decode cX11_deep 6 = .ok (.ifnonnull 7, 3) := dk_199 0 7 (dk_at dksX11_deep_0 6 rfl rfl)
theorem dX11_deep_9 : decode cX11_deep 9 = .ok (.iconst 1, 1) := dk_4 (dk_at dksX11_deep_0 9 rfl rfl)
theorem dX11_deep_10 : decode cX11_deep 10 = .ok (.goto 9, 3) := dk_167 0 9 (dk_at dksX11_deep_0 10 rfl rfl)
theorem dX11_deep_13 : decode cX11_deep 13 = .ok (.iconst 1, 1) := dk_4 (dk_at dksX11_deep_0 13 rfl rfl)
theorem dX11_deep_14 : decode cX11_deep 14 = .ok (.aload_n 1, 1) := dk_43 (dk_at dksX11_deep_0 14 rfl rfl)
theorem dX11_deep_15 : decode cX11_deep 15 = .ok (.invokevirtual 29, 3) := dk_182 0 29 (dk_at dksX11_deep_0 15 rfl rfl)
theorem dX11_deep_18 : decode cX11_deep 18 = .ok (.iadd, 1) := dk_96 (dk_at dksX11_deep_0 18 rfl rfl)
theorem dX11_deep_19 : decode cX11_deep 19 = .ok (.ireturn, 1) := dk_172 (dk_at dksX11_deep_0 19 rfl rfl)
theorem q91 : (Jvm.Cond.initialized "ActorTrees$Failure") ∈ lw_all := lw_g (lw_at lw_m1 18 rfl) rfl
theorem q515 : (Jvm.Cond.selects "ActorTrees$Failure" ({ cls := "java/lang/Throwable", name := "fillInStackTrace", desc := "()Ljava/lang/Throwable;" } : Jvm.MethodName) ({ cls := "java/lang/Throwable", name := "fillInStackTrace", desc := "()Ljava/lang/Throwable;" } : Jvm.MethodName)) ∈ lw_all := lw_g (lw_at lw_m2 202 rfl) rfl
theorem q728 : (Jvm.Cond.instantiable "ActorTrees$Failure" (8 : Nat)) ∈ lw_all := lw_g (lw_at lw_m3 175 rfl) rfl
theorem q729 : (Jvm.Cond.castable "ActorTrees$Failure" "ActorTrees$Failure") ∈ lw_tbl := lw_at lw_m3 176 rfl
theorem q730 : (Jvm.Cond.selects "ActorTrees$Failure" ({ cls := "java/lang/Throwable", name := "fillInStackTrace", desc := "(I)Ljava/lang/Throwable;" } : Jvm.MethodName) ({ cls := "java/lang/Throwable", name := "fillInStackTrace", desc := "(I)Ljava/lang/Throwable;" } : Jvm.MethodName)) ∈ lw_all := lw_g (lw_at lw_m3 177 rfl) rfl
theorem q731 : (Jvm.Cond.lays "ActorTrees$Failure" "java/lang/Throwable" "cause" "Ljava/lang/Throwable;") ∈ lw_all := lw_g (lw_at lw_m3 178 rfl) rfl
theorem q732 : (Jvm.Cond.lays "ActorTrees$Failure" "java/lang/Throwable" "stackTrace" "[Ljava/lang/StackTraceElement;") ∈ lw_all := lw_g (lw_at lw_m3 179 rfl) rfl
theorem q733 : (Jvm.Cond.lays "ActorTrees$Failure" "java/lang/Throwable" "suppressedExceptions" "Ljava/util/List;") ∈ lw_all := lw_g (lw_at lw_m3 180 rfl) rfl
theorem q734 : (Jvm.Cond.lays "ActorTrees$Failure" "java/lang/Throwable" "detailMessage" "Ljava/lang/String;") ∈ lw_all := lw_g (lw_at lw_m3 181 rfl) rfl
theorem q735 : (Jvm.Cond.lays "ActorTrees$Failure" "java/lang/Throwable" "backtrace" "Ljava/lang/Object;") ∈ lw_all := lw_g (lw_at lw_m3 182 rfl) rfl
theorem q737 : (Jvm.Cond.instanceMethod ({ cls := "ActorTrees$Failure", name := "<init>", desc := "(II)V" } : Jvm.MethodName)) ∈ lw_all := lw_g (lw_at lw_m3 184 rfl) rfl
theorem q738 : (Jvm.Cond.code ({ cls := "ActorTrees$Failure", name := "<init>", desc := "(II)V" } : Jvm.MethodName) prog_6_method_1_code (3 : Nat) (Option.none : Option Jvm.ClassFile.FieldType)) ∈ lw_all := lw_g (lw_at lw_m3 185 rfl) rfl
theorem q739 : (Jvm.Cond.methodLink "ActorTrees$Failure" (1 : Nat) ({ cls := "ActorTrees$Failure", name := "<init>", desc := "(IILjava/lang/Throwable;)V" } : Jvm.MethodName)) ∈ lw_all := lw_g (lw_at lw_m3 186 rfl) rfl
theorem q740 : (Jvm.Cond.instanceMethod ({ cls := "ActorTrees$Failure", name := "<init>", desc := "(IILjava/lang/Throwable;)V" } : Jvm.MethodName)) ∈ lw_all := lw_g (lw_at lw_m3 187 rfl) rfl
theorem q741 : (Jvm.Cond.code ({ cls := "ActorTrees$Failure", name := "<init>", desc := "(IILjava/lang/Throwable;)V" } : Jvm.MethodName) prog_6_method_2_code (4 : Nat) (Option.none : Option Jvm.ClassFile.FieldType)) ∈ lw_all := lw_g (lw_at lw_m3 188 rfl) rfl
theorem q742 : (Jvm.Cond.stringRef "ActorTrees$Failure" (7 : Nat) "") ∈ lw_tbl := lw_at lw_m3 189 rfl
theorem q743 : (Jvm.Cond.methodLink "ActorTrees$Failure" (9 : Nat) ({ cls := "java/lang/Exception", name := "<init>", desc := "(Ljava/lang/String;Ljava/lang/Throwable;)V" } : Jvm.MethodName)) ∈ lw_all := lw_g (lw_at lw_m3 190 rfl) rfl
theorem q749 : (Jvm.Cond.fieldLink "ActorTrees$Failure" (14 : Nat) "ActorTrees$Failure" "actor" "I") ∈ lw_all := lw_g (lw_at lw_m3 196 rfl) rfl
theorem q752 : (Jvm.Cond.fieldLink "ActorTrees$Failure" (18 : Nat) "ActorTrees$Failure" "why" "I") ∈ lw_all := lw_g (lw_at lw_m3 199 rfl) rfl
theorem q755 : (Jvm.Cond.laysFinal "ActorTrees$Failure" "ActorTrees$Failure" "actor" "I") ∈ lw_all := lw_g (lw_at lw_m3 202 rfl) rfl
theorem q756 : (Jvm.Cond.soleField "ActorTrees$Failure" "actor") ∈ lw_all := lw_g (lw_at lw_m3 203 rfl) rfl
theorem q757 : (Jvm.Cond.laysFinal "ActorTrees$Failure" "ActorTrees$Failure" "why" "I") ∈ lw_all := lw_g (lw_at lw_m3 204 rfl) rfl
theorem q758 : (Jvm.Cond.soleField "ActorTrees$Failure" "why") ∈ lw_all := lw_g (lw_at lw_m3 205 rfl) rfl
theorem q759 : (Jvm.Cond.lays "ActorTrees$Failure" "java/lang/Throwable" "depth" "I") ∈ lw_all := lw_g (lw_at lw_m3 206 rfl) rfl
theorem q760 : (Jvm.Cond.superclass "ActorTrees$Failure" "java/lang/Exception") ∈ lw_all := lw_g (lw_at lw_m3 207 rfl) rfl
theorem q1019 : (Jvm.Cond.instanceMethod ({ cls := "ActorTrees$Failure", name := "at", desc := "(I)LActorTrees$Failure;" } : Jvm.MethodName)) ∈ lw_all := lw_g (lw_at lw_m4 226 rfl) rfl
theorem q1020 : (Jvm.Cond.selects "ActorTrees$Failure" ({ cls := "ActorTrees$Failure", name := "at", desc := "(I)LActorTrees$Failure;" } : Jvm.MethodName) ({ cls := "ActorTrees$Failure", name := "at", desc := "(I)LActorTrees$Failure;" } : Jvm.MethodName)) ∈ lw_all := lw_g (lw_at lw_m4 227 rfl) rfl
theorem q1021 : (Jvm.Cond.code ({ cls := "ActorTrees$Failure", name := "at", desc := "(I)LActorTrees$Failure;" } : Jvm.MethodName) prog_6_method_5_code (4 : Nat) (Option.some (Jvm.ClassFile.FieldType.object "ActorTrees$Failure"))) ∈ lw_all := lw_g (lw_at lw_m4 228 rfl) rfl
theorem q1022 : (Jvm.Cond.methodLink "ActorTrees$Failure" (25 : Nat) ({ cls := "ActorTrees$Failure", name := "below", desc := "()LActorTrees$Failure;" } : Jvm.MethodName)) ∈ lw_all := lw_g (lw_at lw_m4 229 rfl) rfl
theorem q1023 : (Jvm.Cond.instanceMethod ({ cls := "ActorTrees$Failure", name := "below", desc := "()LActorTrees$Failure;" } : Jvm.MethodName)) ∈ lw_all := lw_g (lw_at lw_m4 230 rfl) rfl
theorem q1024 : (Jvm.Cond.selects "ActorTrees$Failure" ({ cls := "ActorTrees$Failure", name := "below", desc := "()LActorTrees$Failure;" } : Jvm.MethodName) ({ cls := "ActorTrees$Failure", name := "below", desc := "()LActorTrees$Failure;" } : Jvm.MethodName)) ∈ lw_all := lw_g (lw_at lw_m4 231 rfl) rfl
theorem q1025 : (Jvm.Cond.code ({ cls := "ActorTrees$Failure", name := "below", desc := "()LActorTrees$Failure;" } : Jvm.MethodName) prog_6_method_3_code (3 : Nat) (Option.some (Jvm.ClassFile.FieldType.object "ActorTrees$Failure"))) ∈ lw_all := lw_g (lw_at lw_m4 232 rfl) rfl
theorem q1026 : (Jvm.Cond.methodLink "ActorTrees$Failure" (21 : Nat) ({ cls := "ActorTrees$Failure", name := "getCause", desc := "()Ljava/lang/Throwable;" } : Jvm.MethodName)) ∈ lw_all := lw_g (lw_at lw_m4 233 rfl) rfl
theorem q1027 : (Jvm.Cond.sameMethod "ActorTrees$Failure" "java/lang/Throwable" "getCause" "()Ljava/lang/Throwable;") ∈ lw_all := lw_g (lw_at lw_m4 234 rfl) rfl
theorem q1029 : (Jvm.Cond.selects "ActorTrees$Failure" ({ cls := "ActorTrees$Failure", name := "getCause", desc := "()Ljava/lang/Throwable;" } : Jvm.MethodName) ({ cls := "java/lang/Throwable", name := "getCause", desc := "()Ljava/lang/Throwable;" } : Jvm.MethodName)) ∈ lw_all := lw_g (lw_at lw_m4 236 rfl) rfl
theorem q1032 : (Jvm.Cond.classLink "ActorTrees$Failure" (2 : Nat) "ActorTrees$Failure") ∈ lw_all := lw_g (lw_at lw_m4 239 rfl) rfl
theorem q1275 : (Jvm.Cond.instanceMethod ({ cls := "ActorTrees$Failure", name := "deep", desc := "()I" } : Jvm.MethodName)) ∈ lw_all := lw_g (lw_at lw_m6 2 rfl) rfl
theorem q1276 : (Jvm.Cond.selects "ActorTrees$Failure" ({ cls := "ActorTrees$Failure", name := "deep", desc := "()I" } : Jvm.MethodName) ({ cls := "ActorTrees$Failure", name := "deep", desc := "()I" } : Jvm.MethodName)) ∈ lw_all := lw_g (lw_at lw_m6 3 rfl) rfl
theorem q1277 : (Jvm.Cond.code ({ cls := "ActorTrees$Failure", name := "deep", desc := "()I" } : Jvm.MethodName) prog_6_method_4_code (2 : Nat) (Option.some Jvm.ClassFile.FieldType.int)) ∈ lw_all := lw_g (lw_at lw_m6 4 rfl) rfl
theorem q1278 : (Jvm.Cond.methodLink "ActorTrees$Failure" (29 : Nat) ({ cls := "ActorTrees$Failure", name := "deep", desc := "()I" } : Jvm.MethodName)) ∈ lw_all := lw_g (lw_at lw_m6 5 rfl) rfl
theorem q1691 : (Jvm.Cond.castable "ActorTrees$Failure" "java/lang/Object") ∈ lw_tbl := lw_at lw_m7 178 rfl
theorem in_X11 : ∀ w ∈ wsX110, w ∈ lw_all := lw_in wsX110 [731, 732, 733, 734, 735, 759, 755, 757] (by decide +kernel) (by decide +kernel)
/-! ActorTrees$Overfull -/
set_option maxRecDepth 100000
def RX12 : String := "ActorTrees$Overfull"
abbrev cX12_init : ByteArray := prog_8_method_1_code
def yX12_init : MethodName := ⟨RX12, "<init>", "()V"⟩
theorem dX12_init_0 : decode cX12_init 0 = .ok (.aload_n 0, 1) := by decide +kernel
theorem dX12_init_1 : decode cX12_init 1 = .ok (.invokespecial 1, 3) := by decide +kernel
theorem dX12_init_4 : decode cX12_init 4 = .ok (.return_, 1) := by decide +kernel
theorem q92 : (Jvm.Cond.initialized "ActorTrees$Overfull") ∈ lw_all := lw_g (lw_at lw_m1 19 rfl) rfl
theorem q791 : (Jvm.Cond.declares ({ cls := "ActorTrees$Overfull", name := "<init>", desc := "()V" } : Jvm.MethodName)) ∈ lw_tbl := lw_at lw_m3 238 rfl
theorem q802 : (Jvm.Cond.instanceMethod ({ cls := "ActorTrees$Overfull", name := "<init>", desc := "()V" } : Jvm.MethodName)) ∈ lw_all := lw_g (lw_at lw_m4 9 rfl) rfl
theorem q803 : (Jvm.Cond.code ({ cls := "ActorTrees$Overfull", name := "<init>", desc := "()V" } : Jvm.MethodName) prog_8_method_1_code (1 : Nat) (Option.none : Option Jvm.ClassFile.FieldType)) ∈ lw_all := lw_g (lw_at lw_m4 10 rfl) rfl
theorem q804 : (Jvm.Cond.methodLink "ActorTrees$Overfull" (1 : Nat) ({ cls := "java/lang/Exception", name := "<init>", desc := "()V" } : Jvm.MethodName)) ∈ lw_all := lw_g (lw_at lw_m4 11 rfl) rfl
theorem q967 : (Jvm.Cond.declares ({ cls := "ActorTrees$Overfull", name := "why", desc := "()I" } : Jvm.MethodName)) ∈ lw_tbl := lw_at lw_m4 174 rfl
theorem q968 : (Jvm.Cond.sameMethod "ActorTrees$Overfull" "ActorTrees$Overfull" "why" "()I") ∈ lw_all := lw_g (lw_at lw_m4 175 rfl) rfl
/-! ActorTrees$StashFull -/
set_option maxRecDepth 100000
def RX13 : String := "ActorTrees$StashFull"
def TX13 : u_T := fun k => match k with
  | 0 => ("java/lang/Throwable", "cause", "Ljava/lang/Throwable;", false)
  | 1 => ("java/lang/Throwable", "stackTrace", "[Ljava/lang/StackTraceElement;", false)
  | 2 => ("java/lang/Throwable", "suppressedExceptions", "Ljava/util/List;", false)
  | 3 => ("java/lang/Throwable", "detailMessage", "Ljava/lang/String;", false)
  | 4 => ("java/lang/Throwable", "backtrace", "Ljava/lang/Object;", false)
  | _ => ("java/lang/Throwable", "depth", "I", false)
def tyX13 : Nat → FieldType := fun k => match k with
  | 0 => .object "java/lang/Throwable"
  | 1 => .array (.object "java/lang/StackTraceElement")
  | 2 => .object "java/util/List"
  | 3 => .object "java/lang/String"
  | 4 => .object "java/lang/Object"
  | _ => .int
abbrev wsX130 : List Cond := u_ws RX13 TX13 6
theorem nmX13 : ∀ a, a < 6 → ∀ b, b < 6 → a ≠ b → (TX13 a).2.1 ≠ (TX13 b).2.1 := by decide +kernel
theorem tyX13_ok : ∀ k, k < 6 → parseFieldDescriptor (TX13 k).2.2.1 = some (tyX13 k) := by decide +kernel
abbrev cX13_init : ByteArray := prog_15_method_1_code
def yX13_init : MethodName := ⟨RX13, "<init>", "()V"⟩
theorem dX13_init_0 : decode cX13_init 0 = .ok (.aload_n 0, 1) := by decide +kernel
theorem dX13_init_1 : decode cX13_init 1 = .ok (.invokespecial 1, 3) := by decide +kernel
theorem dX13_init_4 : decode cX13_init 4 = .ok (.return_, 1) := by decide +kernel
abbrev cX13_why : ByteArray := prog_15_method_2_code
def yX13_why : MethodName := ⟨RX13, "why", "()I"⟩
theorem dX13_why_0 : decode cX13_why 0 = .ok (.iconst 3, 1) := by decide +kernel
theorem dX13_why_1 : decode cX13_why 1 = .ok (.ireturn, 1) := by decide +kernel
theorem q93 : (Jvm.Cond.initialized "ActorTrees$StashFull") ∈ lw_all := lw_g (lw_at lw_m1 20 rfl) rfl
theorem q517 : (Jvm.Cond.selects "ActorTrees$StashFull" ({ cls := "java/lang/Throwable", name := "fillInStackTrace", desc := "()Ljava/lang/Throwable;" } : Jvm.MethodName) ({ cls := "java/lang/Throwable", name := "fillInStackTrace", desc := "()Ljava/lang/Throwable;" } : Jvm.MethodName)) ∈ lw_all := lw_g (lw_at lw_m2 204 rfl) rfl
theorem q789 : (Jvm.Cond.instantiable "ActorTrees$StashFull" (6 : Nat)) ∈ lw_all := lw_g (lw_at lw_m3 236 rfl) rfl
theorem q790 : (Jvm.Cond.castable "ActorTrees$StashFull" "ActorTrees$StashFull") ∈ lw_tbl := lw_at lw_m3 237 rfl
theorem q792 : (Jvm.Cond.selects "ActorTrees$StashFull" ({ cls := "java/lang/Throwable", name := "fillInStackTrace", desc := "(I)Ljava/lang/Throwable;" } : Jvm.MethodName) ({ cls := "java/lang/Throwable", name := "fillInStackTrace", desc := "(I)Ljava/lang/Throwable;" } : Jvm.MethodName)) ∈ lw_all := lw_g (lw_at lw_m3 239 rfl) rfl
theorem q793 : (Jvm.Cond.lays "ActorTrees$StashFull" "java/lang/Throwable" "cause" "Ljava/lang/Throwable;") ∈ lw_all := lw_g (lw_at lw_m4 0 rfl) rfl
theorem q794 : (Jvm.Cond.lays "ActorTrees$StashFull" "java/lang/Throwable" "stackTrace" "[Ljava/lang/StackTraceElement;") ∈ lw_all := lw_g (lw_at lw_m4 1 rfl) rfl
theorem q795 : (Jvm.Cond.lays "ActorTrees$StashFull" "java/lang/Throwable" "suppressedExceptions" "Ljava/util/List;") ∈ lw_all := lw_g (lw_at lw_m4 2 rfl) rfl
theorem q796 : (Jvm.Cond.lays "ActorTrees$StashFull" "java/lang/Throwable" "detailMessage" "Ljava/lang/String;") ∈ lw_all := lw_g (lw_at lw_m4 3 rfl) rfl
theorem q797 : (Jvm.Cond.lays "ActorTrees$StashFull" "java/lang/Throwable" "backtrace" "Ljava/lang/Object;") ∈ lw_all := lw_g (lw_at lw_m4 4 rfl) rfl
theorem q799 : (Jvm.Cond.instanceMethod ({ cls := "ActorTrees$StashFull", name := "<init>", desc := "()V" } : Jvm.MethodName)) ∈ lw_all := lw_g (lw_at lw_m4 6 rfl) rfl
theorem q800 : (Jvm.Cond.code ({ cls := "ActorTrees$StashFull", name := "<init>", desc := "()V" } : Jvm.MethodName) prog_15_method_1_code (1 : Nat) (Option.none : Option Jvm.ClassFile.FieldType)) ∈ lw_all := lw_g (lw_at lw_m4 7 rfl) rfl
theorem q801 : (Jvm.Cond.methodLinkNest "ActorTrees$StashFull" (1 : Nat) ({ cls := "ActorTrees$Overfull", name := "<init>", desc := "()V" } : Jvm.MethodName) "ActorTrees") ∈ lw_tbl := lw_at lw_m4 8 rfl
theorem q805 : (Jvm.Cond.lays "ActorTrees$StashFull" "java/lang/Throwable" "depth" "I") ∈ lw_all := lw_g (lw_at lw_m4 12 rfl) rfl
theorem q806 : (Jvm.Cond.superclass "ActorTrees$StashFull" "ActorTrees$Overfull") ∈ lw_all := lw_g (lw_at lw_m4 13 rfl) rfl
theorem q972 : (Jvm.Cond.selects "ActorTrees$StashFull" ({ cls := "ActorTrees$Overfull", name := "why", desc := "()I" } : Jvm.MethodName) ({ cls := "ActorTrees$StashFull", name := "why", desc := "()I" } : Jvm.MethodName)) ∈ lw_all := lw_g (lw_at lw_m4 179 rfl) rfl
theorem q973 : (Jvm.Cond.instanceMethod ({ cls := "ActorTrees$StashFull", name := "why", desc := "()I" } : Jvm.MethodName)) ∈ lw_all := lw_g (lw_at lw_m4 180 rfl) rfl
theorem q974 : (Jvm.Cond.code ({ cls := "ActorTrees$StashFull", name := "why", desc := "()I" } : Jvm.MethodName) prog_15_method_2_code (1 : Nat) (Option.some Jvm.ClassFile.FieldType.int)) ∈ lw_all := lw_g (lw_at lw_m4 181 rfl) rfl
theorem q1692 : (Jvm.Cond.castable "ActorTrees$StashFull" "java/lang/Object") ∈ lw_tbl := lw_at lw_m7 179 rfl
theorem in_X13 : ∀ w ∈ wsX130, w ∈ lw_all := lw_in wsX130 [793, 794, 795, 796, 797, 805] (by decide +kernel) (by decide +kernel)
/-! ActorTrees$StackFull -/
set_option maxRecDepth 100000
def RX14 : String := "ActorTrees$StackFull"
def TX14 : u_T := fun k => match k with
  | 0 => ("java/lang/Throwable", "cause", "Ljava/lang/Throwable;", false)
  | 1 => ("java/lang/Throwable", "stackTrace", "[Ljava/lang/StackTraceElement;", false)
  | 2 => ("java/lang/Throwable", "suppressedExceptions", "Ljava/util/List;", false)
  | 3 => ("java/lang/Throwable", "detailMessage", "Ljava/lang/String;", false)
  | 4 => ("java/lang/Throwable", "backtrace", "Ljava/lang/Object;", false)
  | _ => ("java/lang/Throwable", "depth", "I", false)
def tyX14 : Nat → FieldType := fun k => match k with
  | 0 => .object "java/lang/Throwable"
  | 1 => .array (.object "java/lang/StackTraceElement")
  | 2 => .object "java/util/List"
  | 3 => .object "java/lang/String"
  | 4 => .object "java/lang/Object"
  | _ => .int
abbrev wsX140 : List Cond := u_ws RX14 TX14 6
theorem nmX14 : ∀ a, a < 6 → ∀ b, b < 6 → a ≠ b → (TX14 a).2.1 ≠ (TX14 b).2.1 := by decide +kernel
theorem tyX14_ok : ∀ k, k < 6 → parseFieldDescriptor (TX14 k).2.2.1 = some (tyX14 k) := by decide +kernel
abbrev cX14_init : ByteArray := prog_14_method_1_code
def yX14_init : MethodName := ⟨RX14, "<init>", "()V"⟩
theorem dX14_init_0 : decode cX14_init 0 = .ok (.aload_n 0, 1) := by decide +kernel
theorem dX14_init_1 : decode cX14_init 1 = .ok (.invokespecial 1, 3) := by decide +kernel
theorem dX14_init_4 : decode cX14_init 4 = .ok (.return_, 1) := by decide +kernel
abbrev cX14_why : ByteArray := prog_14_method_2_code
def yX14_why : MethodName := ⟨RX14, "why", "()I"⟩
theorem dX14_why_0 : decode cX14_why 0 = .ok (.iconst 4, 1) := by decide +kernel
theorem dX14_why_1 : decode cX14_why 1 = .ok (.ireturn, 1) := by decide +kernel
theorem q98 : (Jvm.Cond.initialized "ActorTrees$StackFull") ∈ lw_all := lw_g (lw_at lw_m1 25 rfl) rfl
theorem q516 : (Jvm.Cond.selects "ActorTrees$StackFull" ({ cls := "java/lang/Throwable", name := "fillInStackTrace", desc := "()Ljava/lang/Throwable;" } : Jvm.MethodName) ({ cls := "java/lang/Throwable", name := "fillInStackTrace", desc := "()Ljava/lang/Throwable;" } : Jvm.MethodName)) ∈ lw_all := lw_g (lw_at lw_m2 203 rfl) rfl
theorem q869 : (Jvm.Cond.instantiable "ActorTrees$StackFull" (6 : Nat)) ∈ lw_all := lw_g (lw_at lw_m4 76 rfl) rfl
theorem q870 : (Jvm.Cond.castable "ActorTrees$StackFull" "ActorTrees$StackFull") ∈ lw_tbl := lw_at lw_m4 77 rfl
theorem q871 : (Jvm.Cond.selects "ActorTrees$StackFull" ({ cls := "java/lang/Throwable", name := "fillInStackTrace", desc := "(I)Ljava/lang/Throwable;" } : Jvm.MethodName) ({ cls := "java/lang/Throwable", name := "fillInStackTrace", desc := "(I)Ljava/lang/Throwable;" } : Jvm.MethodName)) ∈ lw_all := lw_g (lw_at lw_m4 78 rfl) rfl
theorem q872 : (Jvm.Cond.lays "ActorTrees$StackFull" "java/lang/Throwable" "cause" "Ljava/lang/Throwable;") ∈ lw_all := lw_g (lw_at lw_m4 79 rfl) rfl
theorem q873 : (Jvm.Cond.lays "ActorTrees$StackFull" "java/lang/Throwable" "stackTrace" "[Ljava/lang/StackTraceElement;") ∈ lw_all := lw_g (lw_at lw_m4 80 rfl) rfl
theorem q874 : (Jvm.Cond.lays "ActorTrees$StackFull" "java/lang/Throwable" "suppressedExceptions" "Ljava/util/List;") ∈ lw_all := lw_g (lw_at lw_m4 81 rfl) rfl
theorem q875 : (Jvm.Cond.lays "ActorTrees$StackFull" "java/lang/Throwable" "detailMessage" "Ljava/lang/String;") ∈ lw_all := lw_g (lw_at lw_m4 82 rfl) rfl
theorem q876 : (Jvm.Cond.lays "ActorTrees$StackFull" "java/lang/Throwable" "backtrace" "Ljava/lang/Object;") ∈ lw_all := lw_g (lw_at lw_m4 83 rfl) rfl
theorem q878 : (Jvm.Cond.instanceMethod ({ cls := "ActorTrees$StackFull", name := "<init>", desc := "()V" } : Jvm.MethodName)) ∈ lw_all := lw_g (lw_at lw_m4 85 rfl) rfl
theorem q879 : (Jvm.Cond.code ({ cls := "ActorTrees$StackFull", name := "<init>", desc := "()V" } : Jvm.MethodName) prog_14_method_1_code (1 : Nat) (Option.none : Option Jvm.ClassFile.FieldType)) ∈ lw_all := lw_g (lw_at lw_m4 86 rfl) rfl
theorem q880 : (Jvm.Cond.methodLinkNest "ActorTrees$StackFull" (1 : Nat) ({ cls := "ActorTrees$Overfull", name := "<init>", desc := "()V" } : Jvm.MethodName) "ActorTrees") ∈ lw_tbl := lw_at lw_m4 87 rfl
theorem q881 : (Jvm.Cond.lays "ActorTrees$StackFull" "java/lang/Throwable" "depth" "I") ∈ lw_all := lw_g (lw_at lw_m4 88 rfl) rfl
theorem q882 : (Jvm.Cond.superclass "ActorTrees$StackFull" "ActorTrees$Overfull") ∈ lw_all := lw_g (lw_at lw_m4 89 rfl) rfl
theorem q969 : (Jvm.Cond.selects "ActorTrees$StackFull" ({ cls := "ActorTrees$Overfull", name := "why", desc := "()I" } : Jvm.MethodName) ({ cls := "ActorTrees$StackFull", name := "why", desc := "()I" } : Jvm.MethodName)) ∈ lw_all := lw_g (lw_at lw_m4 176 rfl) rfl
theorem q970 : (Jvm.Cond.instanceMethod ({ cls := "ActorTrees$StackFull", name := "why", desc := "()I" } : Jvm.MethodName)) ∈ lw_all := lw_g (lw_at lw_m4 177 rfl) rfl
theorem q971 : (Jvm.Cond.code ({ cls := "ActorTrees$StackFull", name := "why", desc := "()I" } : Jvm.MethodName) prog_14_method_2_code (1 : Nat) (Option.some Jvm.ClassFile.FieldType.int)) ∈ lw_all := lw_g (lw_at lw_m4 178 rfl) rfl
theorem q1694 : (Jvm.Cond.castable "ActorTrees$StackFull" "java/lang/Object") ∈ lw_tbl := lw_at lw_m7 181 rfl
theorem in_X14 : ∀ w ∈ wsX140, w ∈ lw_all := lw_in wsX140 [872, 873, 874, 875, 876, 881] (by decide +kernel) (by decide +kernel)
/-! ActorTrees$Timer -/
set_option maxRecDepth 100000
def RX15 : String := "ActorTrees$Timer"
def TX15 : u_T := fun k => match k with
  | 0 => ("ActorTrees$Timer", "actor", "I", true)
  | 1 => ("ActorTrees$Timer", "due", "I", true)
  | _ => ("ActorTrees$Timer", "n", "I", true)
def tyX15 : Nat → FieldType := fun k => match k with
  | 0 => .int
  | 1 => .int
  | _ => .int
abbrev wsX150 : List Cond := u_ws RX15 TX15 3
theorem nmX15 : ∀ a, a < 3 → ∀ b, b < 3 → a ≠ b → (TX15 a).2.1 ≠ (TX15 b).2.1 := by decide +kernel
theorem tyX15_ok : ∀ k, k < 3 → parseFieldDescriptor (TX15 k).2.2.1 = some (tyX15 k) := by decide +kernel
abbrev cX15_init : ByteArray := prog_18_method_1_code
def yX15_init : MethodName := ⟨RX15, "<init>", "(III)V"⟩
def dkwX15_init_0 : List UInt8 := [42, 183, 0, 1, 42, 27, 181, 0, 7, 42, 28, 181, 0, 13, 42, 29, 181, 0, 16, 177]
abbrev dktX15_init_0 : List UInt8 := dkwX15_init_0 ++ []
theorem dksX15_init_0 : cX15_init.data.toList.drop 0 = dktX15_init_0 := by decide +kernel
theorem dX15_init_0 : decode cX15_init 0 = .ok (.aload_n 0, 1) := dk_42 (dk_at dksX15_init_0 0 rfl rfl)
theorem dX15_init_1 : decode cX15_init 1 = .ok (.invokespecial 1, 3) := dk_183 0 1 (dk_at dksX15_init_0 1 rfl rfl)
theorem dX15_init_4 : decode cX15_init 4 = .ok (.aload_n 0, 1) := dk_42 (dk_at dksX15_init_0 4 rfl rfl)
theorem dX15_init_5 : decode cX15_init 5 = .ok (.iload_n 1, 1) := dk_27 (dk_at dksX15_init_0 5 rfl rfl)
theorem dX15_init_6 : decode cX15_init 6 = .ok (.putfield 7, 3) := dk_181 0 7 (dk_at dksX15_init_0 6 rfl rfl)
theorem dX15_init_9 : decode cX15_init 9 = .ok (.aload_n 0, 1) := dk_42 (dk_at dksX15_init_0 9 rfl rfl)
theorem dX15_init_10 : decode cX15_init 10 = .ok (.iload_n 2, 1) := dk_28 (dk_at dksX15_init_0 10 rfl rfl)
theorem dX15_init_11 : decode cX15_init 11 = .ok (.putfield 13, 3) := dk_181 0 13 (dk_at dksX15_init_0 11 rfl rfl)
theorem dX15_init_14 : decode cX15_init 14 = .ok (.aload_n 0, 1) := dk_42 (dk_at dksX15_init_0 14 rfl rfl)
theorem dX15_init_15 : decode cX15_init 15 = .ok (.iload_n 3, 1) := dk_29 (dk_at dksX15_init_0 15 rfl rfl)
theorem dX15_init_16 : decode cX15_init 16 = .ok (.putfield 16, 3) := dk_181 0 16 (dk_at dksX15_init_0 16 rfl rfl)
theorem dX15_init_19 : decode cX15_init 19 = .ok (.return_, 1) := dk_177 (dk_at dksX15_init_0 19 rfl rfl)
theorem q99 : (Jvm.Cond.initialized "ActorTrees$Timer") ∈ lw_all := lw_g (lw_at lw_m1 26 rfl) rfl
theorem q892 : (Jvm.Cond.instantiable "ActorTrees$Timer" (3 : Nat)) ∈ lw_all := lw_g (lw_at lw_m4 99 rfl) rfl
theorem q894 : (Jvm.Cond.instanceMethod ({ cls := "ActorTrees$Timer", name := "<init>", desc := "(III)V" } : Jvm.MethodName)) ∈ lw_all := lw_g (lw_at lw_m4 101 rfl) rfl
theorem q895 : (Jvm.Cond.code ({ cls := "ActorTrees$Timer", name := "<init>", desc := "(III)V" } : Jvm.MethodName) prog_18_method_1_code (4 : Nat) (Option.none : Option Jvm.ClassFile.FieldType)) ∈ lw_all := lw_g (lw_at lw_m4 102 rfl) rfl
theorem q896 : (Jvm.Cond.methodLink "ActorTrees$Timer" (1 : Nat) ({ cls := "java/lang/Object", name := "<init>", desc := "()V" } : Jvm.MethodName)) ∈ lw_all := lw_g (lw_at lw_m4 103 rfl) rfl
theorem q897 : (Jvm.Cond.fieldLink "ActorTrees$Timer" (7 : Nat) "ActorTrees$Timer" "actor" "I") ∈ lw_all := lw_g (lw_at lw_m4 104 rfl) rfl
theorem q901 : (Jvm.Cond.fieldLink "ActorTrees$Timer" (13 : Nat) "ActorTrees$Timer" "due" "I") ∈ lw_all := lw_g (lw_at lw_m4 108 rfl) rfl
theorem q904 : (Jvm.Cond.fieldLink "ActorTrees$Timer" (16 : Nat) "ActorTrees$Timer" "n" "I") ∈ lw_all := lw_g (lw_at lw_m4 111 rfl) rfl
theorem q907 : (Jvm.Cond.laysFinal "ActorTrees$Timer" "ActorTrees$Timer" "actor" "I") ∈ lw_all := lw_g (lw_at lw_m4 114 rfl) rfl
theorem q908 : (Jvm.Cond.soleField "ActorTrees$Timer" "actor") ∈ lw_all := lw_g (lw_at lw_m4 115 rfl) rfl
theorem q909 : (Jvm.Cond.laysFinal "ActorTrees$Timer" "ActorTrees$Timer" "due" "I") ∈ lw_all := lw_g (lw_at lw_m4 116 rfl) rfl
theorem q910 : (Jvm.Cond.soleField "ActorTrees$Timer" "due") ∈ lw_all := lw_g (lw_at lw_m4 117 rfl) rfl
theorem q911 : (Jvm.Cond.laysFinal "ActorTrees$Timer" "ActorTrees$Timer" "n" "I") ∈ lw_all := lw_g (lw_at lw_m4 118 rfl) rfl
theorem q912 : (Jvm.Cond.soleField "ActorTrees$Timer" "n") ∈ lw_all := lw_g (lw_at lw_m4 119 rfl) rfl
theorem q913 : (Jvm.Cond.superclass "ActorTrees$Timer" "java/lang/Object") ∈ lw_all := lw_g (lw_at lw_m4 120 rfl) rfl
theorem q1695 : (Jvm.Cond.castable "ActorTrees$Timer" "java/lang/Object") ∈ lw_tbl := lw_at lw_m7 182 rfl
theorem in_X15 : ∀ w ∈ wsX150, w ∈ lw_all := lw_in wsX150 [907, 909, 911] (by decide +kernel) (by decide +kernel)
/-! ActorTrees$Reader -/
set_option maxRecDepth 100000
def RX16 : String := "ActorTrees$Reader"
def TX16 : u_T := fun k => match k with
  | 0 => ("ActorTrees$Reader", "text", "[B", true)
  | 1 => ("ActorTrees$Reader", "length", "I", true)
  | 2 => ("ActorTrees$Reader", "lines", "[I", true)
  | 3 => ("ActorTrees$Reader", "many", "I", false)
  | _ => ("ActorTrees$Reader", "at", "I", false)
def tyX16 : Nat → FieldType := fun k => match k with
  | 0 => .array .byte
  | 1 => .int
  | 2 => .array .int
  | 3 => .int
  | _ => .int
abbrev wsX160 : List Cond := u_ws RX16 TX16 5
theorem nmX16 : ∀ a, a < 5 → ∀ b, b < 5 → a ≠ b → (TX16 a).2.1 ≠ (TX16 b).2.1 := by decide +kernel
theorem tyX16_ok : ∀ k, k < 5 → parseFieldDescriptor (TX16 k).2.2.1 = some (tyX16 k) := by decide +kernel
abbrev cX16_init : ByteArray := prog_12_method_1_code
def yX16_init : MethodName := ⟨RX16, "<init>", "([BI)V"⟩
def dkwX16_init_0 : List UInt8 := [42, 183, 0, 3, 42, 17, 2, 208, 188, 10, 181, 0, 9, 42, 43, 181, 0, 15, 42, 28, 181, 0, 19, 177]
abbrev dktX16_init_0 : List UInt8 := dkwX16_init_0 ++ []
theorem dksX16_init_0 : cX16_init.data.toList.drop 0 = dktX16_init_0 := by decide +kernel
theorem dX16_init_0 : decode cX16_init 0 = .ok (.aload_n 0, 1) := dk_42 (dk_at dksX16_init_0 0 rfl rfl)
theorem dX16_init_1 : decode cX16_init 1 = .ok (.invokespecial 3, 3) := dk_183 0 3 (dk_at dksX16_init_0 1 rfl rfl)
theorem dX16_init_4 : decode cX16_init 4 = .ok (.aload_n 0, 1) := dk_42 (dk_at dksX16_init_0 4 rfl rfl)
theorem dX16_init_5 : decode cX16_init 5 = .ok (.sipush 720, 3) := dk_17 2 208 (dk_at dksX16_init_0 5 rfl rfl)
theorem dX16_init_8 : decode cX16_init 8 = .ok (.newarray .int, 2) := dk_188_10 (dk_at dksX16_init_0 8 rfl rfl)
theorem dX16_init_10 : decode cX16_init 10 = .ok (.putfield 9, 3) := dk_181 0 9 (dk_at dksX16_init_0 10 rfl rfl)
theorem dX16_init_13 : decode cX16_init 13 = .ok (.aload_n 0, 1) := dk_42 (dk_at dksX16_init_0 13 rfl rfl)
theorem dX16_init_14 : decode cX16_init 14 = .ok (.aload_n 1, 1) := dk_43 (dk_at dksX16_init_0 14 rfl rfl)
theorem dX16_init_15 : decode cX16_init 15 = .ok (.putfield 15, 3) := dk_181 0 15 (dk_at dksX16_init_0 15 rfl rfl)
theorem dX16_init_18 : decode cX16_init 18 = .ok (.aload_n 0, 1) := dk_42 (dk_at dksX16_init_0 18 rfl rfl)
theorem dX16_init_19 : decode cX16_init 19 = .ok (.iload_n 2, 1) := dk_28 (dk_at dksX16_init_0 19 rfl rfl)
theorem dX16_init_20 : decode cX16_init 20 = .ok (.putfield 19, 3) := dk_181 0 19 (dk_at dksX16_init_0 20 rfl rfl)
theorem dX16_init_23 : decode cX16_init 23 = .ok (.return_, 1) := dk_177 (dk_at dksX16_init_0 23 rfl rfl)
abbrev cX16_reads : ByteArray := prog_12_method_8_code
def yX16_reads : MethodName := ⟨RX16, "reads", "()V"⟩
def dkwX16_reads_1 : List UInt8 := [182, 0, 57, 167, 255, 235, 177]
abbrev dktX16_reads_1 : List UInt8 := dkwX16_reads_1 ++ []
def dkwX16_reads_0 : List UInt8 := [42, 182, 0, 57, 42, 180, 0, 23, 42, 180, 0, 19, 162, 0, 16, 42, 16, 59, 182, 0, 43, 42]
abbrev dktX16_reads_0 : List UInt8 := dkwX16_reads_0 ++ dktX16_reads_1
theorem dksX16_reads_0 : cX16_reads.data.toList.drop 0 = dktX16_reads_0 := by decide +kernel
theorem dksX16_reads_1 : cX16_reads.data.toList.drop 22 = dktX16_reads_1 := dk_seg dksX16_reads_0 22 rfl rfl
theorem dX16_reads_0 : decode cX16_reads 0 = .ok (.aload_n 0, 1) := dk_42 (dk_at dksX16_reads_0 0 rfl rfl)
theorem dX16_reads_1 : decode cX16_reads 1 = .ok (.invokevirtual 57, 3) := dk_182 0 57 (dk_at dksX16_reads_0 1 rfl rfl)
theorem dX16_reads_4 : decode cX16_reads 4 = .ok (.aload_n 0, 1) := dk_42 (dk_at dksX16_reads_0 4 rfl rfl)
theorem dX16_reads_5 : decode cX16_reads 5 = .ok (.getfield 23, 3) := dk_180 0 23 (dk_at dksX16_reads_0 5 rfl rfl)
theorem dX16_reads_8 : decode cX16_reads 8 = .ok (.aload_n 0, 1) := dk_42 (dk_at dksX16_reads_0 8 rfl rfl)
theorem dX16_reads_9 : decode cX16_reads 9 = .ok (.getfield 19, 3) := dk_180 0 19 (dk_at dksX16_reads_0 9 rfl rfl)
theorem dX16_reads_12 : decode cX16_reads 12 = .ok (.if_icmp .ge 16, 3) := dk_162 0 16 (dk_at dksX16_reads_0 12 rfl rfl)
theorem dX16_reads_15 : decode cX16_reads 15 = .ok (.aload_n 0, 1) := dk_42 (dk_at dksX16_reads_0 15 rfl rfl)
theorem dX16_reads_16 : decode cX16_reads 16 = .ok (.bipush 59, 2) := dk_16 59 (dk_at dksX16_reads_0 16 rfl rfl)
theorem dX16_reads_18 : decode cX16_reads 18 = .ok (.invokevirtual 43, 3) := dk_182 0 43 (dk_at dksX16_reads_0 18 rfl rfl)
theorem dX16_reads_21 : decode cX16_reads 21 = .ok (.aload_n 0, 1) := dk_42 (dk_at dksX16_reads_0 21 rfl rfl)
theorem dX16_reads_22 : decode cX16_reads 22 = .ok (.invokevirtual 57, 3) := dk_182 0 57 (dk_at dksX16_reads_1 0 rfl rfl)
theorem dX16_reads_25 : decode cX16_reads 25 = .ok (.goto (-21), 3) := dk_167 255 235 (dk_at dksX16_reads_1 3 rfl rfl)
theorem dX16_reads_28 : decode cX16_reads 28 = .ok (.return_, 1) := dk_177 (dk_at dksX16_reads_1 6 rfl rfl)
abbrev cX16_line : ByteArray := prog_12_method_7_code
def yX16_line : MethodName := ⟨RX16, "line", "()V"⟩
def dkwX16_line_5 : List UInt8 := [42, 89, 180, 0, 50, 4, 96, 181, 0, 50, 177]
abbrev dktX16_line_5 : List UInt8 := dkwX16_line_5 ++ []
def dkwX16_line_4 : List UInt8 := [160, 0, 13, 21, 4, 5, 160, 0, 7, 4, 167, 0, 4, 3, 182, 0, 53, 79, 132, 4, 1, 167, 255, 217]
abbrev dktX16_line_4 : List UInt8 := dkwX16_line_4 ++ dktX16_line_5
def dkwX16_line_3 : List UInt8 := [79, 4, 54, 4, 21, 4, 28, 163, 0, 39, 42, 180, 0, 9, 29, 21, 4, 96, 42, 27, 16, 109]
abbrev dktX16_line_3 : List UInt8 := dkwX16_line_3 ++ dktX16_line_4
def dkwX16_line_2 : List UInt8 := [42, 89, 180, 0, 23, 4, 96, 181, 0, 23, 16, 6, 42, 180, 0, 50, 104, 62, 42, 180, 0, 9, 29, 27]
abbrev dktX16_line_2 : List UInt8 := dkwX16_line_2 ++ dktX16_line_3
def dkwX16_line_1 : List UInt8 := [167, 0, 14, 27, 16, 115, 160, 0, 7, 4, 167, 0, 4, 3, 61, 28, 154, 0, 8, 42, 182, 0, 35, 191]
abbrev dktX16_line_1 : List UInt8 := dkwX16_line_1 ++ dktX16_line_2
def dkwX16_line_0 : List UInt8 := [42, 182, 0, 31, 60, 27, 16, 97, 160, 0, 7, 8, 167, 0, 24, 27, 16, 109, 160, 0, 7, 5]
abbrev dktX16_line_0 : List UInt8 := dkwX16_line_0 ++ dktX16_line_1
theorem dksX16_line_0 : cX16_line.data.toList.drop 0 = dktX16_line_0 := by decide +kernel
theorem dksX16_line_1 : cX16_line.data.toList.drop 22 = dktX16_line_1 := dk_seg dksX16_line_0 22 rfl rfl
theorem dksX16_line_2 : cX16_line.data.toList.drop 46 = dktX16_line_2 := dk_seg dksX16_line_1 24 rfl rfl
theorem dksX16_line_3 : cX16_line.data.toList.drop 70 = dktX16_line_3 := dk_seg dksX16_line_2 24 rfl rfl
theorem dksX16_line_4 : cX16_line.data.toList.drop 92 = dktX16_line_4 := dk_seg dksX16_line_3 22 rfl rfl
theorem dksX16_line_5 : cX16_line.data.toList.drop 116 = dktX16_line_5 := dk_seg dksX16_line_4 24 rfl rfl
theorem dX16_line_0 : decode cX16_line 0 = .ok (.aload_n 0, 1) := dk_42 (dk_at dksX16_line_0 0 rfl rfl)
theorem dX16_line_1 : decode cX16_line 1 = .ok (.invokevirtual 31, 3) := dk_182 0 31 (dk_at dksX16_line_0 1 rfl rfl)
theorem dX16_line_4 : decode cX16_line 4 = .ok (.istore_n 1, 1) := dk_60 (dk_at dksX16_line_0 4 rfl rfl)
theorem dX16_line_5 : decode cX16_line 5 = .ok (.iload_n 1, 1) := dk_27 (dk_at dksX16_line_0 5 rfl rfl)
theorem dX16_line_6 : decode cX16_line 6 = .ok (.bipush 97, 2) := dk_16 97 (dk_at dksX16_line_0 6 rfl rfl)
theorem dX16_line_8 : decode cX16_line 8 = .ok (.if_icmp .ne 7, 3) := dk_160 0 7 (dk_at dksX16_line_0 8 rfl rfl)
theorem dX16_line_11 : decode cX16_line 11 = .ok (.iconst 5, 1) := dk_8 (dk_at dksX16_line_0 11 rfl rfl)
theorem dX16_line_12 : decode cX16_line 12 = .ok (.goto 24, 3) := dk_167 0 24 (dk_at dksX16_line_0 12 rfl rfl)
theorem dX16_line_15 : decode cX16_line 15 = .ok (.iload_n 1, 1) := dk_27 (dk_at dksX16_line_0 15 rfl rfl)
theorem dX16_line_16 : decode cX16_line 16 = .ok (.bipush 109, 2) := dk_16 109 (dk_at dksX16_line_0 16 rfl rfl)
theorem dX16_line_18 : decode cX16_line 18 = .ok (.if_icmp .ne 7, 3) := dk_160 0 7 (dk_at dksX16_line_0 18 rfl rfl)
theorem dX16_line_21 : decode cX16_line 21 = .ok (.iconst 2, 1) := dk_5 (dk_at dksX16_line_0 21 rfl rfl)
theorem dX16_line_22 : decode cX16_line 22 = .ok (.goto 14, 3) := dk_167 0 14 (dk_at dksX16_line_1 0 rfl rfl)
theorem dX16_line_25 : decode cX16_line 25 = .ok (.iload_n 1, 1) := dk_27 (dk_at dksX16_line_1 3 rfl rfl)
theorem dX16_line_26 : decode cX16_line 26 = .ok (.bipush 115, 2) := dk_16 115 (dk_at dksX16_line_1 4 rfl rfl)
theorem dX16_line_28 : decode cX16_line 28 = .ok (.if_icmp .ne 7, 3) := dk_160 0 7 (dk_at dksX16_line_1 6 rfl rfl)
theorem dX16_line_31 : decode cX16_line 31 = .ok (.iconst 1, 1) := dk_4 (dk_at dksX16_line_1 9 rfl rfl)
theorem dX16_line_32 : decode cX16_line 32 = .ok (.goto 4, 3) := dk_167 0 4 (dk_at dksX16_line_1 10 rfl rfl)
theorem dX16_line_35 : decode cX16_line 35 = .ok (.iconst 0, 1) := dk_3 (dk_at dksX16_line_1 13 rfl rfl)
theorem dX16_line_36 : decode cX16_line 36 = .ok (.istore_n 2, 1) := dk_61 (dk_at dksX16_line_1 14 rfl rfl)
theorem dX16_line_37 : decode cX16_line 37 = .ok (.iload_n 2, 1) := dk_28 (dk_at dksX16_line_1 15 rfl rfl)
theorem dX16_line_38 : decode cX16_line 38 = .ok (.ifCond .ne 8, 3) := dk_154 0 8 (dk_at dksX16_line_1 16 rfl rfl)
theorem dX16_line_41 : decode cX16_line 41 = .ok (.aload_n 0, 1) := dk_42 (dk_at dksX16_line_1 19 rfl rfl)
theorem dX16_line_42 : decode cX16_line 42 = .ok (.invokevirtual 35, 3) := dk_182 0 35 (dk_at dksX16_line_1 20 rfl rfl)
theorem dX16_line_45 : decode cX16_line 45 = .ok (.athrow, 1) := dk_191 (dk_at dksX16_line_1 23 rfl rfl)
theorem dX16_line_46 : decode cX16_line 46 = .ok (.aload_n 0, 1) := dk_42 (dk_at dksX16_line_2 0 rfl rfl)
theorem dX16_line_47 : decode cX16_line 47 = .ok (.dup, 1) := dk_89 (dk_at dksX16_line_2 1 rfl rfl)
theorem dX16_line_48 : decode cX16_line 48 = .ok (.getfield 23, 3) := dk_180 0 23 (dk_at dksX16_line_2 2 rfl rfl)
theorem dX16_line_51 : decode cX16_line 51 = .ok (.iconst 1, 1) := dk_4 (dk_at dksX16_line_2 5 rfl rfl)
theorem dX16_line_52 : decode cX16_line 52 = .ok (.iadd, 1) := dk_96 (dk_at dksX16_line_2 6 rfl rfl)
theorem dX16_line_53 : decode cX16_line 53 = .ok (.putfield 23, 3) := dk_181 0 23 (dk_at dksX16_line_2 7 rfl rfl)
theorem dX16_line_56 : decode cX16_line 56 = .ok (.bipush 6, 2) := dk_16 6 (dk_at dksX16_line_2 10 rfl rfl)
theorem dX16_line_58 : decode cX16_line 58 = .ok (.aload_n 0, 1) := dk_42 (dk_at dksX16_line_2 12 rfl rfl)
theorem dX16_line_59 : decode cX16_line 59 = .ok (.getfield 50, 3) := dk_180 0 50 (dk_at dksX16_line_2 13 rfl rfl)
theorem dX16_line_62 : decode cX16_line 62 = .ok (.imul, 1) := dk_104 (dk_at dksX16_line_2 16 rfl rfl)
theorem dX16_line_63 : decode cX16_line 63 = .ok (.istore_n 3, 1) := dk_62 (dk_at dksX16_line_2 17 rfl rfl)
theorem dX16_line_64 : decode cX16_line 64 = .ok (.aload_n 0, 1) := dk_42 (dk_at dksX16_line_2 18 rfl rfl)
theorem dX16_line_65 : decode cX16_line 65 = .ok (.getfield 9, 3) := dk_180 0 9 (dk_at dksX16_line_2 19 rfl rfl)
theorem dX16_line_68 : decode cX16_line 68 = .ok (.iload_n 3, 1) := dk_29 (dk_at dksX16_line_2 22 rfl rfl)
theorem dX16_line_69 : decode cX16_line 69 = .ok (.iload_n 1, 1) := dk_27 (dk_at dksX16_line_2 23 rfl rfl)
theorem dX16_line_70 : decode cX16_line 70 = .ok (.iastore, 1) := dk_79 (dk_at dksX16_line_3 0 rfl rfl)
theorem dX16_line_71 : decode cX16_line 71 = .ok (.iconst 1, 1) := dk_4 (dk_at dksX16_line_3 1 rfl rfl)
theorem dX16_line_72 : decode cX16_line 72 = .ok (.istore 4, 2) := dk_54 4 (dk_at dksX16_line_3 2 rfl rfl)
theorem dX16_line_74 : decode cX16_line 74 = .ok (.iload 4, 2) := dk_21 4 (dk_at dksX16_line_3 4 rfl rfl)
theorem dX16_line_76 : decode cX16_line 76 = .ok (.iload_n 2, 1) := dk_28 (dk_at dksX16_line_3 6 rfl rfl)
theorem dX16_line_77 : decode cX16_line 77 = .ok (.if_icmp .gt 39, 3) := dk_163 0 39 (dk_at dksX16_line_3 7 rfl rfl)
theorem dX16_line_80 : decode cX16_line 80 = .ok (.aload_n 0, 1) := dk_42 (dk_at dksX16_line_3 10 rfl rfl)
theorem dX16_line_81 : decode cX16_line 81 = .ok (.getfield 9, 3) := dk_180 0 9 (dk_at dksX16_line_3 11 rfl rfl)
theorem dX16_line_84 : decode cX16_line 84 = .ok (.iload_n 3, 1) := dk_29 (dk_at dksX16_line_3 14 rfl rfl)
theorem dX16_line_85 : decode cX16_line 85 = .ok (.iload 4, 2) := dk_21 4 (dk_at dksX16_line_3 15 rfl rfl)
theorem dX16_line_87 : decode cX16_line 87 = .ok (.iadd, 1) := dk_96 (dk_at dksX16_line_3 17 rfl rfl)
theorem dX16_line_88 : decode cX16_line 88 = .ok (.aload_n 0, 1) := dk_42 (dk_at dksX16_line_3 18 rfl rfl)
theorem dX16_line_89 : decode cX16_line 89 = .ok (.iload_n 1, 1) := dk_27 (dk_at dksX16_line_3 19 rfl rfl)
theorem dX16_line_90 : decode cX16_line 90 = .ok (.bipush 109, 2) := dk_16 109 (dk_at dksX16_line_3 20 rfl rfl)
theorem dX16_line_92 : decode cX16_line 92 = .ok (.if_icmp .ne 13, 3) := dk_160 0 13 (dk_at dksX16_line_4 0 rfl rfl)
theorem dX16_line_95 : decode cX16_line 95 = .ok (.iload 4, 2) := dk_21 4 (dk_at dksX16_line_4 3 rfl rfl)
theorem dX16_line_97 : decode cX16_line 97 = .ok (.iconst 2, 1) := dk_5 (dk_at dksX16_line_4 5 rfl rfl)
theorem dX16_line_98 : decode cX16_line 98 = .ok (.if_icmp .ne 7, 3) := dk_160 0 7 (dk_at dksX16_line_4 6 rfl rfl)
theorem dX16_line_101 : decode cX16_line 101 = .ok (.iconst 1, 1) := dk_4 (dk_at dksX16_line_4 9 rfl rfl)
theorem dX16_line_102 : decode cX16_line 102 = .ok (.goto 4, 3) := dk_167 0 4 (dk_at dksX16_line_4 10 rfl rfl)
theorem dX16_line_105 : decode cX16_line 105 = .ok (.iconst 0, 1) := dk_3 (dk_at dksX16_line_4 13 rfl rfl)
theorem dX16_line_106 : decode cX16_line 106 = .ok (.invokevirtual 53, 3) := dk_182 0 53 (dk_at dksX16_line_4 14 rfl rfl)
theorem dX16_line_109 : decode cX16_line 109 = .ok (.iastore, 1) := dk_79 (dk_at dksX16_line_4 17 rfl rfl)
theorem dX16_line_110 : decode cX16_line 110 = .ok (.iinc 4 1, 3) := dk_132 4 1 (dk_at dksX16_line_4 18 rfl rfl)
theorem dX16_line_113 : decode cX16_line 113 = .ok (.goto (-39), 3) := dk_167 255 217 (dk_at dksX16_line_4 21 rfl rfl)
theorem dX16_line_116 : decode cX16_line 116 = .ok (.aload_n 0, 1) := dk_42 (dk_at dksX16_line_5 0 rfl rfl)
theorem dX16_line_117 : decode cX16_line 117 = .ok (.dup, 1) := dk_89 (dk_at dksX16_line_5 1 rfl rfl)
theorem dX16_line_118 : decode cX16_line 118 = .ok (.getfield 50, 3) := dk_180 0 50 (dk_at dksX16_line_5 2 rfl rfl)
theorem dX16_line_121 : decode cX16_line 121 = .ok (.iconst 1, 1) := dk_4 (dk_at dksX16_line_5 5 rfl rfl)
theorem dX16_line_122 : decode cX16_line 122 = .ok (.iadd, 1) := dk_96 (dk_at dksX16_line_5 6 rfl rfl)
theorem dX16_line_123 : decode cX16_line 123 = .ok (.putfield 50, 3) := dk_181 0 50 (dk_at dksX16_line_5 7 rfl rfl)
theorem dX16_line_126 : decode cX16_line 126 = .ok (.return_, 1) := dk_177 (dk_at dksX16_line_5 10 rfl rfl)
abbrev cX16_sign : ByteArray := prog_12_method_2_code
def yX16_sign : MethodName := ⟨RX16, "sign", "()I"⟩
def dkwX16_sign_1 : List UInt8 := [167, 0, 4, 2, 172]
abbrev dktX16_sign_1 : List UInt8 := dkwX16_sign_1 ++ []
def dkwX16_sign_0 : List UInt8 := [42, 180, 0, 23, 42, 180, 0, 19, 162, 0, 19, 42, 180, 0, 15, 42, 180, 0, 23, 51, 17, 0, 255, 126]
abbrev dktX16_sign_0 : List UInt8 := dkwX16_sign_0 ++ dktX16_sign_1
theorem dksX16_sign_0 : cX16_sign.data.toList.drop 0 = dktX16_sign_0 := by decide +kernel
theorem dksX16_sign_1 : cX16_sign.data.toList.drop 24 = dktX16_sign_1 := dk_seg dksX16_sign_0 24 rfl rfl
theorem dX16_sign_0 : decode cX16_sign 0 = .ok (.aload_n 0, 1) := dk_42 (dk_at dksX16_sign_0 0 rfl rfl)
theorem dX16_sign_1 : decode cX16_sign 1 = .ok (.getfield 23, 3) := dk_180 0 23 (dk_at dksX16_sign_0 1 rfl rfl)
theorem dX16_sign_4 : decode cX16_sign 4 = .ok (.aload_n 0, 1) := dk_42 (dk_at dksX16_sign_0 4 rfl rfl)
theorem dX16_sign_5 : decode cX16_sign 5 = .ok (.getfield 19, 3) := dk_180 0 19 (dk_at dksX16_sign_0 5 rfl rfl)
theorem dX16_sign_8 : decode cX16_sign 8 = .ok (.if_icmp .ge 19, 3) := dk_162 0 19 (dk_at dksX16_sign_0 8 rfl rfl)
theorem dX16_sign_11 : decode cX16_sign 11 = .ok (.aload_n 0, 1) := dk_42 (dk_at dksX16_sign_0 11 rfl rfl)
theorem dX16_sign_12 : decode cX16_sign 12 = .ok (.getfield 15, 3) := dk_180 0 15 (dk_at dksX16_sign_0 12 rfl rfl)
theorem dX16_sign_15 : decode cX16_sign 15 = .ok (.aload_n 0, 1) := dk_42 (dk_at dksX16_sign_0 15 rfl rfl)
theorem dX16_sign_16 : decode cX16_sign 16 = .ok (.getfield 23, 3) := dk_180 0 23 (dk_at dksX16_sign_0 16 rfl rfl)
theorem dX16_sign_19 : decode cX16_sign 19 = .ok (.baload, 1) := dk_51 (dk_at dksX16_sign_0 19 rfl rfl)
theorem dX16_sign_20 : decode cX16_sign 20 = .ok (.sipush 255, 3) := dk_17 0 255 (dk_at dksX16_sign_0 20 rfl rfl)
theorem dX16_sign_23 : decode cX16_sign 23 = .ok (.iand, 1) := dk_126 (dk_at dksX16_sign_0 23 rfl rfl)
theorem dX16_sign_24 : decode cX16_sign 24 = .ok (.goto 4, 3) := dk_167 0 4 (dk_at dksX16_sign_1 0 rfl rfl)
theorem dX16_sign_27 : decode cX16_sign 27 = .ok (.iconst (-1), 1) := dk_2 (dk_at dksX16_sign_1 3 rfl rfl)
theorem dX16_sign_28 : decode cX16_sign 28 = .ok (.ireturn, 1) := dk_172 (dk_at dksX16_sign_1 4 rfl rfl)
abbrev cX16_wrong : ByteArray := prog_12_method_3_code
def yX16_wrong : MethodName := ⟨RX16, "wrong", "()LActorTrees$Wrong;"⟩
def dkwX16_wrong_0 : List UInt8 := [187, 0, 26, 89, 17, 252, 24, 42, 180, 0, 23, 100, 183, 0, 28, 176]
abbrev dktX16_wrong_0 : List UInt8 := dkwX16_wrong_0 ++ []
theorem dksX16_wrong_0 : cX16_wrong.data.toList.drop 0 = dktX16_wrong_0 := by decide +kernel
theorem dX16_wrong_0 : decode cX16_wrong 0 = .ok (.new 26, 3) := dk_187 0 26 (dk_at dksX16_wrong_0 0 rfl rfl)
theorem dX16_wrong_3 : decode cX16_wrong 3 = .ok (.dup, 1) := dk_89 (dk_at dksX16_wrong_0 3 rfl rfl)
theorem dX16_wrong_4 : decode cX16_wrong 4 = .ok (.sipush (-1000), 3) := dk_17 252 24 (dk_at dksX16_wrong_0 4 rfl rfl)
theorem dX16_wrong_7 : decode cX16_wrong 7 = .ok (.aload_n 0, 1) := dk_42 (dk_at dksX16_wrong_0 7 rfl rfl)
theorem dX16_wrong_8 : decode cX16_wrong 8 = .ok (.getfield 23, 3) := dk_180 0 23 (dk_at dksX16_wrong_0 8 rfl rfl)
theorem dX16_wrong_11 : decode cX16_wrong 11 = .ok (.isub, 1) := dk_100 (dk_at dksX16_wrong_0 11 rfl rfl)
theorem dX16_wrong_12 : decode cX16_wrong 12 = .ok (.invokespecial 28, 3) := dk_183 0 28 (dk_at dksX16_wrong_0 12 rfl rfl)
theorem dX16_wrong_15 : decode cX16_wrong 15 = .ok (.areturn, 1) := dk_176 (dk_at dksX16_wrong_0 15 rfl rfl)
abbrev cX16_number : ByteArray := prog_12_method_6_code
def yX16_number : MethodName := ⟨RX16, "number", "(Z)I"⟩
def dkwX16_number_4 : List UInt8 := [167, 255, 217, 28, 153, 0, 8, 29, 116, 167, 0, 4, 29, 172]
abbrev dktX16_number_4 : List UInt8 := dkwX16_number_4 ++ []
def dkwX16_number_3 : List UInt8 := [29, 104, 42, 182, 0, 31, 96, 16, 48, 100, 62, 42, 89, 180, 0, 23, 4, 96, 181, 0, 23, 132, 4, 1]
abbrev dktX16_number_3 : List UInt8 := dkwX16_number_3 ++ dktX16_number_4
def dkwX16_number_2 : List UInt8 := [182, 0, 35, 191, 3, 62, 3, 54, 4, 21, 4, 5, 162, 0, 39, 42, 182, 0, 46, 153, 0, 32, 16, 10]
abbrev dktX16_number_2 : List UInt8 := dkwX16_number_2 ++ dktX16_number_3
def dkwX16_number_1 : List UInt8 := [61, 28, 153, 0, 13, 42, 89, 180, 0, 23, 4, 96, 181, 0, 23, 42, 182, 0, 46, 154, 0, 8, 42]
abbrev dktX16_number_1 : List UInt8 := dkwX16_number_1 ++ dktX16_number_2
def dkwX16_number_0 : List UInt8 := [42, 16, 32, 182, 0, 43, 27, 153, 0, 16, 42, 182, 0, 31, 16, 45, 160, 0, 7, 4, 167, 0, 4, 3]
abbrev dktX16_number_0 : List UInt8 := dkwX16_number_0 ++ dktX16_number_1
theorem dksX16_number_0 : cX16_number.data.toList.drop 0 = dktX16_number_0 := by decide +kernel
theorem dksX16_number_1 : cX16_number.data.toList.drop 24 = dktX16_number_1 := dk_seg dksX16_number_0 24 rfl rfl
theorem dksX16_number_2 : cX16_number.data.toList.drop 47 = dktX16_number_2 := dk_seg dksX16_number_1 23 rfl rfl
theorem dksX16_number_3 : cX16_number.data.toList.drop 71 = dktX16_number_3 := dk_seg dksX16_number_2 24 rfl rfl
theorem dksX16_number_4 : cX16_number.data.toList.drop 95 = dktX16_number_4 := dk_seg dksX16_number_3 24 rfl rfl
theorem dX16_number_0 : decode cX16_number 0 = .ok (.aload_n 0, 1) := dk_42 (dk_at dksX16_number_0 0 rfl rfl)
theorem dX16_number_1 : decode cX16_number 1 = .ok (.bipush 32, 2) := dk_16 32 (dk_at dksX16_number_0 1 rfl rfl)
theorem dX16_number_3 : decode cX16_number 3 = .ok (.invokevirtual 43, 3) := dk_182 0 43 (dk_at dksX16_number_0 3 rfl rfl)
theorem dX16_number_6 : decode cX16_number 6 = .ok (.iload_n 1, 1) := dk_27 (dk_at dksX16_number_0 6 rfl rfl)
theorem dX16_number_7 : decode cX16_number 7 = .ok (.ifCond .eq 16, 3) := dk_153 0 16 (dk_at dksX16_number_0 7 rfl rfl)
theorem dX16_number_10 : decode cX16_number 10 = .ok (.aload_n 0, 1) := dk_42 (dk_at dksX16_number_0 10 rfl rfl)
theorem dX16_number_11 : decode cX16_number 11 = .ok (.invokevirtual 31, 3) := dk_182 0 31 (dk_at dksX16_number_0 11 rfl rfl)
theorem dX16_number_14 : decode cX16_number 14 = .ok (.bipush 45, 2) := dk_16 45 (dk_at dksX16_number_0 14 rfl rfl)
theorem dX16_number_16 : decode cX16_number 16 = .ok (.if_icmp .ne 7, 3) := dk_160 0 7 (dk_at dksX16_number_0 16 rfl rfl)
theorem dX16_number_19 : decode cX16_number 19 = .ok (.iconst 1, 1) := dk_4 (dk_at dksX16_number_0 19 rfl rfl)
theorem dX16_number_20 : decode cX16_number 20 = .ok (.goto 4, 3) := dk_167 0 4 (dk_at dksX16_number_0 20 rfl rfl)
theorem dX16_number_23 : decode cX16_number 23 = .ok (.iconst 0, 1) := dk_3 (dk_at dksX16_number_0 23 rfl rfl)
theorem dX16_number_24 : decode cX16_number 24 = .ok (.istore_n 2, 1) := dk_61 (dk_at dksX16_number_1 0 rfl rfl)
theorem dX16_number_25 : decode cX16_number 25 = .ok (.iload_n 2, 1) := dk_28 (dk_at dksX16_number_1 1 rfl rfl)
theorem dX16_number_26 : decode cX16_number 26 = .ok (.ifCond .eq 13, 3) := dk_153 0 13 (dk_at dksX16_number_1 2 rfl rfl)
theorem dX16_number_29 : decode cX16_number 29 = .ok (.aload_n 0, 1) := dk_42 (dk_at dksX16_number_1 5 rfl rfl)
theorem dX16_number_30 : decode cX16_number 30 = .ok (.dup, 1) := dk_89 (dk_at dksX16_number_1 6 rfl rfl)
theorem dX16_number_31 : decode cX16_number 31 = .ok (.getfield 23, 3) := dk_180 0 23 (dk_at dksX16_number_1 7 rfl rfl)
theorem dX16_number_34 : decode cX16_number 34 = .ok (.iconst 1, 1) := dk_4 (dk_at dksX16_number_1 10 rfl rfl)
theorem dX16_number_35 : decode cX16_number 35 = .ok (.iadd, 1) := dk_96 (dk_at dksX16_number_1 11 rfl rfl)
theorem dX16_number_36 : decode cX16_number 36 = .ok (.putfield 23, 3) := dk_181 0 23 (dk_at dksX16_number_1 12 rfl rfl)
theorem dX16_number_39 : decode cX16_number 39 = .ok (.aload_n 0, 1) := dk_42 (dk_at dksX16_number_1 15 rfl rfl)
theorem dX16_number_40 : decode cX16_number 40 = .ok (.invokevirtual 46, 3) := dk_182 0 46 (dk_at dksX16_number_1 16 rfl rfl)
theorem dX16_number_43 : decode cX16_number 43 = .ok (.ifCond .ne 8, 3) := dk_154 0 8 (dk_at dksX16_number_1 19 rfl rfl)
theorem dX16_number_46 : decode cX16_number 46 = .ok (.aload_n 0, 1) := dk_42 (dk_at dksX16_number_1 22 rfl rfl)
theorem dX16_number_47 : decode cX16_number 47 = .ok (.invokevirtual 35, 3) := dk_182 0 35 (dk_at dksX16_number_2 0 rfl rfl)
theorem dX16_number_50 : decode cX16_number 50 = .ok (.athrow, 1) := dk_191 (dk_at dksX16_number_2 3 rfl rfl)
theorem dX16_number_51 : decode cX16_number 51 = .ok (.iconst 0, 1) := dk_3 (dk_at dksX16_number_2 4 rfl rfl)
theorem dX16_number_52 : decode cX16_number 52 = .ok (.istore_n 3, 1) := dk_62 (dk_at dksX16_number_2 5 rfl rfl)
theorem dX16_number_53 : decode cX16_number 53 = .ok (.iconst 0, 1) := dk_3 (dk_at dksX16_number_2 6 rfl rfl)
theorem dX16_number_54 : decode cX16_number 54 = .ok (.istore 4, 2) := dk_54 4 (dk_at dksX16_number_2 7 rfl rfl)
theorem dX16_number_56 : decode cX16_number 56 = .ok (.iload 4, 2) := dk_21 4 (dk_at dksX16_number_2 9 rfl rfl)
theorem dX16_number_58 : decode cX16_number 58 = .ok (.iconst 2, 1) := dk_5 (dk_at dksX16_number_2 11 rfl rfl)
theorem dX16_number_59 : decode cX16_number 59 = .ok (.if_icmp .ge 39, 3) := dk_162 0 39 (dk_at dksX16_number_2 12 rfl rfl)
theorem dX16_number_62 : decode cX16_number 62 = .ok (.aload_n 0, 1) := dk_42 (dk_at dksX16_number_2 15 rfl rfl)
theorem dX16_number_63 : decode cX16_number 63 = .ok (.invokevirtual 46, 3) := dk_182 0 46 (dk_at dksX16_number_2 16 rfl rfl)
theorem dX16_number_66 : decode cX16_number 66 = .ok (.ifCond .eq 32, 3) := dk_153 0 32 (dk_at dksX16_number_2 19 rfl rfl)
theorem dX16_number_69 : decode cX16_number 69 = .ok (.bipush 10, 2) := dk_16 10 (dk_at dksX16_number_2 22 rfl rfl)
theorem dX16_number_71 : decode cX16_number 71 = .ok (.iload_n 3, 1) := dk_29 (dk_at dksX16_number_3 0 rfl rfl)
theorem dX16_number_72 : decode cX16_number 72 = .ok (.imul, 1) := dk_104 (dk_at dksX16_number_3 1 rfl rfl)
theorem dX16_number_73 : decode cX16_number 73 = .ok (.aload_n 0, 1) := dk_42 (dk_at dksX16_number_3 2 rfl rfl)
theorem dX16_number_74 : decode cX16_number 74 = .ok (.invokevirtual 31, 3) := dk_182 0 31 (dk_at dksX16_number_3 3 rfl rfl)
theorem dX16_number_77 : decode cX16_number 77 = .ok (.iadd, 1) := dk_96 (dk_at dksX16_number_3 6 rfl rfl)
theorem dX16_number_78 : decode cX16_number 78 = .ok (.bipush 48, 2) := dk_16 48 (dk_at dksX16_number_3 7 rfl rfl)
theorem dX16_number_80 : decode cX16_number 80 = .ok (.isub, 1) := dk_100 (dk_at dksX16_number_3 9 rfl rfl)
theorem dX16_number_81 : decode cX16_number 81 = .ok (.istore_n 3, 1) := dk_62 (dk_at dksX16_number_3 10 rfl rfl)
theorem dX16_number_82 : decode cX16_number 82 = .ok (.aload_n 0, 1) := dk_42 (dk_at dksX16_number_3 11 rfl rfl)
theorem dX16_number_83 : decode cX16_number 83 = .ok (.dup, 1) := dk_89 (dk_at dksX16_number_3 12 rfl rfl)
theorem dX16_number_84 : decode cX16_number 84 = .ok (.getfield 23, 3) := dk_180 0 23 (dk_at dksX16_number_3 13 rfl rfl)
theorem dX16_number_87 : decode cX16_number 87 = .ok (.iconst 1, 1) := dk_4 (dk_at dksX16_number_3 16 rfl rfl)
theorem dX16_number_88 : decode cX16_number 88 = .ok (.iadd, 1) := dk_96 (dk_at dksX16_number_3 17 rfl rfl)
theorem dX16_number_89 : decode cX16_number 89 = .ok (.putfield 23, 3) := dk_181 0 23 (dk_at dksX16_number_3 18 rfl rfl)
theorem dX16_number_92 : decode cX16_number 92 = .ok (.iinc 4 1, 3) := dk_132 4 1 (dk_at dksX16_number_3 21 rfl rfl)
theorem dX16_number_95 : decode cX16_number 95 = .ok (.goto (-39), 3) := dk_167 255 217 (dk_at dksX16_number_4 0 rfl rfl)
theorem dX16_number_98 : decode cX16_number 98 = .ok (.iload_n 2, 1) := dk_28 (dk_at dksX16_number_4 3 rfl rfl)
theorem dX16_number_99 : decode cX16_number 99 = .ok (.ifCond .eq 8, 3) := dk_153 0 8 (dk_at dksX16_number_4 4 rfl rfl)
theorem dX16_number_102 : decode cX16_number 102 = .ok (.iload_n 3, 1) := dk_29 (dk_at dksX16_number_4 7 rfl rfl)
theorem dX16_number_103 : decode cX16_number 103 = .ok (.ineg, 1) := dk_116 (dk_at dksX16_number_4 8 rfl rfl)
theorem dX16_number_104 : decode cX16_number 104 = .ok (.goto 4, 3) := dk_167 0 4 (dk_at dksX16_number_4 9 rfl rfl)
theorem dX16_number_107 : decode cX16_number 107 = .ok (.iload_n 3, 1) := dk_29 (dk_at dksX16_number_4 12 rfl rfl)
theorem dX16_number_108 : decode cX16_number 108 = .ok (.ireturn, 1) := dk_172 (dk_at dksX16_number_4 13 rfl rfl)
abbrev cX16_need : ByteArray := prog_12_method_4_code
def yX16_need : MethodName := ⟨RX16, "need", "(I)V"⟩
def dkwX16_need_0 : List UInt8 := [42, 182, 0, 31, 27, 159, 0, 8, 42, 182, 0, 35, 191, 42, 89, 180, 0, 23, 4, 96, 181, 0, 23, 177]
abbrev dktX16_need_0 : List UInt8 := dkwX16_need_0 ++ []
theorem dksX16_need_0 : cX16_need.data.toList.drop 0 = dktX16_need_0 := by decide +kernel
theorem dX16_need_0 : decode cX16_need 0 = .ok (.aload_n 0, 1) := dk_42 (dk_at dksX16_need_0 0 rfl rfl)
theorem dX16_need_1 : decode cX16_need 1 = .ok (.invokevirtual 31, 3) := dk_182 0 31 (dk_at dksX16_need_0 1 rfl rfl)
theorem dX16_need_4 : decode cX16_need 4 = .ok (.iload_n 1, 1) := dk_27 (dk_at dksX16_need_0 4 rfl rfl)
theorem dX16_need_5 : decode cX16_need 5 = .ok (.if_icmp .eq 8, 3) := dk_159 0 8 (dk_at dksX16_need_0 5 rfl rfl)
theorem dX16_need_8 : decode cX16_need 8 = .ok (.aload_n 0, 1) := dk_42 (dk_at dksX16_need_0 8 rfl rfl)
theorem dX16_need_9 : decode cX16_need 9 = .ok (.invokevirtual 35, 3) := dk_182 0 35 (dk_at dksX16_need_0 9 rfl rfl)
theorem dX16_need_12 : decode cX16_need 12 = .ok (.athrow, 1) := dk_191 (dk_at dksX16_need_0 12 rfl rfl)
theorem dX16_need_13 : decode cX16_need 13 = .ok (.aload_n 0, 1) := dk_42 (dk_at dksX16_need_0 13 rfl rfl)
theorem dX16_need_14 : decode cX16_need 14 = .ok (.dup, 1) := dk_89 (dk_at dksX16_need_0 14 rfl rfl)
theorem dX16_need_15 : decode cX16_need 15 = .ok (.getfield 23, 3) := dk_180 0 23 (dk_at dksX16_need_0 15 rfl rfl)
theorem dX16_need_18 : decode cX16_need 18 = .ok (.iconst 1, 1) := dk_4 (dk_at dksX16_need_0 18 rfl rfl)
theorem dX16_need_19 : decode cX16_need 19 = .ok (.iadd, 1) := dk_96 (dk_at dksX16_need_0 19 rfl rfl)
theorem dX16_need_20 : decode cX16_need 20 = .ok (.putfield 23, 3) := dk_181 0 23 (dk_at dksX16_need_0 20 rfl rfl)
theorem dX16_need_23 : decode cX16_need 23 = .ok (.return_, 1) := dk_177 (dk_at dksX16_need_0 23 rfl rfl)
abbrev cX16_isDigit : ByteArray := prog_12_method_5_code
def yX16_isDigit : MethodName := ⟨RX16, "isDigit", "()Z"⟩
def dkwX16_isDigit_0 : List UInt8 := [42, 182, 0, 31, 16, 48, 16, 57, 184, 0, 39, 172]
abbrev dktX16_isDigit_0 : List UInt8 := dkwX16_isDigit_0 ++ []
theorem dksX16_isDigit_0 : cX16_isDigit.data.toList.drop 0 = dktX16_isDigit_0 := by decide +kernel
theorem dX16_isDigit_0 : decode cX16_isDigit 0 = .ok (.aload_n 0, 1) := dk_42 (dk_at dksX16_isDigit_0 0 rfl rfl)
theorem dX16_isDigit_1 : decode cX16_isDigit 1 = .ok (.invokevirtual 31, 3) := dk_182 0 31 (dk_at dksX16_isDigit_0 1 rfl rfl)
theorem dX16_isDigit_4 : decode cX16_isDigit 4 = .ok (.bipush 48, 2) := dk_16 48 (dk_at dksX16_isDigit_0 4 rfl rfl)
theorem dX16_isDigit_6 : decode cX16_isDigit 6 = .ok (.bipush 57, 2) := dk_16 57 (dk_at dksX16_isDigit_0 6 rfl rfl)
theorem dX16_isDigit_8 : decode cX16_isDigit 8 = .ok (.invokestatic 39, 3) := dk_184 0 39 (dk_at dksX16_isDigit_0 8 rfl rfl)
theorem dX16_isDigit_11 : decode cX16_isDigit 11 = .ok (.ireturn, 1) := dk_172 (dk_at dksX16_isDigit_0 11 rfl rfl)
abbrev cX16_does : ByteArray := prog_12_method_10_code
def yX16_does : MethodName := ⟨RX16, "does", "(LActorTrees$World;)V"⟩
def dkwX16_does_0 : List UInt8 := [3, 61, 28, 42, 180, 0, 50, 162, 0, 15, 42, 43, 28, 182, 0, 87, 132, 2, 1, 167, 255, 239, 177]
abbrev dktX16_does_0 : List UInt8 := dkwX16_does_0 ++ []
theorem dksX16_does_0 : cX16_does.data.toList.drop 0 = dktX16_does_0 := by decide +kernel
theorem dX16_does_0 : decode cX16_does 0 = .ok (.iconst 0, 1) := dk_3 (dk_at dksX16_does_0 0 rfl rfl)
theorem dX16_does_1 : decode cX16_does 1 = .ok (.istore_n 2, 1) := dk_61 (dk_at dksX16_does_0 1 rfl rfl)
theorem dX16_does_2 : decode cX16_does 2 = .ok (.iload_n 2, 1) := dk_28 (dk_at dksX16_does_0 2 rfl rfl)
theorem dX16_does_3 : decode cX16_does 3 = .ok (.aload_n 0, 1) := dk_42 (dk_at dksX16_does_0 3 rfl rfl)
theorem dX16_does_4 : decode cX16_does 4 = .ok (.getfield 50, 3) := dk_180 0 50 (dk_at dksX16_does_0 4 rfl rfl)
theorem dX16_does_7 : decode cX16_does 7 = .ok (.if_icmp .ge 15, 3) := dk_162 0 15 (dk_at dksX16_does_0 7 rfl rfl)
theorem dX16_does_10 : decode cX16_does 10 = .ok (.aload_n 0, 1) := dk_42 (dk_at dksX16_does_0 10 rfl rfl)
theorem dX16_does_11 : decode cX16_does 11 = .ok (.aload_n 1, 1) := dk_43 (dk_at dksX16_does_0 11 rfl rfl)
theorem dX16_does_12 : decode cX16_does 12 = .ok (.iload_n 2, 1) := dk_28 (dk_at dksX16_does_0 12 rfl rfl)
theorem dX16_does_13 : decode cX16_does 13 = .ok (.invokevirtual 87, 3) := dk_182 0 87 (dk_at dksX16_does_0 13 rfl rfl)
theorem dX16_does_16 : decode cX16_does 16 = .ok (.iinc 2 1, 3) := dk_132 2 1 (dk_at dksX16_does_0 16 rfl rfl)
theorem dX16_does_19 : decode cX16_does 19 = .ok (.goto (-17), 3) := dk_167 255 239 (dk_at dksX16_does_0 19 rfl rfl)
theorem dX16_does_22 : decode cX16_does 22 = .ok (.return_, 1) := dk_177 (dk_at dksX16_does_0 22 rfl rfl)
abbrev cX16_does_2 : ByteArray := prog_12_method_9_code
def yX16_does_2 : MethodName := ⟨RX16, "does", "(LActorTrees$World;I)V"⟩
def dkwX16_does_2_12 : List UInt8 := [28, 100, 183, 0, 28, 191, 177]
abbrev dktX16_does_2_12 : List UInt8 := dkwX16_does_2_12 ++ []
def dkwX16_does_2_11 : List UInt8 := [42, 180, 0, 9, 29, 4, 96, 46, 182, 0, 83, 87, 21, 4, 154, 0, 16, 187, 0, 26, 89, 17, 248, 48]
abbrev dktX16_does_2_11 : List UInt8 := dkwX16_does_2_11 ++ dktX16_does_2_12
def dkwX16_does_2_10 : List UInt8 := [42, 180, 0, 9, 29, 4, 96, 46, 158, 0, 7, 4, 167, 0, 4, 3, 54, 4, 21, 4, 153, 0, 16, 43]
abbrev dktX16_does_2_10 : List UInt8 := dkwX16_does_2_10 ++ dktX16_does_2_11
def dkwX16_does_2_9 : List UInt8 := [50, 187, 0, 74, 89, 2, 42, 180, 0, 9, 29, 5, 96, 46, 183, 0, 76, 182, 0, 79, 87, 167, 0, 39]
abbrev dktX16_does_2_9 : List UInt8 := dkwX16_does_2_9 ++ dktX16_does_2_10
def dkwX16_does_2_8 : List UInt8 := [167, 0, 4, 3, 54, 4, 21, 4, 153, 0, 76, 43, 43, 180, 0, 70, 42, 180, 0, 9, 29, 4, 96, 46]
abbrev dktX16_does_2_8 : List UInt8 := dkwX16_does_2_8 ++ dktX16_does_2_9
def dkwX16_does_2_7 : List UInt8 := [182, 0, 66, 87, 167, 0, 103, 42, 180, 0, 9, 29, 4, 96, 46, 43, 180, 0, 69, 162, 0, 7, 4]
abbrev dktX16_does_2_7 : List UInt8 := dkwX16_does_2_7 ++ dktX16_does_2_8
def dkwX16_does_2_6 : List UInt8 := [180, 0, 9, 29, 6, 96, 46, 42, 180, 0, 9, 29, 7, 96, 46, 42, 180, 0, 9, 29, 8, 96, 46]
abbrev dktX16_does_2_6 : List UInt8 := dkwX16_does_2_6 ++ dktX16_does_2_7
def dkwX16_does_2_5 : List UInt8 := [167, 0, 4, 3, 54, 4, 21, 4, 153, 0, 145, 43, 21, 5, 42, 180, 0, 9, 29, 5, 96, 46, 42]
abbrev dktX16_does_2_5 : List UInt8 := dkwX16_does_2_5 ++ dktX16_does_2_6
def dkwX16_does_2_4 : List UInt8 := [180, 0, 9, 29, 7, 96, 46, 42, 180, 0, 9, 29, 8, 96, 46, 182, 0, 60, 154, 0, 7, 4]
abbrev dktX16_does_2_4 : List UInt8 := dkwX16_does_2_4 ++ dktX16_does_2_5
def dkwX16_does_2_3 : List UInt8 := [46, 54, 5, 43, 21, 5, 42, 180, 0, 9, 29, 5, 96, 46, 42, 180, 0, 9, 29, 6, 96, 46, 42]
abbrev dktX16_does_2_3 : List UInt8 := dkwX16_does_2_3 ++ dktX16_does_2_4
def dkwX16_does_2_2 : List UInt8 := [42, 180, 0, 9, 29, 4, 96, 46, 16, 99, 160, 0, 7, 2, 167, 0, 11, 42, 180, 0, 9, 29, 4, 96]
abbrev dktX16_does_2_2 : List UInt8 := dkwX16_does_2_2 ++ dktX16_does_2_3
def dkwX16_does_2_1 : List UInt8 := [171, 0, 0, 0, 211, 0, 0, 0, 2, 0, 0, 0, 97, 0, 0, 0, 25, 0, 0, 0, 109, 0, 0, 0, 147]
abbrev dktX16_does_2_1 : List UInt8 := dkwX16_does_2_1 ++ dktX16_does_2_2
def dkwX16_does_2_0 : List UInt8 := [16, 6, 28, 104, 62, 42, 180, 0, 9, 29, 46]
abbrev dktX16_does_2_0 : List UInt8 := dkwX16_does_2_0 ++ dktX16_does_2_1
theorem dksX16_does_2_0 : cX16_does_2.data.toList.drop 0 = dktX16_does_2_0 := by decide +kernel
theorem dksX16_does_2_1 : cX16_does_2.data.toList.drop 11 = dktX16_does_2_1 := dk_seg dksX16_does_2_0 11 rfl rfl
theorem dksX16_does_2_2 : cX16_does_2.data.toList.drop 36 = dktX16_does_2_2 := dk_seg dksX16_does_2_1 25 rfl rfl
theorem dksX16_does_2_3 : cX16_does_2.data.toList.drop 60 = dktX16_does_2_3 := dk_seg dksX16_does_2_2 24 rfl rfl
theorem dksX16_does_2_4 : cX16_does_2.data.toList.drop 83 = dktX16_does_2_4 := dk_seg dksX16_does_2_3 23 rfl rfl
theorem dksX16_does_2_5 : cX16_does_2.data.toList.drop 105 = dktX16_does_2_5 := dk_seg dksX16_does_2_4 22 rfl rfl
theorem dksX16_does_2_6 : cX16_does_2.data.toList.drop 128 = dktX16_does_2_6 := dk_seg dksX16_does_2_5 23 rfl rfl
theorem dksX16_does_2_7 : cX16_does_2.data.toList.drop 151 = dktX16_does_2_7 := dk_seg dksX16_does_2_6 23 rfl rfl
theorem dksX16_does_2_8 : cX16_does_2.data.toList.drop 174 = dktX16_does_2_8 := dk_seg dksX16_does_2_7 23 rfl rfl
theorem dksX16_does_2_9 : cX16_does_2.data.toList.drop 198 = dktX16_does_2_9 := dk_seg dksX16_does_2_8 24 rfl rfl
theorem dksX16_does_2_10 : cX16_does_2.data.toList.drop 222 = dktX16_does_2_10 := dk_seg dksX16_does_2_9 24 rfl rfl
theorem dksX16_does_2_11 : cX16_does_2.data.toList.drop 246 = dktX16_does_2_11 := dk_seg dksX16_does_2_10 24 rfl rfl
theorem dksX16_does_2_12 : cX16_does_2.data.toList.drop 270 = dktX16_does_2_12 := dk_seg dksX16_does_2_11 24 rfl rfl
theorem dX16_does_2_0 : decode cX16_does_2 0 = .ok (.bipush 6, 2) := dk_16 6 (dk_at dksX16_does_2_0 0 rfl rfl)
theorem dX16_does_2_2 : decode cX16_does_2 2 = .ok (.iload_n 2, 1) := dk_28 (dk_at dksX16_does_2_0 2 rfl rfl)
theorem dX16_does_2_3 : decode cX16_does_2 3 = .ok (.imul, 1) := dk_104 (dk_at dksX16_does_2_0 3 rfl rfl)
theorem dX16_does_2_4 : decode cX16_does_2 4 = .ok (.istore_n 3, 1) := dk_62 (dk_at dksX16_does_2_0 4 rfl rfl)
theorem dX16_does_2_5 : decode cX16_does_2 5 = .ok (.aload_n 0, 1) := dk_42 (dk_at dksX16_does_2_0 5 rfl rfl)
theorem dX16_does_2_6 : decode cX16_does_2 6 = .ok (.getfield 9, 3) := dk_180 0 9 (dk_at dksX16_does_2_0 6 rfl rfl)
theorem dX16_does_2_9 : decode cX16_does_2 9 = .ok (.iload_n 3, 1) := dk_29 (dk_at dksX16_does_2_0 9 rfl rfl)
theorem dX16_does_2_10 : decode cX16_does_2 10 = .ok (.iaload, 1) := dk_46 (dk_at dksX16_does_2_0 10 rfl rfl)
theorem dX16_does_2_11 : decode cX16_does_2 11 = .ok (.lookupswitch 211 #[(97, 25), (109, 147)], 25) := by decide +kernel
theorem dX16_does_2_36 : decode cX16_does_2 36 = .ok (.aload_n 0, 1) := dk_42 (dk_at dksX16_does_2_2 0 rfl rfl)
theorem dX16_does_2_37 : decode cX16_does_2 37 = .ok (.getfield 9, 3) := dk_180 0 9 (dk_at dksX16_does_2_2 1 rfl rfl)
theorem dX16_does_2_40 : decode cX16_does_2 40 = .ok (.iload_n 3, 1) := dk_29 (dk_at dksX16_does_2_2 4 rfl rfl)
theorem dX16_does_2_41 : decode cX16_does_2 41 = .ok (.iconst 1, 1) := dk_4 (dk_at dksX16_does_2_2 5 rfl rfl)
theorem dX16_does_2_42 : decode cX16_does_2 42 = .ok (.iadd, 1) := dk_96 (dk_at dksX16_does_2_2 6 rfl rfl)
theorem dX16_does_2_43 : decode cX16_does_2 43 = .ok (.iaload, 1) := dk_46 (dk_at dksX16_does_2_2 7 rfl rfl)
theorem dX16_does_2_44 : decode cX16_does_2 44 = .ok (.bipush 99, 2) := dk_16 99 (dk_at dksX16_does_2_2 8 rfl rfl)
theorem dX16_does_2_46 : decode cX16_does_2 46 = .ok (.if_icmp .ne 7, 3) := dk_160 0 7 (dk_at dksX16_does_2_2 10 rfl rfl)
theorem dX16_does_2_49 : decode cX16_does_2 49 = .ok (.iconst (-1), 1) := dk_2 (dk_at dksX16_does_2_2 13 rfl rfl)
theorem dX16_does_2_50 : decode cX16_does_2 50 = .ok (.goto 11, 3) := dk_167 0 11 (dk_at dksX16_does_2_2 14 rfl rfl)
theorem dX16_does_2_53 : decode cX16_does_2 53 = .ok (.aload_n 0, 1) := dk_42 (dk_at dksX16_does_2_2 17 rfl rfl)
theorem dX16_does_2_54 : decode cX16_does_2 54 = .ok (.getfield 9, 3) := dk_180 0 9 (dk_at dksX16_does_2_2 18 rfl rfl)
theorem dX16_does_2_57 : decode cX16_does_2 57 = .ok (.iload_n 3, 1) := dk_29 (dk_at dksX16_does_2_2 21 rfl rfl)
theorem dX16_does_2_58 : decode cX16_does_2 58 = .ok (.iconst 1, 1) := dk_4 (dk_at dksX16_does_2_2 22 rfl rfl)
theorem dX16_does_2_59 : decode cX16_does_2 59 = .ok (.iadd, 1) := dk_96 (dk_at dksX16_does_2_2 23 rfl rfl)
theorem dX16_does_2_60 : decode cX16_does_2 60 = .ok (.iaload, 1) := dk_46 (dk_at dksX16_does_2_3 0 rfl rfl)
theorem dX16_does_2_61 : decode cX16_does_2 61 = .ok (.istore 5, 2) := dk_54 5 (dk_at dksX16_does_2_3 1 rfl rfl)
theorem dX16_does_2_63 : decode cX16_does_2 63 = .ok (.aload_n 1, 1) := dk_43 (dk_at dksX16_does_2_3 3 rfl rfl)
theorem dX16_does_2_64 : decode cX16_does_2 64 = .ok (.iload 5, 2) := dk_21 5 (dk_at dksX16_does_2_3 4 rfl rfl)
theorem dX16_does_2_66 : decode cX16_does_2 66 = .ok (.aload_n 0, 1) := dk_42 (dk_at dksX16_does_2_3 6 rfl rfl)
theorem dX16_does_2_67 : decode cX16_does_2 67 = .ok (.getfield 9, 3) := dk_180 0 9 (dk_at dksX16_does_2_3 7 rfl rfl)
theorem dX16_does_2_70 : decode cX16_does_2 70 = .ok (.iload_n 3, 1) := dk_29 (dk_at dksX16_does_2_3 10 rfl rfl)
theorem dX16_does_2_71 : decode cX16_does_2 71 = .ok (.iconst 2, 1) := dk_5 (dk_at dksX16_does_2_3 11 rfl rfl)
theorem dX16_does_2_72 : decode cX16_does_2 72 = .ok (.iadd, 1) := dk_96 (dk_at dksX16_does_2_3 12 rfl rfl)
theorem dX16_does_2_73 : decode cX16_does_2 73 = .ok (.iaload, 1) := dk_46 (dk_at dksX16_does_2_3 13 rfl rfl)
theorem dX16_does_2_74 : decode cX16_does_2 74 = .ok (.aload_n 0, 1) := dk_42 (dk_at dksX16_does_2_3 14 rfl rfl)
theorem dX16_does_2_75 : decode cX16_does_2 75 = .ok (.getfield 9, 3) := dk_180 0 9 (dk_at dksX16_does_2_3 15 rfl rfl)
theorem dX16_does_2_78 : decode cX16_does_2 78 = .ok (.iload_n 3, 1) := dk_29 (dk_at dksX16_does_2_3 18 rfl rfl)
theorem dX16_does_2_79 : decode cX16_does_2 79 = .ok (.iconst 3, 1) := dk_6 (dk_at dksX16_does_2_3 19 rfl rfl)
theorem dX16_does_2_80 : decode cX16_does_2 80 = .ok (.iadd, 1) := dk_96 (dk_at dksX16_does_2_3 20 rfl rfl)
theorem dX16_does_2_81 : decode cX16_does_2 81 = .ok (.iaload, 1) := dk_46 (dk_at dksX16_does_2_3 21 rfl rfl)
theorem dX16_does_2_82 : decode cX16_does_2 82 = .ok (.aload_n 0, 1) := dk_42 (dk_at dksX16_does_2_3 22 rfl rfl)
theorem dX16_does_2_83 : decode cX16_does_2 83 = .ok (.getfield 9, 3) := dk_180 0 9 (dk_at dksX16_does_2_4 0 rfl rfl)
theorem dX16_does_2_86 : decode cX16_does_2 86 = .ok (.iload_n 3, 1) := dk_29 (dk_at dksX16_does_2_4 3 rfl rfl)
theorem dX16_does_2_87 : decode cX16_does_2 87 = .ok (.iconst 4, 1) := dk_7 (dk_at dksX16_does_2_4 4 rfl rfl)
theorem dX16_does_2_88 : decode cX16_does_2 88 = .ok (.iadd, 1) := dk_96 (dk_at dksX16_does_2_4 5 rfl rfl)
theorem dX16_does_2_89 : decode cX16_does_2 89 = .ok (.iaload, 1) := dk_46 (dk_at dksX16_does_2_4 6 rfl rfl)
theorem dX16_does_2_90 : decode cX16_does_2 90 = .ok (.aload_n 0, 1) := dk_42 (dk_at dksX16_does_2_4 7 rfl rfl)
theorem dX16_does_2_91 : decode cX16_does_2 91 = .ok (.getfield 9, 3) := dk_180 0 9 (dk_at dksX16_does_2_4 8 rfl rfl)
theorem dX16_does_2_94 : decode cX16_does_2 94 = .ok (.iload_n 3, 1) := dk_29 (dk_at dksX16_does_2_4 11 rfl rfl)
theorem dX16_does_2_95 : decode cX16_does_2 95 = .ok (.iconst 5, 1) := dk_8 (dk_at dksX16_does_2_4 12 rfl rfl)
theorem dX16_does_2_96 : decode cX16_does_2 96 = .ok (.iadd, 1) := dk_96 (dk_at dksX16_does_2_4 13 rfl rfl)
theorem dX16_does_2_97 : decode cX16_does_2 97 = .ok (.iaload, 1) := dk_46 (dk_at dksX16_does_2_4 14 rfl rfl)
theorem dX16_does_2_98 : decode cX16_does_2 98 = .ok (.invokevirtual 60, 3) := dk_182 0 60 (dk_at dksX16_does_2_4 15 rfl rfl)
theorem dX16_does_2_101 : decode cX16_does_2 101 = .ok (.ifCond .ne 7, 3) := dk_154 0 7 (dk_at dksX16_does_2_4 18 rfl rfl)
theorem dX16_does_2_104 : decode cX16_does_2 104 = .ok (.iconst 1, 1) := dk_4 (dk_at dksX16_does_2_4 21 rfl rfl)
theorem dX16_does_2_105 : decode cX16_does_2 105 = .ok (.goto 4, 3) := dk_167 0 4 (dk_at dksX16_does_2_5 0 rfl rfl)
theorem dX16_does_2_108 : decode cX16_does_2 108 = .ok (.iconst 0, 1) := dk_3 (dk_at dksX16_does_2_5 3 rfl rfl)
theorem dX16_does_2_109 : decode cX16_does_2 109 = .ok (.istore 4, 2) := dk_54 4 (dk_at dksX16_does_2_5 4 rfl rfl)
theorem dX16_does_2_111 : decode cX16_does_2 111 = .ok (.iload 4, 2) := dk_21 4 (dk_at dksX16_does_2_5 6 rfl rfl)
theorem dX16_does_2_113 : decode cX16_does_2 113 = .ok (.ifCond .eq 145, 3) := dk_153 0 145 (dk_at dksX16_does_2_5 8 rfl rfl)
theorem dX16_does_2_116 : decode cX16_does_2 116 = .ok (.aload_n 1, 1) := dk_43 (dk_at dksX16_does_2_5 11 rfl rfl)
theorem dX16_does_2_117 : decode cX16_does_2 117 = .ok (.iload 5, 2) := dk_21 5 (dk_at dksX16_does_2_5 12 rfl rfl)
theorem dX16_does_2_119 : decode cX16_does_2 119 = .ok (.aload_n 0, 1) := dk_42 (dk_at dksX16_does_2_5 14 rfl rfl)
theorem dX16_does_2_120 : decode cX16_does_2 120 = .ok (.getfield 9, 3) := dk_180 0 9 (dk_at dksX16_does_2_5 15 rfl rfl)
theorem dX16_does_2_123 : decode cX16_does_2 123 = .ok (.iload_n 3, 1) := dk_29 (dk_at dksX16_does_2_5 18 rfl rfl)
theorem dX16_does_2_124 : decode cX16_does_2 124 = .ok (.iconst 2, 1) := dk_5 (dk_at dksX16_does_2_5 19 rfl rfl)
theorem dX16_does_2_125 : decode cX16_does_2 125 = .ok (.iadd, 1) := dk_96 (dk_at dksX16_does_2_5 20 rfl rfl)
theorem dX16_does_2_126 : decode cX16_does_2 126 = .ok (.iaload, 1) := dk_46 (dk_at dksX16_does_2_5 21 rfl rfl)
theorem dX16_does_2_127 : decode cX16_does_2 127 = .ok (.aload_n 0, 1) := dk_42 (dk_at dksX16_does_2_5 22 rfl rfl)
theorem dX16_does_2_128 : decode cX16_does_2 128 = .ok (.getfield 9, 3) := dk_180 0 9 (dk_at dksX16_does_2_6 0 rfl rfl)
theorem dX16_does_2_131 : decode cX16_does_2 131 = .ok (.iload_n 3, 1) := dk_29 (dk_at dksX16_does_2_6 3 rfl rfl)
theorem dX16_does_2_132 : decode cX16_does_2 132 = .ok (.iconst 3, 1) := dk_6 (dk_at dksX16_does_2_6 4 rfl rfl)
theorem dX16_does_2_133 : decode cX16_does_2 133 = .ok (.iadd, 1) := dk_96 (dk_at dksX16_does_2_6 5 rfl rfl)
theorem dX16_does_2_134 : decode cX16_does_2 134 = .ok (.iaload, 1) := dk_46 (dk_at dksX16_does_2_6 6 rfl rfl)
theorem dX16_does_2_135 : decode cX16_does_2 135 = .ok (.aload_n 0, 1) := dk_42 (dk_at dksX16_does_2_6 7 rfl rfl)
theorem dX16_does_2_136 : decode cX16_does_2 136 = .ok (.getfield 9, 3) := dk_180 0 9 (dk_at dksX16_does_2_6 8 rfl rfl)
theorem dX16_does_2_139 : decode cX16_does_2 139 = .ok (.iload_n 3, 1) := dk_29 (dk_at dksX16_does_2_6 11 rfl rfl)
theorem dX16_does_2_140 : decode cX16_does_2 140 = .ok (.iconst 4, 1) := dk_7 (dk_at dksX16_does_2_6 12 rfl rfl)
theorem dX16_does_2_141 : decode cX16_does_2 141 = .ok (.iadd, 1) := dk_96 (dk_at dksX16_does_2_6 13 rfl rfl)
theorem dX16_does_2_142 : decode cX16_does_2 142 = .ok (.iaload, 1) := dk_46 (dk_at dksX16_does_2_6 14 rfl rfl)
theorem dX16_does_2_143 : decode cX16_does_2 143 = .ok (.aload_n 0, 1) := dk_42 (dk_at dksX16_does_2_6 15 rfl rfl)
theorem dX16_does_2_144 : decode cX16_does_2 144 = .ok (.getfield 9, 3) := dk_180 0 9 (dk_at dksX16_does_2_6 16 rfl rfl)
theorem dX16_does_2_147 : decode cX16_does_2 147 = .ok (.iload_n 3, 1) := dk_29 (dk_at dksX16_does_2_6 19 rfl rfl)
theorem dX16_does_2_148 : decode cX16_does_2 148 = .ok (.iconst 5, 1) := dk_8 (dk_at dksX16_does_2_6 20 rfl rfl)
theorem dX16_does_2_149 : decode cX16_does_2 149 = .ok (.iadd, 1) := dk_96 (dk_at dksX16_does_2_6 21 rfl rfl)
theorem dX16_does_2_150 : decode cX16_does_2 150 = .ok (.iaload, 1) := dk_46 (dk_at dksX16_does_2_6 22 rfl rfl)
theorem dX16_does_2_151 : decode cX16_does_2 151 = .ok (.invokevirtual 66, 3) := dk_182 0 66 (dk_at dksX16_does_2_7 0 rfl rfl)
theorem dX16_does_2_154 : decode cX16_does_2 154 = .ok (.pop, 1) := dk_87 (dk_at dksX16_does_2_7 3 rfl rfl)
theorem dX16_does_2_155 : decode cX16_does_2 155 = .ok (.goto 103, 3) := dk_167 0 103 (dk_at dksX16_does_2_7 4 rfl rfl)
theorem dX16_does_2_158 : decode cX16_does_2 158 = .ok (.aload_n 0, 1) := dk_42 (dk_at dksX16_does_2_7 7 rfl rfl)
theorem dX16_does_2_159 : decode cX16_does_2 159 = .ok (.getfield 9, 3) := dk_180 0 9 (dk_at dksX16_does_2_7 8 rfl rfl)
theorem dX16_does_2_162 : decode cX16_does_2 162 = .ok (.iload_n 3, 1) := dk_29 (dk_at dksX16_does_2_7 11 rfl rfl)
theorem dX16_does_2_163 : decode cX16_does_2 163 = .ok (.iconst 1, 1) := dk_4 (dk_at dksX16_does_2_7 12 rfl rfl)
theorem dX16_does_2_164 : decode cX16_does_2 164 = .ok (.iadd, 1) := dk_96 (dk_at dksX16_does_2_7 13 rfl rfl)
theorem dX16_does_2_165 : decode cX16_does_2 165 = .ok (.iaload, 1) := dk_46 (dk_at dksX16_does_2_7 14 rfl rfl)
theorem dX16_does_2_166 : decode cX16_does_2 166 = .ok (.aload_n 1, 1) := dk_43 (dk_at dksX16_does_2_7 15 rfl rfl)
theorem dX16_does_2_167 : decode cX16_does_2 167 = .ok (.getfield 69, 3) := dk_180 0 69 (dk_at dksX16_does_2_7 16 rfl rfl)
theorem dX16_does_2_170 : decode cX16_does_2 170 = .ok (.if_icmp .ge 7, 3) := dk_162 0 7 (dk_at dksX16_does_2_7 19 rfl rfl)
theorem dX16_does_2_173 : decode cX16_does_2 173 = .ok (.iconst 1, 1) := dk_4 (dk_at dksX16_does_2_7 22 rfl rfl)
theorem dX16_does_2_174 : decode cX16_does_2 174 = .ok (.goto 4, 3) := dk_167 0 4 (dk_at dksX16_does_2_8 0 rfl rfl)
theorem dX16_does_2_177 : decode cX16_does_2 177 = .ok (.iconst 0, 1) := dk_3 (dk_at dksX16_does_2_8 3 rfl rfl)
theorem dX16_does_2_178 : decode cX16_does_2 178 = .ok (.istore 4, 2) := dk_54 4 (dk_at dksX16_does_2_8 4 rfl rfl)
theorem dX16_does_2_180 : decode cX16_does_2 180 = .ok (.iload 4, 2) := dk_21 4 (dk_at dksX16_does_2_8 6 rfl rfl)
theorem dX16_does_2_182 : decode cX16_does_2 182 = .ok (.ifCond .eq 76, 3) := dk_153 0 76 (dk_at dksX16_does_2_8 8 rfl rfl)
theorem dX16_does_2_185 : decode cX16_does_2 185 = .ok (.aload_n 1, 1) := dk_43 (dk_at dksX16_does_2_8 11 rfl rfl)
theorem dX16_does_2_186 : decode cX16_does_2 186 = .ok (.aload_n 1, 1) := dk_43 (dk_at dksX16_does_2_8 12 rfl rfl)
theorem dX16_does_2_187 : decode cX16_does_2 187 = .ok (.getfield 70, 3) := dk_180 0 70 (dk_at dksX16_does_2_8 13 rfl rfl)
theorem dX16_does_2_190 : decode cX16_does_2 190 = .ok (.aload_n 0, 1) := dk_42 (dk_at dksX16_does_2_8 16 rfl rfl)
theorem dX16_does_2_191 : decode cX16_does_2 191 = .ok (.getfield 9, 3) := dk_180 0 9 (dk_at dksX16_does_2_8 17 rfl rfl)
theorem dX16_does_2_194 : decode cX16_does_2 194 = .ok (.iload_n 3, 1) := dk_29 (dk_at dksX16_does_2_8 20 rfl rfl)
theorem dX16_does_2_195 : decode cX16_does_2 195 = .ok (.iconst 1, 1) := dk_4 (dk_at dksX16_does_2_8 21 rfl rfl)
theorem dX16_does_2_196 : decode cX16_does_2 196 = .ok (.iadd, 1) := dk_96 (dk_at dksX16_does_2_8 22 rfl rfl)
theorem dX16_does_2_197 : decode cX16_does_2 197 = .ok (.iaload, 1) := dk_46 (dk_at dksX16_does_2_8 23 rfl rfl)
theorem dX16_does_2_198 : decode cX16_does_2 198 = .ok (.aaload, 1) := dk_50 (dk_at dksX16_does_2_9 0 rfl rfl)
theorem dX16_does_2_199 : decode cX16_does_2 199 = .ok (.new 74, 3) := dk_187 0 74 (dk_at dksX16_does_2_9 1 rfl rfl)
theorem dX16_does_2_202 : decode cX16_does_2 202 = .ok (.dup, 1) := dk_89 (dk_at dksX16_does_2_9 4 rfl rfl)
theorem dX16_does_2_203 : decode cX16_does_2 203 = .ok (.iconst (-1), 1) := dk_2 (dk_at dksX16_does_2_9 5 rfl rfl)
theorem dX16_does_2_204 : decode cX16_does_2 204 = .ok (.aload_n 0, 1) := dk_42 (dk_at dksX16_does_2_9 6 rfl rfl)
theorem dX16_does_2_205 : decode cX16_does_2 205 = .ok (.getfield 9, 3) := dk_180 0 9 (dk_at dksX16_does_2_9 7 rfl rfl)
theorem dX16_does_2_208 : decode cX16_does_2 208 = .ok (.iload_n 3, 1) := dk_29 (dk_at dksX16_does_2_9 10 rfl rfl)
theorem dX16_does_2_209 : decode cX16_does_2 209 = .ok (.iconst 2, 1) := dk_5 (dk_at dksX16_does_2_9 11 rfl rfl)
theorem dX16_does_2_210 : decode cX16_does_2 210 = .ok (.iadd, 1) := dk_96 (dk_at dksX16_does_2_9 12 rfl rfl)
theorem dX16_does_2_211 : decode cX16_does_2 211 = .ok (.iaload, 1) := dk_46 (dk_at dksX16_does_2_9 13 rfl rfl)
theorem dX16_does_2_212 : decode cX16_does_2 212 = .ok (.invokespecial 76, 3) := dk_183 0 76 (dk_at dksX16_does_2_9 14 rfl rfl)
theorem dX16_does_2_215 : decode cX16_does_2 215 = .ok (.invokevirtual 79, 3) := dk_182 0 79 (dk_at dksX16_does_2_9 17 rfl rfl)
theorem dX16_does_2_218 : decode cX16_does_2 218 = .ok (.pop, 1) := dk_87 (dk_at dksX16_does_2_9 20 rfl rfl)
theorem dX16_does_2_219 : decode cX16_does_2 219 = .ok (.goto 39, 3) := dk_167 0 39 (dk_at dksX16_does_2_9 21 rfl rfl)
theorem dX16_does_2_222 : decode cX16_does_2 222 = .ok (.aload_n 0, 1) := dk_42 (dk_at dksX16_does_2_10 0 rfl rfl)
theorem dX16_does_2_223 : decode cX16_does_2 223 = .ok (.getfield 9, 3) := dk_180 0 9 (dk_at dksX16_does_2_10 1 rfl rfl)
theorem dX16_does_2_226 : decode cX16_does_2 226 = .ok (.iload_n 3, 1) := dk_29 (dk_at dksX16_does_2_10 4 rfl rfl)
theorem dX16_does_2_227 : decode cX16_does_2 227 = .ok (.iconst 1, 1) := dk_4 (dk_at dksX16_does_2_10 5 rfl rfl)
theorem dX16_does_2_228 : decode cX16_does_2 228 = .ok (.iadd, 1) := dk_96 (dk_at dksX16_does_2_10 6 rfl rfl)
theorem dX16_does_2_229 : decode cX16_does_2 229 = .ok (.iaload, 1) := dk_46 (dk_at dksX16_does_2_10 7 rfl rfl)
theorem dX16_does_2_230 : decode cX16_does_2 230 = .ok (.ifCond .le 7, 3) := dk_158 0 7 (dk_at dksX16_does_2_10 8 rfl rfl)
theorem dX16_does_2_233 : decode cX16_does_2 233 = .ok (.iconst 1, 1) := dk_4 (dk_at dksX16_does_2_10 11 rfl rfl)
theorem dX16_does_2_234 : decode cX16_does_2 234 = .ok (.goto 4, 3) := dk_167 0 4 (dk_at dksX16_does_2_10 12 rfl rfl)
theorem dX16_does_2_237 : decode cX16_does_2 237 = .ok (.iconst 0, 1) := dk_3 (dk_at dksX16_does_2_10 15 rfl rfl)
theorem dX16_does_2_238 : decode cX16_does_2 238 = .ok (.istore 4, 2) := dk_54 4 (dk_at dksX16_does_2_10 16 rfl rfl)
theorem dX16_does_2_240 : decode cX16_does_2 240 = .ok (.iload 4, 2) := dk_21 4 (dk_at dksX16_does_2_10 18 rfl rfl)
theorem dX16_does_2_242 : decode cX16_does_2 242 = .ok (.ifCond .eq 16, 3) := dk_153 0 16 (dk_at dksX16_does_2_10 20 rfl rfl)
theorem dX16_does_2_245 : decode cX16_does_2 245 = .ok (.aload_n 1, 1) := dk_43 (dk_at dksX16_does_2_10 23 rfl rfl)
theorem dX16_does_2_246 : decode cX16_does_2 246 = .ok (.aload_n 0, 1) := dk_42 (dk_at dksX16_does_2_11 0 rfl rfl)
theorem dX16_does_2_247 : decode cX16_does_2 247 = .ok (.getfield 9, 3) := dk_180 0 9 (dk_at dksX16_does_2_11 1 rfl rfl)
theorem dX16_does_2_250 : decode cX16_does_2 250 = .ok (.iload_n 3, 1) := dk_29 (dk_at dksX16_does_2_11 4 rfl rfl)
theorem dX16_does_2_251 : decode cX16_does_2 251 = .ok (.iconst 1, 1) := dk_4 (dk_at dksX16_does_2_11 5 rfl rfl)
theorem dX16_does_2_252 : decode cX16_does_2 252 = .ok (.iadd, 1) := dk_96 (dk_at dksX16_does_2_11 6 rfl rfl)
theorem dX16_does_2_253 : decode cX16_does_2 253 = .ok (.iaload, 1) := dk_46 (dk_at dksX16_does_2_11 7 rfl rfl)
theorem dX16_does_2_254 : decode cX16_does_2 254 = .ok (.invokevirtual 83, 3) := dk_182 0 83 (dk_at dksX16_does_2_11 8 rfl rfl)
theorem dX16_does_2_257 : decode cX16_does_2 257 = .ok (.pop, 1) := dk_87 (dk_at dksX16_does_2_11 11 rfl rfl)
theorem dX16_does_2_258 : decode cX16_does_2 258 = .ok (.iload 4, 2) := dk_21 4 (dk_at dksX16_does_2_11 12 rfl rfl)
theorem dX16_does_2_260 : decode cX16_does_2 260 = .ok (.ifCond .ne 16, 3) := dk_154 0 16 (dk_at dksX16_does_2_11 14 rfl rfl)
theorem dX16_does_2_263 : decode cX16_does_2 263 = .ok (.new 26, 3) := dk_187 0 26 (dk_at dksX16_does_2_11 17 rfl rfl)
theorem dX16_does_2_266 : decode cX16_does_2 266 = .ok (.dup, 1) := dk_89 (dk_at dksX16_does_2_11 20 rfl rfl)
theorem dX16_does_2_267 : decode cX16_does_2 267 = .ok (.sipush (-2000), 3) := dk_17 248 48 (dk_at dksX16_does_2_11 21 rfl rfl)
theorem dX16_does_2_270 : decode cX16_does_2 270 = .ok (.iload_n 2, 1) := dk_28 (dk_at dksX16_does_2_12 0 rfl rfl)
theorem dX16_does_2_271 : decode cX16_does_2 271 = .ok (.isub, 1) := dk_100 (dk_at dksX16_does_2_12 1 rfl rfl)
theorem dX16_does_2_272 : decode cX16_does_2 272 = .ok (.invokespecial 28, 3) := dk_183 0 28 (dk_at dksX16_does_2_12 2 rfl rfl)
theorem dX16_does_2_275 : decode cX16_does_2 275 = .ok (.athrow, 1) := dk_191 (dk_at dksX16_does_2_12 5 rfl rfl)
theorem dX16_does_2_276 : decode cX16_does_2 276 = .ok (.return_, 1) := dk_177 (dk_at dksX16_does_2_12 6 rfl rfl)
theorem q102 : (Jvm.Cond.initialized "ActorTrees$Reader") ∈ lw_all := lw_g (lw_at lw_m1 29 rfl) rfl
theorem q161 : (Jvm.Cond.fieldLinkNest "ActorTrees$Reader" (70 : Nat) "ActorTrees$World" "actors" "[LActorTrees$Actor;" "ActorTrees") ∈ lw_tbl := lw_at lw_m1 88 rfl
theorem q165 : (Jvm.Cond.fieldLinkNest "ActorTrees$Reader" (69 : Nat) "ActorTrees$World" "many" "I" "ActorTrees") ∈ lw_tbl := lw_at lw_m1 92 rfl
theorem q1100 : (Jvm.Cond.instantiable "ActorTrees$Reader" (5 : Nat)) ∈ lw_all := lw_g (lw_at lw_m5 67 rfl) rfl
theorem q1102 : (Jvm.Cond.instanceMethod ({ cls := "ActorTrees$Reader", name := "<init>", desc := "([BI)V" } : Jvm.MethodName)) ∈ lw_all := lw_g (lw_at lw_m5 69 rfl) rfl
theorem q1103 : (Jvm.Cond.code ({ cls := "ActorTrees$Reader", name := "<init>", desc := "([BI)V" } : Jvm.MethodName) prog_12_method_1_code (3 : Nat) (Option.none : Option Jvm.ClassFile.FieldType)) ∈ lw_all := lw_g (lw_at lw_m5 70 rfl) rfl
theorem q1104 : (Jvm.Cond.methodLink "ActorTrees$Reader" (3 : Nat) ({ cls := "java/lang/Object", name := "<init>", desc := "()V" } : Jvm.MethodName)) ∈ lw_all := lw_g (lw_at lw_m5 71 rfl) rfl
theorem q1105 : (Jvm.Cond.fieldLink "ActorTrees$Reader" (15 : Nat) "ActorTrees$Reader" "text" "[B") ∈ lw_all := lw_g (lw_at lw_m5 72 rfl) rfl
theorem q1106 : (Jvm.Cond.fieldLink "ActorTrees$Reader" (19 : Nat) "ActorTrees$Reader" "length" "I") ∈ lw_all := lw_g (lw_at lw_m5 73 rfl) rfl
theorem q1107 : (Jvm.Cond.fieldLink "ActorTrees$Reader" (9 : Nat) "ActorTrees$Reader" "lines" "[I") ∈ lw_all := lw_g (lw_at lw_m5 74 rfl) rfl
theorem q1108 : (Jvm.Cond.fieldLink "ActorTrees$Reader" (50 : Nat) "ActorTrees$Reader" "many" "I") ∈ lw_all := lw_g (lw_at lw_m5 75 rfl) rfl
theorem q1110 : (Jvm.Cond.fieldLink "ActorTrees$Reader" (23 : Nat) "ActorTrees$Reader" "at" "I") ∈ lw_all := lw_g (lw_at lw_m5 77 rfl) rfl
theorem q1111 : (Jvm.Cond.laysFinal "ActorTrees$Reader" "ActorTrees$Reader" "text" "[B") ∈ lw_all := lw_g (lw_at lw_m5 78 rfl) rfl
theorem q1112 : (Jvm.Cond.soleField "ActorTrees$Reader" "text") ∈ lw_all := lw_g (lw_at lw_m5 79 rfl) rfl
theorem q1113 : (Jvm.Cond.laysFinal "ActorTrees$Reader" "ActorTrees$Reader" "length" "I") ∈ lw_all := lw_g (lw_at lw_m5 80 rfl) rfl
theorem q1114 : (Jvm.Cond.soleField "ActorTrees$Reader" "length") ∈ lw_all := lw_g (lw_at lw_m5 81 rfl) rfl
theorem q1115 : (Jvm.Cond.laysFinal "ActorTrees$Reader" "ActorTrees$Reader" "lines" "[I") ∈ lw_all := lw_g (lw_at lw_m5 82 rfl) rfl
theorem q1116 : (Jvm.Cond.soleField "ActorTrees$Reader" "lines") ∈ lw_all := lw_g (lw_at lw_m5 83 rfl) rfl
theorem q1117 : (Jvm.Cond.lays "ActorTrees$Reader" "ActorTrees$Reader" "many" "I") ∈ lw_all := lw_g (lw_at lw_m5 84 rfl) rfl
theorem q1118 : (Jvm.Cond.soleField "ActorTrees$Reader" "many") ∈ lw_all := lw_g (lw_at lw_m5 85 rfl) rfl
theorem q1119 : (Jvm.Cond.lays "ActorTrees$Reader" "ActorTrees$Reader" "at" "I") ∈ lw_all := lw_g (lw_at lw_m5 86 rfl) rfl
theorem q1120 : (Jvm.Cond.soleField "ActorTrees$Reader" "at") ∈ lw_all := lw_g (lw_at lw_m5 87 rfl) rfl
theorem q1121 : (Jvm.Cond.superclass "ActorTrees$Reader" "java/lang/Object") ∈ lw_all := lw_g (lw_at lw_m5 88 rfl) rfl
theorem q1123 : (Jvm.Cond.instanceMethod ({ cls := "ActorTrees$Reader", name := "reads", desc := "()V" } : Jvm.MethodName)) ∈ lw_all := lw_g (lw_at lw_m5 90 rfl) rfl
theorem q1124 : (Jvm.Cond.selects "ActorTrees$Reader" ({ cls := "ActorTrees$Reader", name := "reads", desc := "()V" } : Jvm.MethodName) ({ cls := "ActorTrees$Reader", name := "reads", desc := "()V" } : Jvm.MethodName)) ∈ lw_all := lw_g (lw_at lw_m5 91 rfl) rfl
theorem q1125 : (Jvm.Cond.code ({ cls := "ActorTrees$Reader", name := "reads", desc := "()V" } : Jvm.MethodName) prog_12_method_8_code (1 : Nat) (Option.none : Option Jvm.ClassFile.FieldType)) ∈ lw_all := lw_g (lw_at lw_m5 92 rfl) rfl
theorem q1126 : (Jvm.Cond.methodLink "ActorTrees$Reader" (57 : Nat) ({ cls := "ActorTrees$Reader", name := "line", desc := "()V" } : Jvm.MethodName)) ∈ lw_all := lw_g (lw_at lw_m5 93 rfl) rfl
theorem q1127 : (Jvm.Cond.privateMethod ({ cls := "ActorTrees$Reader", name := "line", desc := "()V" } : Jvm.MethodName)) ∈ lw_tbl := lw_at lw_m5 94 rfl
theorem q1128 : (Jvm.Cond.instanceMethod ({ cls := "ActorTrees$Reader", name := "line", desc := "()V" } : Jvm.MethodName)) ∈ lw_all := lw_g (lw_at lw_m5 95 rfl) rfl
theorem q1129 : (Jvm.Cond.code ({ cls := "ActorTrees$Reader", name := "line", desc := "()V" } : Jvm.MethodName) prog_12_method_7_code (5 : Nat) (Option.none : Option Jvm.ClassFile.FieldType)) ∈ lw_all := lw_g (lw_at lw_m5 96 rfl) rfl
theorem q1130 : (Jvm.Cond.methodLink "ActorTrees$Reader" (31 : Nat) ({ cls := "ActorTrees$Reader", name := "sign", desc := "()I" } : Jvm.MethodName)) ∈ lw_all := lw_g (lw_at lw_m5 97 rfl) rfl
theorem q1131 : (Jvm.Cond.privateMethod ({ cls := "ActorTrees$Reader", name := "sign", desc := "()I" } : Jvm.MethodName)) ∈ lw_tbl := lw_at lw_m5 98 rfl
theorem q1132 : (Jvm.Cond.instanceMethod ({ cls := "ActorTrees$Reader", name := "sign", desc := "()I" } : Jvm.MethodName)) ∈ lw_all := lw_g (lw_at lw_m5 99 rfl) rfl
theorem q1133 : (Jvm.Cond.code ({ cls := "ActorTrees$Reader", name := "sign", desc := "()I" } : Jvm.MethodName) prog_12_method_2_code (1 : Nat) (Option.some Jvm.ClassFile.FieldType.int)) ∈ lw_all := lw_g (lw_at lw_m5 100 rfl) rfl
theorem q1134 : (Jvm.Cond.methodLink "ActorTrees$Reader" (35 : Nat) ({ cls := "ActorTrees$Reader", name := "wrong", desc := "()LActorTrees$Wrong;" } : Jvm.MethodName)) ∈ lw_all := lw_g (lw_at lw_m5 101 rfl) rfl
theorem q1135 : (Jvm.Cond.privateMethod ({ cls := "ActorTrees$Reader", name := "wrong", desc := "()LActorTrees$Wrong;" } : Jvm.MethodName)) ∈ lw_tbl := lw_at lw_m5 102 rfl
theorem q1136 : (Jvm.Cond.instanceMethod ({ cls := "ActorTrees$Reader", name := "wrong", desc := "()LActorTrees$Wrong;" } : Jvm.MethodName)) ∈ lw_all := lw_g (lw_at lw_m5 103 rfl) rfl
theorem q1137 : (Jvm.Cond.code ({ cls := "ActorTrees$Reader", name := "wrong", desc := "()LActorTrees$Wrong;" } : Jvm.MethodName) prog_12_method_3_code (1 : Nat) (Option.some (Jvm.ClassFile.FieldType.object "ActorTrees$Wrong"))) ∈ lw_all := lw_g (lw_at lw_m5 104 rfl) rfl
theorem q1138 : (Jvm.Cond.classLink "ActorTrees$Reader" (26 : Nat) "ActorTrees$Wrong") ∈ lw_all := lw_g (lw_at lw_m5 105 rfl) rfl
theorem q1147 : (Jvm.Cond.methodLink "ActorTrees$Reader" (28 : Nat) ({ cls := "ActorTrees$Wrong", name := "<init>", desc := "(I)V" } : Jvm.MethodName)) ∈ lw_all := lw_g (lw_at lw_m5 114 rfl) rfl
theorem q1157 : (Jvm.Cond.methodLink "ActorTrees$Reader" (53 : Nat) ({ cls := "ActorTrees$Reader", name := "number", desc := "(Z)I" } : Jvm.MethodName)) ∈ lw_all := lw_g (lw_at lw_m5 124 rfl) rfl
theorem q1158 : (Jvm.Cond.privateMethod ({ cls := "ActorTrees$Reader", name := "number", desc := "(Z)I" } : Jvm.MethodName)) ∈ lw_tbl := lw_at lw_m5 125 rfl
theorem q1159 : (Jvm.Cond.instanceMethod ({ cls := "ActorTrees$Reader", name := "number", desc := "(Z)I" } : Jvm.MethodName)) ∈ lw_all := lw_g (lw_at lw_m5 126 rfl) rfl
theorem q1160 : (Jvm.Cond.code ({ cls := "ActorTrees$Reader", name := "number", desc := "(Z)I" } : Jvm.MethodName) prog_12_method_6_code (5 : Nat) (Option.some Jvm.ClassFile.FieldType.int)) ∈ lw_all := lw_g (lw_at lw_m5 127 rfl) rfl
theorem q1161 : (Jvm.Cond.methodLink "ActorTrees$Reader" (43 : Nat) ({ cls := "ActorTrees$Reader", name := "need", desc := "(I)V" } : Jvm.MethodName)) ∈ lw_all := lw_g (lw_at lw_m5 128 rfl) rfl
theorem q1162 : (Jvm.Cond.privateMethod ({ cls := "ActorTrees$Reader", name := "need", desc := "(I)V" } : Jvm.MethodName)) ∈ lw_tbl := lw_at lw_m5 129 rfl
theorem q1163 : (Jvm.Cond.instanceMethod ({ cls := "ActorTrees$Reader", name := "need", desc := "(I)V" } : Jvm.MethodName)) ∈ lw_all := lw_g (lw_at lw_m5 130 rfl) rfl
theorem q1164 : (Jvm.Cond.code ({ cls := "ActorTrees$Reader", name := "need", desc := "(I)V" } : Jvm.MethodName) prog_12_method_4_code (2 : Nat) (Option.none : Option Jvm.ClassFile.FieldType)) ∈ lw_all := lw_g (lw_at lw_m5 131 rfl) rfl
theorem q1165 : (Jvm.Cond.methodLink "ActorTrees$Reader" (46 : Nat) ({ cls := "ActorTrees$Reader", name := "isDigit", desc := "()Z" } : Jvm.MethodName)) ∈ lw_all := lw_g (lw_at lw_m5 132 rfl) rfl
theorem q1166 : (Jvm.Cond.privateMethod ({ cls := "ActorTrees$Reader", name := "isDigit", desc := "()Z" } : Jvm.MethodName)) ∈ lw_tbl := lw_at lw_m5 133 rfl
theorem q1167 : (Jvm.Cond.instanceMethod ({ cls := "ActorTrees$Reader", name := "isDigit", desc := "()Z" } : Jvm.MethodName)) ∈ lw_all := lw_g (lw_at lw_m5 134 rfl) rfl
theorem q1168 : (Jvm.Cond.code ({ cls := "ActorTrees$Reader", name := "isDigit", desc := "()Z" } : Jvm.MethodName) prog_12_method_5_code (1 : Nat) (Option.some Jvm.ClassFile.FieldType.boolean)) ∈ lw_all := lw_g (lw_at lw_m5 135 rfl) rfl
theorem q1169 : (Jvm.Cond.methodLinkNest "ActorTrees$Reader" (39 : Nat) ({ cls := "ActorTrees", name := "within", desc := "(III)Z" } : Jvm.MethodName) "ActorTrees") ∈ lw_tbl := lw_at lw_m5 136 rfl
theorem q1171 : (Jvm.Cond.instanceMethod ({ cls := "ActorTrees$Reader", name := "does", desc := "(LActorTrees$World;)V" } : Jvm.MethodName)) ∈ lw_all := lw_g (lw_at lw_m5 138 rfl) rfl
theorem q1172 : (Jvm.Cond.selects "ActorTrees$Reader" ({ cls := "ActorTrees$Reader", name := "does", desc := "(LActorTrees$World;)V" } : Jvm.MethodName) ({ cls := "ActorTrees$Reader", name := "does", desc := "(LActorTrees$World;)V" } : Jvm.MethodName)) ∈ lw_all := lw_g (lw_at lw_m5 139 rfl) rfl
theorem q1173 : (Jvm.Cond.code ({ cls := "ActorTrees$Reader", name := "does", desc := "(LActorTrees$World;)V" } : Jvm.MethodName) prog_12_method_10_code (3 : Nat) (Option.none : Option Jvm.ClassFile.FieldType)) ∈ lw_all := lw_g (lw_at lw_m5 140 rfl) rfl
theorem q1174 : (Jvm.Cond.methodLink "ActorTrees$Reader" (87 : Nat) ({ cls := "ActorTrees$Reader", name := "does", desc := "(LActorTrees$World;I)V" } : Jvm.MethodName)) ∈ lw_all := lw_g (lw_at lw_m5 141 rfl) rfl
theorem q1175 : (Jvm.Cond.privateMethod ({ cls := "ActorTrees$Reader", name := "does", desc := "(LActorTrees$World;I)V" } : Jvm.MethodName)) ∈ lw_tbl := lw_at lw_m5 142 rfl
theorem q1176 : (Jvm.Cond.instanceMethod ({ cls := "ActorTrees$Reader", name := "does", desc := "(LActorTrees$World;I)V" } : Jvm.MethodName)) ∈ lw_all := lw_g (lw_at lw_m5 143 rfl) rfl
theorem q1177 : (Jvm.Cond.code ({ cls := "ActorTrees$Reader", name := "does", desc := "(LActorTrees$World;I)V" } : Jvm.MethodName) prog_12_method_9_code (6 : Nat) (Option.none : Option Jvm.ClassFile.FieldType)) ∈ lw_all := lw_g (lw_at lw_m5 144 rfl) rfl
theorem q1178 : (Jvm.Cond.methodLink "ActorTrees$Reader" (60 : Nat) ({ cls := "ActorTrees$World", name := "bars", desc := "(IIIII)I" } : Jvm.MethodName)) ∈ lw_all := lw_g (lw_at lw_m5 145 rfl) rfl
theorem q1179 : (Jvm.Cond.methodLink "ActorTrees$Reader" (66 : Nat) ({ cls := "ActorTrees$World", name := "comes", desc := "(IIIII)I" } : Jvm.MethodName)) ∈ lw_all := lw_g (lw_at lw_m5 146 rfl) rfl
theorem q1180 : (Jvm.Cond.classLink "ActorTrees$Reader" (74 : Nat) "ActorTrees$Count") ∈ lw_all := lw_g (lw_at lw_m5 147 rfl) rfl
theorem q1181 : (Jvm.Cond.methodLink "ActorTrees$Reader" (76 : Nat) ({ cls := "ActorTrees$Count", name := "<init>", desc := "(II)V" } : Jvm.MethodName)) ∈ lw_all := lw_g (lw_at lw_m5 148 rfl) rfl
theorem q1182 : (Jvm.Cond.methodLink "ActorTrees$Reader" (79 : Nat) ({ cls := "ActorTrees$World", name := "sends", desc := "(LActorTrees$Actor;LActorTrees$Message;)Z" } : Jvm.MethodName)) ∈ lw_all := lw_g (lw_at lw_m5 149 rfl) rfl
theorem q1183 : (Jvm.Cond.methodLink "ActorTrees$Reader" (83 : Nat) ({ cls := "ActorTrees$World", name := "runs", desc := "(I)I" } : Jvm.MethodName)) ∈ lw_all := lw_g (lw_at lw_m5 150 rfl) rfl
theorem q1697 : (Jvm.Cond.castable "ActorTrees$Reader" "java/lang/Object") ∈ lw_tbl := lw_at lw_m7 184 rfl
theorem in_X16 : ∀ w ∈ wsX160, w ∈ lw_all := lw_in wsX160 [1111, 1113, 1115, 1117, 1119] (by decide +kernel) (by decide +kernel)
/-! ActorTrees$Wrong -/
set_option maxRecDepth 100000
def RX17 : String := "ActorTrees$Wrong"
def TX17 : u_T := fun k => match k with
  | 0 => ("java/lang/Throwable", "cause", "Ljava/lang/Throwable;", false)
  | 1 => ("java/lang/Throwable", "stackTrace", "[Ljava/lang/StackTraceElement;", false)
  | 2 => ("java/lang/Throwable", "suppressedExceptions", "Ljava/util/List;", false)
  | 3 => ("java/lang/Throwable", "detailMessage", "Ljava/lang/String;", false)
  | 4 => ("java/lang/Throwable", "backtrace", "Ljava/lang/Object;", false)
  | 5 => ("java/lang/Throwable", "depth", "I", false)
  | _ => ("ActorTrees$Wrong", "answer", "I", true)
def tyX17 : Nat → FieldType := fun k => match k with
  | 0 => .object "java/lang/Throwable"
  | 1 => .array (.object "java/lang/StackTraceElement")
  | 2 => .object "java/util/List"
  | 3 => .object "java/lang/String"
  | 4 => .object "java/lang/Object"
  | 5 => .int
  | _ => .int
abbrev wsX170 : List Cond := u_ws RX17 TX17 7
theorem nmX17 : ∀ a, a < 7 → ∀ b, b < 7 → a ≠ b → (TX17 a).2.1 ≠ (TX17 b).2.1 := by decide +kernel
theorem tyX17_ok : ∀ k, k < 7 → parseFieldDescriptor (TX17 k).2.2.1 = some (tyX17 k) := by decide +kernel
abbrev cX17_init : ByteArray := prog_21_method_1_code
def yX17_init : MethodName := ⟨RX17, "<init>", "(I)V"⟩
def dkwX17_init_0 : List UInt8 := [42, 183, 0, 1, 42, 27, 181, 0, 7, 177]
abbrev dktX17_init_0 : List UInt8 := dkwX17_init_0 ++ []
theorem dksX17_init_0 : cX17_init.data.toList.drop 0 = dktX17_init_0 := by decide +kernel
theorem dX17_init_0 : decode cX17_init 0 = .ok (.aload_n 0, 1) := dk_42 (dk_at dksX17_init_0 0 rfl rfl)
theorem dX17_init_1 : decode cX17_init 1 = .ok (.invokespecial 1, 3) := dk_183 0 1 (dk_at dksX17_init_0 1 rfl rfl)
theorem dX17_init_4 : decode cX17_init 4 = .ok (.aload_n 0, 1) := dk_42 (dk_at dksX17_init_0 4 rfl rfl)
theorem dX17_init_5 : decode cX17_init 5 = .ok (.iload_n 1, 1) := dk_27 (dk_at dksX17_init_0 5 rfl rfl)
theorem dX17_init_6 : decode cX17_init 6 = .ok (.putfield 7, 3) := dk_181 0 7 (dk_at dksX17_init_0 6 rfl rfl)
theorem dX17_init_9 : decode cX17_init 9 = .ok (.return_, 1) := dk_177 (dk_at dksX17_init_0 9 rfl rfl)
theorem q103 : (Jvm.Cond.initialized "ActorTrees$Wrong") ∈ lw_all := lw_g (lw_at lw_m1 30 rfl) rfl
theorem q518 : (Jvm.Cond.selects "ActorTrees$Wrong" ({ cls := "java/lang/Throwable", name := "fillInStackTrace", desc := "()Ljava/lang/Throwable;" } : Jvm.MethodName) ({ cls := "java/lang/Throwable", name := "fillInStackTrace", desc := "()Ljava/lang/Throwable;" } : Jvm.MethodName)) ∈ lw_all := lw_g (lw_at lw_m2 205 rfl) rfl
theorem q1139 : (Jvm.Cond.instantiable "ActorTrees$Wrong" (7 : Nat)) ∈ lw_all := lw_g (lw_at lw_m5 106 rfl) rfl
theorem q1140 : (Jvm.Cond.castable "ActorTrees$Wrong" "ActorTrees$Wrong") ∈ lw_tbl := lw_at lw_m5 107 rfl
theorem q1141 : (Jvm.Cond.selects "ActorTrees$Wrong" ({ cls := "java/lang/Throwable", name := "fillInStackTrace", desc := "(I)Ljava/lang/Throwable;" } : Jvm.MethodName) ({ cls := "java/lang/Throwable", name := "fillInStackTrace", desc := "(I)Ljava/lang/Throwable;" } : Jvm.MethodName)) ∈ lw_all := lw_g (lw_at lw_m5 108 rfl) rfl
theorem q1142 : (Jvm.Cond.lays "ActorTrees$Wrong" "java/lang/Throwable" "cause" "Ljava/lang/Throwable;") ∈ lw_all := lw_g (lw_at lw_m5 109 rfl) rfl
theorem q1143 : (Jvm.Cond.lays "ActorTrees$Wrong" "java/lang/Throwable" "stackTrace" "[Ljava/lang/StackTraceElement;") ∈ lw_all := lw_g (lw_at lw_m5 110 rfl) rfl
theorem q1144 : (Jvm.Cond.lays "ActorTrees$Wrong" "java/lang/Throwable" "suppressedExceptions" "Ljava/util/List;") ∈ lw_all := lw_g (lw_at lw_m5 111 rfl) rfl
theorem q1145 : (Jvm.Cond.lays "ActorTrees$Wrong" "java/lang/Throwable" "detailMessage" "Ljava/lang/String;") ∈ lw_all := lw_g (lw_at lw_m5 112 rfl) rfl
theorem q1146 : (Jvm.Cond.lays "ActorTrees$Wrong" "java/lang/Throwable" "backtrace" "Ljava/lang/Object;") ∈ lw_all := lw_g (lw_at lw_m5 113 rfl) rfl
theorem q1148 : (Jvm.Cond.instanceMethod ({ cls := "ActorTrees$Wrong", name := "<init>", desc := "(I)V" } : Jvm.MethodName)) ∈ lw_all := lw_g (lw_at lw_m5 115 rfl) rfl
theorem q1149 : (Jvm.Cond.code ({ cls := "ActorTrees$Wrong", name := "<init>", desc := "(I)V" } : Jvm.MethodName) prog_21_method_1_code (2 : Nat) (Option.none : Option Jvm.ClassFile.FieldType)) ∈ lw_all := lw_g (lw_at lw_m5 116 rfl) rfl
theorem q1150 : (Jvm.Cond.methodLink "ActorTrees$Wrong" (1 : Nat) ({ cls := "java/lang/Exception", name := "<init>", desc := "()V" } : Jvm.MethodName)) ∈ lw_all := lw_g (lw_at lw_m5 117 rfl) rfl
theorem q1151 : (Jvm.Cond.fieldLink "ActorTrees$Wrong" (7 : Nat) "ActorTrees$Wrong" "answer" "I") ∈ lw_all := lw_g (lw_at lw_m5 118 rfl) rfl
theorem q1153 : (Jvm.Cond.laysFinal "ActorTrees$Wrong" "ActorTrees$Wrong" "answer" "I") ∈ lw_all := lw_g (lw_at lw_m5 120 rfl) rfl
theorem q1154 : (Jvm.Cond.soleField "ActorTrees$Wrong" "answer") ∈ lw_all := lw_g (lw_at lw_m5 121 rfl) rfl
theorem q1155 : (Jvm.Cond.lays "ActorTrees$Wrong" "java/lang/Throwable" "depth" "I") ∈ lw_all := lw_g (lw_at lw_m5 122 rfl) rfl
theorem q1156 : (Jvm.Cond.superclass "ActorTrees$Wrong" "java/lang/Exception") ∈ lw_all := lw_g (lw_at lw_m5 123 rfl) rfl
theorem q1698 : (Jvm.Cond.castable "ActorTrees$Wrong" "java/lang/Object") ∈ lw_tbl := lw_at lw_m7 185 rfl
theorem in_X17 : ∀ w ∈ wsX170, w ∈ lw_all := lw_in wsX170 [1142, 1143, 1144, 1145, 1146, 1155, 1153] (by decide +kernel) (by decide +kernel)
/-! ActorTrees$Seat -/
set_option maxRecDepth 100000
def RX18 : String := "ActorTrees$Seat"
def TX18 : u_T := fun k => match k with
  | _ => ("ActorTrees$Seat", "actor", "I", true)
def tyX18 : Nat → FieldType := fun k => match k with
  | _ => .int
abbrev wsX180 : List Cond := u_ws RX18 TX18 1
theorem nmX18 : ∀ a, a < 1 → ∀ b, b < 1 → a ≠ b → (TX18 a).2.1 ≠ (TX18 b).2.1 := by decide +kernel
theorem tyX18_ok : ∀ k, k < 1 → parseFieldDescriptor (TX18 k).2.2.1 = some (tyX18 k) := by decide +kernel
abbrev cX18_init : ByteArray := prog_13_method_1_code
def yX18_init : MethodName := ⟨RX18, "<init>", "(I)V"⟩
def dkwX18_init_0 : List UInt8 := [42, 183, 0, 1, 42, 27, 181, 0, 7, 177]
abbrev dktX18_init_0 : List UInt8 := dkwX18_init_0 ++ []
theorem dksX18_init_0 : cX18_init.data.toList.drop 0 = dktX18_init_0 := by decide +kernel
theorem dX18_init_0 : decode cX18_init 0 = .ok (.aload_n 0, 1) := dk_42 (dk_at dksX18_init_0 0 rfl rfl)
theorem dX18_init_1 : decode cX18_init 1 = .ok (.invokespecial 1, 3) := dk_183 0 1 (dk_at dksX18_init_0 1 rfl rfl)
theorem dX18_init_4 : decode cX18_init 4 = .ok (.aload_n 0, 1) := dk_42 (dk_at dksX18_init_0 4 rfl rfl)
theorem dX18_init_5 : decode cX18_init 5 = .ok (.iload_n 1, 1) := dk_27 (dk_at dksX18_init_0 5 rfl rfl)
theorem dX18_init_6 : decode cX18_init 6 = .ok (.putfield 7, 3) := dk_181 0 7 (dk_at dksX18_init_0 6 rfl rfl)
theorem dX18_init_9 : decode cX18_init 9 = .ok (.return_, 1) := dk_177 (dk_at dksX18_init_0 9 rfl rfl)
theorem q105 : (Jvm.Cond.initialized "ActorTrees$Seat") ∈ lw_all := lw_g (lw_at lw_m1 32 rfl) rfl
theorem q1229 : (Jvm.Cond.instantiable "ActorTrees$Seat" (1 : Nat)) ∈ lw_all := lw_g (lw_at lw_m5 196 rfl) rfl
theorem q1231 : (Jvm.Cond.instanceMethod ({ cls := "ActorTrees$Seat", name := "<init>", desc := "(I)V" } : Jvm.MethodName)) ∈ lw_all := lw_g (lw_at lw_m5 198 rfl) rfl
theorem q1232 : (Jvm.Cond.code ({ cls := "ActorTrees$Seat", name := "<init>", desc := "(I)V" } : Jvm.MethodName) prog_13_method_1_code (2 : Nat) (Option.none : Option Jvm.ClassFile.FieldType)) ∈ lw_all := lw_g (lw_at lw_m5 199 rfl) rfl
theorem q1233 : (Jvm.Cond.methodLink "ActorTrees$Seat" (1 : Nat) ({ cls := "java/lang/Object", name := "<init>", desc := "()V" } : Jvm.MethodName)) ∈ lw_all := lw_g (lw_at lw_m5 200 rfl) rfl
theorem q1234 : (Jvm.Cond.fieldLink "ActorTrees$Seat" (7 : Nat) "ActorTrees$Seat" "actor" "I") ∈ lw_all := lw_g (lw_at lw_m5 201 rfl) rfl
theorem q1236 : (Jvm.Cond.laysFinal "ActorTrees$Seat" "ActorTrees$Seat" "actor" "I") ∈ lw_all := lw_g (lw_at lw_m5 203 rfl) rfl
theorem q1237 : (Jvm.Cond.soleField "ActorTrees$Seat" "actor") ∈ lw_all := lw_g (lw_at lw_m5 204 rfl) rfl
theorem q1238 : (Jvm.Cond.superclass "ActorTrees$Seat" "java/lang/Object") ∈ lw_all := lw_g (lw_at lw_m5 205 rfl) rfl
theorem q1700 : (Jvm.Cond.castable "ActorTrees$Seat" "java/lang/Object") ∈ lw_tbl := lw_at lw_m7 187 rfl
theorem in_X18 : ∀ w ∈ wsX180, w ∈ lw_all := lw_in wsX180 [1236] (by decide +kernel) (by decide +kernel)

/-! ActorTrees -/
set_option maxRecDepth 100000
def RX0 : String := "ActorTrees"
def TX0 : u_T := fun k => match k with
  | 0 => ("ActorTrees", "world", "LActorTrees$World;", false)
  | 1 => ("ActorTrees", "kept", "LActorTrees$World;", false)
  | 2 => ("ActorTrees", "tape", "[B", true)
  | 3 => ("ActorTrees", "taped", "I", false)
  | _ => ("ActorTrees", "handles", "[Ljava/lang/Object;", true)
def tyX0 : Nat → FieldType := fun k => match k with
  | 0 => .object "ActorTrees$World"
  | 1 => .object "ActorTrees$World"
  | 2 => .array .byte
  | 3 => .int
  | _ => .array (.object "java/lang/Object")
abbrev wsX00 : List Cond := u_ws RX0 TX0 5
theorem nmX0 : ∀ a, a < 5 → ∀ b, b < 5 → a ≠ b → (TX0 a).2.1 ≠ (TX0 b).2.1 := by decide +kernel
theorem tyX0_ok : ∀ k, k < 5 → parseFieldDescriptor (TX0 k).2.2.1 = some (tyX0 k) := by decide +kernel
abbrev cX0_init : ByteArray := prog_1_method_3_code
def yX0_init : MethodName := ⟨RX0, "<init>", "()V"⟩
def dkwX0_init_1 : List UInt8 := [16, 6, 189, 0, 8, 181, 0, 26, 177]
abbrev dktX0_init_1 : List UInt8 := dkwX0_init_1 ++ []
def dkwX0_init_0 : List UInt8 := [42, 183, 0, 7, 42, 187, 0, 13, 89, 183, 0, 15, 181, 0, 16, 42, 16, 120, 188, 8, 181, 0, 22, 42]
abbrev dktX0_init_0 : List UInt8 := dkwX0_init_0 ++ dktX0_init_1
theorem dksX0_init_0 : cX0_init.data.toList.drop 0 = dktX0_init_0 := by decide +kernel
theorem dksX0_init_1 : cX0_init.data.toList.drop 24 = dktX0_init_1 := dk_seg dksX0_init_0 24 rfl rfl
theorem dX0_init_0 : decode cX0_init 0 = .ok (.aload_n 0, 1) := dk_42 (dk_at dksX0_init_0 0 rfl rfl)
theorem dX0_init_1 : decode cX0_init 1 = .ok (.invokespecial 7, 3) := dk_183 0 7 (dk_at dksX0_init_0 1 rfl rfl)
theorem dX0_init_4 : decode cX0_init 4 = .ok (.aload_n 0, 1) := dk_42 (dk_at dksX0_init_0 4 rfl rfl)
theorem dX0_init_5 : decode cX0_init 5 = .ok (.new 13, 3) := dk_187 0 13 (dk_at dksX0_init_0 5 rfl rfl)
theorem dX0_init_8 : decode cX0_init 8 = .ok (.dup, 1) := dk_89 (dk_at dksX0_init_0 8 rfl rfl)
theorem dX0_init_9 : decode cX0_init 9 = .ok (.invokespecial 15, 3) := dk_183 0 15 (dk_at dksX0_init_0 9 rfl rfl)
theorem dX0_init_12 : decode cX0_init 12 = .ok (.putfield 16, 3) := dk_181 0 16 (dk_at dksX0_init_0 12 rfl rfl)
theorem dX0_init_15 : decode cX0_init 15 = .ok (.aload_n 0, 1) := dk_42 (dk_at dksX0_init_0 15 rfl rfl)
theorem dX0_init_16 : decode cX0_init 16 = .ok (.bipush 120, 2) := dk_16 120 (dk_at dksX0_init_0 16 rfl rfl)
theorem dX0_init_18 : decode cX0_init 18 = .ok (.newarray .byte, 2) := dk_188_8 (dk_at dksX0_init_0 18 rfl rfl)
theorem dX0_init_20 : decode cX0_init 20 = .ok (.putfield 22, 3) := dk_181 0 22 (dk_at dksX0_init_0 20 rfl rfl)
theorem dX0_init_23 : decode cX0_init 23 = .ok (.aload_n 0, 1) := dk_42 (dk_at dksX0_init_0 23 rfl rfl)
theorem dX0_init_24 : decode cX0_init 24 = .ok (.bipush 6, 2) := dk_16 6 (dk_at dksX0_init_1 0 rfl rfl)
theorem dX0_init_26 : decode cX0_init 26 = .ok (.anewarray 8, 3) := dk_189 0 8 (dk_at dksX0_init_1 2 rfl rfl)
theorem dX0_init_29 : decode cX0_init 29 = .ok (.putfield 26, 3) := dk_181 0 26 (dk_at dksX0_init_1 5 rfl rfl)
theorem dX0_init_32 : decode cX0_init 32 = .ok (.return_, 1) := dk_177 (dk_at dksX0_init_1 8 rfl rfl)
abbrev cX0_actor : ByteArray := prog_1_method_6_code
def yX0_actor : MethodName := ⟨RX0, "actor", "(III)I"⟩
def dkwX0_actor_3 : List UInt8 := [172]
abbrev dktX0_actor_3 : List UInt8 := dkwX0_actor_3 ++ []
def dkwX0_actor_2 : List UInt8 := [180, 0, 16, 27, 28, 29, 17, 3, 232, 108, 29, 16, 100, 108, 16, 10, 112, 29, 16, 100, 112, 182, 0, 52]
abbrev dktX0_actor_2 : List UInt8 := dkwX0_actor_2 ++ dktX0_actor_3
def dkwX0_actor_1 : List UInt8 := [16, 10, 112, 29, 16, 100, 112, 182, 0, 48, 54, 4, 21, 4, 156, 0, 8, 21, 4, 167, 0, 28, 42]
abbrev dktX0_actor_1 : List UInt8 := dkwX0_actor_1 ++ dktX0_actor_2
def dkwX0_actor_0 : List UInt8 := [29, 156, 0, 7, 2, 167, 0, 28, 42, 180, 0, 16, 27, 28, 29, 17, 3, 232, 108, 29, 16, 100, 108]
abbrev dktX0_actor_0 : List UInt8 := dkwX0_actor_0 ++ dktX0_actor_1
theorem dksX0_actor_0 : cX0_actor.data.toList.drop 0 = dktX0_actor_0 := by decide +kernel
theorem dksX0_actor_1 : cX0_actor.data.toList.drop 23 = dktX0_actor_1 := dk_seg dksX0_actor_0 23 rfl rfl
theorem dksX0_actor_2 : cX0_actor.data.toList.drop 46 = dktX0_actor_2 := dk_seg dksX0_actor_1 23 rfl rfl
theorem dksX0_actor_3 : cX0_actor.data.toList.drop 70 = dktX0_actor_3 := dk_seg dksX0_actor_2 24 rfl rfl
theorem dX0_actor_0 : decode cX0_actor 0 = .ok (.iload_n 3, 1) := dk_29 (dk_at dksX0_actor_0 0 rfl rfl)
theorem dX0_actor_1 : decode cX0_actor 1 = .ok (.ifCond .ge 7, 3) := dk_156 0 7 (dk_at dksX0_actor_0 1 rfl rfl)
theorem dX0_actor_4 : decode cX0_actor 4 = .ok (.iconst (-1), 1) := dk_2 (dk_at dksX0_actor_0 4 rfl rfl)
theorem dX0_actor_5 : decode cX0_actor 5 = .ok (.goto 28, 3) := dk_167 0 28 (dk_at dksX0_actor_0 5 rfl rfl)
theorem dX0_actor_8 : decode cX0_actor 8 = .ok (.aload_n 0, 1) := dk_42 (dk_at dksX0_actor_0 8 rfl rfl)
theorem dX0_actor_9 : decode cX0_actor 9 = .ok (.getfield 16, 3) := dk_180 0 16 (dk_at dksX0_actor_0 9 rfl rfl)
theorem dX0_actor_12 : decode cX0_actor 12 = .ok (.iload_n 1, 1) := dk_27 (dk_at dksX0_actor_0 12 rfl rfl)
theorem dX0_actor_13 : decode cX0_actor 13 = .ok (.iload_n 2, 1) := dk_28 (dk_at dksX0_actor_0 13 rfl rfl)
theorem dX0_actor_14 : decode cX0_actor 14 = .ok (.iload_n 3, 1) := dk_29 (dk_at dksX0_actor_0 14 rfl rfl)
theorem dX0_actor_15 : decode cX0_actor 15 = .ok (.sipush 1000, 3) := dk_17 3 232 (dk_at dksX0_actor_0 15 rfl rfl)
theorem dX0_actor_18 : decode cX0_actor 18 = .ok (.idiv, 1) := dk_108 (dk_at dksX0_actor_0 18 rfl rfl)
theorem dX0_actor_19 : decode cX0_actor 19 = .ok (.iload_n 3, 1) := dk_29 (dk_at dksX0_actor_0 19 rfl rfl)
theorem dX0_actor_20 : decode cX0_actor 20 = .ok (.bipush 100, 2) := dk_16 100 (dk_at dksX0_actor_0 20 rfl rfl)
theorem dX0_actor_22 : decode cX0_actor 22 = .ok (.idiv, 1) := dk_108 (dk_at dksX0_actor_0 22 rfl rfl)
theorem dX0_actor_23 : decode cX0_actor 23 = .ok (.bipush 10, 2) := dk_16 10 (dk_at dksX0_actor_1 0 rfl rfl)
theorem dX0_actor_25 : decode cX0_actor 25 = .ok (.irem, 1) := dk_112 (dk_at dksX0_actor_1 2 rfl rfl)
theorem dX0_actor_26 : decode cX0_actor 26 = .ok (.iload_n 3, 1) := dk_29 (dk_at dksX0_actor_1 3 rfl rfl)
theorem dX0_actor_27 : decode cX0_actor 27 = .ok (.bipush 100, 2) := dk_16 100 (dk_at dksX0_actor_1 4 rfl rfl)
theorem dX0_actor_29 : decode cX0_actor 29 = .ok (.irem, 1) := dk_112 (dk_at dksX0_actor_1 6 rfl rfl)
theorem dX0_actor_30 : decode cX0_actor 30 = .ok (.invokevirtual 48, 3) := dk_182 0 48 (dk_at dksX0_actor_1 7 rfl rfl)
theorem dX0_actor_33 : decode cX0_actor 33 = .ok (.istore 4, 2) := dk_54 4 (dk_at dksX0_actor_1 10 rfl rfl)
theorem dX0_actor_35 : decode cX0_actor 35 = .ok (.iload 4, 2) := dk_21 4 (dk_at dksX0_actor_1 12 rfl rfl)
theorem dX0_actor_37 : decode cX0_actor 37 = .ok (.ifCond .ge 8, 3) := dk_156 0 8 (dk_at dksX0_actor_1 14 rfl rfl)
theorem dX0_actor_40 : decode cX0_actor 40 = .ok (.iload 4, 2) := dk_21 4 (dk_at dksX0_actor_1 17 rfl rfl)
theorem dX0_actor_42 : decode cX0_actor 42 = .ok (.goto 28, 3) := dk_167 0 28 (dk_at dksX0_actor_1 19 rfl rfl)
theorem dX0_actor_45 : decode cX0_actor 45 = .ok (.aload_n 0, 1) := dk_42 (dk_at dksX0_actor_1 22 rfl rfl)
theorem dX0_actor_46 : decode cX0_actor 46 = .ok (.getfield 16, 3) := dk_180 0 16 (dk_at dksX0_actor_2 0 rfl rfl)
theorem dX0_actor_49 : decode cX0_actor 49 = .ok (.iload_n 1, 1) := dk_27 (dk_at dksX0_actor_2 3 rfl rfl)
theorem dX0_actor_50 : decode cX0_actor 50 = .ok (.iload_n 2, 1) := dk_28 (dk_at dksX0_actor_2 4 rfl rfl)
theorem dX0_actor_51 : decode cX0_actor 51 = .ok (.iload_n 3, 1) := dk_29 (dk_at dksX0_actor_2 5 rfl rfl)
theorem dX0_actor_52 : decode cX0_actor 52 = .ok (.sipush 1000, 3) := dk_17 3 232 (dk_at dksX0_actor_2 6 rfl rfl)
theorem dX0_actor_55 : decode cX0_actor 55 = .ok (.idiv, 1) := dk_108 (dk_at dksX0_actor_2 9 rfl rfl)
theorem dX0_actor_56 : decode cX0_actor 56 = .ok (.iload_n 3, 1) := dk_29 (dk_at dksX0_actor_2 10 rfl rfl)
theorem dX0_actor_57 : decode cX0_actor 57 = .ok (.bipush 100, 2) := dk_16 100 (dk_at dksX0_actor_2 11 rfl rfl)
theorem dX0_actor_59 : decode cX0_actor 59 = .ok (.idiv, 1) := dk_108 (dk_at dksX0_actor_2 13 rfl rfl)
theorem dX0_actor_60 : decode cX0_actor 60 = .ok (.bipush 10, 2) := dk_16 10 (dk_at dksX0_actor_2 14 rfl rfl)
theorem dX0_actor_62 : decode cX0_actor 62 = .ok (.irem, 1) := dk_112 (dk_at dksX0_actor_2 16 rfl rfl)
theorem dX0_actor_63 : decode cX0_actor 63 = .ok (.iload_n 3, 1) := dk_29 (dk_at dksX0_actor_2 17 rfl rfl)
theorem dX0_actor_64 : decode cX0_actor 64 = .ok (.bipush 100, 2) := dk_16 100 (dk_at dksX0_actor_2 18 rfl rfl)
theorem dX0_actor_66 : decode cX0_actor 66 = .ok (.irem, 1) := dk_112 (dk_at dksX0_actor_2 20 rfl rfl)
theorem dX0_actor_67 : decode cX0_actor 67 = .ok (.invokevirtual 52, 3) := dk_182 0 52 (dk_at dksX0_actor_2 21 rfl rfl)
theorem dX0_actor_70 : decode cX0_actor 70 = .ok (.ireturn, 1) := dk_172 (dk_at dksX0_actor_3 0 rfl rfl)
abbrev cX0_within : ByteArray := prog_1_method_1_code
def yX0_within : MethodName := ⟨RX0, "within", "(III)Z"⟩
def dkwX0_within_0 : List UInt8 := [26, 27, 161, 0, 12, 26, 28, 163, 0, 7, 4, 167, 0, 4, 3, 172]
abbrev dktX0_within_0 : List UInt8 := dkwX0_within_0 ++ []
theorem dksX0_within_0 : cX0_within.data.toList.drop 0 = dktX0_within_0 := by decide +kernel
theorem dX0_within_0 : decode cX0_within 0 = .ok (.iload_n 0, 1) := dk_26 (dk_at dksX0_within_0 0 rfl rfl)
theorem dX0_within_1 : decode cX0_within 1 = .ok (.iload_n 1, 1) := dk_27 (dk_at dksX0_within_0 1 rfl rfl)
theorem dX0_within_2 : decode cX0_within 2 = .ok (.if_icmp .lt 12, 3) := dk_161 0 12 (dk_at dksX0_within_0 2 rfl rfl)
theorem dX0_within_5 : decode cX0_within 5 = .ok (.iload_n 0, 1) := dk_26 (dk_at dksX0_within_0 5 rfl rfl)
theorem dX0_within_6 : decode cX0_within 6 = .ok (.iload_n 2, 1) := dk_28 (dk_at dksX0_within_0 6 rfl rfl)
theorem dX0_within_7 : decode cX0_within 7 = .ok (.if_icmp .gt 7, 3) := dk_163 0 7 (dk_at dksX0_within_0 7 rfl rfl)
theorem dX0_within_10 : decode cX0_within 10 = .ok (.iconst 1, 1) := dk_4 (dk_at dksX0_within_0 10 rfl rfl)
theorem dX0_within_11 : decode cX0_within 11 = .ok (.goto 4, 3) := dk_167 0 4 (dk_at dksX0_within_0 11 rfl rfl)
theorem dX0_within_14 : decode cX0_within 14 = .ok (.iconst 0, 1) := dk_3 (dk_at dksX0_within_0 14 rfl rfl)
theorem dX0_within_15 : decode cX0_within 15 = .ok (.ireturn, 1) := dk_172 (dk_at dksX0_within_0 15 rfl rfl)
abbrev cX0_strategyOf : ByteArray := prog_1_method_2_code
def yX0_strategyOf : MethodName := ⟨RX0, "strategyOf", "(I)LActorTrees$Strategy;"⟩
def dkwX0_strategyOf_2 : List UInt8 := [186, 0, 1, 0, 0, 176, 186, 0, 5, 0, 0, 176, 186, 0, 6, 0, 0, 176]
abbrev dktX0_strategyOf_2 : List UInt8 := dkwX0_strategyOf_2 ++ []
def dkwX0_strategyOf_1 : List UInt8 := [171, 0, 0, 0, 0, 0, 39, 0, 0, 0, 2, 0, 0, 0, 0, 0, 0, 0, 27, 0, 0, 0, 1, 0, 0, 0, 33]
abbrev dktX0_strategyOf_1 : List UInt8 := dkwX0_strategyOf_1 ++ dktX0_strategyOf_2
def dkwX0_strategyOf_0 : List UInt8 := [26]
abbrev dktX0_strategyOf_0 : List UInt8 := dkwX0_strategyOf_0 ++ dktX0_strategyOf_1
theorem dksX0_strategyOf_0 : cX0_strategyOf.data.toList.drop 0 = dktX0_strategyOf_0 := by decide +kernel
theorem dksX0_strategyOf_1 : cX0_strategyOf.data.toList.drop 1 = dktX0_strategyOf_1 := dk_seg dksX0_strategyOf_0 1 rfl rfl
theorem dksX0_strategyOf_2 : cX0_strategyOf.data.toList.drop 28 = dktX0_strategyOf_2 := dk_seg dksX0_strategyOf_1 27 rfl rfl
theorem dX0_strategyOf_0 : decode cX0_strategyOf 0 = .ok (.iload_n 0, 1) := dk_26 (dk_at dksX0_strategyOf_0 0 rfl rfl)
theorem dX0_strategyOf_1 : decode cX0_strategyOf 1 = .ok (.lookupswitch 39 #[(0, 27), (1, 33)], 27) := by decide +kernel
theorem dX0_strategyOf_28 : decode cX0_strategyOf 28 = .ok (.invokedynamic 1, 5) := by decide +kernel
theorem dX0_strategyOf_33 : decode cX0_strategyOf 33 = .ok (.areturn, 1) := dk_176 (dk_at dksX0_strategyOf_2 5 rfl rfl)
theorem dX0_strategyOf_34 : decode cX0_strategyOf 34 = .ok (.invokedynamic 5, 5) := by decide +kernel
theorem dX0_strategyOf_39 : decode cX0_strategyOf 39 = .ok (.areturn, 1) := dk_176 (dk_at dksX0_strategyOf_2 11 rfl rfl)
theorem dX0_strategyOf_40 : decode cX0_strategyOf 40 = .ok (.invokedynamic 6, 5) := by decide +kernel
theorem dX0_strategyOf_45 : decode cX0_strategyOf 45 = .ok (.areturn, 1) := dk_176 (dk_at dksX0_strategyOf_2 17 rfl rfl)
abbrev cX0_lambda_strategyOf_0 : ByteArray := prog_1_method_44_code
def yX0_lambda_strategyOf_0 : MethodName := ⟨RX0, "lambda$strategyOf$0", "(II)Z"⟩
def dkwX0_lambda_strategyOf_0_0 : List UInt8 := [27, 26, 160, 0, 7, 4, 167, 0, 4, 3, 172]
abbrev dktX0_lambda_strategyOf_0_0 : List UInt8 := dkwX0_lambda_strategyOf_0_0 ++ []
theorem dksX0_lambda_strategyOf_0_0 : cX0_lambda_strategyOf_0.data.toList.drop 0 = dktX0_lambda_strategyOf_0_0 := by decide +kernel
theorem dX0_lambda_strategyOf_0_0 : decode cX0_lambda_strategyOf_0 0 = .ok (.iload_n 1, 1) := dk_27 (dk_at dksX0_lambda_strategyOf_0_0 0 rfl rfl)
theorem dX0_lambda_strategyOf_0_1 : decode cX0_lambda_strategyOf_0 1 = .ok (.iload_n 0, 1) := dk_26 (dk_at dksX0_lambda_strategyOf_0_0 1 rfl rfl)
theorem dX0_lambda_strategyOf_0_2 : decode cX0_lambda_strategyOf_0 2 = .ok (.if_icmp .ne 7, 3) := dk_160 0 7 (dk_at dksX0_lambda_strategyOf_0_0 2 rfl rfl)
theorem dX0_lambda_strategyOf_0_5 : decode cX0_lambda_strategyOf_0 5 = .ok (.iconst 1, 1) := dk_4 (dk_at dksX0_lambda_strategyOf_0_0 5 rfl rfl)
theorem dX0_lambda_strategyOf_0_6 : decode cX0_lambda_strategyOf_0 6 = .ok (.goto 4, 3) := dk_167 0 4 (dk_at dksX0_lambda_strategyOf_0_0 6 rfl rfl)
theorem dX0_lambda_strategyOf_0_9 : decode cX0_lambda_strategyOf_0 9 = .ok (.iconst 0, 1) := dk_3 (dk_at dksX0_lambda_strategyOf_0_0 9 rfl rfl)
theorem dX0_lambda_strategyOf_0_10 : decode cX0_lambda_strategyOf_0 10 = .ok (.ireturn, 1) := dk_172 (dk_at dksX0_lambda_strategyOf_0_0 10 rfl rfl)
abbrev cX0_lambda_strategyOf_1 : ByteArray := prog_1_method_43_code
def yX0_lambda_strategyOf_1 : MethodName := ⟨RX0, "lambda$strategyOf$1", "(II)Z"⟩
theorem dX0_lambda_strategyOf_1_0 : decode cX0_lambda_strategyOf_1 0 = .ok (.iconst 1, 1) := by decide +kernel
theorem dX0_lambda_strategyOf_1_1 : decode cX0_lambda_strategyOf_1 1 = .ok (.ireturn, 1) := by decide +kernel
abbrev cX0_lambda_strategyOf_2 : ByteArray := prog_1_method_42_code
def yX0_lambda_strategyOf_2 : MethodName := ⟨RX0, "lambda$strategyOf$2", "(II)Z"⟩
def dkwX0_lambda_strategyOf_2_0 : List UInt8 := [27, 26, 161, 0, 7, 4, 167, 0, 4, 3, 172]
abbrev dktX0_lambda_strategyOf_2_0 : List UInt8 := dkwX0_lambda_strategyOf_2_0 ++ []
theorem dksX0_lambda_strategyOf_2_0 : cX0_lambda_strategyOf_2.data.toList.drop 0 = dktX0_lambda_strategyOf_2_0 := by decide +kernel
theorem dX0_lambda_strategyOf_2_0 : decode cX0_lambda_strategyOf_2 0 = .ok (.iload_n 1, 1) := dk_27 (dk_at dksX0_lambda_strategyOf_2_0 0 rfl rfl)
theorem dX0_lambda_strategyOf_2_1 : decode cX0_lambda_strategyOf_2 1 = .ok (.iload_n 0, 1) := dk_26 (dk_at dksX0_lambda_strategyOf_2_0 1 rfl rfl)
theorem dX0_lambda_strategyOf_2_2 : decode cX0_lambda_strategyOf_2 2 = .ok (.if_icmp .lt 7, 3) := dk_161 0 7 (dk_at dksX0_lambda_strategyOf_2_0 2 rfl rfl)
theorem dX0_lambda_strategyOf_2_5 : decode cX0_lambda_strategyOf_2 5 = .ok (.iconst 1, 1) := dk_4 (dk_at dksX0_lambda_strategyOf_2_0 5 rfl rfl)
theorem dX0_lambda_strategyOf_2_6 : decode cX0_lambda_strategyOf_2 6 = .ok (.goto 4, 3) := dk_167 0 4 (dk_at dksX0_lambda_strategyOf_2_0 6 rfl rfl)
theorem dX0_lambda_strategyOf_2_9 : decode cX0_lambda_strategyOf_2 9 = .ok (.iconst 0, 1) := dk_3 (dk_at dksX0_lambda_strategyOf_2_0 9 rfl rfl)
theorem dX0_lambda_strategyOf_2_10 : decode cX0_lambda_strategyOf_2 10 = .ok (.ireturn, 1) := dk_172 (dk_at dksX0_lambda_strategyOf_2_0 10 rfl rfl)
abbrev cX0_tell : ByteArray := prog_1_method_7_code
def yX0_tell : MethodName := ⟨RX0, "tell", "(III)I"⟩
def dkwX0_tell_3 : List UInt8 := [180, 0, 68, 180, 0, 72, 167, 0, 5, 16, 251, 172]
abbrev dktX0_tell_3 : List UInt8 := dkwX0_tell_3 ++ []
def dkwX0_tell_2 : List UInt8 := [180, 0, 16, 25, 4, 187, 0, 59, 89, 28, 29, 183, 0, 61, 182, 0, 64, 153, 0, 14, 25, 4]
abbrev dktX0_tell_2 : List UInt8 := dkwX0_tell_2 ++ dktX0_tell_3
def dkwX0_tell_1 : List UInt8 := [16, 99, 184, 0, 55, 154, 0, 5, 2, 172, 42, 180, 0, 16, 180, 0, 38, 27, 50, 58, 4, 42]
abbrev dktX0_tell_1 : List UInt8 := dkwX0_tell_1 ++ dktX0_tell_2
def dkwX0_tell_0 : List UInt8 := [42, 27, 182, 0, 34, 153, 0, 27, 28, 2, 159, 0, 11, 42, 28, 182, 0, 34, 153, 0, 14, 29, 16, 157]
abbrev dktX0_tell_0 : List UInt8 := dkwX0_tell_0 ++ dktX0_tell_1
theorem dksX0_tell_0 : cX0_tell.data.toList.drop 0 = dktX0_tell_0 := by decide +kernel
theorem dksX0_tell_1 : cX0_tell.data.toList.drop 24 = dktX0_tell_1 := dk_seg dksX0_tell_0 24 rfl rfl
theorem dksX0_tell_2 : cX0_tell.data.toList.drop 46 = dktX0_tell_2 := dk_seg dksX0_tell_1 22 rfl rfl
theorem dksX0_tell_3 : cX0_tell.data.toList.drop 68 = dktX0_tell_3 := dk_seg dksX0_tell_2 22 rfl rfl
theorem dX0_tell_0 : decode cX0_tell 0 = .ok (.aload_n 0, 1) := dk_42 (dk_at dksX0_tell_0 0 rfl rfl)
theorem dX0_tell_1 : decode cX0_tell 1 = .ok (.iload_n 1, 1) := dk_27 (dk_at dksX0_tell_0 1 rfl rfl)
theorem dX0_tell_2 : decode cX0_tell 2 = .ok (.invokevirtual 34, 3) := dk_182 0 34 (dk_at dksX0_tell_0 2 rfl rfl)
theorem dX0_tell_5 : decode cX0_tell 5 = .ok (.ifCond .eq 27, 3) := dk_153 0 27 (dk_at dksX0_tell_0 5 rfl rfl)
theorem dX0_tell_8 : decode cX0_tell 8 = .ok (.iload_n 2, 1) := dk_28 (dk_at dksX0_tell_0 8 rfl rfl)
theorem dX0_tell_9 : decode cX0_tell 9 = .ok (.iconst (-1), 1) := dk_2 (dk_at dksX0_tell_0 9 rfl rfl)
theorem dX0_tell_10 : decode cX0_tell 10 = .ok (.if_icmp .eq 11, 3) := dk_159 0 11 (dk_at dksX0_tell_0 10 rfl rfl)
theorem dX0_tell_13 : decode cX0_tell 13 = .ok (.aload_n 0, 1) := dk_42 (dk_at dksX0_tell_0 13 rfl rfl)
theorem dX0_tell_14 : decode cX0_tell 14 = .ok (.iload_n 2, 1) := dk_28 (dk_at dksX0_tell_0 14 rfl rfl)
theorem dX0_tell_15 : decode cX0_tell 15 = .ok (.invokevirtual 34, 3) := dk_182 0 34 (dk_at dksX0_tell_0 15 rfl rfl)
theorem dX0_tell_18 : decode cX0_tell 18 = .ok (.ifCond .eq 14, 3) := dk_153 0 14 (dk_at dksX0_tell_0 18 rfl rfl)
theorem dX0_tell_21 : decode cX0_tell 21 = .ok (.iload_n 3, 1) := dk_29 (dk_at dksX0_tell_0 21 rfl rfl)
theorem dX0_tell_22 : decode cX0_tell 22 = .ok (.bipush (-99), 2) := dk_16 157 (dk_at dksX0_tell_0 22 rfl rfl)
theorem dX0_tell_24 : decode cX0_tell 24 = .ok (.bipush 99, 2) := dk_16 99 (dk_at dksX0_tell_1 0 rfl rfl)
theorem dX0_tell_26 : decode cX0_tell 26 = .ok (.invokestatic 55, 3) := dk_184 0 55 (dk_at dksX0_tell_1 2 rfl rfl)
theorem dX0_tell_29 : decode cX0_tell 29 = .ok (.ifCond .ne 5, 3) := dk_154 0 5 (dk_at dksX0_tell_1 5 rfl rfl)
theorem dX0_tell_32 : decode cX0_tell 32 = .ok (.iconst (-1), 1) := dk_2 (dk_at dksX0_tell_1 8 rfl rfl)
theorem dX0_tell_33 : decode cX0_tell 33 = .ok (.ireturn, 1) := dk_172 (dk_at dksX0_tell_1 9 rfl rfl)
theorem dX0_tell_34 : decode cX0_tell 34 = .ok (.aload_n 0, 1) := dk_42 (dk_at dksX0_tell_1 10 rfl rfl)
theorem dX0_tell_35 : decode cX0_tell 35 = .ok (.getfield 16, 3) := dk_180 0 16 (dk_at dksX0_tell_1 11 rfl rfl)
theorem dX0_tell_38 : decode cX0_tell 38 = .ok (.getfield 38, 3) := dk_180 0 38 (dk_at dksX0_tell_1 14 rfl rfl)
theorem dX0_tell_41 : decode cX0_tell 41 = .ok (.iload_n 1, 1) := dk_27 (dk_at dksX0_tell_1 17 rfl rfl)
theorem dX0_tell_42 : decode cX0_tell 42 = .ok (.aaload, 1) := dk_50 (dk_at dksX0_tell_1 18 rfl rfl)
theorem dX0_tell_43 : decode cX0_tell 43 = .ok (.astore 4, 2) := dk_58 4 (dk_at dksX0_tell_1 19 rfl rfl)
theorem dX0_tell_45 : decode cX0_tell 45 = .ok (.aload_n 0, 1) := dk_42 (dk_at dksX0_tell_1 21 rfl rfl)
theorem dX0_tell_46 : decode cX0_tell 46 = .ok (.getfield 16, 3) := dk_180 0 16 (dk_at dksX0_tell_2 0 rfl rfl)
theorem dX0_tell_49 : decode cX0_tell 49 = .ok (.aload 4, 2) := dk_25 4 (dk_at dksX0_tell_2 3 rfl rfl)
theorem dX0_tell_51 : decode cX0_tell 51 = .ok (.new 59, 3) := dk_187 0 59 (dk_at dksX0_tell_2 5 rfl rfl)
theorem dX0_tell_54 : decode cX0_tell 54 = .ok (.dup, 1) := dk_89 (dk_at dksX0_tell_2 8 rfl rfl)
theorem dX0_tell_55 : decode cX0_tell 55 = .ok (.iload_n 2, 1) := dk_28 (dk_at dksX0_tell_2 9 rfl rfl)
theorem dX0_tell_56 : decode cX0_tell 56 = .ok (.iload_n 3, 1) := dk_29 (dk_at dksX0_tell_2 10 rfl rfl)
theorem dX0_tell_57 : decode cX0_tell 57 = .ok (.invokespecial 61, 3) := dk_183 0 61 (dk_at dksX0_tell_2 11 rfl rfl)
theorem dX0_tell_60 : decode cX0_tell 60 = .ok (.invokevirtual 64, 3) := dk_182 0 64 (dk_at dksX0_tell_2 14 rfl rfl)
theorem dX0_tell_63 : decode cX0_tell 63 = .ok (.ifCond .eq 14, 3) := dk_153 0 14 (dk_at dksX0_tell_2 17 rfl rfl)
theorem dX0_tell_66 : decode cX0_tell 66 = .ok (.aload 4, 2) := dk_25 4 (dk_at dksX0_tell_2 20 rfl rfl)
theorem dX0_tell_68 : decode cX0_tell 68 = .ok (.getfield 68, 3) := dk_180 0 68 (dk_at dksX0_tell_3 0 rfl rfl)
theorem dX0_tell_71 : decode cX0_tell 71 = .ok (.getfield 72, 3) := dk_180 0 72 (dk_at dksX0_tell_3 3 rfl rfl)
theorem dX0_tell_74 : decode cX0_tell 74 = .ok (.goto 5, 3) := dk_167 0 5 (dk_at dksX0_tell_3 6 rfl rfl)
theorem dX0_tell_77 : decode cX0_tell 77 = .ok (.bipush (-5), 2) := dk_16 251 (dk_at dksX0_tell_3 9 rfl rfl)
theorem dX0_tell_79 : decode cX0_tell 79 = .ok (.ireturn, 1) := dk_172 (dk_at dksX0_tell_3 11 rfl rfl)
abbrev cX0_isActor : ByteArray := prog_1_method_4_code
def yX0_isActor : MethodName := ⟨RX0, "isActor", "(I)Z"⟩
def dkwX0_isActor_0 : List UInt8 := [27, 155, 0, 18, 27, 42, 180, 0, 16, 180, 0, 30, 162, 0, 7, 4, 167, 0, 4, 3, 172]
abbrev dktX0_isActor_0 : List UInt8 := dkwX0_isActor_0 ++ []
theorem dksX0_isActor_0 : cX0_isActor.data.toList.drop 0 = dktX0_isActor_0 := by decide +kernel
theorem dX0_isActor_0 : decode cX0_isActor 0 = .ok (.iload_n 1, 1) := dk_27 (dk_at dksX0_isActor_0 0 rfl rfl)
theorem dX0_isActor_1 : decode cX0_isActor 1 = .ok (.ifCond .lt 18, 3) := dk_155 0 18 (dk_at dksX0_isActor_0 1 rfl rfl)
theorem dX0_isActor_4 : decode cX0_isActor 4 = .ok (.iload_n 1, 1) := dk_27 (dk_at dksX0_isActor_0 4 rfl rfl)
theorem dX0_isActor_5 : decode cX0_isActor 5 = .ok (.aload_n 0, 1) := dk_42 (dk_at dksX0_isActor_0 5 rfl rfl)
theorem dX0_isActor_6 : decode cX0_isActor 6 = .ok (.getfield 16, 3) := dk_180 0 16 (dk_at dksX0_isActor_0 6 rfl rfl)
theorem dX0_isActor_9 : decode cX0_isActor 9 = .ok (.getfield 30, 3) := dk_180 0 30 (dk_at dksX0_isActor_0 9 rfl rfl)
theorem dX0_isActor_12 : decode cX0_isActor 12 = .ok (.if_icmp .ge 7, 3) := dk_162 0 7 (dk_at dksX0_isActor_0 12 rfl rfl)
theorem dX0_isActor_15 : decode cX0_isActor 15 = .ok (.iconst 1, 1) := dk_4 (dk_at dksX0_isActor_0 15 rfl rfl)
theorem dX0_isActor_16 : decode cX0_isActor 16 = .ok (.goto 4, 3) := dk_167 0 4 (dk_at dksX0_isActor_0 16 rfl rfl)
theorem dX0_isActor_19 : decode cX0_isActor 19 = .ok (.iconst 0, 1) := dk_3 (dk_at dksX0_isActor_0 19 rfl rfl)
theorem dX0_isActor_20 : decode cX0_isActor 20 = .ok (.ireturn, 1) := dk_172 (dk_at dksX0_isActor_0 20 rfl rfl)
abbrev cX0_of : ByteArray := prog_1_method_8_code
def yX0_of : MethodName := ⟨RX0, "of", "(II)I"⟩
def dkwX0_of_6 : List UInt8 := [45, 42, 180, 0, 16, 180, 0, 107, 182, 0, 110, 172, 42, 180, 0, 16, 27, 182, 0, 113, 172, 2, 172]
abbrev dktX0_of_6 : List UInt8 := dkwX0_of_6 ++ []
def dkwX0_of_5 : List UInt8 := [180, 0, 97, 180, 0, 72, 172, 45, 180, 0, 100, 180, 0, 72, 172, 42, 180, 0, 16, 27, 182, 0, 103, 172]
abbrev dktX0_of_5 : List UInt8 := dkwX0_of_5 ++ dktX0_of_6
def dkwX0_of_4 : List UInt8 := [167, 0, 4, 3, 172, 45, 182, 0, 90, 172, 45, 180, 0, 94, 172, 45, 180, 0, 68, 180, 0, 72, 172, 45]
abbrev dktX0_of_4 : List UInt8 := dkwX0_of_4 ++ dktX0_of_5
def dkwX0_of_3 : List UInt8 := [180, 0, 81, 172, 45, 180, 0, 84, 172, 45, 180, 0, 87, 172, 45, 180, 0, 42, 153, 0, 7, 4]
abbrev dktX0_of_3 : List UInt8 := dkwX0_of_3 ++ dktX0_of_4
def dkwX0_of_2 : List UInt8 := [45, 180, 0, 75, 156, 0, 8, 16, 254, 167, 0, 7, 45, 180, 0, 75, 172, 45, 180, 0, 78, 172, 45]
abbrev dktX0_of_2 : List UInt8 := dkwX0_of_2 ++ dktX0_of_3
def dkwX0_of_1 : List UInt8 := [170, 0, 0, 0, 0, 0, 185, 0, 0, 0, 0, 0, 0, 0, 13, 0, 0, 0, 71, 0, 0, 0, 88, 0, 0, 0, 93, 0, 0, 0, 98, 0, 0, 0, 103, 0, 0, 0, 108, 0, 0, 0, 121, 0, 0, 0, 126, 0, 0, 0, 131, 0, 0, 0, 139, 0, 0, 0, 147, 0, 0, 0, 155, 0, 0, 0, 164, 0, 0, 0, 176]
abbrev dktX0_of_1 : List UInt8 := dkwX0_of_1 ++ dktX0_of_2
def dkwX0_of_0 : List UInt8 := [42, 27, 182, 0, 34, 154, 0, 5, 2, 172, 42, 180, 0, 16, 180, 0, 38, 27, 50, 78, 28]
abbrev dktX0_of_0 : List UInt8 := dkwX0_of_0 ++ dktX0_of_1
theorem dksX0_of_0 : cX0_of.data.toList.drop 0 = dktX0_of_0 := by decide +kernel
theorem dksX0_of_1 : cX0_of.data.toList.drop 21 = dktX0_of_1 := dk_seg dksX0_of_0 21 rfl rfl
theorem dksX0_of_2 : cX0_of.data.toList.drop 92 = dktX0_of_2 := dk_seg dksX0_of_1 71 rfl rfl
theorem dksX0_of_3 : cX0_of.data.toList.drop 115 = dktX0_of_3 := dk_seg dksX0_of_2 23 rfl rfl
theorem dksX0_of_4 : cX0_of.data.toList.drop 137 = dktX0_of_4 := dk_seg dksX0_of_3 22 rfl rfl
theorem dksX0_of_5 : cX0_of.data.toList.drop 161 = dktX0_of_5 := dk_seg dksX0_of_4 24 rfl rfl
theorem dksX0_of_6 : cX0_of.data.toList.drop 185 = dktX0_of_6 := dk_seg dksX0_of_5 24 rfl rfl
theorem dX0_of_0 : decode cX0_of 0 = .ok (.aload_n 0, 1) := dk_42 (dk_at dksX0_of_0 0 rfl rfl)
theorem dX0_of_1 : decode cX0_of 1 = .ok (.iload_n 1, 1) := dk_27 (dk_at dksX0_of_0 1 rfl rfl)
theorem dX0_of_2 : decode cX0_of 2 = .ok (.invokevirtual 34, 3) := dk_182 0 34 (dk_at dksX0_of_0 2 rfl rfl)
theorem dX0_of_5 : decode cX0_of 5 = .ok (.ifCond .ne 5, 3) := dk_154 0 5 (dk_at dksX0_of_0 5 rfl rfl)
theorem dX0_of_8 : decode cX0_of 8 = .ok (.iconst (-1), 1) := dk_2 (dk_at dksX0_of_0 8 rfl rfl)
theorem dX0_of_9 : decode cX0_of 9 = .ok (.ireturn, 1) := dk_172 (dk_at dksX0_of_0 9 rfl rfl)
theorem dX0_of_10 : decode cX0_of 10 = .ok (.aload_n 0, 1) := dk_42 (dk_at dksX0_of_0 10 rfl rfl)
theorem dX0_of_11 : decode cX0_of 11 = .ok (.getfield 16, 3) := dk_180 0 16 (dk_at dksX0_of_0 11 rfl rfl)
theorem dX0_of_14 : decode cX0_of 14 = .ok (.getfield 38, 3) := dk_180 0 38 (dk_at dksX0_of_0 14 rfl rfl)
theorem dX0_of_17 : decode cX0_of 17 = .ok (.iload_n 1, 1) := dk_27 (dk_at dksX0_of_0 17 rfl rfl)
theorem dX0_of_18 : decode cX0_of 18 = .ok (.aaload, 1) := dk_50 (dk_at dksX0_of_0 18 rfl rfl)
theorem dX0_of_19 : decode cX0_of 19 = .ok (.astore_n 3, 1) := dk_78 (dk_at dksX0_of_0 19 rfl rfl)
theorem dX0_of_20 : decode cX0_of 20 = .ok (.iload_n 2, 1) := dk_28 (dk_at dksX0_of_0 20 rfl rfl)
theorem dX0_of_21 : decode cX0_of 21 = .ok (.tableswitch 185 0 13 #[71, 88, 93, 98, 103, 108, 121, 126, 131, 139, 147, 155, 164, 176], 71) := by decide +kernel
theorem dX0_of_92 : decode cX0_of 92 = .ok (.aload_n 3, 1) := dk_45 (dk_at dksX0_of_2 0 rfl rfl)
theorem dX0_of_93 : decode cX0_of 93 = .ok (.getfield 75, 3) := dk_180 0 75 (dk_at dksX0_of_2 1 rfl rfl)
theorem dX0_of_96 : decode cX0_of 96 = .ok (.ifCond .ge 8, 3) := dk_156 0 8 (dk_at dksX0_of_2 4 rfl rfl)
theorem dX0_of_99 : decode cX0_of 99 = .ok (.bipush (-2), 2) := dk_16 254 (dk_at dksX0_of_2 7 rfl rfl)
theorem dX0_of_101 : decode cX0_of 101 = .ok (.goto 7, 3) := dk_167 0 7 (dk_at dksX0_of_2 9 rfl rfl)
theorem dX0_of_104 : decode cX0_of 104 = .ok (.aload_n 3, 1) := dk_45 (dk_at dksX0_of_2 12 rfl rfl)
theorem dX0_of_105 : decode cX0_of 105 = .ok (.getfield 75, 3) := dk_180 0 75 (dk_at dksX0_of_2 13 rfl rfl)
theorem dX0_of_108 : decode cX0_of 108 = .ok (.ireturn, 1) := dk_172 (dk_at dksX0_of_2 16 rfl rfl)
theorem dX0_of_109 : decode cX0_of 109 = .ok (.aload_n 3, 1) := dk_45 (dk_at dksX0_of_2 17 rfl rfl)
theorem dX0_of_110 : decode cX0_of 110 = .ok (.getfield 78, 3) := dk_180 0 78 (dk_at dksX0_of_2 18 rfl rfl)
theorem dX0_of_113 : decode cX0_of 113 = .ok (.ireturn, 1) := dk_172 (dk_at dksX0_of_2 21 rfl rfl)
theorem dX0_of_114 : decode cX0_of 114 = .ok (.aload_n 3, 1) := dk_45 (dk_at dksX0_of_2 22 rfl rfl)
theorem dX0_of_115 : decode cX0_of 115 = .ok (.getfield 81, 3) := dk_180 0 81 (dk_at dksX0_of_3 0 rfl rfl)
theorem dX0_of_118 : decode cX0_of 118 = .ok (.ireturn, 1) := dk_172 (dk_at dksX0_of_3 3 rfl rfl)
theorem dX0_of_119 : decode cX0_of 119 = .ok (.aload_n 3, 1) := dk_45 (dk_at dksX0_of_3 4 rfl rfl)
theorem dX0_of_120 : decode cX0_of 120 = .ok (.getfield 84, 3) := dk_180 0 84 (dk_at dksX0_of_3 5 rfl rfl)
theorem dX0_of_123 : decode cX0_of 123 = .ok (.ireturn, 1) := dk_172 (dk_at dksX0_of_3 8 rfl rfl)
theorem dX0_of_124 : decode cX0_of 124 = .ok (.aload_n 3, 1) := dk_45 (dk_at dksX0_of_3 9 rfl rfl)
theorem dX0_of_125 : decode cX0_of 125 = .ok (.getfield 87, 3) := dk_180 0 87 (dk_at dksX0_of_3 10 rfl rfl)
theorem dX0_of_128 : decode cX0_of 128 = .ok (.ireturn, 1) := dk_172 (dk_at dksX0_of_3 13 rfl rfl)
theorem dX0_of_129 : decode cX0_of 129 = .ok (.aload_n 3, 1) := dk_45 (dk_at dksX0_of_3 14 rfl rfl)
theorem dX0_of_130 : decode cX0_of 130 = .ok (.getfield 42, 3) := dk_180 0 42 (dk_at dksX0_of_3 15 rfl rfl)
theorem dX0_of_133 : decode cX0_of 133 = .ok (.ifCond .eq 7, 3) := dk_153 0 7 (dk_at dksX0_of_3 18 rfl rfl)
theorem dX0_of_136 : decode cX0_of 136 = .ok (.iconst 1, 1) := dk_4 (dk_at dksX0_of_3 21 rfl rfl)
theorem dX0_of_137 : decode cX0_of 137 = .ok (.goto 4, 3) := dk_167 0 4 (dk_at dksX0_of_4 0 rfl rfl)
theorem dX0_of_140 : decode cX0_of 140 = .ok (.iconst 0, 1) := dk_3 (dk_at dksX0_of_4 3 rfl rfl)
theorem dX0_of_141 : decode cX0_of 141 = .ok (.ireturn, 1) := dk_172 (dk_at dksX0_of_4 4 rfl rfl)
theorem dX0_of_142 : decode cX0_of 142 = .ok (.aload_n 3, 1) := dk_45 (dk_at dksX0_of_4 5 rfl rfl)
theorem dX0_of_143 : decode cX0_of 143 = .ok (.invokevirtual 90, 3) := dk_182 0 90 (dk_at dksX0_of_4 6 rfl rfl)
theorem dX0_of_146 : decode cX0_of 146 = .ok (.ireturn, 1) := dk_172 (dk_at dksX0_of_4 9 rfl rfl)
theorem dX0_of_147 : decode cX0_of 147 = .ok (.aload_n 3, 1) := dk_45 (dk_at dksX0_of_4 10 rfl rfl)
theorem dX0_of_148 : decode cX0_of 148 = .ok (.getfield 94, 3) := dk_180 0 94 (dk_at dksX0_of_4 11 rfl rfl)
theorem dX0_of_151 : decode cX0_of 151 = .ok (.ireturn, 1) := dk_172 (dk_at dksX0_of_4 14 rfl rfl)
theorem dX0_of_152 : decode cX0_of 152 = .ok (.aload_n 3, 1) := dk_45 (dk_at dksX0_of_4 15 rfl rfl)
theorem dX0_of_153 : decode cX0_of 153 = .ok (.getfield 68, 3) := dk_180 0 68 (dk_at dksX0_of_4 16 rfl rfl)
theorem dX0_of_156 : decode cX0_of 156 = .ok (.getfield 72, 3) := dk_180 0 72 (dk_at dksX0_of_4 19 rfl rfl)
theorem dX0_of_159 : decode cX0_of 159 = .ok (.ireturn, 1) := dk_172 (dk_at dksX0_of_4 22 rfl rfl)
theorem dX0_of_160 : decode cX0_of 160 = .ok (.aload_n 3, 1) := dk_45 (dk_at dksX0_of_4 23 rfl rfl)
theorem dX0_of_161 : decode cX0_of 161 = .ok (.getfield 97, 3) := dk_180 0 97 (dk_at dksX0_of_5 0 rfl rfl)
theorem dX0_of_164 : decode cX0_of 164 = .ok (.getfield 72, 3) := dk_180 0 72 (dk_at dksX0_of_5 3 rfl rfl)
theorem dX0_of_167 : decode cX0_of 167 = .ok (.ireturn, 1) := dk_172 (dk_at dksX0_of_5 6 rfl rfl)
theorem dX0_of_168 : decode cX0_of 168 = .ok (.aload_n 3, 1) := dk_45 (dk_at dksX0_of_5 7 rfl rfl)
theorem dX0_of_169 : decode cX0_of 169 = .ok (.getfield 100, 3) := dk_180 0 100 (dk_at dksX0_of_5 8 rfl rfl)
theorem dX0_of_172 : decode cX0_of 172 = .ok (.getfield 72, 3) := dk_180 0 72 (dk_at dksX0_of_5 11 rfl rfl)
theorem dX0_of_175 : decode cX0_of 175 = .ok (.ireturn, 1) := dk_172 (dk_at dksX0_of_5 14 rfl rfl)
theorem dX0_of_176 : decode cX0_of 176 = .ok (.aload_n 0, 1) := dk_42 (dk_at dksX0_of_5 15 rfl rfl)
theorem dX0_of_177 : decode cX0_of 177 = .ok (.getfield 16, 3) := dk_180 0 16 (dk_at dksX0_of_5 16 rfl rfl)
theorem dX0_of_180 : decode cX0_of 180 = .ok (.iload_n 1, 1) := dk_27 (dk_at dksX0_of_5 19 rfl rfl)
theorem dX0_of_181 : decode cX0_of 181 = .ok (.invokevirtual 103, 3) := dk_182 0 103 (dk_at dksX0_of_5 20 rfl rfl)
theorem dX0_of_184 : decode cX0_of 184 = .ok (.ireturn, 1) := dk_172 (dk_at dksX0_of_5 23 rfl rfl)
theorem dX0_of_185 : decode cX0_of 185 = .ok (.aload_n 3, 1) := dk_45 (dk_at dksX0_of_6 0 rfl rfl)
theorem dX0_of_186 : decode cX0_of 186 = .ok (.aload_n 0, 1) := dk_42 (dk_at dksX0_of_6 1 rfl rfl)
theorem dX0_of_187 : decode cX0_of 187 = .ok (.getfield 16, 3) := dk_180 0 16 (dk_at dksX0_of_6 2 rfl rfl)
theorem dX0_of_190 : decode cX0_of 190 = .ok (.getfield 107, 3) := dk_180 0 107 (dk_at dksX0_of_6 5 rfl rfl)
theorem dX0_of_193 : decode cX0_of 193 = .ok (.invokevirtual 110, 3) := dk_182 0 110 (dk_at dksX0_of_6 8 rfl rfl)
theorem dX0_of_196 : decode cX0_of 196 = .ok (.ireturn, 1) := dk_172 (dk_at dksX0_of_6 11 rfl rfl)
theorem dX0_of_197 : decode cX0_of 197 = .ok (.aload_n 0, 1) := dk_42 (dk_at dksX0_of_6 12 rfl rfl)
theorem dX0_of_198 : decode cX0_of 198 = .ok (.getfield 16, 3) := dk_180 0 16 (dk_at dksX0_of_6 13 rfl rfl)
theorem dX0_of_201 : decode cX0_of 201 = .ok (.iload_n 1, 1) := dk_27 (dk_at dksX0_of_6 16 rfl rfl)
theorem dX0_of_202 : decode cX0_of 202 = .ok (.invokevirtual 113, 3) := dk_182 0 113 (dk_at dksX0_of_6 17 rfl rfl)
theorem dX0_of_205 : decode cX0_of 205 = .ok (.ireturn, 1) := dk_172 (dk_at dksX0_of_6 20 rfl rfl)
theorem dX0_of_206 : decode cX0_of 206 = .ok (.iconst (-1), 1) := dk_2 (dk_at dksX0_of_6 21 rfl rfl)
theorem dX0_of_207 : decode cX0_of 207 = .ok (.ireturn, 1) := dk_172 (dk_at dksX0_of_6 22 rfl rfl)
abbrev cX0_counted : ByteArray := prog_1_method_9_code
def yX0_counted : MethodName := ⟨RX0, "counted", "(I)I"⟩
def dkwX0_counted_1 : List UInt8 := [18, 119, 172]
abbrev dktX0_counted_1 : List UInt8 := dkwX0_counted_1 ++ []
def dkwX0_counted_0 : List UInt8 := [42, 27, 182, 0, 34, 153, 0, 18, 42, 180, 0, 16, 180, 0, 38, 27, 50, 180, 0, 116, 167, 0, 5]
abbrev dktX0_counted_0 : List UInt8 := dkwX0_counted_0 ++ dktX0_counted_1
theorem dksX0_counted_0 : cX0_counted.data.toList.drop 0 = dktX0_counted_0 := by decide +kernel
theorem dksX0_counted_1 : cX0_counted.data.toList.drop 23 = dktX0_counted_1 := dk_seg dksX0_counted_0 23 rfl rfl
theorem dX0_counted_0 : decode cX0_counted 0 = .ok (.aload_n 0, 1) := dk_42 (dk_at dksX0_counted_0 0 rfl rfl)
theorem dX0_counted_1 : decode cX0_counted 1 = .ok (.iload_n 1, 1) := dk_27 (dk_at dksX0_counted_0 1 rfl rfl)
theorem dX0_counted_2 : decode cX0_counted 2 = .ok (.invokevirtual 34, 3) := dk_182 0 34 (dk_at dksX0_counted_0 2 rfl rfl)
theorem dX0_counted_5 : decode cX0_counted 5 = .ok (.ifCond .eq 18, 3) := dk_153 0 18 (dk_at dksX0_counted_0 5 rfl rfl)
theorem dX0_counted_8 : decode cX0_counted 8 = .ok (.aload_n 0, 1) := dk_42 (dk_at dksX0_counted_0 8 rfl rfl)
theorem dX0_counted_9 : decode cX0_counted 9 = .ok (.getfield 16, 3) := dk_180 0 16 (dk_at dksX0_counted_0 9 rfl rfl)
theorem dX0_counted_12 : decode cX0_counted 12 = .ok (.getfield 38, 3) := dk_180 0 38 (dk_at dksX0_counted_0 12 rfl rfl)
theorem dX0_counted_15 : decode cX0_counted 15 = .ok (.iload_n 1, 1) := dk_27 (dk_at dksX0_counted_0 15 rfl rfl)
theorem dX0_counted_16 : decode cX0_counted 16 = .ok (.aaload, 1) := dk_50 (dk_at dksX0_counted_0 16 rfl rfl)
theorem dX0_counted_17 : decode cX0_counted 17 = .ok (.getfield 116, 3) := dk_180 0 116 (dk_at dksX0_counted_0 17 rfl rfl)
theorem dX0_counted_20 : decode cX0_counted 20 = .ok (.goto 5, 3) := dk_167 0 5 (dk_at dksX0_counted_0 20 rfl rfl)
theorem dX0_counted_23 : decode cX0_counted 23 = .ok (.ldc 119, 2) := dk_18 119 (dk_at dksX0_counted_1 0 rfl rfl)
theorem dX0_counted_25 : decode cX0_counted 25 = .ok (.ireturn, 1) := dk_172 (dk_at dksX0_counted_1 2 rfl rfl)
abbrev cX0_message : ByteArray := prog_1_method_11_code
def yX0_message : MethodName := ⟨RX0, "message", "(IIZ)I"⟩
def dkwX0_message_1 : List UInt8 := [182, 0, 130, 96, 172, 58, 4, 16, 254, 172]
abbrev dktX0_message_1 : List UInt8 := dkwX0_message_1 ++ []
def dkwX0_message_0 : List UInt8 := [42, 27, 182, 0, 34, 153, 0, 7, 28, 156, 0, 5, 2, 172, 16, 100, 42, 27, 28, 29, 182, 0, 126]
abbrev dktX0_message_0 : List UInt8 := dkwX0_message_0 ++ dktX0_message_1
theorem dksX0_message_0 : cX0_message.data.toList.drop 0 = dktX0_message_0 := by decide +kernel
theorem dksX0_message_1 : cX0_message.data.toList.drop 23 = dktX0_message_1 := dk_seg dksX0_message_0 23 rfl rfl
theorem dX0_message_0 : decode cX0_message 0 = .ok (.aload_n 0, 1) := dk_42 (dk_at dksX0_message_0 0 rfl rfl)
theorem dX0_message_1 : decode cX0_message 1 = .ok (.iload_n 1, 1) := dk_27 (dk_at dksX0_message_0 1 rfl rfl)
theorem dX0_message_2 : decode cX0_message 2 = .ok (.invokevirtual 34, 3) := dk_182 0 34 (dk_at dksX0_message_0 2 rfl rfl)
theorem dX0_message_5 : decode cX0_message 5 = .ok (.ifCond .eq 7, 3) := dk_153 0 7 (dk_at dksX0_message_0 5 rfl rfl)
theorem dX0_message_8 : decode cX0_message 8 = .ok (.iload_n 2, 1) := dk_28 (dk_at dksX0_message_0 8 rfl rfl)
theorem dX0_message_9 : decode cX0_message 9 = .ok (.ifCond .ge 5, 3) := dk_156 0 5 (dk_at dksX0_message_0 9 rfl rfl)
theorem dX0_message_12 : decode cX0_message 12 = .ok (.iconst (-1), 1) := dk_2 (dk_at dksX0_message_0 12 rfl rfl)
theorem dX0_message_13 : decode cX0_message 13 = .ok (.ireturn, 1) := dk_172 (dk_at dksX0_message_0 13 rfl rfl)
theorem dX0_message_14 : decode cX0_message 14 = .ok (.bipush 100, 2) := dk_16 100 (dk_at dksX0_message_0 14 rfl rfl)
theorem dX0_message_16 : decode cX0_message 16 = .ok (.aload_n 0, 1) := dk_42 (dk_at dksX0_message_0 16 rfl rfl)
theorem dX0_message_17 : decode cX0_message 17 = .ok (.iload_n 1, 1) := dk_27 (dk_at dksX0_message_0 17 rfl rfl)
theorem dX0_message_18 : decode cX0_message 18 = .ok (.iload_n 2, 1) := dk_28 (dk_at dksX0_message_0 18 rfl rfl)
theorem dX0_message_19 : decode cX0_message 19 = .ok (.iload_n 3, 1) := dk_29 (dk_at dksX0_message_0 19 rfl rfl)
theorem dX0_message_20 : decode cX0_message 20 = .ok (.invokevirtual 126, 3) := dk_182 0 126 (dk_at dksX0_message_0 20 rfl rfl)
theorem dX0_message_23 : decode cX0_message 23 = .ok (.invokevirtual 130, 3) := dk_182 0 130 (dk_at dksX0_message_1 0 rfl rfl)
theorem dX0_message_26 : decode cX0_message 26 = .ok (.iadd, 1) := dk_96 (dk_at dksX0_message_1 3 rfl rfl)
theorem dX0_message_27 : decode cX0_message 27 = .ok (.ireturn, 1) := dk_172 (dk_at dksX0_message_1 4 rfl rfl)
theorem dX0_message_28 : decode cX0_message 28 = .ok (.astore 4, 2) := dk_58 4 (dk_at dksX0_message_1 5 rfl rfl)
theorem dX0_message_30 : decode cX0_message 30 = .ok (.bipush (-2), 2) := dk_16 254 (dk_at dksX0_message_1 7 rfl rfl)
theorem dX0_message_32 : decode cX0_message 32 = .ok (.ireturn, 1) := dk_172 (dk_at dksX0_message_1 9 rfl rfl)
abbrev cX0_messageOf : ByteArray := prog_1_method_10_code
def yX0_messageOf : MethodName := ⟨RX0, "messageOf", "(IIZ)LActorTrees$Message;"⟩
def dkwX0_messageOf_1 : List UInt8 := [25, 4, 180, 0, 68, 28, 182, 0, 120, 192, 0, 124, 176]
abbrev dktX0_messageOf_1 : List UInt8 := dkwX0_messageOf_1 ++ []
def dkwX0_messageOf_0 : List UInt8 := [42, 180, 0, 16, 180, 0, 38, 27, 50, 58, 4, 29, 153, 0, 11, 25, 4, 180, 0, 97, 167, 0, 8]
abbrev dktX0_messageOf_0 : List UInt8 := dkwX0_messageOf_0 ++ dktX0_messageOf_1
theorem dksX0_messageOf_0 : cX0_messageOf.data.toList.drop 0 = dktX0_messageOf_0 := by decide +kernel
theorem dksX0_messageOf_1 : cX0_messageOf.data.toList.drop 23 = dktX0_messageOf_1 := dk_seg dksX0_messageOf_0 23 rfl rfl
theorem dX0_messageOf_0 : decode cX0_messageOf 0 = .ok (.aload_n 0, 1) := dk_42 (dk_at dksX0_messageOf_0 0 rfl rfl)
theorem dX0_messageOf_1 : decode cX0_messageOf 1 = .ok (.getfield 16, 3) := dk_180 0 16 (dk_at dksX0_messageOf_0 1 rfl rfl)
theorem dX0_messageOf_4 : decode cX0_messageOf 4 = .ok (.getfield 38, 3) := dk_180 0 38 (dk_at dksX0_messageOf_0 4 rfl rfl)
theorem dX0_messageOf_7 : decode cX0_messageOf 7 = .ok (.iload_n 1, 1) := dk_27 (dk_at dksX0_messageOf_0 7 rfl rfl)
theorem dX0_messageOf_8 : decode cX0_messageOf 8 = .ok (.aaload, 1) := dk_50 (dk_at dksX0_messageOf_0 8 rfl rfl)
theorem dX0_messageOf_9 : decode cX0_messageOf 9 = .ok (.astore 4, 2) := dk_58 4 (dk_at dksX0_messageOf_0 9 rfl rfl)
theorem dX0_messageOf_11 : decode cX0_messageOf 11 = .ok (.iload_n 3, 1) := dk_29 (dk_at dksX0_messageOf_0 11 rfl rfl)
theorem dX0_messageOf_12 : decode cX0_messageOf 12 = .ok (.ifCond .eq 11, 3) := dk_153 0 11 (dk_at dksX0_messageOf_0 12 rfl rfl)
theorem dX0_messageOf_15 : decode cX0_messageOf 15 = .ok (.aload 4, 2) := dk_25 4 (dk_at dksX0_messageOf_0 15 rfl rfl)
theorem dX0_messageOf_17 : decode cX0_messageOf 17 = .ok (.getfield 97, 3) := dk_180 0 97 (dk_at dksX0_messageOf_0 17 rfl rfl)
theorem dX0_messageOf_20 : decode cX0_messageOf 20 = .ok (.goto 8, 3) := dk_167 0 8 (dk_at dksX0_messageOf_0 20 rfl rfl)
theorem dX0_messageOf_23 : decode cX0_messageOf 23 = .ok (.aload 4, 2) := dk_25 4 (dk_at dksX0_messageOf_1 0 rfl rfl)
theorem dX0_messageOf_25 : decode cX0_messageOf 25 = .ok (.getfield 68, 3) := dk_180 0 68 (dk_at dksX0_messageOf_1 2 rfl rfl)
theorem dX0_messageOf_28 : decode cX0_messageOf 28 = .ok (.iload_n 2, 1) := dk_28 (dk_at dksX0_messageOf_1 5 rfl rfl)
theorem dX0_messageOf_29 : decode cX0_messageOf 29 = .ok (.invokevirtual 120, 3) := dk_182 0 120 (dk_at dksX0_messageOf_1 6 rfl rfl)
theorem dX0_messageOf_32 : decode cX0_messageOf 32 = .ok (.checkcast 124, 3) := dk_192 0 124 (dk_at dksX0_messageOf_1 9 rfl rfl)
theorem dX0_messageOf_35 : decode cX0_messageOf 35 = .ok (.areturn, 1) := dk_176 (dk_at dksX0_messageOf_1 12 rfl rfl)
abbrev cX0_sender : ByteArray := prog_1_method_12_code
def yX0_sender : MethodName := ⟨RX0, "sender", "(IIZ)I"⟩
def dkwX0_sender_1 : List UInt8 := [25, 4, 199, 0, 8, 16, 254, 167, 0, 8, 25, 4, 180, 0, 135, 172]
abbrev dktX0_sender_1 : List UInt8 := dkwX0_sender_1 ++ []
def dkwX0_sender_0 : List UInt8 := [42, 27, 182, 0, 34, 153, 0, 7, 28, 156, 0, 6, 16, 254, 172, 42, 27, 28, 29, 182, 0, 126, 58, 4]
abbrev dktX0_sender_0 : List UInt8 := dkwX0_sender_0 ++ dktX0_sender_1
theorem dksX0_sender_0 : cX0_sender.data.toList.drop 0 = dktX0_sender_0 := by decide +kernel
theorem dksX0_sender_1 : cX0_sender.data.toList.drop 24 = dktX0_sender_1 := dk_seg dksX0_sender_0 24 rfl rfl
theorem dX0_sender_0 : decode cX0_sender 0 = .ok (.aload_n 0, 1) := dk_42 (dk_at dksX0_sender_0 0 rfl rfl)
theorem dX0_sender_1 : decode cX0_sender 1 = .ok (.iload_n 1, 1) := dk_27 (dk_at dksX0_sender_0 1 rfl rfl)
theorem dX0_sender_2 : decode cX0_sender 2 = .ok (.invokevirtual 34, 3) := dk_182 0 34 (dk_at dksX0_sender_0 2 rfl rfl)
theorem dX0_sender_5 : decode cX0_sender 5 = .ok (.ifCond .eq 7, 3) := dk_153 0 7 (dk_at dksX0_sender_0 5 rfl rfl)
theorem dX0_sender_8 : decode cX0_sender 8 = .ok (.iload_n 2, 1) := dk_28 (dk_at dksX0_sender_0 8 rfl rfl)
theorem dX0_sender_9 : decode cX0_sender 9 = .ok (.ifCond .ge 6, 3) := dk_156 0 6 (dk_at dksX0_sender_0 9 rfl rfl)
theorem dX0_sender_12 : decode cX0_sender 12 = .ok (.bipush (-2), 2) := dk_16 254 (dk_at dksX0_sender_0 12 rfl rfl)
theorem dX0_sender_14 : decode cX0_sender 14 = .ok (.ireturn, 1) := dk_172 (dk_at dksX0_sender_0 14 rfl rfl)
theorem dX0_sender_15 : decode cX0_sender 15 = .ok (.aload_n 0, 1) := dk_42 (dk_at dksX0_sender_0 15 rfl rfl)
theorem dX0_sender_16 : decode cX0_sender 16 = .ok (.iload_n 1, 1) := dk_27 (dk_at dksX0_sender_0 16 rfl rfl)
theorem dX0_sender_17 : decode cX0_sender 17 = .ok (.iload_n 2, 1) := dk_28 (dk_at dksX0_sender_0 17 rfl rfl)
theorem dX0_sender_18 : decode cX0_sender 18 = .ok (.iload_n 3, 1) := dk_29 (dk_at dksX0_sender_0 18 rfl rfl)
theorem dX0_sender_19 : decode cX0_sender 19 = .ok (.invokevirtual 126, 3) := dk_182 0 126 (dk_at dksX0_sender_0 19 rfl rfl)
theorem dX0_sender_22 : decode cX0_sender 22 = .ok (.astore 4, 2) := dk_58 4 (dk_at dksX0_sender_0 22 rfl rfl)
theorem dX0_sender_24 : decode cX0_sender 24 = .ok (.aload 4, 2) := dk_25 4 (dk_at dksX0_sender_1 0 rfl rfl)
theorem dX0_sender_26 : decode cX0_sender 26 = .ok (.ifnonnull 8, 3) := dk_199 0 8 (dk_at dksX0_sender_1 2 rfl rfl)
theorem dX0_sender_29 : decode cX0_sender 29 = .ok (.bipush (-2), 2) := dk_16 254 (dk_at dksX0_sender_1 5 rfl rfl)
theorem dX0_sender_31 : decode cX0_sender 31 = .ok (.goto 8, 3) := dk_167 0 8 (dk_at dksX0_sender_1 7 rfl rfl)
theorem dX0_sender_34 : decode cX0_sender 34 = .ok (.aload 4, 2) := dk_25 4 (dk_at dksX0_sender_1 10 rfl rfl)
theorem dX0_sender_36 : decode cX0_sender 36 = .ok (.getfield 135, 3) := dk_180 0 135 (dk_at dksX0_sender_1 12 rfl rfl)
theorem dX0_sender_39 : decode cX0_sender 39 = .ok (.ireturn, 1) := dk_172 (dk_at dksX0_sender_1 15 rfl rfl)
abbrev cX0_stack : ByteArray := prog_1_method_13_code
def yX0_stack : MethodName := ⟨RX0, "stack", "(II)I"⟩
def dkwX0_stack_1 : List UInt8 := [28, 45, 180, 0, 94, 162, 0, 12, 45, 180, 0, 138, 28, 46, 167, 0, 5, 16, 254, 172]
abbrev dktX0_stack_1 : List UInt8 := dkwX0_stack_1 ++ []
def dkwX0_stack_0 : List UInt8 := [42, 27, 182, 0, 34, 153, 0, 7, 28, 156, 0, 5, 2, 172, 42, 180, 0, 16, 180, 0, 38, 27, 50, 78]
abbrev dktX0_stack_0 : List UInt8 := dkwX0_stack_0 ++ dktX0_stack_1
theorem dksX0_stack_0 : cX0_stack.data.toList.drop 0 = dktX0_stack_0 := by decide +kernel
theorem dksX0_stack_1 : cX0_stack.data.toList.drop 24 = dktX0_stack_1 := dk_seg dksX0_stack_0 24 rfl rfl
theorem dX0_stack_0 : decode cX0_stack 0 = .ok (.aload_n 0, 1) := dk_42 (dk_at dksX0_stack_0 0 rfl rfl)
theorem dX0_stack_1 : decode cX0_stack 1 = .ok (.iload_n 1, 1) := dk_27 (dk_at dksX0_stack_0 1 rfl rfl)
theorem dX0_stack_2 : decode cX0_stack 2 = .ok (.invokevirtual 34, 3) := dk_182 0 34 (dk_at dksX0_stack_0 2 rfl rfl)
theorem dX0_stack_5 : decode cX0_stack 5 = .ok (.ifCond .eq 7, 3) := dk_153 0 7 (dk_at dksX0_stack_0 5 rfl rfl)
theorem dX0_stack_8 : decode cX0_stack 8 = .ok (.iload_n 2, 1) := dk_28 (dk_at dksX0_stack_0 8 rfl rfl)
theorem dX0_stack_9 : decode cX0_stack 9 = .ok (.ifCond .ge 5, 3) := dk_156 0 5 (dk_at dksX0_stack_0 9 rfl rfl)
theorem dX0_stack_12 : decode cX0_stack 12 = .ok (.iconst (-1), 1) := dk_2 (dk_at dksX0_stack_0 12 rfl rfl)
theorem dX0_stack_13 : decode cX0_stack 13 = .ok (.ireturn, 1) := dk_172 (dk_at dksX0_stack_0 13 rfl rfl)
theorem dX0_stack_14 : decode cX0_stack 14 = .ok (.aload_n 0, 1) := dk_42 (dk_at dksX0_stack_0 14 rfl rfl)
theorem dX0_stack_15 : decode cX0_stack 15 = .ok (.getfield 16, 3) := dk_180 0 16 (dk_at dksX0_stack_0 15 rfl rfl)
theorem dX0_stack_18 : decode cX0_stack 18 = .ok (.getfield 38, 3) := dk_180 0 38 (dk_at dksX0_stack_0 18 rfl rfl)
theorem dX0_stack_21 : decode cX0_stack 21 = .ok (.iload_n 1, 1) := dk_27 (dk_at dksX0_stack_0 21 rfl rfl)
theorem dX0_stack_22 : decode cX0_stack 22 = .ok (.aaload, 1) := dk_50 (dk_at dksX0_stack_0 22 rfl rfl)
theorem dX0_stack_23 : decode cX0_stack 23 = .ok (.astore_n 3, 1) := dk_78 (dk_at dksX0_stack_0 23 rfl rfl)
theorem dX0_stack_24 : decode cX0_stack 24 = .ok (.iload_n 2, 1) := dk_28 (dk_at dksX0_stack_1 0 rfl rfl)
theorem dX0_stack_25 : decode cX0_stack 25 = .ok (.aload_n 3, 1) := dk_45 (dk_at dksX0_stack_1 1 rfl rfl)
theorem dX0_stack_26 : decode cX0_stack 26 = .ok (.getfield 94, 3) := dk_180 0 94 (dk_at dksX0_stack_1 2 rfl rfl)
theorem dX0_stack_29 : decode cX0_stack 29 = .ok (.if_icmp .ge 12, 3) := dk_162 0 12 (dk_at dksX0_stack_1 5 rfl rfl)
theorem dX0_stack_32 : decode cX0_stack 32 = .ok (.aload_n 3, 1) := dk_45 (dk_at dksX0_stack_1 8 rfl rfl)
theorem dX0_stack_33 : decode cX0_stack 33 = .ok (.getfield 138, 3) := dk_180 0 138 (dk_at dksX0_stack_1 9 rfl rfl)
theorem dX0_stack_36 : decode cX0_stack 36 = .ok (.iload_n 2, 1) := dk_28 (dk_at dksX0_stack_1 12 rfl rfl)
theorem dX0_stack_37 : decode cX0_stack 37 = .ok (.iaload, 1) := dk_46 (dk_at dksX0_stack_1 13 rfl rfl)
theorem dX0_stack_38 : decode cX0_stack 38 = .ok (.goto 5, 3) := dk_167 0 5 (dk_at dksX0_stack_1 14 rfl rfl)
theorem dX0_stack_41 : decode cX0_stack 41 = .ok (.bipush (-2), 2) := dk_16 254 (dk_at dksX0_stack_1 17 rfl rfl)
theorem dX0_stack_43 : decode cX0_stack 43 = .ok (.ireturn, 1) := dk_172 (dk_at dksX0_stack_1 19 rfl rfl)
abbrev cX0_watcher : ByteArray := prog_1_method_14_code
def yX0_watcher : MethodName := ⟨RX0, "watcher", "(II)I"⟩
def dkwX0_watcher_2 : List UInt8 := [172]
abbrev dktX0_watcher_2 : List UInt8 := dkwX0_watcher_2 ++ []
def dkwX0_watcher_1 : List UInt8 := [180, 0, 100, 28, 182, 0, 120, 192, 0, 142, 78, 45, 199, 0, 8, 16, 254, 167, 0, 7, 45, 182, 0, 144]
abbrev dktX0_watcher_1 : List UInt8 := dkwX0_watcher_1 ++ dktX0_watcher_2
def dkwX0_watcher_0 : List UInt8 := [42, 27, 182, 0, 34, 153, 0, 7, 28, 156, 0, 5, 2, 172, 42, 180, 0, 16, 180, 0, 38, 27, 50]
abbrev dktX0_watcher_0 : List UInt8 := dkwX0_watcher_0 ++ dktX0_watcher_1
theorem dksX0_watcher_0 : cX0_watcher.data.toList.drop 0 = dktX0_watcher_0 := by decide +kernel
theorem dksX0_watcher_1 : cX0_watcher.data.toList.drop 23 = dktX0_watcher_1 := dk_seg dksX0_watcher_0 23 rfl rfl
theorem dksX0_watcher_2 : cX0_watcher.data.toList.drop 47 = dktX0_watcher_2 := dk_seg dksX0_watcher_1 24 rfl rfl
theorem dX0_watcher_0 : decode cX0_watcher 0 = .ok (.aload_n 0, 1) := dk_42 (dk_at dksX0_watcher_0 0 rfl rfl)
theorem dX0_watcher_1 : decode cX0_watcher 1 = .ok (.iload_n 1, 1) := dk_27 (dk_at dksX0_watcher_0 1 rfl rfl)
theorem dX0_watcher_2 : decode cX0_watcher 2 = .ok (.invokevirtual 34, 3) := dk_182 0 34 (dk_at dksX0_watcher_0 2 rfl rfl)
theorem dX0_watcher_5 : decode cX0_watcher 5 = .ok (.ifCond .eq 7, 3) := dk_153 0 7 (dk_at dksX0_watcher_0 5 rfl rfl)
theorem dX0_watcher_8 : decode cX0_watcher 8 = .ok (.iload_n 2, 1) := dk_28 (dk_at dksX0_watcher_0 8 rfl rfl)
theorem dX0_watcher_9 : decode cX0_watcher 9 = .ok (.ifCond .ge 5, 3) := dk_156 0 5 (dk_at dksX0_watcher_0 9 rfl rfl)
theorem dX0_watcher_12 : decode cX0_watcher 12 = .ok (.iconst (-1), 1) := dk_2 (dk_at dksX0_watcher_0 12 rfl rfl)
theorem dX0_watcher_13 : decode cX0_watcher 13 = .ok (.ireturn, 1) := dk_172 (dk_at dksX0_watcher_0 13 rfl rfl)
theorem dX0_watcher_14 : decode cX0_watcher 14 = .ok (.aload_n 0, 1) := dk_42 (dk_at dksX0_watcher_0 14 rfl rfl)
theorem dX0_watcher_15 : decode cX0_watcher 15 = .ok (.getfield 16, 3) := dk_180 0 16 (dk_at dksX0_watcher_0 15 rfl rfl)
theorem dX0_watcher_18 : decode cX0_watcher 18 = .ok (.getfield 38, 3) := dk_180 0 38 (dk_at dksX0_watcher_0 18 rfl rfl)
theorem dX0_watcher_21 : decode cX0_watcher 21 = .ok (.iload_n 1, 1) := dk_27 (dk_at dksX0_watcher_0 21 rfl rfl)
theorem dX0_watcher_22 : decode cX0_watcher 22 = .ok (.aaload, 1) := dk_50 (dk_at dksX0_watcher_0 22 rfl rfl)
theorem dX0_watcher_23 : decode cX0_watcher 23 = .ok (.getfield 100, 3) := dk_180 0 100 (dk_at dksX0_watcher_1 0 rfl rfl)
theorem dX0_watcher_26 : decode cX0_watcher 26 = .ok (.iload_n 2, 1) := dk_28 (dk_at dksX0_watcher_1 3 rfl rfl)
theorem dX0_watcher_27 : decode cX0_watcher 27 = .ok (.invokevirtual 120, 3) := dk_182 0 120 (dk_at dksX0_watcher_1 4 rfl rfl)
theorem dX0_watcher_30 : decode cX0_watcher 30 = .ok (.checkcast 142, 3) := dk_192 0 142 (dk_at dksX0_watcher_1 7 rfl rfl)
theorem dX0_watcher_33 : decode cX0_watcher 33 = .ok (.astore_n 3, 1) := dk_78 (dk_at dksX0_watcher_1 10 rfl rfl)
theorem dX0_watcher_34 : decode cX0_watcher 34 = .ok (.aload_n 3, 1) := dk_45 (dk_at dksX0_watcher_1 11 rfl rfl)
theorem dX0_watcher_35 : decode cX0_watcher 35 = .ok (.ifnonnull 8, 3) := dk_199 0 8 (dk_at dksX0_watcher_1 12 rfl rfl)
theorem dX0_watcher_38 : decode cX0_watcher 38 = .ok (.bipush (-2), 2) := dk_16 254 (dk_at dksX0_watcher_1 15 rfl rfl)
theorem dX0_watcher_40 : decode cX0_watcher 40 = .ok (.goto 7, 3) := dk_167 0 7 (dk_at dksX0_watcher_1 17 rfl rfl)
theorem dX0_watcher_43 : decode cX0_watcher 43 = .ok (.aload_n 3, 1) := dk_45 (dk_at dksX0_watcher_1 20 rfl rfl)
theorem dX0_watcher_44 : decode cX0_watcher 44 = .ok (.invokevirtual 144, 3) := dk_182 0 144 (dk_at dksX0_watcher_1 21 rfl rfl)
theorem dX0_watcher_47 : decode cX0_watcher 47 = .ok (.ireturn, 1) := dk_172 (dk_at dksX0_watcher_2 0 rfl rfl)
abbrev cX0_timer : ByteArray := prog_1_method_15_code
def yX0_timer : MethodName := ⟨RX0, "timer", "(II)I"⟩
def dkwX0_timer_2 : List UInt8 := [167, 0, 22, 28, 4, 160, 0, 10, 45, 180, 0, 155, 167, 0, 10, 45, 180, 0, 158, 16, 100, 96, 172]
abbrev dktX0_timer_2 : List UInt8 := dkwX0_timer_2 ++ []
def dkwX0_timer_1 : List UInt8 := [182, 0, 120, 192, 0, 150, 78, 45, 199, 0, 6, 16, 254, 172, 28, 154, 0, 10, 45, 180, 0, 152]
abbrev dktX0_timer_1 : List UInt8 := dkwX0_timer_1 ++ dktX0_timer_2
def dkwX0_timer_0 : List UInt8 := [27, 155, 0, 12, 28, 3, 5, 184, 0, 55, 154, 0, 5, 2, 172, 42, 180, 0, 16, 180, 0, 147, 27]
abbrev dktX0_timer_0 : List UInt8 := dkwX0_timer_0 ++ dktX0_timer_1
theorem dksX0_timer_0 : cX0_timer.data.toList.drop 0 = dktX0_timer_0 := by decide +kernel
theorem dksX0_timer_1 : cX0_timer.data.toList.drop 23 = dktX0_timer_1 := dk_seg dksX0_timer_0 23 rfl rfl
theorem dksX0_timer_2 : cX0_timer.data.toList.drop 45 = dktX0_timer_2 := dk_seg dksX0_timer_1 22 rfl rfl
theorem dX0_timer_0 : decode cX0_timer 0 = .ok (.iload_n 1, 1) := dk_27 (dk_at dksX0_timer_0 0 rfl rfl)
theorem dX0_timer_1 : decode cX0_timer 1 = .ok (.ifCond .lt 12, 3) := dk_155 0 12 (dk_at dksX0_timer_0 1 rfl rfl)
theorem dX0_timer_4 : decode cX0_timer 4 = .ok (.iload_n 2, 1) := dk_28 (dk_at dksX0_timer_0 4 rfl rfl)
theorem dX0_timer_5 : decode cX0_timer 5 = .ok (.iconst 0, 1) := dk_3 (dk_at dksX0_timer_0 5 rfl rfl)
theorem dX0_timer_6 : decode cX0_timer 6 = .ok (.iconst 2, 1) := dk_5 (dk_at dksX0_timer_0 6 rfl rfl)
theorem dX0_timer_7 : decode cX0_timer 7 = .ok (.invokestatic 55, 3) := dk_184 0 55 (dk_at dksX0_timer_0 7 rfl rfl)
theorem dX0_timer_10 : decode cX0_timer 10 = .ok (.ifCond .ne 5, 3) := dk_154 0 5 (dk_at dksX0_timer_0 10 rfl rfl)
theorem dX0_timer_13 : decode cX0_timer 13 = .ok (.iconst (-1), 1) := dk_2 (dk_at dksX0_timer_0 13 rfl rfl)
theorem dX0_timer_14 : decode cX0_timer 14 = .ok (.ireturn, 1) := dk_172 (dk_at dksX0_timer_0 14 rfl rfl)
theorem dX0_timer_15 : decode cX0_timer 15 = .ok (.aload_n 0, 1) := dk_42 (dk_at dksX0_timer_0 15 rfl rfl)
theorem dX0_timer_16 : decode cX0_timer 16 = .ok (.getfield 16, 3) := dk_180 0 16 (dk_at dksX0_timer_0 16 rfl rfl)
theorem dX0_timer_19 : decode cX0_timer 19 = .ok (.getfield 147, 3) := dk_180 0 147 (dk_at dksX0_timer_0 19 rfl rfl)
theorem dX0_timer_22 : decode cX0_timer 22 = .ok (.iload_n 1, 1) := dk_27 (dk_at dksX0_timer_0 22 rfl rfl)
theorem dX0_timer_23 : decode cX0_timer 23 = .ok (.invokevirtual 120, 3) := dk_182 0 120 (dk_at dksX0_timer_1 0 rfl rfl)
theorem dX0_timer_26 : decode cX0_timer 26 = .ok (.checkcast 150, 3) := dk_192 0 150 (dk_at dksX0_timer_1 3 rfl rfl)
theorem dX0_timer_29 : decode cX0_timer 29 = .ok (.astore_n 3, 1) := dk_78 (dk_at dksX0_timer_1 6 rfl rfl)
theorem dX0_timer_30 : decode cX0_timer 30 = .ok (.aload_n 3, 1) := dk_45 (dk_at dksX0_timer_1 7 rfl rfl)
theorem dX0_timer_31 : decode cX0_timer 31 = .ok (.ifnonnull 6, 3) := dk_199 0 6 (dk_at dksX0_timer_1 8 rfl rfl)
theorem dX0_timer_34 : decode cX0_timer 34 = .ok (.bipush (-2), 2) := dk_16 254 (dk_at dksX0_timer_1 11 rfl rfl)
theorem dX0_timer_36 : decode cX0_timer 36 = .ok (.ireturn, 1) := dk_172 (dk_at dksX0_timer_1 13 rfl rfl)
theorem dX0_timer_37 : decode cX0_timer 37 = .ok (.iload_n 2, 1) := dk_28 (dk_at dksX0_timer_1 14 rfl rfl)
theorem dX0_timer_38 : decode cX0_timer 38 = .ok (.ifCond .ne 10, 3) := dk_154 0 10 (dk_at dksX0_timer_1 15 rfl rfl)
theorem dX0_timer_41 : decode cX0_timer 41 = .ok (.aload_n 3, 1) := dk_45 (dk_at dksX0_timer_1 18 rfl rfl)
theorem dX0_timer_42 : decode cX0_timer 42 = .ok (.getfield 152, 3) := dk_180 0 152 (dk_at dksX0_timer_1 19 rfl rfl)
theorem dX0_timer_45 : decode cX0_timer 45 = .ok (.goto 22, 3) := dk_167 0 22 (dk_at dksX0_timer_2 0 rfl rfl)
theorem dX0_timer_48 : decode cX0_timer 48 = .ok (.iload_n 2, 1) := dk_28 (dk_at dksX0_timer_2 3 rfl rfl)
theorem dX0_timer_49 : decode cX0_timer 49 = .ok (.iconst 1, 1) := dk_4 (dk_at dksX0_timer_2 4 rfl rfl)
theorem dX0_timer_50 : decode cX0_timer 50 = .ok (.if_icmp .ne 10, 3) := dk_160 0 10 (dk_at dksX0_timer_2 5 rfl rfl)
theorem dX0_timer_53 : decode cX0_timer 53 = .ok (.aload_n 3, 1) := dk_45 (dk_at dksX0_timer_2 8 rfl rfl)
theorem dX0_timer_54 : decode cX0_timer 54 = .ok (.getfield 155, 3) := dk_180 0 155 (dk_at dksX0_timer_2 9 rfl rfl)
theorem dX0_timer_57 : decode cX0_timer 57 = .ok (.goto 10, 3) := dk_167 0 10 (dk_at dksX0_timer_2 12 rfl rfl)
theorem dX0_timer_60 : decode cX0_timer 60 = .ok (.aload_n 3, 1) := dk_45 (dk_at dksX0_timer_2 15 rfl rfl)
theorem dX0_timer_61 : decode cX0_timer 61 = .ok (.getfield 158, 3) := dk_180 0 158 (dk_at dksX0_timer_2 16 rfl rfl)
theorem dX0_timer_64 : decode cX0_timer 64 = .ok (.bipush 100, 2) := dk_16 100 (dk_at dksX0_timer_2 19 rfl rfl)
theorem dX0_timer_66 : decode cX0_timer 66 = .ok (.iadd, 1) := dk_96 (dk_at dksX0_timer_2 21 rfl rfl)
theorem dX0_timer_67 : decode cX0_timer 67 = .ok (.ireturn, 1) := dk_172 (dk_at dksX0_timer_2 22 rfl rfl)
abbrev cX0_stop : ByteArray := prog_1_method_16_code
def yX0_stop : MethodName := ⟨RX0, "stop", "(I)I"⟩
def dkwX0_stop_2 : List UInt8 := [180, 0, 16, 180, 0, 38, 27, 50, 182, 0, 167, 28, 42, 180, 0, 16, 182, 0, 161, 184, 0, 164, 100, 172]
abbrev dktX0_stop_2 : List UInt8 := dkwX0_stop_2 ++ []
def dkwX0_stop_1 : List UInt8 := [154, 0, 6, 16, 251, 172, 42, 180, 0, 16, 182, 0, 161, 184, 0, 164, 61, 42, 180, 0, 16, 42]
abbrev dktX0_stop_1 : List UInt8 := dkwX0_stop_1 ++ dktX0_stop_2
def dkwX0_stop_0 : List UInt8 := [42, 27, 182, 0, 34, 154, 0, 5, 2, 172, 42, 180, 0, 16, 180, 0, 38, 27, 50, 180, 0, 42]
abbrev dktX0_stop_0 : List UInt8 := dkwX0_stop_0 ++ dktX0_stop_1
theorem dksX0_stop_0 : cX0_stop.data.toList.drop 0 = dktX0_stop_0 := by decide +kernel
theorem dksX0_stop_1 : cX0_stop.data.toList.drop 22 = dktX0_stop_1 := dk_seg dksX0_stop_0 22 rfl rfl
theorem dksX0_stop_2 : cX0_stop.data.toList.drop 44 = dktX0_stop_2 := dk_seg dksX0_stop_1 22 rfl rfl
theorem dX0_stop_0 : decode cX0_stop 0 = .ok (.aload_n 0, 1) := dk_42 (dk_at dksX0_stop_0 0 rfl rfl)
theorem dX0_stop_1 : decode cX0_stop 1 = .ok (.iload_n 1, 1) := dk_27 (dk_at dksX0_stop_0 1 rfl rfl)
theorem dX0_stop_2 : decode cX0_stop 2 = .ok (.invokevirtual 34, 3) := dk_182 0 34 (dk_at dksX0_stop_0 2 rfl rfl)
theorem dX0_stop_5 : decode cX0_stop 5 = .ok (.ifCond .ne 5, 3) := dk_154 0 5 (dk_at dksX0_stop_0 5 rfl rfl)
theorem dX0_stop_8 : decode cX0_stop 8 = .ok (.iconst (-1), 1) := dk_2 (dk_at dksX0_stop_0 8 rfl rfl)
theorem dX0_stop_9 : decode cX0_stop 9 = .ok (.ireturn, 1) := dk_172 (dk_at dksX0_stop_0 9 rfl rfl)
theorem dX0_stop_10 : decode cX0_stop 10 = .ok (.aload_n 0, 1) := dk_42 (dk_at dksX0_stop_0 10 rfl rfl)
theorem dX0_stop_11 : decode cX0_stop 11 = .ok (.getfield 16, 3) := dk_180 0 16 (dk_at dksX0_stop_0 11 rfl rfl)
theorem dX0_stop_14 : decode cX0_stop 14 = .ok (.getfield 38, 3) := dk_180 0 38 (dk_at dksX0_stop_0 14 rfl rfl)
theorem dX0_stop_17 : decode cX0_stop 17 = .ok (.iload_n 1, 1) := dk_27 (dk_at dksX0_stop_0 17 rfl rfl)
theorem dX0_stop_18 : decode cX0_stop 18 = .ok (.aaload, 1) := dk_50 (dk_at dksX0_stop_0 18 rfl rfl)
theorem dX0_stop_19 : decode cX0_stop 19 = .ok (.getfield 42, 3) := dk_180 0 42 (dk_at dksX0_stop_0 19 rfl rfl)
theorem dX0_stop_22 : decode cX0_stop 22 = .ok (.ifCond .ne 6, 3) := dk_154 0 6 (dk_at dksX0_stop_1 0 rfl rfl)
theorem dX0_stop_25 : decode cX0_stop 25 = .ok (.bipush (-5), 2) := dk_16 251 (dk_at dksX0_stop_1 3 rfl rfl)
theorem dX0_stop_27 : decode cX0_stop 27 = .ok (.ireturn, 1) := dk_172 (dk_at dksX0_stop_1 5 rfl rfl)
theorem dX0_stop_28 : decode cX0_stop 28 = .ok (.aload_n 0, 1) := dk_42 (dk_at dksX0_stop_1 6 rfl rfl)
theorem dX0_stop_29 : decode cX0_stop 29 = .ok (.getfield 16, 3) := dk_180 0 16 (dk_at dksX0_stop_1 7 rfl rfl)
theorem dX0_stop_32 : decode cX0_stop 32 = .ok (.invokevirtual 161, 3) := dk_182 0 161 (dk_at dksX0_stop_1 10 rfl rfl)
theorem dX0_stop_35 : decode cX0_stop 35 = .ok (.invokestatic 164, 3) := dk_184 0 164 (dk_at dksX0_stop_1 13 rfl rfl)
theorem dX0_stop_38 : decode cX0_stop 38 = .ok (.istore_n 2, 1) := dk_61 (dk_at dksX0_stop_1 16 rfl rfl)
theorem dX0_stop_39 : decode cX0_stop 39 = .ok (.aload_n 0, 1) := dk_42 (dk_at dksX0_stop_1 17 rfl rfl)
theorem dX0_stop_40 : decode cX0_stop 40 = .ok (.getfield 16, 3) := dk_180 0 16 (dk_at dksX0_stop_1 18 rfl rfl)
theorem dX0_stop_43 : decode cX0_stop 43 = .ok (.aload_n 0, 1) := dk_42 (dk_at dksX0_stop_1 21 rfl rfl)
theorem dX0_stop_44 : decode cX0_stop 44 = .ok (.getfield 16, 3) := dk_180 0 16 (dk_at dksX0_stop_2 0 rfl rfl)
theorem dX0_stop_47 : decode cX0_stop 47 = .ok (.getfield 38, 3) := dk_180 0 38 (dk_at dksX0_stop_2 3 rfl rfl)
theorem dX0_stop_50 : decode cX0_stop 50 = .ok (.iload_n 1, 1) := dk_27 (dk_at dksX0_stop_2 6 rfl rfl)
theorem dX0_stop_51 : decode cX0_stop 51 = .ok (.aaload, 1) := dk_50 (dk_at dksX0_stop_2 7 rfl rfl)
theorem dX0_stop_52 : decode cX0_stop 52 = .ok (.invokevirtual 167, 3) := dk_182 0 167 (dk_at dksX0_stop_2 8 rfl rfl)
theorem dX0_stop_55 : decode cX0_stop 55 = .ok (.iload_n 2, 1) := dk_28 (dk_at dksX0_stop_2 11 rfl rfl)
theorem dX0_stop_56 : decode cX0_stop 56 = .ok (.aload_n 0, 1) := dk_42 (dk_at dksX0_stop_2 12 rfl rfl)
theorem dX0_stop_57 : decode cX0_stop 57 = .ok (.getfield 16, 3) := dk_180 0 16 (dk_at dksX0_stop_2 13 rfl rfl)
theorem dX0_stop_60 : decode cX0_stop 60 = .ok (.invokevirtual 161, 3) := dk_182 0 161 (dk_at dksX0_stop_2 16 rfl rfl)
theorem dX0_stop_63 : decode cX0_stop 63 = .ok (.invokestatic 164, 3) := dk_184 0 164 (dk_at dksX0_stop_2 19 rfl rfl)
theorem dX0_stop_66 : decode cX0_stop 66 = .ok (.isub, 1) := dk_100 (dk_at dksX0_stop_2 22 rfl rfl)
theorem dX0_stop_67 : decode cX0_stop 67 = .ok (.ireturn, 1) := dk_172 (dk_at dksX0_stop_2 23 rfl rfl)
abbrev cX0_run : ByteArray := prog_1_method_17_code
def yX0_run : MethodName := ⟨RX0, "run", "(I)I"⟩
def dkwX0_run_0 : List UInt8 := [27, 4, 17, 0, 200, 184, 0, 55, 153, 0, 14, 42, 180, 0, 16, 27, 182, 0, 171, 167, 0, 4, 2, 172]
abbrev dktX0_run_0 : List UInt8 := dkwX0_run_0 ++ []
theorem dksX0_run_0 : cX0_run.data.toList.drop 0 = dktX0_run_0 := by decide +kernel
theorem dX0_run_0 : decode cX0_run 0 = .ok (.iload_n 1, 1) := dk_27 (dk_at dksX0_run_0 0 rfl rfl)
theorem dX0_run_1 : decode cX0_run 1 = .ok (.iconst 1, 1) := dk_4 (dk_at dksX0_run_0 1 rfl rfl)
theorem dX0_run_2 : decode cX0_run 2 = .ok (.sipush 200, 3) := dk_17 0 200 (dk_at dksX0_run_0 2 rfl rfl)
theorem dX0_run_5 : decode cX0_run 5 = .ok (.invokestatic 55, 3) := dk_184 0 55 (dk_at dksX0_run_0 5 rfl rfl)
theorem dX0_run_8 : decode cX0_run 8 = .ok (.ifCond .eq 14, 3) := dk_153 0 14 (dk_at dksX0_run_0 8 rfl rfl)
theorem dX0_run_11 : decode cX0_run 11 = .ok (.aload_n 0, 1) := dk_42 (dk_at dksX0_run_0 11 rfl rfl)
theorem dX0_run_12 : decode cX0_run 12 = .ok (.getfield 16, 3) := dk_180 0 16 (dk_at dksX0_run_0 12 rfl rfl)
theorem dX0_run_15 : decode cX0_run 15 = .ok (.iload_n 1, 1) := dk_27 (dk_at dksX0_run_0 15 rfl rfl)
theorem dX0_run_16 : decode cX0_run 16 = .ok (.invokevirtual 171, 3) := dk_182 0 171 (dk_at dksX0_run_0 16 rfl rfl)
theorem dX0_run_19 : decode cX0_run 19 = .ok (.goto 4, 3) := dk_167 0 4 (dk_at dksX0_run_0 19 rfl rfl)
theorem dX0_run_22 : decode cX0_run 22 = .ok (.iconst (-1), 1) := dk_2 (dk_at dksX0_run_0 22 rfl rfl)
theorem dX0_run_23 : decode cX0_run 23 = .ok (.ireturn, 1) := dk_172 (dk_at dksX0_run_0 23 rfl rfl)
abbrev cX0_ended : ByteArray := prog_1_method_18_code
def yX0_ended : MethodName := ⟨RX0, "ended", "()I"⟩
def dkwX0_ended_0 : List UInt8 := [42, 180, 0, 16, 180, 0, 174, 172]
abbrev dktX0_ended_0 : List UInt8 := dkwX0_ended_0 ++ []
theorem dksX0_ended_0 : cX0_ended.data.toList.drop 0 = dktX0_ended_0 := by decide +kernel
theorem dX0_ended_0 : decode cX0_ended 0 = .ok (.aload_n 0, 1) := dk_42 (dk_at dksX0_ended_0 0 rfl rfl)
theorem dX0_ended_1 : decode cX0_ended 1 = .ok (.getfield 16, 3) := dk_180 0 16 (dk_at dksX0_ended_0 1 rfl rfl)
theorem dX0_ended_4 : decode cX0_ended 4 = .ok (.getfield 174, 3) := dk_180 0 174 (dk_at dksX0_ended_0 4 rfl rfl)
theorem dX0_ended_7 : decode cX0_ended 7 = .ok (.ireturn, 1) := dk_172 (dk_at dksX0_ended_0 7 rfl rfl)
abbrev cX0_log : ByteArray := prog_1_method_20_code
def yX0_log : MethodName := ⟨RX0, "log", "(I)I"⟩
def dkwX0_log_1 : List UInt8 := [180, 0, 16, 180, 0, 177, 42, 182, 0, 186, 100, 27, 96, 16, 30, 112, 46, 167, 0, 5, 16, 254, 172]
abbrev dktX0_log_1 : List UInt8 := dkwX0_log_1 ++ []
def dkwX0_log_0 : List UInt8 := [27, 156, 0, 5, 2, 172, 27, 42, 182, 0, 186, 162, 0, 31, 42, 180, 0, 16, 180, 0, 189, 42]
abbrev dktX0_log_0 : List UInt8 := dkwX0_log_0 ++ dktX0_log_1
theorem dksX0_log_0 : cX0_log.data.toList.drop 0 = dktX0_log_0 := by decide +kernel
theorem dksX0_log_1 : cX0_log.data.toList.drop 22 = dktX0_log_1 := dk_seg dksX0_log_0 22 rfl rfl
theorem dX0_log_0 : decode cX0_log 0 = .ok (.iload_n 1, 1) := dk_27 (dk_at dksX0_log_0 0 rfl rfl)
theorem dX0_log_1 : decode cX0_log 1 = .ok (.ifCond .ge 5, 3) := dk_156 0 5 (dk_at dksX0_log_0 1 rfl rfl)
theorem dX0_log_4 : decode cX0_log 4 = .ok (.iconst (-1), 1) := dk_2 (dk_at dksX0_log_0 4 rfl rfl)
theorem dX0_log_5 : decode cX0_log 5 = .ok (.ireturn, 1) := dk_172 (dk_at dksX0_log_0 5 rfl rfl)
theorem dX0_log_6 : decode cX0_log 6 = .ok (.iload_n 1, 1) := dk_27 (dk_at dksX0_log_0 6 rfl rfl)
theorem dX0_log_7 : decode cX0_log 7 = .ok (.aload_n 0, 1) := dk_42 (dk_at dksX0_log_0 7 rfl rfl)
theorem dX0_log_8 : decode cX0_log 8 = .ok (.invokevirtual 186, 3) := dk_182 0 186 (dk_at dksX0_log_0 8 rfl rfl)
theorem dX0_log_11 : decode cX0_log 11 = .ok (.if_icmp .ge 31, 3) := dk_162 0 31 (dk_at dksX0_log_0 11 rfl rfl)
theorem dX0_log_14 : decode cX0_log 14 = .ok (.aload_n 0, 1) := dk_42 (dk_at dksX0_log_0 14 rfl rfl)
theorem dX0_log_15 : decode cX0_log 15 = .ok (.getfield 16, 3) := dk_180 0 16 (dk_at dksX0_log_0 15 rfl rfl)
theorem dX0_log_18 : decode cX0_log 18 = .ok (.getfield 189, 3) := dk_180 0 189 (dk_at dksX0_log_0 18 rfl rfl)
theorem dX0_log_21 : decode cX0_log 21 = .ok (.aload_n 0, 1) := dk_42 (dk_at dksX0_log_0 21 rfl rfl)
theorem dX0_log_22 : decode cX0_log 22 = .ok (.getfield 16, 3) := dk_180 0 16 (dk_at dksX0_log_1 0 rfl rfl)
theorem dX0_log_25 : decode cX0_log 25 = .ok (.getfield 177, 3) := dk_180 0 177 (dk_at dksX0_log_1 3 rfl rfl)
theorem dX0_log_28 : decode cX0_log 28 = .ok (.aload_n 0, 1) := dk_42 (dk_at dksX0_log_1 6 rfl rfl)
theorem dX0_log_29 : decode cX0_log 29 = .ok (.invokevirtual 186, 3) := dk_182 0 186 (dk_at dksX0_log_1 7 rfl rfl)
theorem dX0_log_32 : decode cX0_log 32 = .ok (.isub, 1) := dk_100 (dk_at dksX0_log_1 10 rfl rfl)
theorem dX0_log_33 : decode cX0_log 33 = .ok (.iload_n 1, 1) := dk_27 (dk_at dksX0_log_1 11 rfl rfl)
theorem dX0_log_34 : decode cX0_log 34 = .ok (.iadd, 1) := dk_96 (dk_at dksX0_log_1 12 rfl rfl)
theorem dX0_log_35 : decode cX0_log 35 = .ok (.bipush 30, 2) := dk_16 30 (dk_at dksX0_log_1 13 rfl rfl)
theorem dX0_log_37 : decode cX0_log 37 = .ok (.irem, 1) := dk_112 (dk_at dksX0_log_1 15 rfl rfl)
theorem dX0_log_38 : decode cX0_log 38 = .ok (.iaload, 1) := dk_46 (dk_at dksX0_log_1 16 rfl rfl)
theorem dX0_log_39 : decode cX0_log 39 = .ok (.goto 5, 3) := dk_167 0 5 (dk_at dksX0_log_1 17 rfl rfl)
theorem dX0_log_42 : decode cX0_log 42 = .ok (.bipush (-2), 2) := dk_16 254 (dk_at dksX0_log_1 20 rfl rfl)
theorem dX0_log_44 : decode cX0_log 44 = .ok (.ireturn, 1) := dk_172 (dk_at dksX0_log_1 22 rfl rfl)
abbrev cX0_logs : ByteArray := prog_1_method_19_code
def yX0_logs : MethodName := ⟨RX0, "logs", "()I"⟩
def dkwX0_logs_0 : List UInt8 := [16, 30, 42, 180, 0, 16, 180, 0, 177, 184, 0, 180, 172]
abbrev dktX0_logs_0 : List UInt8 := dkwX0_logs_0 ++ []
theorem dksX0_logs_0 : cX0_logs.data.toList.drop 0 = dktX0_logs_0 := by decide +kernel
theorem dX0_logs_0 : decode cX0_logs 0 = .ok (.bipush 30, 2) := dk_16 30 (dk_at dksX0_logs_0 0 rfl rfl)
theorem dX0_logs_2 : decode cX0_logs 2 = .ok (.aload_n 0, 1) := dk_42 (dk_at dksX0_logs_0 2 rfl rfl)
theorem dX0_logs_3 : decode cX0_logs 3 = .ok (.getfield 16, 3) := dk_180 0 16 (dk_at dksX0_logs_0 3 rfl rfl)
theorem dX0_logs_6 : decode cX0_logs 6 = .ok (.getfield 177, 3) := dk_180 0 177 (dk_at dksX0_logs_0 6 rfl rfl)
theorem dX0_logs_9 : decode cX0_logs 9 = .ok (.invokestatic 180, 3) := dk_184 0 180 (dk_at dksX0_logs_0 9 rfl rfl)
theorem dX0_logs_12 : decode cX0_logs 12 = .ok (.ireturn, 1) := dk_172 (dk_at dksX0_logs_0 12 rfl rfl)
abbrev cX0_cause : ByteArray := prog_1_method_21_code
def yX0_cause : MethodName := ⟨RX0, "cause", "(II)I"⟩
def dkwX0_cause_1 : List UInt8 := [182, 0, 196, 78, 28, 154, 0, 10, 45, 180, 0, 201, 167, 0, 7, 45, 180, 0, 202, 172, 78, 16, 254, 172]
abbrev dktX0_cause_1 : List UInt8 := dkwX0_cause_1 ++ []
def dkwX0_cause_0 : List UInt8 := [27, 155, 0, 12, 28, 3, 4, 184, 0, 55, 154, 0, 5, 2, 172, 42, 180, 0, 16, 180, 0, 192, 27]
abbrev dktX0_cause_0 : List UInt8 := dkwX0_cause_0 ++ dktX0_cause_1
theorem dksX0_cause_0 : cX0_cause.data.toList.drop 0 = dktX0_cause_0 := by decide +kernel
theorem dksX0_cause_1 : cX0_cause.data.toList.drop 23 = dktX0_cause_1 := dk_seg dksX0_cause_0 23 rfl rfl
theorem dX0_cause_0 : decode cX0_cause 0 = .ok (.iload_n 1, 1) := dk_27 (dk_at dksX0_cause_0 0 rfl rfl)
theorem dX0_cause_1 : decode cX0_cause 1 = .ok (.ifCond .lt 12, 3) := dk_155 0 12 (dk_at dksX0_cause_0 1 rfl rfl)
theorem dX0_cause_4 : decode cX0_cause 4 = .ok (.iload_n 2, 1) := dk_28 (dk_at dksX0_cause_0 4 rfl rfl)
theorem dX0_cause_5 : decode cX0_cause 5 = .ok (.iconst 0, 1) := dk_3 (dk_at dksX0_cause_0 5 rfl rfl)
theorem dX0_cause_6 : decode cX0_cause 6 = .ok (.iconst 1, 1) := dk_4 (dk_at dksX0_cause_0 6 rfl rfl)
theorem dX0_cause_7 : decode cX0_cause 7 = .ok (.invokestatic 55, 3) := dk_184 0 55 (dk_at dksX0_cause_0 7 rfl rfl)
theorem dX0_cause_10 : decode cX0_cause 10 = .ok (.ifCond .ne 5, 3) := dk_154 0 5 (dk_at dksX0_cause_0 10 rfl rfl)
theorem dX0_cause_13 : decode cX0_cause 13 = .ok (.iconst (-1), 1) := dk_2 (dk_at dksX0_cause_0 13 rfl rfl)
theorem dX0_cause_14 : decode cX0_cause 14 = .ok (.ireturn, 1) := dk_172 (dk_at dksX0_cause_0 14 rfl rfl)
theorem dX0_cause_15 : decode cX0_cause 15 = .ok (.aload_n 0, 1) := dk_42 (dk_at dksX0_cause_0 15 rfl rfl)
theorem dX0_cause_16 : decode cX0_cause 16 = .ok (.getfield 16, 3) := dk_180 0 16 (dk_at dksX0_cause_0 16 rfl rfl)
theorem dX0_cause_19 : decode cX0_cause 19 = .ok (.getfield 192, 3) := dk_180 0 192 (dk_at dksX0_cause_0 19 rfl rfl)
theorem dX0_cause_22 : decode cX0_cause 22 = .ok (.iload_n 1, 1) := dk_27 (dk_at dksX0_cause_0 22 rfl rfl)
theorem dX0_cause_23 : decode cX0_cause 23 = .ok (.invokevirtual 196, 3) := dk_182 0 196 (dk_at dksX0_cause_1 0 rfl rfl)
theorem dX0_cause_26 : decode cX0_cause 26 = .ok (.astore_n 3, 1) := dk_78 (dk_at dksX0_cause_1 3 rfl rfl)
theorem dX0_cause_27 : decode cX0_cause 27 = .ok (.iload_n 2, 1) := dk_28 (dk_at dksX0_cause_1 4 rfl rfl)
theorem dX0_cause_28 : decode cX0_cause 28 = .ok (.ifCond .ne 10, 3) := dk_154 0 10 (dk_at dksX0_cause_1 5 rfl rfl)
theorem dX0_cause_31 : decode cX0_cause 31 = .ok (.aload_n 3, 1) := dk_45 (dk_at dksX0_cause_1 8 rfl rfl)
theorem dX0_cause_32 : decode cX0_cause 32 = .ok (.getfield 201, 3) := dk_180 0 201 (dk_at dksX0_cause_1 9 rfl rfl)
theorem dX0_cause_35 : decode cX0_cause 35 = .ok (.goto 7, 3) := dk_167 0 7 (dk_at dksX0_cause_1 12 rfl rfl)
theorem dX0_cause_38 : decode cX0_cause 38 = .ok (.aload_n 3, 1) := dk_45 (dk_at dksX0_cause_1 15 rfl rfl)
theorem dX0_cause_39 : decode cX0_cause 39 = .ok (.getfield 202, 3) := dk_180 0 202 (dk_at dksX0_cause_1 16 rfl rfl)
theorem dX0_cause_42 : decode cX0_cause 42 = .ok (.ireturn, 1) := dk_172 (dk_at dksX0_cause_1 19 rfl rfl)
theorem dX0_cause_43 : decode cX0_cause 43 = .ok (.astore_n 3, 1) := dk_78 (dk_at dksX0_cause_1 20 rfl rfl)
theorem dX0_cause_44 : decode cX0_cause 44 = .ok (.bipush (-2), 2) := dk_16 254 (dk_at dksX0_cause_1 21 rfl rfl)
theorem dX0_cause_46 : decode cX0_cause 46 = .ok (.ireturn, 1) := dk_172 (dk_at dksX0_cause_1 23 rfl rfl)
abbrev cX0_dry : ByteArray := prog_1_method_22_code
def yX0_dry : MethodName := ⟨RX0, "dry", "(II)I"⟩
def dkwX0_dry_5 : List UInt8 := [180, 0, 107, 172, 45, 180, 0, 38, 28, 16, 10, 100, 50, 180, 0, 116, 172]
abbrev dktX0_dry_5 : List UInt8 := dkwX0_dry_5 ++ []
def dkwX0_dry_4 : List UInt8 := [21, 4, 172, 45, 180, 0, 174, 172, 45, 182, 0, 161, 172, 45, 180, 0, 209, 172, 45, 180, 0, 212, 172, 45]
abbrev dktX0_dry_4 : List UInt8 := dkwX0_dry_4 ++ dktX0_dry_5
def dkwX0_dry_3 : List UInt8 := [170, 0, 0, 0, 0, 66, 0, 0, 0, 0, 0, 0, 0, 5, 0, 0, 0, 38, 0, 0, 0, 41, 0, 0, 0, 46, 0, 0, 0, 51, 0, 0, 0, 56, 0, 0, 0, 61]
abbrev dktX0_dry_3 : List UInt8 := dkwX0_dry_3 ++ dktX0_dry_4
def dkwX0_dry_2 : List UInt8 := [54, 4, 28]
abbrev dktX0_dry_2 : List UInt8 := dkwX0_dry_2 ++ dktX0_dry_3
def dkwX0_dry_1 : List UInt8 := [100, 182, 0, 34, 154, 0, 6, 18, 119, 172, 42, 180, 0, 16, 182, 0, 205, 78, 45, 27, 182, 0, 171]
abbrev dktX0_dry_1 : List UInt8 := dkwX0_dry_1 ++ dktX0_dry_2
def dkwX0_dry_0 : List UInt8 := [27, 4, 17, 0, 200, 184, 0, 55, 153, 0, 23, 28, 3, 8, 184, 0, 55, 154, 0, 17, 42, 28, 16, 10]
abbrev dktX0_dry_0 : List UInt8 := dkwX0_dry_0 ++ dktX0_dry_1
theorem dksX0_dry_0 : cX0_dry.data.toList.drop 0 = dktX0_dry_0 := by decide +kernel
theorem dksX0_dry_1 : cX0_dry.data.toList.drop 24 = dktX0_dry_1 := dk_seg dksX0_dry_0 24 rfl rfl
theorem dksX0_dry_2 : cX0_dry.data.toList.drop 47 = dktX0_dry_2 := dk_seg dksX0_dry_1 23 rfl rfl
theorem dksX0_dry_3 : cX0_dry.data.toList.drop 50 = dktX0_dry_3 := dk_seg dksX0_dry_2 3 rfl rfl
theorem dksX0_dry_4 : cX0_dry.data.toList.drop 88 = dktX0_dry_4 := dk_seg dksX0_dry_3 38 rfl rfl
theorem dksX0_dry_5 : cX0_dry.data.toList.drop 112 = dktX0_dry_5 := dk_seg dksX0_dry_4 24 rfl rfl
theorem dX0_dry_0 : decode cX0_dry 0 = .ok (.iload_n 1, 1) := dk_27 (dk_at dksX0_dry_0 0 rfl rfl)
theorem dX0_dry_1 : decode cX0_dry 1 = .ok (.iconst 1, 1) := dk_4 (dk_at dksX0_dry_0 1 rfl rfl)
theorem dX0_dry_2 : decode cX0_dry 2 = .ok (.sipush 200, 3) := dk_17 0 200 (dk_at dksX0_dry_0 2 rfl rfl)
theorem dX0_dry_5 : decode cX0_dry 5 = .ok (.invokestatic 55, 3) := dk_184 0 55 (dk_at dksX0_dry_0 5 rfl rfl)
theorem dX0_dry_8 : decode cX0_dry 8 = .ok (.ifCond .eq 23, 3) := dk_153 0 23 (dk_at dksX0_dry_0 8 rfl rfl)
theorem dX0_dry_11 : decode cX0_dry 11 = .ok (.iload_n 2, 1) := dk_28 (dk_at dksX0_dry_0 11 rfl rfl)
theorem dX0_dry_12 : decode cX0_dry 12 = .ok (.iconst 0, 1) := dk_3 (dk_at dksX0_dry_0 12 rfl rfl)
theorem dX0_dry_13 : decode cX0_dry 13 = .ok (.iconst 5, 1) := dk_8 (dk_at dksX0_dry_0 13 rfl rfl)
theorem dX0_dry_14 : decode cX0_dry 14 = .ok (.invokestatic 55, 3) := dk_184 0 55 (dk_at dksX0_dry_0 14 rfl rfl)
theorem dX0_dry_17 : decode cX0_dry 17 = .ok (.ifCond .ne 17, 3) := dk_154 0 17 (dk_at dksX0_dry_0 17 rfl rfl)
theorem dX0_dry_20 : decode cX0_dry 20 = .ok (.aload_n 0, 1) := dk_42 (dk_at dksX0_dry_0 20 rfl rfl)
theorem dX0_dry_21 : decode cX0_dry 21 = .ok (.iload_n 2, 1) := dk_28 (dk_at dksX0_dry_0 21 rfl rfl)
theorem dX0_dry_22 : decode cX0_dry 22 = .ok (.bipush 10, 2) := dk_16 10 (dk_at dksX0_dry_0 22 rfl rfl)
theorem dX0_dry_24 : decode cX0_dry 24 = .ok (.isub, 1) := dk_100 (dk_at dksX0_dry_1 0 rfl rfl)
theorem dX0_dry_25 : decode cX0_dry 25 = .ok (.invokevirtual 34, 3) := dk_182 0 34 (dk_at dksX0_dry_1 1 rfl rfl)
theorem dX0_dry_28 : decode cX0_dry 28 = .ok (.ifCond .ne 6, 3) := dk_154 0 6 (dk_at dksX0_dry_1 4 rfl rfl)
theorem dX0_dry_31 : decode cX0_dry 31 = .ok (.ldc 119, 2) := dk_18 119 (dk_at dksX0_dry_1 7 rfl rfl)
theorem dX0_dry_33 : decode cX0_dry 33 = .ok (.ireturn, 1) := dk_172 (dk_at dksX0_dry_1 9 rfl rfl)
theorem dX0_dry_34 : decode cX0_dry 34 = .ok (.aload_n 0, 1) := dk_42 (dk_at dksX0_dry_1 10 rfl rfl)
theorem dX0_dry_35 : decode cX0_dry 35 = .ok (.getfield 16, 3) := dk_180 0 16 (dk_at dksX0_dry_1 11 rfl rfl)
theorem dX0_dry_38 : decode cX0_dry 38 = .ok (.invokevirtual 205, 3) := dk_182 0 205 (dk_at dksX0_dry_1 14 rfl rfl)
theorem dX0_dry_41 : decode cX0_dry 41 = .ok (.astore_n 3, 1) := dk_78 (dk_at dksX0_dry_1 17 rfl rfl)
theorem dX0_dry_42 : decode cX0_dry 42 = .ok (.aload_n 3, 1) := dk_45 (dk_at dksX0_dry_1 18 rfl rfl)
theorem dX0_dry_43 : decode cX0_dry 43 = .ok (.iload_n 1, 1) := dk_27 (dk_at dksX0_dry_1 19 rfl rfl)
theorem dX0_dry_44 : decode cX0_dry 44 = .ok (.invokevirtual 171, 3) := dk_182 0 171 (dk_at dksX0_dry_1 20 rfl rfl)
theorem dX0_dry_47 : decode cX0_dry 47 = .ok (.istore 4, 2) := dk_54 4 (dk_at dksX0_dry_2 0 rfl rfl)
theorem dX0_dry_49 : decode cX0_dry 49 = .ok (.iload_n 2, 1) := dk_28 (dk_at dksX0_dry_2 2 rfl rfl)
theorem dX0_dry_50 : decode cX0_dry 50 = .ok (.tableswitch 66 0 5 #[38, 41, 46, 51, 56, 61], 38) := by decide +kernel
theorem dX0_dry_88 : decode cX0_dry 88 = .ok (.iload 4, 2) := dk_21 4 (dk_at dksX0_dry_4 0 rfl rfl)
theorem dX0_dry_90 : decode cX0_dry 90 = .ok (.ireturn, 1) := dk_172 (dk_at dksX0_dry_4 2 rfl rfl)
theorem dX0_dry_91 : decode cX0_dry 91 = .ok (.aload_n 3, 1) := dk_45 (dk_at dksX0_dry_4 3 rfl rfl)
theorem dX0_dry_92 : decode cX0_dry 92 = .ok (.getfield 174, 3) := dk_180 0 174 (dk_at dksX0_dry_4 4 rfl rfl)
theorem dX0_dry_95 : decode cX0_dry 95 = .ok (.ireturn, 1) := dk_172 (dk_at dksX0_dry_4 7 rfl rfl)
theorem dX0_dry_96 : decode cX0_dry 96 = .ok (.aload_n 3, 1) := dk_45 (dk_at dksX0_dry_4 8 rfl rfl)
theorem dX0_dry_97 : decode cX0_dry 97 = .ok (.invokevirtual 161, 3) := dk_182 0 161 (dk_at dksX0_dry_4 9 rfl rfl)
theorem dX0_dry_100 : decode cX0_dry 100 = .ok (.ireturn, 1) := dk_172 (dk_at dksX0_dry_4 12 rfl rfl)
theorem dX0_dry_101 : decode cX0_dry 101 = .ok (.aload_n 3, 1) := dk_45 (dk_at dksX0_dry_4 13 rfl rfl)
theorem dX0_dry_102 : decode cX0_dry 102 = .ok (.getfield 209, 3) := dk_180 0 209 (dk_at dksX0_dry_4 14 rfl rfl)
theorem dX0_dry_105 : decode cX0_dry 105 = .ok (.ireturn, 1) := dk_172 (dk_at dksX0_dry_4 17 rfl rfl)
theorem dX0_dry_106 : decode cX0_dry 106 = .ok (.aload_n 3, 1) := dk_45 (dk_at dksX0_dry_4 18 rfl rfl)
theorem dX0_dry_107 : decode cX0_dry 107 = .ok (.getfield 212, 3) := dk_180 0 212 (dk_at dksX0_dry_4 19 rfl rfl)
theorem dX0_dry_110 : decode cX0_dry 110 = .ok (.ireturn, 1) := dk_172 (dk_at dksX0_dry_4 22 rfl rfl)
theorem dX0_dry_111 : decode cX0_dry 111 = .ok (.aload_n 3, 1) := dk_45 (dk_at dksX0_dry_4 23 rfl rfl)
theorem dX0_dry_112 : decode cX0_dry 112 = .ok (.getfield 107, 3) := dk_180 0 107 (dk_at dksX0_dry_5 0 rfl rfl)
theorem dX0_dry_115 : decode cX0_dry 115 = .ok (.ireturn, 1) := dk_172 (dk_at dksX0_dry_5 3 rfl rfl)
theorem dX0_dry_116 : decode cX0_dry 116 = .ok (.aload_n 3, 1) := dk_45 (dk_at dksX0_dry_5 4 rfl rfl)
theorem dX0_dry_117 : decode cX0_dry 117 = .ok (.getfield 38, 3) := dk_180 0 38 (dk_at dksX0_dry_5 5 rfl rfl)
theorem dX0_dry_120 : decode cX0_dry 120 = .ok (.iload_n 2, 1) := dk_28 (dk_at dksX0_dry_5 8 rfl rfl)
theorem dX0_dry_121 : decode cX0_dry 121 = .ok (.bipush 10, 2) := dk_16 10 (dk_at dksX0_dry_5 9 rfl rfl)
theorem dX0_dry_123 : decode cX0_dry 123 = .ok (.isub, 1) := dk_100 (dk_at dksX0_dry_5 11 rfl rfl)
theorem dX0_dry_124 : decode cX0_dry 124 = .ok (.aaload, 1) := dk_50 (dk_at dksX0_dry_5 12 rfl rfl)
theorem dX0_dry_125 : decode cX0_dry 125 = .ok (.getfield 116, 3) := dk_180 0 116 (dk_at dksX0_dry_5 13 rfl rfl)
theorem dX0_dry_128 : decode cX0_dry 128 = .ok (.ireturn, 1) := dk_172 (dk_at dksX0_dry_5 16 rfl rfl)
abbrev cX0_first : ByteArray := prog_1_method_23_code
def yX0_first : MethodName := ⟨RX0, "first", "()I"⟩
def dkwX0_first_1 : List UInt8 := [43, 180, 0, 219, 158, 0, 5, 28, 172, 132, 2, 1, 167, 255, 230, 16, 254, 172]
abbrev dktX0_first_1 : List UInt8 := dkwX0_first_1 ++ []
def dkwX0_first_0 : List UInt8 := [42, 180, 0, 16, 182, 0, 205, 76, 4, 61, 28, 17, 0, 200, 163, 0, 25, 43, 182, 0, 215, 153, 0, 18]
abbrev dktX0_first_0 : List UInt8 := dkwX0_first_0 ++ dktX0_first_1
theorem dksX0_first_0 : cX0_first.data.toList.drop 0 = dktX0_first_0 := by decide +kernel
theorem dksX0_first_1 : cX0_first.data.toList.drop 24 = dktX0_first_1 := dk_seg dksX0_first_0 24 rfl rfl
theorem dX0_first_0 : decode cX0_first 0 = .ok (.aload_n 0, 1) := dk_42 (dk_at dksX0_first_0 0 rfl rfl)
theorem dX0_first_1 : decode cX0_first 1 = .ok (.getfield 16, 3) := dk_180 0 16 (dk_at dksX0_first_0 1 rfl rfl)
theorem dX0_first_4 : decode cX0_first 4 = .ok (.invokevirtual 205, 3) := dk_182 0 205 (dk_at dksX0_first_0 4 rfl rfl)
theorem dX0_first_7 : decode cX0_first 7 = .ok (.astore_n 1, 1) := dk_76 (dk_at dksX0_first_0 7 rfl rfl)
theorem dX0_first_8 : decode cX0_first 8 = .ok (.iconst 1, 1) := dk_4 (dk_at dksX0_first_0 8 rfl rfl)
theorem dX0_first_9 : decode cX0_first 9 = .ok (.istore_n 2, 1) := dk_61 (dk_at dksX0_first_0 9 rfl rfl)
theorem dX0_first_10 : decode cX0_first 10 = .ok (.iload_n 2, 1) := dk_28 (dk_at dksX0_first_0 10 rfl rfl)
theorem dX0_first_11 : decode cX0_first 11 = .ok (.sipush 200, 3) := dk_17 0 200 (dk_at dksX0_first_0 11 rfl rfl)
theorem dX0_first_14 : decode cX0_first 14 = .ok (.if_icmp .gt 25, 3) := dk_163 0 25 (dk_at dksX0_first_0 14 rfl rfl)
theorem dX0_first_17 : decode cX0_first 17 = .ok (.aload_n 1, 1) := dk_43 (dk_at dksX0_first_0 17 rfl rfl)
theorem dX0_first_18 : decode cX0_first 18 = .ok (.invokevirtual 215, 3) := dk_182 0 215 (dk_at dksX0_first_0 18 rfl rfl)
theorem dX0_first_21 : decode cX0_first 21 = .ok (.ifCond .eq 18, 3) := dk_153 0 18 (dk_at dksX0_first_0 21 rfl rfl)
theorem dX0_first_24 : decode cX0_first 24 = .ok (.aload_n 1, 1) := dk_43 (dk_at dksX0_first_1 0 rfl rfl)
theorem dX0_first_25 : decode cX0_first 25 = .ok (.getfield 219, 3) := dk_180 0 219 (dk_at dksX0_first_1 1 rfl rfl)
theorem dX0_first_28 : decode cX0_first 28 = .ok (.ifCond .le 5, 3) := dk_158 0 5 (dk_at dksX0_first_1 4 rfl rfl)
theorem dX0_first_31 : decode cX0_first 31 = .ok (.iload_n 2, 1) := dk_28 (dk_at dksX0_first_1 7 rfl rfl)
theorem dX0_first_32 : decode cX0_first 32 = .ok (.ireturn, 1) := dk_172 (dk_at dksX0_first_1 8 rfl rfl)
theorem dX0_first_33 : decode cX0_first 33 = .ok (.iinc 2 1, 3) := dk_132 2 1 (dk_at dksX0_first_1 9 rfl rfl)
theorem dX0_first_36 : decode cX0_first 36 = .ok (.goto (-26), 3) := dk_167 255 230 (dk_at dksX0_first_1 12 rfl rfl)
theorem dX0_first_39 : decode cX0_first 39 = .ok (.bipush (-2), 2) := dk_16 254 (dk_at dksX0_first_1 15 rfl rfl)
theorem dX0_first_41 : decode cX0_first 41 = .ok (.ireturn, 1) := dk_172 (dk_at dksX0_first_1 17 rfl rfl)
abbrev cX0_quiet : ByteArray := prog_1_method_24_code
def yX0_quiet : MethodName := ⟨RX0, "quiet", "()I"⟩
def dkwX0_quiet_1 : List UInt8 := [28, 172, 43, 182, 0, 215, 87, 132, 2, 1, 167, 255, 232, 16, 254, 172]
abbrev dktX0_quiet_1 : List UInt8 := dkwX0_quiet_1 ++ []
def dkwX0_quiet_0 : List UInt8 := [42, 180, 0, 16, 182, 0, 205, 76, 3, 61, 28, 17, 0, 200, 163, 0, 23, 43, 182, 0, 221, 154, 0, 5]
abbrev dktX0_quiet_0 : List UInt8 := dkwX0_quiet_0 ++ dktX0_quiet_1
theorem dksX0_quiet_0 : cX0_quiet.data.toList.drop 0 = dktX0_quiet_0 := by decide +kernel
theorem dksX0_quiet_1 : cX0_quiet.data.toList.drop 24 = dktX0_quiet_1 := dk_seg dksX0_quiet_0 24 rfl rfl
theorem dX0_quiet_0 : decode cX0_quiet 0 = .ok (.aload_n 0, 1) := dk_42 (dk_at dksX0_quiet_0 0 rfl rfl)
theorem dX0_quiet_1 : decode cX0_quiet 1 = .ok (.getfield 16, 3) := dk_180 0 16 (dk_at dksX0_quiet_0 1 rfl rfl)
theorem dX0_quiet_4 : decode cX0_quiet 4 = .ok (.invokevirtual 205, 3) := dk_182 0 205 (dk_at dksX0_quiet_0 4 rfl rfl)
theorem dX0_quiet_7 : decode cX0_quiet 7 = .ok (.astore_n 1, 1) := dk_76 (dk_at dksX0_quiet_0 7 rfl rfl)
theorem dX0_quiet_8 : decode cX0_quiet 8 = .ok (.iconst 0, 1) := dk_3 (dk_at dksX0_quiet_0 8 rfl rfl)
theorem dX0_quiet_9 : decode cX0_quiet 9 = .ok (.istore_n 2, 1) := dk_61 (dk_at dksX0_quiet_0 9 rfl rfl)
theorem dX0_quiet_10 : decode cX0_quiet 10 = .ok (.iload_n 2, 1) := dk_28 (dk_at dksX0_quiet_0 10 rfl rfl)
theorem dX0_quiet_11 : decode cX0_quiet 11 = .ok (.sipush 200, 3) := dk_17 0 200 (dk_at dksX0_quiet_0 11 rfl rfl)
theorem dX0_quiet_14 : decode cX0_quiet 14 = .ok (.if_icmp .gt 23, 3) := dk_163 0 23 (dk_at dksX0_quiet_0 14 rfl rfl)
theorem dX0_quiet_17 : decode cX0_quiet 17 = .ok (.aload_n 1, 1) := dk_43 (dk_at dksX0_quiet_0 17 rfl rfl)
theorem dX0_quiet_18 : decode cX0_quiet 18 = .ok (.invokevirtual 221, 3) := dk_182 0 221 (dk_at dksX0_quiet_0 18 rfl rfl)
theorem dX0_quiet_21 : decode cX0_quiet 21 = .ok (.ifCond .ne 5, 3) := dk_154 0 5 (dk_at dksX0_quiet_0 21 rfl rfl)
theorem dX0_quiet_24 : decode cX0_quiet 24 = .ok (.iload_n 2, 1) := dk_28 (dk_at dksX0_quiet_1 0 rfl rfl)
theorem dX0_quiet_25 : decode cX0_quiet 25 = .ok (.ireturn, 1) := dk_172 (dk_at dksX0_quiet_1 1 rfl rfl)
theorem dX0_quiet_26 : decode cX0_quiet 26 = .ok (.aload_n 1, 1) := dk_43 (dk_at dksX0_quiet_1 2 rfl rfl)
theorem dX0_quiet_27 : decode cX0_quiet 27 = .ok (.invokevirtual 215, 3) := dk_182 0 215 (dk_at dksX0_quiet_1 3 rfl rfl)
theorem dX0_quiet_30 : decode cX0_quiet 30 = .ok (.pop, 1) := dk_87 (dk_at dksX0_quiet_1 6 rfl rfl)
theorem dX0_quiet_31 : decode cX0_quiet 31 = .ok (.iinc 2 1, 3) := dk_132 2 1 (dk_at dksX0_quiet_1 7 rfl rfl)
theorem dX0_quiet_34 : decode cX0_quiet 34 = .ok (.goto (-24), 3) := dk_167 255 232 (dk_at dksX0_quiet_1 10 rfl rfl)
theorem dX0_quiet_37 : decode cX0_quiet 37 = .ok (.bipush (-2), 2) := dk_16 254 (dk_at dksX0_quiet_1 13 rfl rfl)
theorem dX0_quiet_39 : decode cX0_quiet 39 = .ok (.ireturn, 1) := dk_172 (dk_at dksX0_quiet_1 15 rfl rfl)
abbrev cX0_would : ByteArray := prog_1_method_25_code
def yX0_would : MethodName := ⟨RX0, "would", "(III)I"⟩
def dkwX0_would_4 : List UInt8 := [4, 167, 0, 9, 3, 167, 0, 5, 21, 6, 172]
abbrev dktX0_would_4 : List UInt8 := dkwX0_would_4 ++ []
def dkwX0_would_3 : List UInt8 := [154, 0, 11, 25, 5, 180, 0, 116, 167, 0, 26, 29, 4, 160, 0, 19, 25, 5, 180, 0, 42, 153, 0, 7]
abbrev dktX0_would_3 : List UInt8 := dkwX0_would_3 ++ dktX0_would_4
def dkwX0_would_2 : List UInt8 := [50, 58, 5, 25, 4, 25, 5, 187, 0, 59, 89, 2, 28, 183, 0, 61, 182, 0, 227, 54, 6, 29]
abbrev dktX0_would_2 : List UInt8 := dkwX0_would_2 ++ dktX0_would_3
def dkwX0_would_1 : List UInt8 := [184, 0, 55, 154, 0, 6, 18, 119, 172, 42, 180, 0, 16, 182, 0, 205, 58, 4, 25, 4, 180, 0, 38, 27]
abbrev dktX0_would_1 : List UInt8 := dkwX0_would_1 ++ dktX0_would_2
def dkwX0_would_0 : List UInt8 := [42, 27, 182, 0, 224, 153, 0, 23, 28, 16, 157, 16, 99, 184, 0, 55, 153, 0, 12, 29, 3, 5]
abbrev dktX0_would_0 : List UInt8 := dkwX0_would_0 ++ dktX0_would_1
theorem dksX0_would_0 : cX0_would.data.toList.drop 0 = dktX0_would_0 := by decide +kernel
theorem dksX0_would_1 : cX0_would.data.toList.drop 22 = dktX0_would_1 := dk_seg dksX0_would_0 22 rfl rfl
theorem dksX0_would_2 : cX0_would.data.toList.drop 46 = dktX0_would_2 := dk_seg dksX0_would_1 24 rfl rfl
theorem dksX0_would_3 : cX0_would.data.toList.drop 68 = dktX0_would_3 := dk_seg dksX0_would_2 22 rfl rfl
theorem dksX0_would_4 : cX0_would.data.toList.drop 92 = dktX0_would_4 := dk_seg dksX0_would_3 24 rfl rfl
theorem dX0_would_0 : decode cX0_would 0 = .ok (.aload_n 0, 1) := dk_42 (dk_at dksX0_would_0 0 rfl rfl)
theorem dX0_would_1 : decode cX0_would 1 = .ok (.iload_n 1, 1) := dk_27 (dk_at dksX0_would_0 1 rfl rfl)
theorem dX0_would_2 : decode cX0_would 2 = .ok (.invokevirtual 224, 3) := dk_182 0 224 (dk_at dksX0_would_0 2 rfl rfl)
theorem dX0_would_5 : decode cX0_would 5 = .ok (.ifCond .eq 23, 3) := dk_153 0 23 (dk_at dksX0_would_0 5 rfl rfl)
theorem dX0_would_8 : decode cX0_would 8 = .ok (.iload_n 2, 1) := dk_28 (dk_at dksX0_would_0 8 rfl rfl)
theorem dX0_would_9 : decode cX0_would 9 = .ok (.bipush (-99), 2) := dk_16 157 (dk_at dksX0_would_0 9 rfl rfl)
theorem dX0_would_11 : decode cX0_would 11 = .ok (.bipush 99, 2) := dk_16 99 (dk_at dksX0_would_0 11 rfl rfl)
theorem dX0_would_13 : decode cX0_would 13 = .ok (.invokestatic 55, 3) := dk_184 0 55 (dk_at dksX0_would_0 13 rfl rfl)
theorem dX0_would_16 : decode cX0_would 16 = .ok (.ifCond .eq 12, 3) := dk_153 0 12 (dk_at dksX0_would_0 16 rfl rfl)
theorem dX0_would_19 : decode cX0_would 19 = .ok (.iload_n 3, 1) := dk_29 (dk_at dksX0_would_0 19 rfl rfl)
theorem dX0_would_20 : decode cX0_would 20 = .ok (.iconst 0, 1) := dk_3 (dk_at dksX0_would_0 20 rfl rfl)
theorem dX0_would_21 : decode cX0_would 21 = .ok (.iconst 2, 1) := dk_5 (dk_at dksX0_would_0 21 rfl rfl)
theorem dX0_would_22 : decode cX0_would 22 = .ok (.invokestatic 55, 3) := dk_184 0 55 (dk_at dksX0_would_1 0 rfl rfl)
theorem dX0_would_25 : decode cX0_would 25 = .ok (.ifCond .ne 6, 3) := dk_154 0 6 (dk_at dksX0_would_1 3 rfl rfl)
theorem dX0_would_28 : decode cX0_would 28 = .ok (.ldc 119, 2) := dk_18 119 (dk_at dksX0_would_1 6 rfl rfl)
theorem dX0_would_30 : decode cX0_would 30 = .ok (.ireturn, 1) := dk_172 (dk_at dksX0_would_1 8 rfl rfl)
theorem dX0_would_31 : decode cX0_would 31 = .ok (.aload_n 0, 1) := dk_42 (dk_at dksX0_would_1 9 rfl rfl)
theorem dX0_would_32 : decode cX0_would 32 = .ok (.getfield 16, 3) := dk_180 0 16 (dk_at dksX0_would_1 10 rfl rfl)
theorem dX0_would_35 : decode cX0_would 35 = .ok (.invokevirtual 205, 3) := dk_182 0 205 (dk_at dksX0_would_1 13 rfl rfl)
theorem dX0_would_38 : decode cX0_would 38 = .ok (.astore 4, 2) := dk_58 4 (dk_at dksX0_would_1 16 rfl rfl)
theorem dX0_would_40 : decode cX0_would 40 = .ok (.aload 4, 2) := dk_25 4 (dk_at dksX0_would_1 18 rfl rfl)
theorem dX0_would_42 : decode cX0_would 42 = .ok (.getfield 38, 3) := dk_180 0 38 (dk_at dksX0_would_1 20 rfl rfl)
theorem dX0_would_45 : decode cX0_would 45 = .ok (.iload_n 1, 1) := dk_27 (dk_at dksX0_would_1 23 rfl rfl)
theorem dX0_would_46 : decode cX0_would 46 = .ok (.aaload, 1) := dk_50 (dk_at dksX0_would_2 0 rfl rfl)
theorem dX0_would_47 : decode cX0_would 47 = .ok (.astore 5, 2) := dk_58 5 (dk_at dksX0_would_2 1 rfl rfl)
theorem dX0_would_49 : decode cX0_would 49 = .ok (.aload 4, 2) := dk_25 4 (dk_at dksX0_would_2 3 rfl rfl)
theorem dX0_would_51 : decode cX0_would 51 = .ok (.aload 5, 2) := dk_25 5 (dk_at dksX0_would_2 5 rfl rfl)
theorem dX0_would_53 : decode cX0_would 53 = .ok (.new 59, 3) := dk_187 0 59 (dk_at dksX0_would_2 7 rfl rfl)
theorem dX0_would_56 : decode cX0_would 56 = .ok (.dup, 1) := dk_89 (dk_at dksX0_would_2 10 rfl rfl)
theorem dX0_would_57 : decode cX0_would 57 = .ok (.iconst (-1), 1) := dk_2 (dk_at dksX0_would_2 11 rfl rfl)
theorem dX0_would_58 : decode cX0_would 58 = .ok (.iload_n 2, 1) := dk_28 (dk_at dksX0_would_2 12 rfl rfl)
theorem dX0_would_59 : decode cX0_would 59 = .ok (.invokespecial 61, 3) := dk_183 0 61 (dk_at dksX0_would_2 13 rfl rfl)
theorem dX0_would_62 : decode cX0_would 62 = .ok (.invokevirtual 227, 3) := dk_182 0 227 (dk_at dksX0_would_2 16 rfl rfl)
theorem dX0_would_65 : decode cX0_would 65 = .ok (.istore 6, 2) := dk_54 6 (dk_at dksX0_would_2 19 rfl rfl)
theorem dX0_would_67 : decode cX0_would 67 = .ok (.iload_n 3, 1) := dk_29 (dk_at dksX0_would_2 21 rfl rfl)
theorem dX0_would_68 : decode cX0_would 68 = .ok (.ifCond .ne 11, 3) := dk_154 0 11 (dk_at dksX0_would_3 0 rfl rfl)
theorem dX0_would_71 : decode cX0_would 71 = .ok (.aload 5, 2) := dk_25 5 (dk_at dksX0_would_3 3 rfl rfl)
theorem dX0_would_73 : decode cX0_would 73 = .ok (.getfield 116, 3) := dk_180 0 116 (dk_at dksX0_would_3 5 rfl rfl)
theorem dX0_would_76 : decode cX0_would 76 = .ok (.goto 26, 3) := dk_167 0 26 (dk_at dksX0_would_3 8 rfl rfl)
theorem dX0_would_79 : decode cX0_would 79 = .ok (.iload_n 3, 1) := dk_29 (dk_at dksX0_would_3 11 rfl rfl)
theorem dX0_would_80 : decode cX0_would 80 = .ok (.iconst 1, 1) := dk_4 (dk_at dksX0_would_3 12 rfl rfl)
theorem dX0_would_81 : decode cX0_would 81 = .ok (.if_icmp .ne 19, 3) := dk_160 0 19 (dk_at dksX0_would_3 13 rfl rfl)
theorem dX0_would_84 : decode cX0_would 84 = .ok (.aload 5, 2) := dk_25 5 (dk_at dksX0_would_3 16 rfl rfl)
theorem dX0_would_86 : decode cX0_would 86 = .ok (.getfield 42, 3) := dk_180 0 42 (dk_at dksX0_would_3 18 rfl rfl)
theorem dX0_would_89 : decode cX0_would 89 = .ok (.ifCond .eq 7, 3) := dk_153 0 7 (dk_at dksX0_would_3 21 rfl rfl)
theorem dX0_would_92 : decode cX0_would 92 = .ok (.iconst 1, 1) := dk_4 (dk_at dksX0_would_4 0 rfl rfl)
theorem dX0_would_93 : decode cX0_would 93 = .ok (.goto 9, 3) := dk_167 0 9 (dk_at dksX0_would_4 1 rfl rfl)
theorem dX0_would_96 : decode cX0_would 96 = .ok (.iconst 0, 1) := dk_3 (dk_at dksX0_would_4 4 rfl rfl)
theorem dX0_would_97 : decode cX0_would 97 = .ok (.goto 5, 3) := dk_167 0 5 (dk_at dksX0_would_4 5 rfl rfl)
theorem dX0_would_100 : decode cX0_would 100 = .ok (.iload 6, 2) := dk_21 6 (dk_at dksX0_would_4 8 rfl rfl)
theorem dX0_would_102 : decode cX0_would 102 = .ok (.ireturn, 1) := dk_172 (dk_at dksX0_would_4 10 rfl rfl)
abbrev cX0_isLive : ByteArray := prog_1_method_5_code
def yX0_isLive : MethodName := ⟨RX0, "isLive", "(I)Z"⟩
def dkwX0_isLive_1 : List UInt8 := [167, 0, 4, 3, 172]
abbrev dktX0_isLive_1 : List UInt8 := dkwX0_isLive_1 ++ []
def dkwX0_isLive_0 : List UInt8 := [42, 27, 182, 0, 34, 153, 0, 22, 42, 180, 0, 16, 180, 0, 38, 27, 50, 180, 0, 42, 153, 0, 7, 4]
abbrev dktX0_isLive_0 : List UInt8 := dkwX0_isLive_0 ++ dktX0_isLive_1
theorem dksX0_isLive_0 : cX0_isLive.data.toList.drop 0 = dktX0_isLive_0 := by decide +kernel
theorem dksX0_isLive_1 : cX0_isLive.data.toList.drop 24 = dktX0_isLive_1 := dk_seg dksX0_isLive_0 24 rfl rfl
theorem dX0_isLive_0 : decode cX0_isLive 0 = .ok (.aload_n 0, 1) := dk_42 (dk_at dksX0_isLive_0 0 rfl rfl)
theorem dX0_isLive_1 : decode cX0_isLive 1 = .ok (.iload_n 1, 1) := dk_27 (dk_at dksX0_isLive_0 1 rfl rfl)
theorem dX0_isLive_2 : decode cX0_isLive 2 = .ok (.invokevirtual 34, 3) := dk_182 0 34 (dk_at dksX0_isLive_0 2 rfl rfl)
theorem dX0_isLive_5 : decode cX0_isLive 5 = .ok (.ifCond .eq 22, 3) := dk_153 0 22 (dk_at dksX0_isLive_0 5 rfl rfl)
theorem dX0_isLive_8 : decode cX0_isLive 8 = .ok (.aload_n 0, 1) := dk_42 (dk_at dksX0_isLive_0 8 rfl rfl)
theorem dX0_isLive_9 : decode cX0_isLive 9 = .ok (.getfield 16, 3) := dk_180 0 16 (dk_at dksX0_isLive_0 9 rfl rfl)
theorem dX0_isLive_12 : decode cX0_isLive 12 = .ok (.getfield 38, 3) := dk_180 0 38 (dk_at dksX0_isLive_0 12 rfl rfl)
theorem dX0_isLive_15 : decode cX0_isLive 15 = .ok (.iload_n 1, 1) := dk_27 (dk_at dksX0_isLive_0 15 rfl rfl)
theorem dX0_isLive_16 : decode cX0_isLive 16 = .ok (.aaload, 1) := dk_50 (dk_at dksX0_isLive_0 16 rfl rfl)
theorem dX0_isLive_17 : decode cX0_isLive 17 = .ok (.getfield 42, 3) := dk_180 0 42 (dk_at dksX0_isLive_0 17 rfl rfl)
theorem dX0_isLive_20 : decode cX0_isLive 20 = .ok (.ifCond .eq 7, 3) := dk_153 0 7 (dk_at dksX0_isLive_0 20 rfl rfl)
theorem dX0_isLive_23 : decode cX0_isLive 23 = .ok (.iconst 1, 1) := dk_4 (dk_at dksX0_isLive_0 23 rfl rfl)
theorem dX0_isLive_24 : decode cX0_isLive 24 = .ok (.goto 4, 3) := dk_167 0 4 (dk_at dksX0_isLive_1 0 rfl rfl)
theorem dX0_isLive_27 : decode cX0_isLive 27 = .ok (.iconst 0, 1) := dk_3 (dk_at dksX0_isLive_1 3 rfl rfl)
theorem dX0_isLive_28 : decode cX0_isLive 28 = .ok (.ireturn, 1) := dk_172 (dk_at dksX0_isLive_1 4 rfl rfl)
abbrev cX0_brings : ByteArray := prog_1_method_26_code
def yX0_brings : MethodName := ⟨RX0, "brings", "(II)I"⟩
def dkwX0_brings_4 : List UInt8 := [180, 0, 201, 172]
abbrev dktX0_brings_4 : List UInt8 := dkwX0_brings_4 ++ []
def dkwX0_brings_3 : List UInt8 := [45, 180, 0, 236, 172, 42, 180, 0, 16, 182, 0, 161, 45, 182, 0, 161, 2, 130, 126, 172, 45, 180, 0, 192]
abbrev dktX0_brings_3 : List UInt8 := dkwX0_brings_3 ++ dktX0_brings_4
def dkwX0_brings_2 : List UInt8 := [171, 0, 0, 0, 0, 46, 0, 0, 0, 2, 0, 0, 0, 0, 0, 0, 0, 26, 0, 0, 0, 1, 0, 0, 0, 31]
abbrev dktX0_brings_2 : List UInt8 := dkwX0_brings_2 ++ dktX0_brings_3
def dkwX0_brings_1 : List UInt8 := [182, 0, 205, 78, 45, 187, 0, 197, 89, 27, 8, 183, 0, 231, 182, 0, 232, 28]
abbrev dktX0_brings_1 : List UInt8 := dkwX0_brings_1 ++ dktX0_brings_2
def dkwX0_brings_0 : List UInt8 := [42, 27, 182, 0, 224, 153, 0, 12, 28, 3, 5, 184, 0, 55, 154, 0, 6, 18, 119, 172, 42, 180, 0, 16]
abbrev dktX0_brings_0 : List UInt8 := dkwX0_brings_0 ++ dktX0_brings_1
theorem dksX0_brings_0 : cX0_brings.data.toList.drop 0 = dktX0_brings_0 := by decide +kernel
theorem dksX0_brings_1 : cX0_brings.data.toList.drop 24 = dktX0_brings_1 := dk_seg dksX0_brings_0 24 rfl rfl
theorem dksX0_brings_2 : cX0_brings.data.toList.drop 42 = dktX0_brings_2 := dk_seg dksX0_brings_1 18 rfl rfl
theorem dksX0_brings_3 : cX0_brings.data.toList.drop 68 = dktX0_brings_3 := dk_seg dksX0_brings_2 26 rfl rfl
theorem dksX0_brings_4 : cX0_brings.data.toList.drop 92 = dktX0_brings_4 := dk_seg dksX0_brings_3 24 rfl rfl
theorem dX0_brings_0 : decode cX0_brings 0 = .ok (.aload_n 0, 1) := dk_42 (dk_at dksX0_brings_0 0 rfl rfl)
theorem dX0_brings_1 : decode cX0_brings 1 = .ok (.iload_n 1, 1) := dk_27 (dk_at dksX0_brings_0 1 rfl rfl)
theorem dX0_brings_2 : decode cX0_brings 2 = .ok (.invokevirtual 224, 3) := dk_182 0 224 (dk_at dksX0_brings_0 2 rfl rfl)
theorem dX0_brings_5 : decode cX0_brings 5 = .ok (.ifCond .eq 12, 3) := dk_153 0 12 (dk_at dksX0_brings_0 5 rfl rfl)
theorem dX0_brings_8 : decode cX0_brings 8 = .ok (.iload_n 2, 1) := dk_28 (dk_at dksX0_brings_0 8 rfl rfl)
theorem dX0_brings_9 : decode cX0_brings 9 = .ok (.iconst 0, 1) := dk_3 (dk_at dksX0_brings_0 9 rfl rfl)
theorem dX0_brings_10 : decode cX0_brings 10 = .ok (.iconst 2, 1) := dk_5 (dk_at dksX0_brings_0 10 rfl rfl)
theorem dX0_brings_11 : decode cX0_brings 11 = .ok (.invokestatic 55, 3) := dk_184 0 55 (dk_at dksX0_brings_0 11 rfl rfl)
theorem dX0_brings_14 : decode cX0_brings 14 = .ok (.ifCond .ne 6, 3) := dk_154 0 6 (dk_at dksX0_brings_0 14 rfl rfl)
theorem dX0_brings_17 : decode cX0_brings 17 = .ok (.ldc 119, 2) := dk_18 119 (dk_at dksX0_brings_0 17 rfl rfl)
theorem dX0_brings_19 : decode cX0_brings 19 = .ok (.ireturn, 1) := dk_172 (dk_at dksX0_brings_0 19 rfl rfl)
theorem dX0_brings_20 : decode cX0_brings 20 = .ok (.aload_n 0, 1) := dk_42 (dk_at dksX0_brings_0 20 rfl rfl)
theorem dX0_brings_21 : decode cX0_brings 21 = .ok (.getfield 16, 3) := dk_180 0 16 (dk_at dksX0_brings_0 21 rfl rfl)
theorem dX0_brings_24 : decode cX0_brings 24 = .ok (.invokevirtual 205, 3) := dk_182 0 205 (dk_at dksX0_brings_1 0 rfl rfl)
theorem dX0_brings_27 : decode cX0_brings 27 = .ok (.astore_n 3, 1) := dk_78 (dk_at dksX0_brings_1 3 rfl rfl)
theorem dX0_brings_28 : decode cX0_brings 28 = .ok (.aload_n 3, 1) := dk_45 (dk_at dksX0_brings_1 4 rfl rfl)
theorem dX0_brings_29 : decode cX0_brings 29 = .ok (.new 197, 3) := dk_187 0 197 (dk_at dksX0_brings_1 5 rfl rfl)
theorem dX0_brings_32 : decode cX0_brings 32 = .ok (.dup, 1) := dk_89 (dk_at dksX0_brings_1 8 rfl rfl)
theorem dX0_brings_33 : decode cX0_brings 33 = .ok (.iload_n 1, 1) := dk_27 (dk_at dksX0_brings_1 9 rfl rfl)
theorem dX0_brings_34 : decode cX0_brings 34 = .ok (.iconst 5, 1) := dk_8 (dk_at dksX0_brings_1 10 rfl rfl)
theorem dX0_brings_35 : decode cX0_brings 35 = .ok (.invokespecial 231, 3) := dk_183 0 231 (dk_at dksX0_brings_1 11 rfl rfl)
theorem dX0_brings_38 : decode cX0_brings 38 = .ok (.invokevirtual 232, 3) := dk_182 0 232 (dk_at dksX0_brings_1 14 rfl rfl)
theorem dX0_brings_41 : decode cX0_brings 41 = .ok (.iload_n 2, 1) := dk_28 (dk_at dksX0_brings_1 17 rfl rfl)
theorem dX0_brings_42 : decode cX0_brings 42 = .ok (.lookupswitch 46 #[(0, 26), (1, 31)], 26) := by decide +kernel
theorem dX0_brings_68 : decode cX0_brings 68 = .ok (.aload_n 3, 1) := dk_45 (dk_at dksX0_brings_3 0 rfl rfl)
theorem dX0_brings_69 : decode cX0_brings 69 = .ok (.getfield 236, 3) := dk_180 0 236 (dk_at dksX0_brings_3 1 rfl rfl)
theorem dX0_brings_72 : decode cX0_brings 72 = .ok (.ireturn, 1) := dk_172 (dk_at dksX0_brings_3 4 rfl rfl)
theorem dX0_brings_73 : decode cX0_brings 73 = .ok (.aload_n 0, 1) := dk_42 (dk_at dksX0_brings_3 5 rfl rfl)
theorem dX0_brings_74 : decode cX0_brings 74 = .ok (.getfield 16, 3) := dk_180 0 16 (dk_at dksX0_brings_3 6 rfl rfl)
theorem dX0_brings_77 : decode cX0_brings 77 = .ok (.invokevirtual 161, 3) := dk_182 0 161 (dk_at dksX0_brings_3 9 rfl rfl)
theorem dX0_brings_80 : decode cX0_brings 80 = .ok (.aload_n 3, 1) := dk_45 (dk_at dksX0_brings_3 12 rfl rfl)
theorem dX0_brings_81 : decode cX0_brings 81 = .ok (.invokevirtual 161, 3) := dk_182 0 161 (dk_at dksX0_brings_3 13 rfl rfl)
theorem dX0_brings_84 : decode cX0_brings 84 = .ok (.iconst (-1), 1) := dk_2 (dk_at dksX0_brings_3 16 rfl rfl)
theorem dX0_brings_85 : decode cX0_brings 85 = .ok (.ixor, 1) := dk_130 (dk_at dksX0_brings_3 17 rfl rfl)
theorem dX0_brings_86 : decode cX0_brings 86 = .ok (.iand, 1) := dk_126 (dk_at dksX0_brings_3 18 rfl rfl)
theorem dX0_brings_87 : decode cX0_brings 87 = .ok (.ireturn, 1) := dk_172 (dk_at dksX0_brings_3 19 rfl rfl)
theorem dX0_brings_88 : decode cX0_brings 88 = .ok (.aload_n 3, 1) := dk_45 (dk_at dksX0_brings_3 20 rfl rfl)
theorem dX0_brings_89 : decode cX0_brings 89 = .ok (.getfield 192, 3) := dk_180 0 192 (dk_at dksX0_brings_3 21 rfl rfl)
theorem dX0_brings_92 : decode cX0_brings 92 = .ok (.getfield 201, 3) := dk_180 0 201 (dk_at dksX0_brings_4 0 rfl rfl)
theorem dX0_brings_95 : decode cX0_brings 95 = .ok (.ireturn, 1) := dk_172 (dk_at dksX0_brings_4 3 rfl rfl)
abbrev cX0_reach : ByteArray := prog_1_method_28_code
def yX0_reach : MethodName := ⟨RX0, "reach", "(II)I"⟩
def dkwX0_reach_3 : List UInt8 := [132, 4, 1, 167, 255, 228, 16, 254, 172]
abbrev dktX0_reach_3 : List UInt8 := dkwX0_reach_3 ++ []
def dkwX0_reach_2 : List UInt8 := [16, 12, 162, 0, 27, 29, 28, 122, 4, 126, 4, 160, 0, 6, 21, 4, 172, 42, 29, 182, 0, 239, 62]
abbrev dktX0_reach_2 : List UInt8 := dkwX0_reach_2 ++ dktX0_reach_3
def dkwX0_reach_1 : List UInt8 := [153, 0, 11, 42, 28, 182, 0, 224, 154, 0, 6, 16, 254, 172, 4, 27, 120, 62, 3, 54, 4, 21, 4]
abbrev dktX0_reach_1 : List UInt8 := dkwX0_reach_1 ++ dktX0_reach_2
def dkwX0_reach_0 : List UInt8 := [42, 27, 182, 0, 34, 153, 0, 11, 42, 28, 182, 0, 34, 154, 0, 5, 2, 172, 42, 27, 182, 0, 224]
abbrev dktX0_reach_0 : List UInt8 := dkwX0_reach_0 ++ dktX0_reach_1
theorem dksX0_reach_0 : cX0_reach.data.toList.drop 0 = dktX0_reach_0 := by decide +kernel
theorem dksX0_reach_1 : cX0_reach.data.toList.drop 23 = dktX0_reach_1 := dk_seg dksX0_reach_0 23 rfl rfl
theorem dksX0_reach_2 : cX0_reach.data.toList.drop 46 = dktX0_reach_2 := dk_seg dksX0_reach_1 23 rfl rfl
theorem dksX0_reach_3 : cX0_reach.data.toList.drop 69 = dktX0_reach_3 := dk_seg dksX0_reach_2 23 rfl rfl
theorem dX0_reach_0 : decode cX0_reach 0 = .ok (.aload_n 0, 1) := dk_42 (dk_at dksX0_reach_0 0 rfl rfl)
theorem dX0_reach_1 : decode cX0_reach 1 = .ok (.iload_n 1, 1) := dk_27 (dk_at dksX0_reach_0 1 rfl rfl)
theorem dX0_reach_2 : decode cX0_reach 2 = .ok (.invokevirtual 34, 3) := dk_182 0 34 (dk_at dksX0_reach_0 2 rfl rfl)
theorem dX0_reach_5 : decode cX0_reach 5 = .ok (.ifCond .eq 11, 3) := dk_153 0 11 (dk_at dksX0_reach_0 5 rfl rfl)
theorem dX0_reach_8 : decode cX0_reach 8 = .ok (.aload_n 0, 1) := dk_42 (dk_at dksX0_reach_0 8 rfl rfl)
theorem dX0_reach_9 : decode cX0_reach 9 = .ok (.iload_n 2, 1) := dk_28 (dk_at dksX0_reach_0 9 rfl rfl)
theorem dX0_reach_10 : decode cX0_reach 10 = .ok (.invokevirtual 34, 3) := dk_182 0 34 (dk_at dksX0_reach_0 10 rfl rfl)
theorem dX0_reach_13 : decode cX0_reach 13 = .ok (.ifCond .ne 5, 3) := dk_154 0 5 (dk_at dksX0_reach_0 13 rfl rfl)
theorem dX0_reach_16 : decode cX0_reach 16 = .ok (.iconst (-1), 1) := dk_2 (dk_at dksX0_reach_0 16 rfl rfl)
theorem dX0_reach_17 : decode cX0_reach 17 = .ok (.ireturn, 1) := dk_172 (dk_at dksX0_reach_0 17 rfl rfl)
theorem dX0_reach_18 : decode cX0_reach 18 = .ok (.aload_n 0, 1) := dk_42 (dk_at dksX0_reach_0 18 rfl rfl)
theorem dX0_reach_19 : decode cX0_reach 19 = .ok (.iload_n 1, 1) := dk_27 (dk_at dksX0_reach_0 19 rfl rfl)
theorem dX0_reach_20 : decode cX0_reach 20 = .ok (.invokevirtual 224, 3) := dk_182 0 224 (dk_at dksX0_reach_0 20 rfl rfl)
theorem dX0_reach_23 : decode cX0_reach 23 = .ok (.ifCond .eq 11, 3) := dk_153 0 11 (dk_at dksX0_reach_1 0 rfl rfl)
theorem dX0_reach_26 : decode cX0_reach 26 = .ok (.aload_n 0, 1) := dk_42 (dk_at dksX0_reach_1 3 rfl rfl)
theorem dX0_reach_27 : decode cX0_reach 27 = .ok (.iload_n 2, 1) := dk_28 (dk_at dksX0_reach_1 4 rfl rfl)
theorem dX0_reach_28 : decode cX0_reach 28 = .ok (.invokevirtual 224, 3) := dk_182 0 224 (dk_at dksX0_reach_1 5 rfl rfl)
theorem dX0_reach_31 : decode cX0_reach 31 = .ok (.ifCond .ne 6, 3) := dk_154 0 6 (dk_at dksX0_reach_1 8 rfl rfl)
theorem dX0_reach_34 : decode cX0_reach 34 = .ok (.bipush (-2), 2) := dk_16 254 (dk_at dksX0_reach_1 11 rfl rfl)
theorem dX0_reach_36 : decode cX0_reach 36 = .ok (.ireturn, 1) := dk_172 (dk_at dksX0_reach_1 13 rfl rfl)
theorem dX0_reach_37 : decode cX0_reach 37 = .ok (.iconst 1, 1) := dk_4 (dk_at dksX0_reach_1 14 rfl rfl)
theorem dX0_reach_38 : decode cX0_reach 38 = .ok (.iload_n 1, 1) := dk_27 (dk_at dksX0_reach_1 15 rfl rfl)
theorem dX0_reach_39 : decode cX0_reach 39 = .ok (.ishl, 1) := dk_120 (dk_at dksX0_reach_1 16 rfl rfl)
theorem dX0_reach_40 : decode cX0_reach 40 = .ok (.istore_n 3, 1) := dk_62 (dk_at dksX0_reach_1 17 rfl rfl)
theorem dX0_reach_41 : decode cX0_reach 41 = .ok (.iconst 0, 1) := dk_3 (dk_at dksX0_reach_1 18 rfl rfl)
theorem dX0_reach_42 : decode cX0_reach 42 = .ok (.istore 4, 2) := dk_54 4 (dk_at dksX0_reach_1 19 rfl rfl)
theorem dX0_reach_44 : decode cX0_reach 44 = .ok (.iload 4, 2) := dk_21 4 (dk_at dksX0_reach_1 21 rfl rfl)
theorem dX0_reach_46 : decode cX0_reach 46 = .ok (.bipush 12, 2) := dk_16 12 (dk_at dksX0_reach_2 0 rfl rfl)
theorem dX0_reach_48 : decode cX0_reach 48 = .ok (.if_icmp .ge 27, 3) := dk_162 0 27 (dk_at dksX0_reach_2 2 rfl rfl)
theorem dX0_reach_51 : decode cX0_reach 51 = .ok (.iload_n 3, 1) := dk_29 (dk_at dksX0_reach_2 5 rfl rfl)
theorem dX0_reach_52 : decode cX0_reach 52 = .ok (.iload_n 2, 1) := dk_28 (dk_at dksX0_reach_2 6 rfl rfl)
theorem dX0_reach_53 : decode cX0_reach 53 = .ok (.ishr, 1) := dk_122 (dk_at dksX0_reach_2 7 rfl rfl)
theorem dX0_reach_54 : decode cX0_reach 54 = .ok (.iconst 1, 1) := dk_4 (dk_at dksX0_reach_2 8 rfl rfl)
theorem dX0_reach_55 : decode cX0_reach 55 = .ok (.iand, 1) := dk_126 (dk_at dksX0_reach_2 9 rfl rfl)
theorem dX0_reach_56 : decode cX0_reach 56 = .ok (.iconst 1, 1) := dk_4 (dk_at dksX0_reach_2 10 rfl rfl)
theorem dX0_reach_57 : decode cX0_reach 57 = .ok (.if_icmp .ne 6, 3) := dk_160 0 6 (dk_at dksX0_reach_2 11 rfl rfl)
theorem dX0_reach_60 : decode cX0_reach 60 = .ok (.iload 4, 2) := dk_21 4 (dk_at dksX0_reach_2 14 rfl rfl)
theorem dX0_reach_62 : decode cX0_reach 62 = .ok (.ireturn, 1) := dk_172 (dk_at dksX0_reach_2 16 rfl rfl)
theorem dX0_reach_63 : decode cX0_reach 63 = .ok (.aload_n 0, 1) := dk_42 (dk_at dksX0_reach_2 17 rfl rfl)
theorem dX0_reach_64 : decode cX0_reach 64 = .ok (.iload_n 3, 1) := dk_29 (dk_at dksX0_reach_2 18 rfl rfl)
theorem dX0_reach_65 : decode cX0_reach 65 = .ok (.invokevirtual 239, 3) := dk_182 0 239 (dk_at dksX0_reach_2 19 rfl rfl)
theorem dX0_reach_68 : decode cX0_reach 68 = .ok (.istore_n 3, 1) := dk_62 (dk_at dksX0_reach_2 22 rfl rfl)
theorem dX0_reach_69 : decode cX0_reach 69 = .ok (.iinc 4 1, 3) := dk_132 4 1 (dk_at dksX0_reach_3 0 rfl rfl)
theorem dX0_reach_72 : decode cX0_reach 72 = .ok (.goto (-28), 3) := dk_167 255 228 (dk_at dksX0_reach_3 3 rfl rfl)
theorem dX0_reach_75 : decode cX0_reach 75 = .ok (.bipush (-2), 2) := dk_16 254 (dk_at dksX0_reach_3 6 rfl rfl)
theorem dX0_reach_77 : decode cX0_reach 77 = .ok (.ireturn, 1) := dk_172 (dk_at dksX0_reach_3 8 rfl rfl)
abbrev cX0_around : ByteArray := prog_1_method_27_code
def yX0_around : MethodName := ⟨RX0, "around", "(I)I"⟩
def dkwX0_around_4 : List UInt8 := [120, 128, 128, 61, 132, 3, 1, 167, 255, 159, 28, 172]
abbrev dktX0_around_4 : List UInt8 := dkwX0_around_4 ++ []
def dkwX0_around_3 : List UInt8 := [122, 4, 126, 4, 159, 0, 13, 27, 21, 4, 122, 4, 126, 4, 160, 0, 14, 28, 4, 29, 120, 4, 21, 4]
abbrev dktX0_around_3 : List UInt8 := dkwX0_around_3 ++ dktX0_around_4
def dkwX0_around_2 : List UInt8 := [153, 0, 52, 42, 180, 0, 16, 180, 0, 38, 21, 4, 50, 180, 0, 42, 154, 0, 6, 167, 0, 33, 27, 29]
abbrev dktX0_around_2 : List UInt8 := dkwX0_around_2 ++ dktX0_around_3
def dkwX0_around_1 : List UInt8 := [180, 0, 75, 54, 4, 21, 4, 155, 0, 67, 42, 180, 0, 16, 180, 0, 38, 29, 50, 180, 0, 42]
abbrev dktX0_around_1 : List UInt8 := dkwX0_around_1 ++ dktX0_around_2
def dkwX0_around_0 : List UInt8 := [27, 61, 3, 62, 29, 42, 180, 0, 16, 180, 0, 30, 162, 0, 92, 42, 180, 0, 16, 180, 0, 38, 29, 50]
abbrev dktX0_around_0 : List UInt8 := dkwX0_around_0 ++ dktX0_around_1
theorem dksX0_around_0 : cX0_around.data.toList.drop 0 = dktX0_around_0 := by decide +kernel
theorem dksX0_around_1 : cX0_around.data.toList.drop 24 = dktX0_around_1 := dk_seg dksX0_around_0 24 rfl rfl
theorem dksX0_around_2 : cX0_around.data.toList.drop 46 = dktX0_around_2 := dk_seg dksX0_around_1 22 rfl rfl
theorem dksX0_around_3 : cX0_around.data.toList.drop 70 = dktX0_around_3 := dk_seg dksX0_around_2 24 rfl rfl
theorem dksX0_around_4 : cX0_around.data.toList.drop 94 = dktX0_around_4 := dk_seg dksX0_around_3 24 rfl rfl
theorem dX0_around_0 : decode cX0_around 0 = .ok (.iload_n 1, 1) := dk_27 (dk_at dksX0_around_0 0 rfl rfl)
theorem dX0_around_1 : decode cX0_around 1 = .ok (.istore_n 2, 1) := dk_61 (dk_at dksX0_around_0 1 rfl rfl)
theorem dX0_around_2 : decode cX0_around 2 = .ok (.iconst 0, 1) := dk_3 (dk_at dksX0_around_0 2 rfl rfl)
theorem dX0_around_3 : decode cX0_around 3 = .ok (.istore_n 3, 1) := dk_62 (dk_at dksX0_around_0 3 rfl rfl)
theorem dX0_around_4 : decode cX0_around 4 = .ok (.iload_n 3, 1) := dk_29 (dk_at dksX0_around_0 4 rfl rfl)
theorem dX0_around_5 : decode cX0_around 5 = .ok (.aload_n 0, 1) := dk_42 (dk_at dksX0_around_0 5 rfl rfl)
theorem dX0_around_6 : decode cX0_around 6 = .ok (.getfield 16, 3) := dk_180 0 16 (dk_at dksX0_around_0 6 rfl rfl)
theorem dX0_around_9 : decode cX0_around 9 = .ok (.getfield 30, 3) := dk_180 0 30 (dk_at dksX0_around_0 9 rfl rfl)
theorem dX0_around_12 : decode cX0_around 12 = .ok (.if_icmp .ge 92, 3) := dk_162 0 92 (dk_at dksX0_around_0 12 rfl rfl)
theorem dX0_around_15 : decode cX0_around 15 = .ok (.aload_n 0, 1) := dk_42 (dk_at dksX0_around_0 15 rfl rfl)
theorem dX0_around_16 : decode cX0_around 16 = .ok (.getfield 16, 3) := dk_180 0 16 (dk_at dksX0_around_0 16 rfl rfl)
theorem dX0_around_19 : decode cX0_around 19 = .ok (.getfield 38, 3) := dk_180 0 38 (dk_at dksX0_around_0 19 rfl rfl)
theorem dX0_around_22 : decode cX0_around 22 = .ok (.iload_n 3, 1) := dk_29 (dk_at dksX0_around_0 22 rfl rfl)
theorem dX0_around_23 : decode cX0_around 23 = .ok (.aaload, 1) := dk_50 (dk_at dksX0_around_0 23 rfl rfl)
theorem dX0_around_24 : decode cX0_around 24 = .ok (.getfield 75, 3) := dk_180 0 75 (dk_at dksX0_around_1 0 rfl rfl)
theorem dX0_around_27 : decode cX0_around 27 = .ok (.istore 4, 2) := dk_54 4 (dk_at dksX0_around_1 3 rfl rfl)
theorem dX0_around_29 : decode cX0_around 29 = .ok (.iload 4, 2) := dk_21 4 (dk_at dksX0_around_1 5 rfl rfl)
theorem dX0_around_31 : decode cX0_around 31 = .ok (.ifCond .lt 67, 3) := dk_155 0 67 (dk_at dksX0_around_1 7 rfl rfl)
theorem dX0_around_34 : decode cX0_around 34 = .ok (.aload_n 0, 1) := dk_42 (dk_at dksX0_around_1 10 rfl rfl)
theorem dX0_around_35 : decode cX0_around 35 = .ok (.getfield 16, 3) := dk_180 0 16 (dk_at dksX0_around_1 11 rfl rfl)
theorem dX0_around_38 : decode cX0_around 38 = .ok (.getfield 38, 3) := dk_180 0 38 (dk_at dksX0_around_1 14 rfl rfl)
theorem dX0_around_41 : decode cX0_around 41 = .ok (.iload_n 3, 1) := dk_29 (dk_at dksX0_around_1 17 rfl rfl)
theorem dX0_around_42 : decode cX0_around 42 = .ok (.aaload, 1) := dk_50 (dk_at dksX0_around_1 18 rfl rfl)
theorem dX0_around_43 : decode cX0_around 43 = .ok (.getfield 42, 3) := dk_180 0 42 (dk_at dksX0_around_1 19 rfl rfl)
theorem dX0_around_46 : decode cX0_around 46 = .ok (.ifCond .eq 52, 3) := dk_153 0 52 (dk_at dksX0_around_2 0 rfl rfl)
theorem dX0_around_49 : decode cX0_around 49 = .ok (.aload_n 0, 1) := dk_42 (dk_at dksX0_around_2 3 rfl rfl)
theorem dX0_around_50 : decode cX0_around 50 = .ok (.getfield 16, 3) := dk_180 0 16 (dk_at dksX0_around_2 4 rfl rfl)
theorem dX0_around_53 : decode cX0_around 53 = .ok (.getfield 38, 3) := dk_180 0 38 (dk_at dksX0_around_2 7 rfl rfl)
theorem dX0_around_56 : decode cX0_around 56 = .ok (.iload 4, 2) := dk_21 4 (dk_at dksX0_around_2 10 rfl rfl)
theorem dX0_around_58 : decode cX0_around 58 = .ok (.aaload, 1) := dk_50 (dk_at dksX0_around_2 12 rfl rfl)
theorem dX0_around_59 : decode cX0_around 59 = .ok (.getfield 42, 3) := dk_180 0 42 (dk_at dksX0_around_2 13 rfl rfl)
theorem dX0_around_62 : decode cX0_around 62 = .ok (.ifCond .ne 6, 3) := dk_154 0 6 (dk_at dksX0_around_2 16 rfl rfl)
theorem dX0_around_65 : decode cX0_around 65 = .ok (.goto 33, 3) := dk_167 0 33 (dk_at dksX0_around_2 19 rfl rfl)
theorem dX0_around_68 : decode cX0_around 68 = .ok (.iload_n 1, 1) := dk_27 (dk_at dksX0_around_2 22 rfl rfl)
theorem dX0_around_69 : decode cX0_around 69 = .ok (.iload_n 3, 1) := dk_29 (dk_at dksX0_around_2 23 rfl rfl)
theorem dX0_around_70 : decode cX0_around 70 = .ok (.ishr, 1) := dk_122 (dk_at dksX0_around_3 0 rfl rfl)
theorem dX0_around_71 : decode cX0_around 71 = .ok (.iconst 1, 1) := dk_4 (dk_at dksX0_around_3 1 rfl rfl)
theorem dX0_around_72 : decode cX0_around 72 = .ok (.iand, 1) := dk_126 (dk_at dksX0_around_3 2 rfl rfl)
theorem dX0_around_73 : decode cX0_around 73 = .ok (.iconst 1, 1) := dk_4 (dk_at dksX0_around_3 3 rfl rfl)
theorem dX0_around_74 : decode cX0_around 74 = .ok (.if_icmp .eq 13, 3) := dk_159 0 13 (dk_at dksX0_around_3 4 rfl rfl)
theorem dX0_around_77 : decode cX0_around 77 = .ok (.iload_n 1, 1) := dk_27 (dk_at dksX0_around_3 7 rfl rfl)
theorem dX0_around_78 : decode cX0_around 78 = .ok (.iload 4, 2) := dk_21 4 (dk_at dksX0_around_3 8 rfl rfl)
theorem dX0_around_80 : decode cX0_around 80 = .ok (.ishr, 1) := dk_122 (dk_at dksX0_around_3 10 rfl rfl)
theorem dX0_around_81 : decode cX0_around 81 = .ok (.iconst 1, 1) := dk_4 (dk_at dksX0_around_3 11 rfl rfl)
theorem dX0_around_82 : decode cX0_around 82 = .ok (.iand, 1) := dk_126 (dk_at dksX0_around_3 12 rfl rfl)
theorem dX0_around_83 : decode cX0_around 83 = .ok (.iconst 1, 1) := dk_4 (dk_at dksX0_around_3 13 rfl rfl)
theorem dX0_around_84 : decode cX0_around 84 = .ok (.if_icmp .ne 14, 3) := dk_160 0 14 (dk_at dksX0_around_3 14 rfl rfl)
theorem dX0_around_87 : decode cX0_around 87 = .ok (.iload_n 2, 1) := dk_28 (dk_at dksX0_around_3 17 rfl rfl)
theorem dX0_around_88 : decode cX0_around 88 = .ok (.iconst 1, 1) := dk_4 (dk_at dksX0_around_3 18 rfl rfl)
theorem dX0_around_89 : decode cX0_around 89 = .ok (.iload_n 3, 1) := dk_29 (dk_at dksX0_around_3 19 rfl rfl)
theorem dX0_around_90 : decode cX0_around 90 = .ok (.ishl, 1) := dk_120 (dk_at dksX0_around_3 20 rfl rfl)
theorem dX0_around_91 : decode cX0_around 91 = .ok (.iconst 1, 1) := dk_4 (dk_at dksX0_around_3 21 rfl rfl)
theorem dX0_around_92 : decode cX0_around 92 = .ok (.iload 4, 2) := dk_21 4 (dk_at dksX0_around_3 22 rfl rfl)
theorem dX0_around_94 : decode cX0_around 94 = .ok (.ishl, 1) := dk_120 (dk_at dksX0_around_4 0 rfl rfl)
theorem dX0_around_95 : decode cX0_around 95 = .ok (.ior, 1) := dk_128 (dk_at dksX0_around_4 1 rfl rfl)
theorem dX0_around_96 : decode cX0_around 96 = .ok (.ior, 1) := dk_128 (dk_at dksX0_around_4 2 rfl rfl)
theorem dX0_around_97 : decode cX0_around 97 = .ok (.istore_n 2, 1) := dk_61 (dk_at dksX0_around_4 3 rfl rfl)
theorem dX0_around_98 : decode cX0_around 98 = .ok (.iinc 3 1, 3) := dk_132 3 1 (dk_at dksX0_around_4 4 rfl rfl)
theorem dX0_around_101 : decode cX0_around 101 = .ok (.goto (-97), 3) := dk_167 255 159 (dk_at dksX0_around_4 7 rfl rfl)
theorem dX0_around_104 : decode cX0_around 104 = .ok (.iload_n 2, 1) := dk_28 (dk_at dksX0_around_4 10 rfl rfl)
theorem dX0_around_105 : decode cX0_around 105 = .ok (.ireturn, 1) := dk_172 (dk_at dksX0_around_4 11 rfl rfl)
abbrev cX0_feed : ByteArray := prog_1_method_29_code
def yX0_feed : MethodName := ⟨RX0, "feed", "(I)I"⟩
def dkwX0_feed_1 : List UInt8 := [167, 0, 7, 77, 16, 253, 172, 42, 89, 180, 0, 242, 4, 96, 181, 0, 242, 42, 180, 0, 242, 172]
abbrev dktX0_feed_1 : List UInt8 := dkwX0_feed_1 ++ []
def dkwX0_feed_0 : List UInt8 := [27, 3, 17, 0, 255, 184, 0, 55, 154, 0, 5, 2, 172, 42, 180, 0, 22, 42, 180, 0, 242, 27, 145, 84]
abbrev dktX0_feed_0 : List UInt8 := dkwX0_feed_0 ++ dktX0_feed_1
theorem dksX0_feed_0 : cX0_feed.data.toList.drop 0 = dktX0_feed_0 := by decide +kernel
theorem dksX0_feed_1 : cX0_feed.data.toList.drop 24 = dktX0_feed_1 := dk_seg dksX0_feed_0 24 rfl rfl
theorem dX0_feed_0 : decode cX0_feed 0 = .ok (.iload_n 1, 1) := dk_27 (dk_at dksX0_feed_0 0 rfl rfl)
theorem dX0_feed_1 : decode cX0_feed 1 = .ok (.iconst 0, 1) := dk_3 (dk_at dksX0_feed_0 1 rfl rfl)
theorem dX0_feed_2 : decode cX0_feed 2 = .ok (.sipush 255, 3) := dk_17 0 255 (dk_at dksX0_feed_0 2 rfl rfl)
theorem dX0_feed_5 : decode cX0_feed 5 = .ok (.invokestatic 55, 3) := dk_184 0 55 (dk_at dksX0_feed_0 5 rfl rfl)
theorem dX0_feed_8 : decode cX0_feed 8 = .ok (.ifCond .ne 5, 3) := dk_154 0 5 (dk_at dksX0_feed_0 8 rfl rfl)
theorem dX0_feed_11 : decode cX0_feed 11 = .ok (.iconst (-1), 1) := dk_2 (dk_at dksX0_feed_0 11 rfl rfl)
theorem dX0_feed_12 : decode cX0_feed 12 = .ok (.ireturn, 1) := dk_172 (dk_at dksX0_feed_0 12 rfl rfl)
theorem dX0_feed_13 : decode cX0_feed 13 = .ok (.aload_n 0, 1) := dk_42 (dk_at dksX0_feed_0 13 rfl rfl)
theorem dX0_feed_14 : decode cX0_feed 14 = .ok (.getfield 22, 3) := dk_180 0 22 (dk_at dksX0_feed_0 14 rfl rfl)
theorem dX0_feed_17 : decode cX0_feed 17 = .ok (.aload_n 0, 1) := dk_42 (dk_at dksX0_feed_0 17 rfl rfl)
theorem dX0_feed_18 : decode cX0_feed 18 = .ok (.getfield 242, 3) := dk_180 0 242 (dk_at dksX0_feed_0 18 rfl rfl)
theorem dX0_feed_21 : decode cX0_feed 21 = .ok (.iload_n 1, 1) := dk_27 (dk_at dksX0_feed_0 21 rfl rfl)
theorem dX0_feed_22 : decode cX0_feed 22 = .ok (.i2b, 1) := dk_145 (dk_at dksX0_feed_0 22 rfl rfl)
theorem dX0_feed_23 : decode cX0_feed 23 = .ok (.bastore, 1) := dk_84 (dk_at dksX0_feed_0 23 rfl rfl)
theorem dX0_feed_24 : decode cX0_feed 24 = .ok (.goto 7, 3) := dk_167 0 7 (dk_at dksX0_feed_1 0 rfl rfl)
theorem dX0_feed_27 : decode cX0_feed 27 = .ok (.astore_n 2, 1) := dk_77 (dk_at dksX0_feed_1 3 rfl rfl)
theorem dX0_feed_28 : decode cX0_feed 28 = .ok (.bipush (-3), 2) := dk_16 253 (dk_at dksX0_feed_1 4 rfl rfl)
theorem dX0_feed_30 : decode cX0_feed 30 = .ok (.ireturn, 1) := dk_172 (dk_at dksX0_feed_1 6 rfl rfl)
theorem dX0_feed_31 : decode cX0_feed 31 = .ok (.aload_n 0, 1) := dk_42 (dk_at dksX0_feed_1 7 rfl rfl)
theorem dX0_feed_32 : decode cX0_feed 32 = .ok (.dup, 1) := dk_89 (dk_at dksX0_feed_1 8 rfl rfl)
theorem dX0_feed_33 : decode cX0_feed 33 = .ok (.getfield 242, 3) := dk_180 0 242 (dk_at dksX0_feed_1 9 rfl rfl)
theorem dX0_feed_36 : decode cX0_feed 36 = .ok (.iconst 1, 1) := dk_4 (dk_at dksX0_feed_1 12 rfl rfl)
theorem dX0_feed_37 : decode cX0_feed 37 = .ok (.iadd, 1) := dk_96 (dk_at dksX0_feed_1 13 rfl rfl)
theorem dX0_feed_38 : decode cX0_feed 38 = .ok (.putfield 242, 3) := dk_181 0 242 (dk_at dksX0_feed_1 14 rfl rfl)
theorem dX0_feed_41 : decode cX0_feed 41 = .ok (.aload_n 0, 1) := dk_42 (dk_at dksX0_feed_1 17 rfl rfl)
theorem dX0_feed_42 : decode cX0_feed 42 = .ok (.getfield 242, 3) := dk_180 0 242 (dk_at dksX0_feed_1 18 rfl rfl)
theorem dX0_feed_45 : decode cX0_feed 45 = .ok (.ireturn, 1) := dk_172 (dk_at dksX0_feed_1 21 rfl rfl)
abbrev cX0_script : ByteArray := prog_1_method_30_code
def yX0_script : MethodName := ⟨RX0, "script", "()I"⟩
def dkwX0_script_4 : List UInt8 := [29, 154, 0, 8, 42, 44, 181, 0, 16, 25, 6, 191]
abbrev dktX0_script_4 : List UInt8 := dkwX0_script_4 ++ []
def dkwX0_script_3 : List UInt8 := [42, 3, 181, 0, 242, 29, 154, 0, 8, 42, 44, 181, 0, 16, 21, 5, 172, 58, 6, 42, 3, 181, 0, 242]
abbrev dktX0_script_3 : List UInt8 := dkwX0_script_3 ++ dktX0_script_4
def dkwX0_script_2 : List UInt8 := [181, 0, 242, 29, 154, 0, 8, 42, 44, 181, 0, 16, 21, 4, 172, 58, 4, 25, 4, 180, 1, 5, 54, 5]
abbrev dktX0_script_2 : List UInt8 := dkwX0_script_2 ++ dktX0_script_3
def dkwX0_script_1 : List UInt8 := [3, 62, 43, 182, 0, 252, 43, 42, 180, 0, 16, 182, 0, 255, 4, 62, 43, 180, 1, 2, 54, 4, 42, 3]
abbrev dktX0_script_1 : List UInt8 := dkwX0_script_1 ++ dktX0_script_2
def dkwX0_script_0 : List UInt8 := [187, 0, 247, 89, 42, 180, 0, 22, 42, 180, 0, 242, 183, 0, 249, 76, 42, 180, 0, 16, 182, 0, 205, 77]
abbrev dktX0_script_0 : List UInt8 := dkwX0_script_0 ++ dktX0_script_1
theorem dksX0_script_0 : cX0_script.data.toList.drop 0 = dktX0_script_0 := by decide +kernel
theorem dksX0_script_1 : cX0_script.data.toList.drop 24 = dktX0_script_1 := dk_seg dksX0_script_0 24 rfl rfl
theorem dksX0_script_2 : cX0_script.data.toList.drop 48 = dktX0_script_2 := dk_seg dksX0_script_1 24 rfl rfl
theorem dksX0_script_3 : cX0_script.data.toList.drop 72 = dktX0_script_3 := dk_seg dksX0_script_2 24 rfl rfl
theorem dksX0_script_4 : cX0_script.data.toList.drop 96 = dktX0_script_4 := dk_seg dksX0_script_3 24 rfl rfl
theorem dX0_script_0 : decode cX0_script 0 = .ok (.new 247, 3) := dk_187 0 247 (dk_at dksX0_script_0 0 rfl rfl)
theorem dX0_script_3 : decode cX0_script 3 = .ok (.dup, 1) := dk_89 (dk_at dksX0_script_0 3 rfl rfl)
theorem dX0_script_4 : decode cX0_script 4 = .ok (.aload_n 0, 1) := dk_42 (dk_at dksX0_script_0 4 rfl rfl)
theorem dX0_script_5 : decode cX0_script 5 = .ok (.getfield 22, 3) := dk_180 0 22 (dk_at dksX0_script_0 5 rfl rfl)
theorem dX0_script_8 : decode cX0_script 8 = .ok (.aload_n 0, 1) := dk_42 (dk_at dksX0_script_0 8 rfl rfl)
theorem dX0_script_9 : decode cX0_script 9 = .ok (.getfield 242, 3) := dk_180 0 242 (dk_at dksX0_script_0 9 rfl rfl)
theorem dX0_script_12 : decode cX0_script 12 = .ok (.invokespecial 249, 3) := dk_183 0 249 (dk_at dksX0_script_0 12 rfl rfl)
theorem dX0_script_15 : decode cX0_script 15 = .ok (.astore_n 1, 1) := dk_76 (dk_at dksX0_script_0 15 rfl rfl)
theorem dX0_script_16 : decode cX0_script 16 = .ok (.aload_n 0, 1) := dk_42 (dk_at dksX0_script_0 16 rfl rfl)
theorem dX0_script_17 : decode cX0_script 17 = .ok (.getfield 16, 3) := dk_180 0 16 (dk_at dksX0_script_0 17 rfl rfl)
theorem dX0_script_20 : decode cX0_script 20 = .ok (.invokevirtual 205, 3) := dk_182 0 205 (dk_at dksX0_script_0 20 rfl rfl)
theorem dX0_script_23 : decode cX0_script 23 = .ok (.astore_n 2, 1) := dk_77 (dk_at dksX0_script_0 23 rfl rfl)
theorem dX0_script_24 : decode cX0_script 24 = .ok (.iconst 0, 1) := dk_3 (dk_at dksX0_script_1 0 rfl rfl)
theorem dX0_script_25 : decode cX0_script 25 = .ok (.istore_n 3, 1) := dk_62 (dk_at dksX0_script_1 1 rfl rfl)
theorem dX0_script_26 : decode cX0_script 26 = .ok (.aload_n 1, 1) := dk_43 (dk_at dksX0_script_1 2 rfl rfl)
theorem dX0_script_27 : decode cX0_script 27 = .ok (.invokevirtual 252, 3) := dk_182 0 252 (dk_at dksX0_script_1 3 rfl rfl)
theorem dX0_script_30 : decode cX0_script 30 = .ok (.aload_n 1, 1) := dk_43 (dk_at dksX0_script_1 6 rfl rfl)
theorem dX0_script_31 : decode cX0_script 31 = .ok (.aload_n 0, 1) := dk_42 (dk_at dksX0_script_1 7 rfl rfl)
theorem dX0_script_32 : decode cX0_script 32 = .ok (.getfield 16, 3) := dk_180 0 16 (dk_at dksX0_script_1 8 rfl rfl)
theorem dX0_script_35 : decode cX0_script 35 = .ok (.invokevirtual 255, 3) := dk_182 0 255 (dk_at dksX0_script_1 11 rfl rfl)
theorem dX0_script_38 : decode cX0_script 38 = .ok (.iconst 1, 1) := dk_4 (dk_at dksX0_script_1 14 rfl rfl)
theorem dX0_script_39 : decode cX0_script 39 = .ok (.istore_n 3, 1) := dk_62 (dk_at dksX0_script_1 15 rfl rfl)
theorem dX0_script_40 : decode cX0_script 40 = .ok (.aload_n 1, 1) := dk_43 (dk_at dksX0_script_1 16 rfl rfl)
theorem dX0_script_41 : decode cX0_script 41 = .ok (.getfield 258, 3) := dk_180 1 2 (dk_at dksX0_script_1 17 rfl rfl)
theorem dX0_script_44 : decode cX0_script 44 = .ok (.istore 4, 2) := dk_54 4 (dk_at dksX0_script_1 20 rfl rfl)
theorem dX0_script_46 : decode cX0_script 46 = .ok (.aload_n 0, 1) := dk_42 (dk_at dksX0_script_1 22 rfl rfl)
theorem dX0_script_47 : decode cX0_script 47 = .ok (.iconst 0, 1) := dk_3 (dk_at dksX0_script_1 23 rfl rfl)
theorem dX0_script_48 : decode cX0_script 48 = .ok (.putfield 242, 3) := dk_181 0 242 (dk_at dksX0_script_2 0 rfl rfl)
theorem dX0_script_51 : decode cX0_script 51 = .ok (.iload_n 3, 1) := dk_29 (dk_at dksX0_script_2 3 rfl rfl)
theorem dX0_script_52 : decode cX0_script 52 = .ok (.ifCond .ne 8, 3) := dk_154 0 8 (dk_at dksX0_script_2 4 rfl rfl)
theorem dX0_script_55 : decode cX0_script 55 = .ok (.aload_n 0, 1) := dk_42 (dk_at dksX0_script_2 7 rfl rfl)
theorem dX0_script_56 : decode cX0_script 56 = .ok (.aload_n 2, 1) := dk_44 (dk_at dksX0_script_2 8 rfl rfl)
theorem dX0_script_57 : decode cX0_script 57 = .ok (.putfield 16, 3) := dk_181 0 16 (dk_at dksX0_script_2 9 rfl rfl)
theorem dX0_script_60 : decode cX0_script 60 = .ok (.iload 4, 2) := dk_21 4 (dk_at dksX0_script_2 12 rfl rfl)
theorem dX0_script_62 : decode cX0_script 62 = .ok (.ireturn, 1) := dk_172 (dk_at dksX0_script_2 14 rfl rfl)
theorem dX0_script_63 : decode cX0_script 63 = .ok (.astore 4, 2) := dk_58 4 (dk_at dksX0_script_2 15 rfl rfl)
theorem dX0_script_65 : decode cX0_script 65 = .ok (.aload 4, 2) := dk_25 4 (dk_at dksX0_script_2 17 rfl rfl)
theorem dX0_script_67 : decode cX0_script 67 = .ok (.getfield 261, 3) := dk_180 1 5 (dk_at dksX0_script_2 19 rfl rfl)
theorem dX0_script_70 : decode cX0_script 70 = .ok (.istore 5, 2) := dk_54 5 (dk_at dksX0_script_2 22 rfl rfl)
theorem dX0_script_72 : decode cX0_script 72 = .ok (.aload_n 0, 1) := dk_42 (dk_at dksX0_script_3 0 rfl rfl)
theorem dX0_script_73 : decode cX0_script 73 = .ok (.iconst 0, 1) := dk_3 (dk_at dksX0_script_3 1 rfl rfl)
theorem dX0_script_74 : decode cX0_script 74 = .ok (.putfield 242, 3) := dk_181 0 242 (dk_at dksX0_script_3 2 rfl rfl)
theorem dX0_script_77 : decode cX0_script 77 = .ok (.iload_n 3, 1) := dk_29 (dk_at dksX0_script_3 5 rfl rfl)
theorem dX0_script_78 : decode cX0_script 78 = .ok (.ifCond .ne 8, 3) := dk_154 0 8 (dk_at dksX0_script_3 6 rfl rfl)
theorem dX0_script_81 : decode cX0_script 81 = .ok (.aload_n 0, 1) := dk_42 (dk_at dksX0_script_3 9 rfl rfl)
theorem dX0_script_82 : decode cX0_script 82 = .ok (.aload_n 2, 1) := dk_44 (dk_at dksX0_script_3 10 rfl rfl)
theorem dX0_script_83 : decode cX0_script 83 = .ok (.putfield 16, 3) := dk_181 0 16 (dk_at dksX0_script_3 11 rfl rfl)
theorem dX0_script_86 : decode cX0_script 86 = .ok (.iload 5, 2) := dk_21 5 (dk_at dksX0_script_3 14 rfl rfl)
theorem dX0_script_88 : decode cX0_script 88 = .ok (.ireturn, 1) := dk_172 (dk_at dksX0_script_3 16 rfl rfl)
theorem dX0_script_89 : decode cX0_script 89 = .ok (.astore 6, 2) := dk_58 6 (dk_at dksX0_script_3 17 rfl rfl)
theorem dX0_script_91 : decode cX0_script 91 = .ok (.aload_n 0, 1) := dk_42 (dk_at dksX0_script_3 19 rfl rfl)
theorem dX0_script_92 : decode cX0_script 92 = .ok (.iconst 0, 1) := dk_3 (dk_at dksX0_script_3 20 rfl rfl)
theorem dX0_script_93 : decode cX0_script 93 = .ok (.putfield 242, 3) := dk_181 0 242 (dk_at dksX0_script_3 21 rfl rfl)
theorem dX0_script_96 : decode cX0_script 96 = .ok (.iload_n 3, 1) := dk_29 (dk_at dksX0_script_4 0 rfl rfl)
theorem dX0_script_97 : decode cX0_script 97 = .ok (.ifCond .ne 8, 3) := dk_154 0 8 (dk_at dksX0_script_4 1 rfl rfl)
theorem dX0_script_100 : decode cX0_script 100 = .ok (.aload_n 0, 1) := dk_42 (dk_at dksX0_script_4 4 rfl rfl)
theorem dX0_script_101 : decode cX0_script 101 = .ok (.aload_n 2, 1) := dk_44 (dk_at dksX0_script_4 5 rfl rfl)
theorem dX0_script_102 : decode cX0_script 102 = .ok (.putfield 16, 3) := dk_181 0 16 (dk_at dksX0_script_4 6 rfl rfl)
theorem dX0_script_105 : decode cX0_script 105 = .ok (.aload 6, 2) := dk_25 6 (dk_at dksX0_script_4 9 rfl rfl)
theorem dX0_script_107 : decode cX0_script 107 = .ok (.athrow, 1) := dk_191 (dk_at dksX0_script_4 11 rfl rfl)
abbrev cX0_drawn : ByteArray := prog_1_method_31_code
def yX0_drawn : MethodName := ⟨RX0, "drawn", "(I)I"⟩
def dkwX0_drawn_5 : List UInt8 := [183, 0, 61, 182, 0, 64, 87, 132, 3, 1, 167, 255, 164, 42, 180, 0, 16, 180, 0, 209, 28, 100, 172]
abbrev dktX0_drawn_5 : List UInt8 := dkwX0_drawn_5 ++ []
def dkwX0_drawn_4 : List UInt8 := [180, 0, 30, 112, 50, 187, 0, 59, 89, 2, 21, 4, 16, 12, 108, 17, 0, 199, 112, 16, 99, 100]
abbrev dktX0_drawn_4 : List UInt8 := dkwX0_drawn_4 ++ dktX0_drawn_5
def dkwX0_drawn_3 : List UInt8 := [17, 127, 255, 126, 54, 4, 42, 180, 0, 16, 42, 180, 0, 16, 180, 0, 38, 21, 4, 42, 180, 0, 16]
abbrev dktX0_drawn_3 : List UInt8 := dkwX0_drawn_3 ++ dktX0_drawn_4
def dkwX0_drawn_2 : List UInt8 := [180, 1, 8, 19, 1, 11, 104, 17, 48, 57, 96, 181, 1, 8, 42, 180, 0, 16, 180, 1, 8, 16, 16, 124]
abbrev dktX0_drawn_2 : List UInt8 := dkwX0_drawn_2 ++ dktX0_drawn_3
def dkwX0_drawn_1 : List UInt8 := [172, 42, 180, 0, 16, 180, 0, 209, 61, 3, 62, 29, 27, 162, 0, 93, 42, 180, 0, 16, 42, 180, 0, 16]
abbrev dktX0_drawn_1 : List UInt8 := dkwX0_drawn_1 ++ dktX0_drawn_2
def dkwX0_drawn_0 : List UInt8 := [27, 4, 16, 40, 184, 0, 55, 154, 0, 5, 2, 172, 42, 180, 0, 16, 180, 0, 30, 154, 0, 6, 16, 251]
abbrev dktX0_drawn_0 : List UInt8 := dkwX0_drawn_0 ++ dktX0_drawn_1
theorem dksX0_drawn_0 : cX0_drawn.data.toList.drop 0 = dktX0_drawn_0 := by decide +kernel
theorem dksX0_drawn_1 : cX0_drawn.data.toList.drop 24 = dktX0_drawn_1 := dk_seg dksX0_drawn_0 24 rfl rfl
theorem dksX0_drawn_2 : cX0_drawn.data.toList.drop 48 = dktX0_drawn_2 := dk_seg dksX0_drawn_1 24 rfl rfl
theorem dksX0_drawn_3 : cX0_drawn.data.toList.drop 72 = dktX0_drawn_3 := dk_seg dksX0_drawn_2 24 rfl rfl
theorem dksX0_drawn_4 : cX0_drawn.data.toList.drop 95 = dktX0_drawn_4 := dk_seg dksX0_drawn_3 23 rfl rfl
theorem dksX0_drawn_5 : cX0_drawn.data.toList.drop 117 = dktX0_drawn_5 := dk_seg dksX0_drawn_4 22 rfl rfl
theorem dX0_drawn_0 : decode cX0_drawn 0 = .ok (.iload_n 1, 1) := dk_27 (dk_at dksX0_drawn_0 0 rfl rfl)
theorem dX0_drawn_1 : decode cX0_drawn 1 = .ok (.iconst 1, 1) := dk_4 (dk_at dksX0_drawn_0 1 rfl rfl)
theorem dX0_drawn_2 : decode cX0_drawn 2 = .ok (.bipush 40, 2) := dk_16 40 (dk_at dksX0_drawn_0 2 rfl rfl)
theorem dX0_drawn_4 : decode cX0_drawn 4 = .ok (.invokestatic 55, 3) := dk_184 0 55 (dk_at dksX0_drawn_0 4 rfl rfl)
theorem dX0_drawn_7 : decode cX0_drawn 7 = .ok (.ifCond .ne 5, 3) := dk_154 0 5 (dk_at dksX0_drawn_0 7 rfl rfl)
theorem dX0_drawn_10 : decode cX0_drawn 10 = .ok (.iconst (-1), 1) := dk_2 (dk_at dksX0_drawn_0 10 rfl rfl)
theorem dX0_drawn_11 : decode cX0_drawn 11 = .ok (.ireturn, 1) := dk_172 (dk_at dksX0_drawn_0 11 rfl rfl)
theorem dX0_drawn_12 : decode cX0_drawn 12 = .ok (.aload_n 0, 1) := dk_42 (dk_at dksX0_drawn_0 12 rfl rfl)
theorem dX0_drawn_13 : decode cX0_drawn 13 = .ok (.getfield 16, 3) := dk_180 0 16 (dk_at dksX0_drawn_0 13 rfl rfl)
theorem dX0_drawn_16 : decode cX0_drawn 16 = .ok (.getfield 30, 3) := dk_180 0 30 (dk_at dksX0_drawn_0 16 rfl rfl)
theorem dX0_drawn_19 : decode cX0_drawn 19 = .ok (.ifCond .ne 6, 3) := dk_154 0 6 (dk_at dksX0_drawn_0 19 rfl rfl)
theorem dX0_drawn_22 : decode cX0_drawn 22 = .ok (.bipush (-5), 2) := dk_16 251 (dk_at dksX0_drawn_0 22 rfl rfl)
theorem dX0_drawn_24 : decode cX0_drawn 24 = .ok (.ireturn, 1) := dk_172 (dk_at dksX0_drawn_1 0 rfl rfl)
theorem dX0_drawn_25 : decode cX0_drawn 25 = .ok (.aload_n 0, 1) := dk_42 (dk_at dksX0_drawn_1 1 rfl rfl)
theorem dX0_drawn_26 : decode cX0_drawn 26 = .ok (.getfield 16, 3) := dk_180 0 16 (dk_at dksX0_drawn_1 2 rfl rfl)
theorem dX0_drawn_29 : decode cX0_drawn 29 = .ok (.getfield 209, 3) := dk_180 0 209 (dk_at dksX0_drawn_1 5 rfl rfl)
theorem dX0_drawn_32 : decode cX0_drawn 32 = .ok (.istore_n 2, 1) := dk_61 (dk_at dksX0_drawn_1 8 rfl rfl)
theorem dX0_drawn_33 : decode cX0_drawn 33 = .ok (.iconst 0, 1) := dk_3 (dk_at dksX0_drawn_1 9 rfl rfl)
theorem dX0_drawn_34 : decode cX0_drawn 34 = .ok (.istore_n 3, 1) := dk_62 (dk_at dksX0_drawn_1 10 rfl rfl)
theorem dX0_drawn_35 : decode cX0_drawn 35 = .ok (.iload_n 3, 1) := dk_29 (dk_at dksX0_drawn_1 11 rfl rfl)
theorem dX0_drawn_36 : decode cX0_drawn 36 = .ok (.iload_n 1, 1) := dk_27 (dk_at dksX0_drawn_1 12 rfl rfl)
theorem dX0_drawn_37 : decode cX0_drawn 37 = .ok (.if_icmp .ge 93, 3) := dk_162 0 93 (dk_at dksX0_drawn_1 13 rfl rfl)
theorem dX0_drawn_40 : decode cX0_drawn 40 = .ok (.aload_n 0, 1) := dk_42 (dk_at dksX0_drawn_1 16 rfl rfl)
theorem dX0_drawn_41 : decode cX0_drawn 41 = .ok (.getfield 16, 3) := dk_180 0 16 (dk_at dksX0_drawn_1 17 rfl rfl)
theorem dX0_drawn_44 : decode cX0_drawn 44 = .ok (.aload_n 0, 1) := dk_42 (dk_at dksX0_drawn_1 20 rfl rfl)
theorem dX0_drawn_45 : decode cX0_drawn 45 = .ok (.getfield 16, 3) := dk_180 0 16 (dk_at dksX0_drawn_1 21 rfl rfl)
theorem dX0_drawn_48 : decode cX0_drawn 48 = .ok (.getfield 264, 3) := dk_180 1 8 (dk_at dksX0_drawn_2 0 rfl rfl)
theorem dX0_drawn_51 : decode cX0_drawn 51 = .ok (.ldc_w 267, 3) := dk_19 1 11 (dk_at dksX0_drawn_2 3 rfl rfl)
theorem dX0_drawn_54 : decode cX0_drawn 54 = .ok (.imul, 1) := dk_104 (dk_at dksX0_drawn_2 6 rfl rfl)
theorem dX0_drawn_55 : decode cX0_drawn 55 = .ok (.sipush 12345, 3) := dk_17 48 57 (dk_at dksX0_drawn_2 7 rfl rfl)
theorem dX0_drawn_58 : decode cX0_drawn 58 = .ok (.iadd, 1) := dk_96 (dk_at dksX0_drawn_2 10 rfl rfl)
theorem dX0_drawn_59 : decode cX0_drawn 59 = .ok (.putfield 264, 3) := dk_181 1 8 (dk_at dksX0_drawn_2 11 rfl rfl)
theorem dX0_drawn_62 : decode cX0_drawn 62 = .ok (.aload_n 0, 1) := dk_42 (dk_at dksX0_drawn_2 14 rfl rfl)
theorem dX0_drawn_63 : decode cX0_drawn 63 = .ok (.getfield 16, 3) := dk_180 0 16 (dk_at dksX0_drawn_2 15 rfl rfl)
theorem dX0_drawn_66 : decode cX0_drawn 66 = .ok (.getfield 264, 3) := dk_180 1 8 (dk_at dksX0_drawn_2 18 rfl rfl)
theorem dX0_drawn_69 : decode cX0_drawn 69 = .ok (.bipush 16, 2) := dk_16 16 (dk_at dksX0_drawn_2 21 rfl rfl)
theorem dX0_drawn_71 : decode cX0_drawn 71 = .ok (.iushr, 1) := dk_124 (dk_at dksX0_drawn_2 23 rfl rfl)
theorem dX0_drawn_72 : decode cX0_drawn 72 = .ok (.sipush 32767, 3) := dk_17 127 255 (dk_at dksX0_drawn_3 0 rfl rfl)
theorem dX0_drawn_75 : decode cX0_drawn 75 = .ok (.iand, 1) := dk_126 (dk_at dksX0_drawn_3 3 rfl rfl)
theorem dX0_drawn_76 : decode cX0_drawn 76 = .ok (.istore 4, 2) := dk_54 4 (dk_at dksX0_drawn_3 4 rfl rfl)
theorem dX0_drawn_78 : decode cX0_drawn 78 = .ok (.aload_n 0, 1) := dk_42 (dk_at dksX0_drawn_3 6 rfl rfl)
theorem dX0_drawn_79 : decode cX0_drawn 79 = .ok (.getfield 16, 3) := dk_180 0 16 (dk_at dksX0_drawn_3 7 rfl rfl)
theorem dX0_drawn_82 : decode cX0_drawn 82 = .ok (.aload_n 0, 1) := dk_42 (dk_at dksX0_drawn_3 10 rfl rfl)
theorem dX0_drawn_83 : decode cX0_drawn 83 = .ok (.getfield 16, 3) := dk_180 0 16 (dk_at dksX0_drawn_3 11 rfl rfl)
theorem dX0_drawn_86 : decode cX0_drawn 86 = .ok (.getfield 38, 3) := dk_180 0 38 (dk_at dksX0_drawn_3 14 rfl rfl)
theorem dX0_drawn_89 : decode cX0_drawn 89 = .ok (.iload 4, 2) := dk_21 4 (dk_at dksX0_drawn_3 17 rfl rfl)
theorem dX0_drawn_91 : decode cX0_drawn 91 = .ok (.aload_n 0, 1) := dk_42 (dk_at dksX0_drawn_3 19 rfl rfl)
theorem dX0_drawn_92 : decode cX0_drawn 92 = .ok (.getfield 16, 3) := dk_180 0 16 (dk_at dksX0_drawn_3 20 rfl rfl)
theorem dX0_drawn_95 : decode cX0_drawn 95 = .ok (.getfield 30, 3) := dk_180 0 30 (dk_at dksX0_drawn_4 0 rfl rfl)
theorem dX0_drawn_98 : decode cX0_drawn 98 = .ok (.irem, 1) := dk_112 (dk_at dksX0_drawn_4 3 rfl rfl)
theorem dX0_drawn_99 : decode cX0_drawn 99 = .ok (.aaload, 1) := dk_50 (dk_at dksX0_drawn_4 4 rfl rfl)
theorem dX0_drawn_100 : decode cX0_drawn 100 = .ok (.new 59, 3) := dk_187 0 59 (dk_at dksX0_drawn_4 5 rfl rfl)
theorem dX0_drawn_103 : decode cX0_drawn 103 = .ok (.dup, 1) := dk_89 (dk_at dksX0_drawn_4 8 rfl rfl)
theorem dX0_drawn_104 : decode cX0_drawn 104 = .ok (.iconst (-1), 1) := dk_2 (dk_at dksX0_drawn_4 9 rfl rfl)
theorem dX0_drawn_105 : decode cX0_drawn 105 = .ok (.iload 4, 2) := dk_21 4 (dk_at dksX0_drawn_4 10 rfl rfl)
theorem dX0_drawn_107 : decode cX0_drawn 107 = .ok (.bipush 12, 2) := dk_16 12 (dk_at dksX0_drawn_4 12 rfl rfl)
theorem dX0_drawn_109 : decode cX0_drawn 109 = .ok (.idiv, 1) := dk_108 (dk_at dksX0_drawn_4 14 rfl rfl)
theorem dX0_drawn_110 : decode cX0_drawn 110 = .ok (.sipush 199, 3) := dk_17 0 199 (dk_at dksX0_drawn_4 15 rfl rfl)
theorem dX0_drawn_113 : decode cX0_drawn 113 = .ok (.irem, 1) := dk_112 (dk_at dksX0_drawn_4 18 rfl rfl)
theorem dX0_drawn_114 : decode cX0_drawn 114 = .ok (.bipush 99, 2) := dk_16 99 (dk_at dksX0_drawn_4 19 rfl rfl)
theorem dX0_drawn_116 : decode cX0_drawn 116 = .ok (.isub, 1) := dk_100 (dk_at dksX0_drawn_4 21 rfl rfl)
theorem dX0_drawn_117 : decode cX0_drawn 117 = .ok (.invokespecial 61, 3) := dk_183 0 61 (dk_at dksX0_drawn_5 0 rfl rfl)
theorem dX0_drawn_120 : decode cX0_drawn 120 = .ok (.invokevirtual 64, 3) := dk_182 0 64 (dk_at dksX0_drawn_5 3 rfl rfl)
theorem dX0_drawn_123 : decode cX0_drawn 123 = .ok (.pop, 1) := dk_87 (dk_at dksX0_drawn_5 6 rfl rfl)
theorem dX0_drawn_124 : decode cX0_drawn 124 = .ok (.iinc 3 1, 3) := dk_132 3 1 (dk_at dksX0_drawn_5 7 rfl rfl)
theorem dX0_drawn_127 : decode cX0_drawn 127 = .ok (.goto (-92), 3) := dk_167 255 164 (dk_at dksX0_drawn_5 10 rfl rfl)
theorem dX0_drawn_130 : decode cX0_drawn 130 = .ok (.aload_n 0, 1) := dk_42 (dk_at dksX0_drawn_5 13 rfl rfl)
theorem dX0_drawn_131 : decode cX0_drawn 131 = .ok (.getfield 16, 3) := dk_180 0 16 (dk_at dksX0_drawn_5 14 rfl rfl)
theorem dX0_drawn_134 : decode cX0_drawn 134 = .ok (.getfield 209, 3) := dk_180 0 209 (dk_at dksX0_drawn_5 17 rfl rfl)
theorem dX0_drawn_137 : decode cX0_drawn 137 = .ok (.iload_n 2, 1) := dk_28 (dk_at dksX0_drawn_5 20 rfl rfl)
theorem dX0_drawn_138 : decode cX0_drawn 138 = .ok (.isub, 1) := dk_100 (dk_at dksX0_drawn_5 21 rfl rfl)
theorem dX0_drawn_139 : decode cX0_drawn 139 = .ok (.ireturn, 1) := dk_172 (dk_at dksX0_drawn_5 22 rfl rfl)
abbrev cX0_seed : ByteArray := prog_1_method_32_code
def yX0_seed : MethodName := ⟨RX0, "seed", "(I)I"⟩
def dkwX0_seed_0 : List UInt8 := [42, 180, 0, 16, 180, 1, 8, 61, 42, 180, 0, 16, 27, 181, 1, 8, 28, 172]
abbrev dktX0_seed_0 : List UInt8 := dkwX0_seed_0 ++ []
theorem dksX0_seed_0 : cX0_seed.data.toList.drop 0 = dktX0_seed_0 := by decide +kernel
theorem dX0_seed_0 : decode cX0_seed 0 = .ok (.aload_n 0, 1) := dk_42 (dk_at dksX0_seed_0 0 rfl rfl)
theorem dX0_seed_1 : decode cX0_seed 1 = .ok (.getfield 16, 3) := dk_180 0 16 (dk_at dksX0_seed_0 1 rfl rfl)
theorem dX0_seed_4 : decode cX0_seed 4 = .ok (.getfield 264, 3) := dk_180 1 8 (dk_at dksX0_seed_0 4 rfl rfl)
theorem dX0_seed_7 : decode cX0_seed 7 = .ok (.istore_n 2, 1) := dk_61 (dk_at dksX0_seed_0 7 rfl rfl)
theorem dX0_seed_8 : decode cX0_seed 8 = .ok (.aload_n 0, 1) := dk_42 (dk_at dksX0_seed_0 8 rfl rfl)
theorem dX0_seed_9 : decode cX0_seed 9 = .ok (.getfield 16, 3) := dk_180 0 16 (dk_at dksX0_seed_0 9 rfl rfl)
theorem dX0_seed_12 : decode cX0_seed 12 = .ok (.iload_n 1, 1) := dk_27 (dk_at dksX0_seed_0 12 rfl rfl)
theorem dX0_seed_13 : decode cX0_seed 13 = .ok (.putfield 264, 3) := dk_181 1 8 (dk_at dksX0_seed_0 13 rfl rfl)
theorem dX0_seed_16 : decode cX0_seed 16 = .ok (.iload_n 2, 1) := dk_28 (dk_at dksX0_seed_0 16 rfl rfl)
theorem dX0_seed_17 : decode cX0_seed 17 = .ok (.ireturn, 1) := dk_172 (dk_at dksX0_seed_0 17 rfl rfl)
abbrev cX0_order : ByteArray := prog_1_method_34_code
def yX0_order : MethodName := ⟨RX0, "order", "(II)I"⟩
def dkwX0_order_6 : List UInt8 := [16, 245, 172, 78, 16, 244, 172]
abbrev dktX0_order_6 : List UInt8 := dkwX0_order_6 ++ []
def dkwX0_order_5 : List UInt8 := [17, 3, 232, 112, 17, 1, 44, 100, 159, 0, 6, 21, 7, 172, 132, 7, 1, 167, 255, 192, 16, 254, 172, 78]
abbrev dktX0_order_5 : List UInt8 := dkwX0_order_5 ++ dktX0_order_6
def dkwX0_order_4 : List UInt8 := [21, 7, 104, 46, 21, 8, 17, 3, 232, 108, 160, 0, 24, 45, 5, 21, 7, 104, 4, 96, 46, 21, 8]
abbrev dktX0_order_4 : List UInt8 := dkwX0_order_4 ++ dktX0_order_5
def dkwX0_order_3 : List UInt8 := [21, 7, 28, 162, 0, 64, 25, 5, 25, 6, 184, 1, 15, 54, 8, 21, 8, 16, 254, 159, 0, 39, 45, 5]
abbrev dktX0_order_3 : List UInt8 := dkwX0_order_3 ++ dktX0_order_4
def dkwX0_order_2 : List UInt8 := [172, 42, 180, 0, 16, 182, 0, 205, 58, 5, 4, 188, 10, 89, 3, 17, 0, 200, 79, 58, 6, 3, 54, 7]
abbrev dktX0_order_2 : List UInt8 := dkwX0_order_2 ++ dktX0_order_3
def dkwX0_order_1 : List UInt8 := [54, 4, 28, 156, 0, 6, 16, 242, 172, 20, 1, 13, 28, 133, 105, 21, 4, 133, 148, 158, 0, 6, 16, 243]
abbrev dktX0_order_1 : List UInt8 := dkwX0_order_1 ++ dktX0_order_2
def dkwX0_order_0 : List UInt8 := [27, 3, 8, 184, 0, 55, 154, 0, 5, 2, 172, 42, 180, 0, 26, 27, 50, 192, 1, 12, 78, 45, 190]
abbrev dktX0_order_0 : List UInt8 := dkwX0_order_0 ++ dktX0_order_1
theorem dksX0_order_0 : cX0_order.data.toList.drop 0 = dktX0_order_0 := by decide +kernel
theorem dksX0_order_1 : cX0_order.data.toList.drop 23 = dktX0_order_1 := dk_seg dksX0_order_0 23 rfl rfl
theorem dksX0_order_2 : cX0_order.data.toList.drop 47 = dktX0_order_2 := dk_seg dksX0_order_1 24 rfl rfl
theorem dksX0_order_3 : cX0_order.data.toList.drop 71 = dktX0_order_3 := dk_seg dksX0_order_2 24 rfl rfl
theorem dksX0_order_4 : cX0_order.data.toList.drop 95 = dktX0_order_4 := dk_seg dksX0_order_3 24 rfl rfl
theorem dksX0_order_5 : cX0_order.data.toList.drop 118 = dktX0_order_5 := dk_seg dksX0_order_4 23 rfl rfl
theorem dksX0_order_6 : cX0_order.data.toList.drop 142 = dktX0_order_6 := dk_seg dksX0_order_5 24 rfl rfl
theorem dX0_order_0 : decode cX0_order 0 = .ok (.iload_n 1, 1) := dk_27 (dk_at dksX0_order_0 0 rfl rfl)
theorem dX0_order_1 : decode cX0_order 1 = .ok (.iconst 0, 1) := dk_3 (dk_at dksX0_order_0 1 rfl rfl)
theorem dX0_order_2 : decode cX0_order 2 = .ok (.iconst 5, 1) := dk_8 (dk_at dksX0_order_0 2 rfl rfl)
theorem dX0_order_3 : decode cX0_order 3 = .ok (.invokestatic 55, 3) := dk_184 0 55 (dk_at dksX0_order_0 3 rfl rfl)
theorem dX0_order_6 : decode cX0_order 6 = .ok (.ifCond .ne 5, 3) := dk_154 0 5 (dk_at dksX0_order_0 6 rfl rfl)
theorem dX0_order_9 : decode cX0_order 9 = .ok (.iconst (-1), 1) := dk_2 (dk_at dksX0_order_0 9 rfl rfl)
theorem dX0_order_10 : decode cX0_order 10 = .ok (.ireturn, 1) := dk_172 (dk_at dksX0_order_0 10 rfl rfl)
theorem dX0_order_11 : decode cX0_order 11 = .ok (.aload_n 0, 1) := dk_42 (dk_at dksX0_order_0 11 rfl rfl)
theorem dX0_order_12 : decode cX0_order 12 = .ok (.getfield 26, 3) := dk_180 0 26 (dk_at dksX0_order_0 12 rfl rfl)
theorem dX0_order_15 : decode cX0_order 15 = .ok (.iload_n 1, 1) := dk_27 (dk_at dksX0_order_0 15 rfl rfl)
theorem dX0_order_16 : decode cX0_order 16 = .ok (.aaload, 1) := dk_50 (dk_at dksX0_order_0 16 rfl rfl)
theorem dX0_order_17 : decode cX0_order 17 = .ok (.checkcast 268, 3) := dk_192 1 12 (dk_at dksX0_order_0 17 rfl rfl)
theorem dX0_order_20 : decode cX0_order 20 = .ok (.astore_n 3, 1) := dk_78 (dk_at dksX0_order_0 20 rfl rfl)
theorem dX0_order_21 : decode cX0_order 21 = .ok (.aload_n 3, 1) := dk_45 (dk_at dksX0_order_0 21 rfl rfl)
theorem dX0_order_22 : decode cX0_order 22 = .ok (.arraylength, 1) := dk_190 (dk_at dksX0_order_0 22 rfl rfl)
theorem dX0_order_23 : decode cX0_order 23 = .ok (.istore 4, 2) := dk_54 4 (dk_at dksX0_order_1 0 rfl rfl)
theorem dX0_order_25 : decode cX0_order 25 = .ok (.iload_n 2, 1) := dk_28 (dk_at dksX0_order_1 2 rfl rfl)
theorem dX0_order_26 : decode cX0_order 26 = .ok (.ifCond .ge 6, 3) := dk_156 0 6 (dk_at dksX0_order_1 3 rfl rfl)
theorem dX0_order_29 : decode cX0_order 29 = .ok (.bipush (-14), 2) := dk_16 242 (dk_at dksX0_order_1 6 rfl rfl)
theorem dX0_order_31 : decode cX0_order 31 = .ok (.ireturn, 1) := dk_172 (dk_at dksX0_order_1 8 rfl rfl)
theorem dX0_order_32 : decode cX0_order 32 = .ok (.ldc2_w 269, 3) := dk_20 1 13 (dk_at dksX0_order_1 9 rfl rfl)
theorem dX0_order_35 : decode cX0_order 35 = .ok (.iload_n 2, 1) := dk_28 (dk_at dksX0_order_1 12 rfl rfl)
theorem dX0_order_36 : decode cX0_order 36 = .ok (.i2l, 1) := dk_133 (dk_at dksX0_order_1 13 rfl rfl)
theorem dX0_order_37 : decode cX0_order 37 = .ok (.lmul, 1) := dk_105 (dk_at dksX0_order_1 14 rfl rfl)
theorem dX0_order_38 : decode cX0_order 38 = .ok (.iload 4, 2) := dk_21 4 (dk_at dksX0_order_1 15 rfl rfl)
theorem dX0_order_40 : decode cX0_order 40 = .ok (.i2l, 1) := dk_133 (dk_at dksX0_order_1 17 rfl rfl)
theorem dX0_order_41 : decode cX0_order 41 = .ok (.lcmp, 1) := dk_148 (dk_at dksX0_order_1 18 rfl rfl)
theorem dX0_order_42 : decode cX0_order 42 = .ok (.ifCond .le 6, 3) := dk_158 0 6 (dk_at dksX0_order_1 19 rfl rfl)
theorem dX0_order_45 : decode cX0_order 45 = .ok (.bipush (-13), 2) := dk_16 243 (dk_at dksX0_order_1 22 rfl rfl)
theorem dX0_order_47 : decode cX0_order 47 = .ok (.ireturn, 1) := dk_172 (dk_at dksX0_order_2 0 rfl rfl)
theorem dX0_order_48 : decode cX0_order 48 = .ok (.aload_n 0, 1) := dk_42 (dk_at dksX0_order_2 1 rfl rfl)
theorem dX0_order_49 : decode cX0_order 49 = .ok (.getfield 16, 3) := dk_180 0 16 (dk_at dksX0_order_2 2 rfl rfl)
theorem dX0_order_52 : decode cX0_order 52 = .ok (.invokevirtual 205, 3) := dk_182 0 205 (dk_at dksX0_order_2 5 rfl rfl)
theorem dX0_order_55 : decode cX0_order 55 = .ok (.astore 5, 2) := dk_58 5 (dk_at dksX0_order_2 8 rfl rfl)
theorem dX0_order_57 : decode cX0_order 57 = .ok (.iconst 1, 1) := dk_4 (dk_at dksX0_order_2 10 rfl rfl)
theorem dX0_order_58 : decode cX0_order 58 = .ok (.newarray .int, 2) := dk_188_10 (dk_at dksX0_order_2 11 rfl rfl)
theorem dX0_order_60 : decode cX0_order 60 = .ok (.dup, 1) := dk_89 (dk_at dksX0_order_2 13 rfl rfl)
theorem dX0_order_61 : decode cX0_order 61 = .ok (.iconst 0, 1) := dk_3 (dk_at dksX0_order_2 14 rfl rfl)
theorem dX0_order_62 : decode cX0_order 62 = .ok (.sipush 200, 3) := dk_17 0 200 (dk_at dksX0_order_2 15 rfl rfl)
theorem dX0_order_65 : decode cX0_order 65 = .ok (.iastore, 1) := dk_79 (dk_at dksX0_order_2 18 rfl rfl)
theorem dX0_order_66 : decode cX0_order 66 = .ok (.astore 6, 2) := dk_58 6 (dk_at dksX0_order_2 19 rfl rfl)
theorem dX0_order_68 : decode cX0_order 68 = .ok (.iconst 0, 1) := dk_3 (dk_at dksX0_order_2 21 rfl rfl)
theorem dX0_order_69 : decode cX0_order 69 = .ok (.istore 7, 2) := dk_54 7 (dk_at dksX0_order_2 22 rfl rfl)
theorem dX0_order_71 : decode cX0_order 71 = .ok (.iload 7, 2) := dk_21 7 (dk_at dksX0_order_3 0 rfl rfl)
theorem dX0_order_73 : decode cX0_order 73 = .ok (.iload_n 2, 1) := dk_28 (dk_at dksX0_order_3 2 rfl rfl)
theorem dX0_order_74 : decode cX0_order 74 = .ok (.if_icmp .ge 64, 3) := dk_162 0 64 (dk_at dksX0_order_3 3 rfl rfl)
theorem dX0_order_77 : decode cX0_order 77 = .ok (.aload 5, 2) := dk_25 5 (dk_at dksX0_order_3 6 rfl rfl)
theorem dX0_order_79 : decode cX0_order 79 = .ok (.aload 6, 2) := dk_25 6 (dk_at dksX0_order_3 8 rfl rfl)
theorem dX0_order_81 : decode cX0_order 81 = .ok (.invokestatic 271, 3) := dk_184 1 15 (dk_at dksX0_order_3 10 rfl rfl)
theorem dX0_order_84 : decode cX0_order 84 = .ok (.istore 8, 2) := dk_54 8 (dk_at dksX0_order_3 13 rfl rfl)
theorem dX0_order_86 : decode cX0_order 86 = .ok (.iload 8, 2) := dk_21 8 (dk_at dksX0_order_3 15 rfl rfl)
theorem dX0_order_88 : decode cX0_order 88 = .ok (.bipush (-2), 2) := dk_16 254 (dk_at dksX0_order_3 17 rfl rfl)
theorem dX0_order_90 : decode cX0_order 90 = .ok (.if_icmp .eq 39, 3) := dk_159 0 39 (dk_at dksX0_order_3 19 rfl rfl)
theorem dX0_order_93 : decode cX0_order 93 = .ok (.aload_n 3, 1) := dk_45 (dk_at dksX0_order_3 22 rfl rfl)
theorem dX0_order_94 : decode cX0_order 94 = .ok (.iconst 2, 1) := dk_5 (dk_at dksX0_order_3 23 rfl rfl)
theorem dX0_order_95 : decode cX0_order 95 = .ok (.iload 7, 2) := dk_21 7 (dk_at dksX0_order_4 0 rfl rfl)
theorem dX0_order_97 : decode cX0_order 97 = .ok (.imul, 1) := dk_104 (dk_at dksX0_order_4 2 rfl rfl)
theorem dX0_order_98 : decode cX0_order 98 = .ok (.iaload, 1) := dk_46 (dk_at dksX0_order_4 3 rfl rfl)
theorem dX0_order_99 : decode cX0_order 99 = .ok (.iload 8, 2) := dk_21 8 (dk_at dksX0_order_4 4 rfl rfl)
theorem dX0_order_101 : decode cX0_order 101 = .ok (.sipush 1000, 3) := dk_17 3 232 (dk_at dksX0_order_4 6 rfl rfl)
theorem dX0_order_104 : decode cX0_order 104 = .ok (.idiv, 1) := dk_108 (dk_at dksX0_order_4 9 rfl rfl)
theorem dX0_order_105 : decode cX0_order 105 = .ok (.if_icmp .ne 24, 3) := dk_160 0 24 (dk_at dksX0_order_4 10 rfl rfl)
theorem dX0_order_108 : decode cX0_order 108 = .ok (.aload_n 3, 1) := dk_45 (dk_at dksX0_order_4 13 rfl rfl)
theorem dX0_order_109 : decode cX0_order 109 = .ok (.iconst 2, 1) := dk_5 (dk_at dksX0_order_4 14 rfl rfl)
theorem dX0_order_110 : decode cX0_order 110 = .ok (.iload 7, 2) := dk_21 7 (dk_at dksX0_order_4 15 rfl rfl)
theorem dX0_order_112 : decode cX0_order 112 = .ok (.imul, 1) := dk_104 (dk_at dksX0_order_4 17 rfl rfl)
theorem dX0_order_113 : decode cX0_order 113 = .ok (.iconst 1, 1) := dk_4 (dk_at dksX0_order_4 18 rfl rfl)
theorem dX0_order_114 : decode cX0_order 114 = .ok (.iadd, 1) := dk_96 (dk_at dksX0_order_4 19 rfl rfl)
theorem dX0_order_115 : decode cX0_order 115 = .ok (.iaload, 1) := dk_46 (dk_at dksX0_order_4 20 rfl rfl)
theorem dX0_order_116 : decode cX0_order 116 = .ok (.iload 8, 2) := dk_21 8 (dk_at dksX0_order_4 21 rfl rfl)
theorem dX0_order_118 : decode cX0_order 118 = .ok (.sipush 1000, 3) := dk_17 3 232 (dk_at dksX0_order_5 0 rfl rfl)
theorem dX0_order_121 : decode cX0_order 121 = .ok (.irem, 1) := dk_112 (dk_at dksX0_order_5 3 rfl rfl)
theorem dX0_order_122 : decode cX0_order 122 = .ok (.sipush 300, 3) := dk_17 1 44 (dk_at dksX0_order_5 4 rfl rfl)
theorem dX0_order_125 : decode cX0_order 125 = .ok (.isub, 1) := dk_100 (dk_at dksX0_order_5 7 rfl rfl)
theorem dX0_order_126 : decode cX0_order 126 = .ok (.if_icmp .eq 6, 3) := dk_159 0 6 (dk_at dksX0_order_5 8 rfl rfl)
theorem dX0_order_129 : decode cX0_order 129 = .ok (.iload 7, 2) := dk_21 7 (dk_at dksX0_order_5 11 rfl rfl)
theorem dX0_order_131 : decode cX0_order 131 = .ok (.ireturn, 1) := dk_172 (dk_at dksX0_order_5 13 rfl rfl)
theorem dX0_order_132 : decode cX0_order 132 = .ok (.iinc 7 1, 3) := dk_132 7 1 (dk_at dksX0_order_5 14 rfl rfl)
theorem dX0_order_135 : decode cX0_order 135 = .ok (.goto (-64), 3) := dk_167 255 192 (dk_at dksX0_order_5 17 rfl rfl)
theorem dX0_order_138 : decode cX0_order 138 = .ok (.bipush (-2), 2) := dk_16 254 (dk_at dksX0_order_5 20 rfl rfl)
theorem dX0_order_140 : decode cX0_order 140 = .ok (.ireturn, 1) := dk_172 (dk_at dksX0_order_5 22 rfl rfl)
theorem dX0_order_141 : decode cX0_order 141 = .ok (.astore_n 3, 1) := dk_78 (dk_at dksX0_order_5 23 rfl rfl)
theorem dX0_order_142 : decode cX0_order 142 = .ok (.bipush (-11), 2) := dk_16 245 (dk_at dksX0_order_6 0 rfl rfl)
theorem dX0_order_144 : decode cX0_order 144 = .ok (.ireturn, 1) := dk_172 (dk_at dksX0_order_6 2 rfl rfl)
theorem dX0_order_145 : decode cX0_order 145 = .ok (.astore_n 3, 1) := dk_78 (dk_at dksX0_order_6 3 rfl rfl)
theorem dX0_order_146 : decode cX0_order 146 = .ok (.bipush (-12), 2) := dk_16 244 (dk_at dksX0_order_6 4 rfl rfl)
theorem dX0_order_148 : decode cX0_order 148 = .ok (.ireturn, 1) := dk_172 (dk_at dksX0_order_6 6 rfl rfl)
abbrev cX0_nextDealt : ByteArray := prog_1_method_33_code
def yX0_nextDealt : MethodName := ⟨RX0, "nextDealt", "(LActorTrees$World;[I)I"⟩
def dkwX0_nextDealt_2 : List UInt8 := [16, 254, 172]
abbrev dktX0_nextDealt_2 : List UInt8 := dkwX0_nextDealt_2 ++ []
def dkwX0_nextDealt_1 : List UInt8 := [79, 42, 180, 0, 212, 28, 164, 255, 231, 42, 180, 0, 189, 42, 180, 0, 177, 4, 100, 16, 30, 112, 46, 172]
abbrev dktX0_nextDealt_1 : List UInt8 := dkwX0_nextDealt_1 ++ dktX0_nextDealt_2
def dkwX0_nextDealt_0 : List UInt8 := [42, 180, 0, 212, 61, 43, 3, 46, 158, 0, 40, 42, 182, 0, 215, 153, 0, 33, 43, 3, 92, 46, 4, 100]
abbrev dktX0_nextDealt_0 : List UInt8 := dkwX0_nextDealt_0 ++ dktX0_nextDealt_1
theorem dksX0_nextDealt_0 : cX0_nextDealt.data.toList.drop 0 = dktX0_nextDealt_0 := by decide +kernel
theorem dksX0_nextDealt_1 : cX0_nextDealt.data.toList.drop 24 = dktX0_nextDealt_1 := dk_seg dksX0_nextDealt_0 24 rfl rfl
theorem dksX0_nextDealt_2 : cX0_nextDealt.data.toList.drop 48 = dktX0_nextDealt_2 := dk_seg dksX0_nextDealt_1 24 rfl rfl
theorem dX0_nextDealt_0 : decode cX0_nextDealt 0 = .ok (.aload_n 0, 1) := dk_42 (dk_at dksX0_nextDealt_0 0 rfl rfl)
theorem dX0_nextDealt_1 : decode cX0_nextDealt 1 = .ok (.getfield 212, 3) := dk_180 0 212 (dk_at dksX0_nextDealt_0 1 rfl rfl)
theorem dX0_nextDealt_4 : decode cX0_nextDealt 4 = .ok (.istore_n 2, 1) := dk_61 (dk_at dksX0_nextDealt_0 4 rfl rfl)
theorem dX0_nextDealt_5 : decode cX0_nextDealt 5 = .ok (.aload_n 1, 1) := dk_43 (dk_at dksX0_nextDealt_0 5 rfl rfl)
theorem dX0_nextDealt_6 : decode cX0_nextDealt 6 = .ok (.iconst 0, 1) := dk_3 (dk_at dksX0_nextDealt_0 6 rfl rfl)
theorem dX0_nextDealt_7 : decode cX0_nextDealt 7 = .ok (.iaload, 1) := dk_46 (dk_at dksX0_nextDealt_0 7 rfl rfl)
theorem dX0_nextDealt_8 : decode cX0_nextDealt 8 = .ok (.ifCond .le 40, 3) := dk_158 0 40 (dk_at dksX0_nextDealt_0 8 rfl rfl)
theorem dX0_nextDealt_11 : decode cX0_nextDealt 11 = .ok (.aload_n 0, 1) := dk_42 (dk_at dksX0_nextDealt_0 11 rfl rfl)
theorem dX0_nextDealt_12 : decode cX0_nextDealt 12 = .ok (.invokevirtual 215, 3) := dk_182 0 215 (dk_at dksX0_nextDealt_0 12 rfl rfl)
theorem dX0_nextDealt_15 : decode cX0_nextDealt 15 = .ok (.ifCond .eq 33, 3) := dk_153 0 33 (dk_at dksX0_nextDealt_0 15 rfl rfl)
theorem dX0_nextDealt_18 : decode cX0_nextDealt 18 = .ok (.aload_n 1, 1) := dk_43 (dk_at dksX0_nextDealt_0 18 rfl rfl)
theorem dX0_nextDealt_19 : decode cX0_nextDealt 19 = .ok (.iconst 0, 1) := dk_3 (dk_at dksX0_nextDealt_0 19 rfl rfl)
theorem dX0_nextDealt_20 : decode cX0_nextDealt 20 = .ok (.dup2, 1) := dk_92 (dk_at dksX0_nextDealt_0 20 rfl rfl)
theorem dX0_nextDealt_21 : decode cX0_nextDealt 21 = .ok (.iaload, 1) := dk_46 (dk_at dksX0_nextDealt_0 21 rfl rfl)
theorem dX0_nextDealt_22 : decode cX0_nextDealt 22 = .ok (.iconst 1, 1) := dk_4 (dk_at dksX0_nextDealt_0 22 rfl rfl)
theorem dX0_nextDealt_23 : decode cX0_nextDealt 23 = .ok (.isub, 1) := dk_100 (dk_at dksX0_nextDealt_0 23 rfl rfl)
theorem dX0_nextDealt_24 : decode cX0_nextDealt 24 = .ok (.iastore, 1) := dk_79 (dk_at dksX0_nextDealt_1 0 rfl rfl)
theorem dX0_nextDealt_25 : decode cX0_nextDealt 25 = .ok (.aload_n 0, 1) := dk_42 (dk_at dksX0_nextDealt_1 1 rfl rfl)
theorem dX0_nextDealt_26 : decode cX0_nextDealt 26 = .ok (.getfield 212, 3) := dk_180 0 212 (dk_at dksX0_nextDealt_1 2 rfl rfl)
theorem dX0_nextDealt_29 : decode cX0_nextDealt 29 = .ok (.iload_n 2, 1) := dk_28 (dk_at dksX0_nextDealt_1 5 rfl rfl)
theorem dX0_nextDealt_30 : decode cX0_nextDealt 30 = .ok (.if_icmp .le (-25), 3) := dk_164 255 231 (dk_at dksX0_nextDealt_1 6 rfl rfl)
theorem dX0_nextDealt_33 : decode cX0_nextDealt 33 = .ok (.aload_n 0, 1) := dk_42 (dk_at dksX0_nextDealt_1 9 rfl rfl)
theorem dX0_nextDealt_34 : decode cX0_nextDealt 34 = .ok (.getfield 189, 3) := dk_180 0 189 (dk_at dksX0_nextDealt_1 10 rfl rfl)
theorem dX0_nextDealt_37 : decode cX0_nextDealt 37 = .ok (.aload_n 0, 1) := dk_42 (dk_at dksX0_nextDealt_1 13 rfl rfl)
theorem dX0_nextDealt_38 : decode cX0_nextDealt 38 = .ok (.getfield 177, 3) := dk_180 0 177 (dk_at dksX0_nextDealt_1 14 rfl rfl)
theorem dX0_nextDealt_41 : decode cX0_nextDealt 41 = .ok (.iconst 1, 1) := dk_4 (dk_at dksX0_nextDealt_1 17 rfl rfl)
theorem dX0_nextDealt_42 : decode cX0_nextDealt 42 = .ok (.isub, 1) := dk_100 (dk_at dksX0_nextDealt_1 18 rfl rfl)
theorem dX0_nextDealt_43 : decode cX0_nextDealt 43 = .ok (.bipush 30, 2) := dk_16 30 (dk_at dksX0_nextDealt_1 19 rfl rfl)
theorem dX0_nextDealt_45 : decode cX0_nextDealt 45 = .ok (.irem, 1) := dk_112 (dk_at dksX0_nextDealt_1 21 rfl rfl)
theorem dX0_nextDealt_46 : decode cX0_nextDealt 46 = .ok (.iaload, 1) := dk_46 (dk_at dksX0_nextDealt_1 22 rfl rfl)
theorem dX0_nextDealt_47 : decode cX0_nextDealt 47 = .ok (.ireturn, 1) := dk_172 (dk_at dksX0_nextDealt_1 23 rfl rfl)
theorem dX0_nextDealt_48 : decode cX0_nextDealt 48 = .ok (.bipush (-2), 2) := dk_16 254 (dk_at dksX0_nextDealt_2 0 rfl rfl)
theorem dX0_nextDealt_50 : decode cX0_nextDealt 50 = .ok (.ireturn, 1) := dk_172 (dk_at dksX0_nextDealt_2 2 rfl rfl)
abbrev cX0_image : ByteArray := prog_1_method_35_code
def yX0_image : MethodName := ⟨RX0, "image", "()I"⟩
def dkwX0_image_0 : List UInt8 := [42, 42, 180, 0, 16, 182, 0, 205, 181, 1, 21, 42, 180, 0, 16, 180, 0, 30, 172]
abbrev dktX0_image_0 : List UInt8 := dkwX0_image_0 ++ []
theorem dksX0_image_0 : cX0_image.data.toList.drop 0 = dktX0_image_0 := by decide +kernel
theorem dX0_image_0 : decode cX0_image 0 = .ok (.aload_n 0, 1) := dk_42 (dk_at dksX0_image_0 0 rfl rfl)
theorem dX0_image_1 : decode cX0_image 1 = .ok (.aload_n 0, 1) := dk_42 (dk_at dksX0_image_0 1 rfl rfl)
theorem dX0_image_2 : decode cX0_image 2 = .ok (.getfield 16, 3) := dk_180 0 16 (dk_at dksX0_image_0 2 rfl rfl)
theorem dX0_image_5 : decode cX0_image 5 = .ok (.invokevirtual 205, 3) := dk_182 0 205 (dk_at dksX0_image_0 5 rfl rfl)
theorem dX0_image_8 : decode cX0_image 8 = .ok (.putfield 277, 3) := dk_181 1 21 (dk_at dksX0_image_0 8 rfl rfl)
theorem dX0_image_11 : decode cX0_image 11 = .ok (.aload_n 0, 1) := dk_42 (dk_at dksX0_image_0 11 rfl rfl)
theorem dX0_image_12 : decode cX0_image 12 = .ok (.getfield 16, 3) := dk_180 0 16 (dk_at dksX0_image_0 12 rfl rfl)
theorem dX0_image_15 : decode cX0_image 15 = .ok (.getfield 30, 3) := dk_180 0 30 (dk_at dksX0_image_0 15 rfl rfl)
theorem dX0_image_18 : decode cX0_image 18 = .ok (.ireturn, 1) := dk_172 (dk_at dksX0_image_0 18 rfl rfl)
abbrev cX0_back : ByteArray := prog_1_method_36_code
def yX0_back : MethodName := ⟨RX0, "back", "()I"⟩
def dkwX0_back_3 : List UInt8 := [42, 180, 0, 16, 180, 0, 30, 172]
abbrev dktX0_back_3 : List UInt8 := dkwX0_back_3 ++ []
def dkwX0_back_2 : List UInt8 := [42, 44, 180, 1, 26, 182, 0, 34, 154, 0, 10, 42, 180, 0, 26, 27, 1, 83, 132, 1, 1, 167, 255, 210]
abbrev dktX0_back_2 : List UInt8 := dkwX0_back_2 ++ dktX0_back_3
def dkwX0_back_1 : List UInt8 := [16, 6, 162, 0, 46, 42, 180, 0, 26, 27, 50, 78, 45, 193, 1, 24, 153, 0, 26, 45, 192, 1, 24, 77]
abbrev dktX0_back_1 : List UInt8 := dkwX0_back_1 ++ dktX0_back_2
def dkwX0_back_0 : List UInt8 := [42, 180, 1, 21, 199, 0, 6, 16, 251, 172, 42, 42, 180, 1, 21, 182, 0, 205, 181, 0, 16, 3, 60, 27]
abbrev dktX0_back_0 : List UInt8 := dkwX0_back_0 ++ dktX0_back_1
theorem dksX0_back_0 : cX0_back.data.toList.drop 0 = dktX0_back_0 := by decide +kernel
theorem dksX0_back_1 : cX0_back.data.toList.drop 24 = dktX0_back_1 := dk_seg dksX0_back_0 24 rfl rfl
theorem dksX0_back_2 : cX0_back.data.toList.drop 48 = dktX0_back_2 := dk_seg dksX0_back_1 24 rfl rfl
theorem dksX0_back_3 : cX0_back.data.toList.drop 72 = dktX0_back_3 := dk_seg dksX0_back_2 24 rfl rfl
theorem dX0_back_0 : decode cX0_back 0 = .ok (.aload_n 0, 1) := dk_42 (dk_at dksX0_back_0 0 rfl rfl)
theorem dX0_back_1 : decode cX0_back 1 = .ok (.getfield 277, 3) := dk_180 1 21 (dk_at dksX0_back_0 1 rfl rfl)
theorem dX0_back_4 : decode cX0_back 4 = .ok (.ifnonnull 6, 3) := dk_199 0 6 (dk_at dksX0_back_0 4 rfl rfl)
theorem dX0_back_7 : decode cX0_back 7 = .ok (.bipush (-5), 2) := dk_16 251 (dk_at dksX0_back_0 7 rfl rfl)
theorem dX0_back_9 : decode cX0_back 9 = .ok (.ireturn, 1) := dk_172 (dk_at dksX0_back_0 9 rfl rfl)
theorem dX0_back_10 : decode cX0_back 10 = .ok (.aload_n 0, 1) := dk_42 (dk_at dksX0_back_0 10 rfl rfl)
theorem dX0_back_11 : decode cX0_back 11 = .ok (.aload_n 0, 1) := dk_42 (dk_at dksX0_back_0 11 rfl rfl)
theorem dX0_back_12 : decode cX0_back 12 = .ok (.getfield 277, 3) := dk_180 1 21 (dk_at dksX0_back_0 12 rfl rfl)
theorem dX0_back_15 : decode cX0_back 15 = .ok (.invokevirtual 205, 3) := dk_182 0 205 (dk_at dksX0_back_0 15 rfl rfl)
theorem dX0_back_18 : decode cX0_back 18 = .ok (.putfield 16, 3) := dk_181 0 16 (dk_at dksX0_back_0 18 rfl rfl)
theorem dX0_back_21 : decode cX0_back 21 = .ok (.iconst 0, 1) := dk_3 (dk_at dksX0_back_0 21 rfl rfl)
theorem dX0_back_22 : decode cX0_back 22 = .ok (.istore_n 1, 1) := dk_60 (dk_at dksX0_back_0 22 rfl rfl)
theorem dX0_back_23 : decode cX0_back 23 = .ok (.iload_n 1, 1) := dk_27 (dk_at dksX0_back_0 23 rfl rfl)
theorem dX0_back_24 : decode cX0_back 24 = .ok (.bipush 6, 2) := dk_16 6 (dk_at dksX0_back_1 0 rfl rfl)
theorem dX0_back_26 : decode cX0_back 26 = .ok (.if_icmp .ge 46, 3) := dk_162 0 46 (dk_at dksX0_back_1 2 rfl rfl)
theorem dX0_back_29 : decode cX0_back 29 = .ok (.aload_n 0, 1) := dk_42 (dk_at dksX0_back_1 5 rfl rfl)
theorem dX0_back_30 : decode cX0_back 30 = .ok (.getfield 26, 3) := dk_180 0 26 (dk_at dksX0_back_1 6 rfl rfl)
theorem dX0_back_33 : decode cX0_back 33 = .ok (.iload_n 1, 1) := dk_27 (dk_at dksX0_back_1 9 rfl rfl)
theorem dX0_back_34 : decode cX0_back 34 = .ok (.aaload, 1) := dk_50 (dk_at dksX0_back_1 10 rfl rfl)
theorem dX0_back_35 : decode cX0_back 35 = .ok (.astore_n 3, 1) := dk_78 (dk_at dksX0_back_1 11 rfl rfl)
theorem dX0_back_36 : decode cX0_back 36 = .ok (.aload_n 3, 1) := dk_45 (dk_at dksX0_back_1 12 rfl rfl)
theorem dX0_back_37 : decode cX0_back 37 = .ok (.instanceof 280, 3) := dk_193 1 24 (dk_at dksX0_back_1 13 rfl rfl)
theorem dX0_back_40 : decode cX0_back 40 = .ok (.ifCond .eq 26, 3) := dk_153 0 26 (dk_at dksX0_back_1 16 rfl rfl)
theorem dX0_back_43 : decode cX0_back 43 = .ok (.aload_n 3, 1) := dk_45 (dk_at dksX0_back_1 19 rfl rfl)
theorem dX0_back_44 : decode cX0_back 44 = .ok (.checkcast 280, 3) := dk_192 1 24 (dk_at dksX0_back_1 20 rfl rfl)
theorem dX0_back_47 : decode cX0_back 47 = .ok (.astore_n 2, 1) := dk_77 (dk_at dksX0_back_1 23 rfl rfl)
theorem dX0_back_48 : decode cX0_back 48 = .ok (.aload_n 0, 1) := dk_42 (dk_at dksX0_back_2 0 rfl rfl)
theorem dX0_back_49 : decode cX0_back 49 = .ok (.aload_n 2, 1) := dk_44 (dk_at dksX0_back_2 1 rfl rfl)
theorem dX0_back_50 : decode cX0_back 50 = .ok (.getfield 282, 3) := dk_180 1 26 (dk_at dksX0_back_2 2 rfl rfl)
theorem dX0_back_53 : decode cX0_back 53 = .ok (.invokevirtual 34, 3) := dk_182 0 34 (dk_at dksX0_back_2 5 rfl rfl)
theorem dX0_back_56 : decode cX0_back 56 = .ok (.ifCond .ne 10, 3) := dk_154 0 10 (dk_at dksX0_back_2 8 rfl rfl)
theorem dX0_back_59 : decode cX0_back 59 = .ok (.aload_n 0, 1) := dk_42 (dk_at dksX0_back_2 11 rfl rfl)
theorem dX0_back_60 : decode cX0_back 60 = .ok (.getfield 26, 3) := dk_180 0 26 (dk_at dksX0_back_2 12 rfl rfl)
theorem dX0_back_63 : decode cX0_back 63 = .ok (.iload_n 1, 1) := dk_27 (dk_at dksX0_back_2 15 rfl rfl)
theorem dX0_back_64 : decode cX0_back 64 = .ok (.aconst_null, 1) := dk_1 (dk_at dksX0_back_2 16 rfl rfl)
theorem dX0_back_65 : decode cX0_back 65 = .ok (.aastore, 1) := dk_83 (dk_at dksX0_back_2 17 rfl rfl)
theorem dX0_back_66 : decode cX0_back 66 = .ok (.iinc 1 1, 3) := dk_132 1 1 (dk_at dksX0_back_2 18 rfl rfl)
theorem dX0_back_69 : decode cX0_back 69 = .ok (.goto (-46), 3) := dk_167 255 210 (dk_at dksX0_back_2 21 rfl rfl)
theorem dX0_back_72 : decode cX0_back 72 = .ok (.aload_n 0, 1) := dk_42 (dk_at dksX0_back_3 0 rfl rfl)
theorem dX0_back_73 : decode cX0_back 73 = .ok (.getfield 16, 3) := dk_180 0 16 (dk_at dksX0_back_3 1 rfl rfl)
theorem dX0_back_76 : decode cX0_back 76 = .ok (.getfield 30, 3) := dk_180 0 30 (dk_at dksX0_back_3 4 rfl rfl)
theorem dX0_back_79 : decode cX0_back 79 = .ok (.ireturn, 1) := dk_172 (dk_at dksX0_back_3 7 rfl rfl)
abbrev cX0_hold : ByteArray := prog_1_method_37_code
def yX0_hold : MethodName := ⟨RX0, "hold", "(II)I"⟩
def dkwX0_hold_1 : List UInt8 := [160, 0, 7, 1, 167, 0, 11, 187, 1, 24, 89, 28, 183, 1, 27, 83, 4, 172, 78, 2, 172]
abbrev dktX0_hold_1 : List UInt8 := dkwX0_hold_1 ++ []
def dkwX0_hold_0 : List UInt8 := [28, 2, 159, 0, 13, 42, 28, 182, 0, 34, 154, 0, 5, 2, 172, 42, 180, 0, 26, 27, 28, 2]
abbrev dktX0_hold_0 : List UInt8 := dkwX0_hold_0 ++ dktX0_hold_1
theorem dksX0_hold_0 : cX0_hold.data.toList.drop 0 = dktX0_hold_0 := by decide +kernel
theorem dksX0_hold_1 : cX0_hold.data.toList.drop 22 = dktX0_hold_1 := dk_seg dksX0_hold_0 22 rfl rfl
theorem dX0_hold_0 : decode cX0_hold 0 = .ok (.iload_n 2, 1) := dk_28 (dk_at dksX0_hold_0 0 rfl rfl)
theorem dX0_hold_1 : decode cX0_hold 1 = .ok (.iconst (-1), 1) := dk_2 (dk_at dksX0_hold_0 1 rfl rfl)
theorem dX0_hold_2 : decode cX0_hold 2 = .ok (.if_icmp .eq 13, 3) := dk_159 0 13 (dk_at dksX0_hold_0 2 rfl rfl)
theorem dX0_hold_5 : decode cX0_hold 5 = .ok (.aload_n 0, 1) := dk_42 (dk_at dksX0_hold_0 5 rfl rfl)
theorem dX0_hold_6 : decode cX0_hold 6 = .ok (.iload_n 2, 1) := dk_28 (dk_at dksX0_hold_0 6 rfl rfl)
theorem dX0_hold_7 : decode cX0_hold 7 = .ok (.invokevirtual 34, 3) := dk_182 0 34 (dk_at dksX0_hold_0 7 rfl rfl)
theorem dX0_hold_10 : decode cX0_hold 10 = .ok (.ifCond .ne 5, 3) := dk_154 0 5 (dk_at dksX0_hold_0 10 rfl rfl)
theorem dX0_hold_13 : decode cX0_hold 13 = .ok (.iconst (-1), 1) := dk_2 (dk_at dksX0_hold_0 13 rfl rfl)
theorem dX0_hold_14 : decode cX0_hold 14 = .ok (.ireturn, 1) := dk_172 (dk_at dksX0_hold_0 14 rfl rfl)
theorem dX0_hold_15 : decode cX0_hold 15 = .ok (.aload_n 0, 1) := dk_42 (dk_at dksX0_hold_0 15 rfl rfl)
theorem dX0_hold_16 : decode cX0_hold 16 = .ok (.getfield 26, 3) := dk_180 0 26 (dk_at dksX0_hold_0 16 rfl rfl)
theorem dX0_hold_19 : decode cX0_hold 19 = .ok (.iload_n 1, 1) := dk_27 (dk_at dksX0_hold_0 19 rfl rfl)
theorem dX0_hold_20 : decode cX0_hold 20 = .ok (.iload_n 2, 1) := dk_28 (dk_at dksX0_hold_0 20 rfl rfl)
theorem dX0_hold_21 : decode cX0_hold 21 = .ok (.iconst (-1), 1) := dk_2 (dk_at dksX0_hold_0 21 rfl rfl)
theorem dX0_hold_22 : decode cX0_hold 22 = .ok (.if_icmp .ne 7, 3) := dk_160 0 7 (dk_at dksX0_hold_1 0 rfl rfl)
theorem dX0_hold_25 : decode cX0_hold 25 = .ok (.aconst_null, 1) := dk_1 (dk_at dksX0_hold_1 3 rfl rfl)
theorem dX0_hold_26 : decode cX0_hold 26 = .ok (.goto 11, 3) := dk_167 0 11 (dk_at dksX0_hold_1 4 rfl rfl)
theorem dX0_hold_29 : decode cX0_hold 29 = .ok (.new 280, 3) := dk_187 1 24 (dk_at dksX0_hold_1 7 rfl rfl)
theorem dX0_hold_32 : decode cX0_hold 32 = .ok (.dup, 1) := dk_89 (dk_at dksX0_hold_1 10 rfl rfl)
theorem dX0_hold_33 : decode cX0_hold 33 = .ok (.iload_n 2, 1) := dk_28 (dk_at dksX0_hold_1 11 rfl rfl)
theorem dX0_hold_34 : decode cX0_hold 34 = .ok (.invokespecial 283, 3) := dk_183 1 27 (dk_at dksX0_hold_1 12 rfl rfl)
theorem dX0_hold_37 : decode cX0_hold 37 = .ok (.aastore, 1) := dk_83 (dk_at dksX0_hold_1 15 rfl rfl)
theorem dX0_hold_38 : decode cX0_hold 38 = .ok (.iconst 1, 1) := dk_4 (dk_at dksX0_hold_1 16 rfl rfl)
theorem dX0_hold_39 : decode cX0_hold 39 = .ok (.ireturn, 1) := dk_172 (dk_at dksX0_hold_1 17 rfl rfl)
theorem dX0_hold_40 : decode cX0_hold 40 = .ok (.astore_n 3, 1) := dk_78 (dk_at dksX0_hold_1 18 rfl rfl)
theorem dX0_hold_41 : decode cX0_hold 41 = .ok (.iconst (-1), 1) := dk_2 (dk_at dksX0_hold_1 19 rfl rfl)
theorem dX0_hold_42 : decode cX0_hold 42 = .ok (.ireturn, 1) := dk_172 (dk_at dksX0_hold_1 20 rfl rfl)
abbrev cX0_row : ByteArray := prog_1_method_38_code
def yX0_row : MethodName := ⟨RX0, "row", "(II)I"⟩
def dkwX0_row_1 : List UInt8 := [188, 10, 83, 4, 172, 78, 16, 242, 172]
abbrev dktX0_row_1 : List UInt8 := dkwX0_row_1 ++ []
def dkwX0_row_0 : List UInt8 := [27, 3, 8, 184, 0, 55, 153, 0, 9, 28, 16, 60, 164, 0, 5, 2, 172, 42, 180, 0, 26, 27, 28]
abbrev dktX0_row_0 : List UInt8 := dkwX0_row_0 ++ dktX0_row_1
theorem dksX0_row_0 : cX0_row.data.toList.drop 0 = dktX0_row_0 := by decide +kernel
theorem dksX0_row_1 : cX0_row.data.toList.drop 23 = dktX0_row_1 := dk_seg dksX0_row_0 23 rfl rfl
theorem dX0_row_0 : decode cX0_row 0 = .ok (.iload_n 1, 1) := dk_27 (dk_at dksX0_row_0 0 rfl rfl)
theorem dX0_row_1 : decode cX0_row 1 = .ok (.iconst 0, 1) := dk_3 (dk_at dksX0_row_0 1 rfl rfl)
theorem dX0_row_2 : decode cX0_row 2 = .ok (.iconst 5, 1) := dk_8 (dk_at dksX0_row_0 2 rfl rfl)
theorem dX0_row_3 : decode cX0_row 3 = .ok (.invokestatic 55, 3) := dk_184 0 55 (dk_at dksX0_row_0 3 rfl rfl)
theorem dX0_row_6 : decode cX0_row 6 = .ok (.ifCond .eq 9, 3) := dk_153 0 9 (dk_at dksX0_row_0 6 rfl rfl)
theorem dX0_row_9 : decode cX0_row 9 = .ok (.iload_n 2, 1) := dk_28 (dk_at dksX0_row_0 9 rfl rfl)
theorem dX0_row_10 : decode cX0_row 10 = .ok (.bipush 60, 2) := dk_16 60 (dk_at dksX0_row_0 10 rfl rfl)
theorem dX0_row_12 : decode cX0_row 12 = .ok (.if_icmp .le 5, 3) := dk_164 0 5 (dk_at dksX0_row_0 12 rfl rfl)
theorem dX0_row_15 : decode cX0_row 15 = .ok (.iconst (-1), 1) := dk_2 (dk_at dksX0_row_0 15 rfl rfl)
theorem dX0_row_16 : decode cX0_row 16 = .ok (.ireturn, 1) := dk_172 (dk_at dksX0_row_0 16 rfl rfl)
theorem dX0_row_17 : decode cX0_row 17 = .ok (.aload_n 0, 1) := dk_42 (dk_at dksX0_row_0 17 rfl rfl)
theorem dX0_row_18 : decode cX0_row 18 = .ok (.getfield 26, 3) := dk_180 0 26 (dk_at dksX0_row_0 18 rfl rfl)
theorem dX0_row_21 : decode cX0_row 21 = .ok (.iload_n 1, 1) := dk_27 (dk_at dksX0_row_0 21 rfl rfl)
theorem dX0_row_22 : decode cX0_row 22 = .ok (.iload_n 2, 1) := dk_28 (dk_at dksX0_row_0 22 rfl rfl)
theorem dX0_row_23 : decode cX0_row 23 = .ok (.newarray .int, 2) := dk_188_10 (dk_at dksX0_row_1 0 rfl rfl)
theorem dX0_row_25 : decode cX0_row 25 = .ok (.aastore, 1) := dk_83 (dk_at dksX0_row_1 2 rfl rfl)
theorem dX0_row_26 : decode cX0_row 26 = .ok (.iconst 1, 1) := dk_4 (dk_at dksX0_row_1 3 rfl rfl)
theorem dX0_row_27 : decode cX0_row 27 = .ok (.ireturn, 1) := dk_172 (dk_at dksX0_row_1 4 rfl rfl)
theorem dX0_row_28 : decode cX0_row 28 = .ok (.astore_n 3, 1) := dk_78 (dk_at dksX0_row_1 5 rfl rfl)
theorem dX0_row_29 : decode cX0_row 29 = .ok (.bipush (-14), 2) := dk_16 242 (dk_at dksX0_row_1 6 rfl rfl)
theorem dX0_row_31 : decode cX0_row 31 = .ok (.ireturn, 1) := dk_172 (dk_at dksX0_row_1 8 rfl rfl)
abbrev cX0_put : ByteArray := prog_1_method_39_code
def yX0_put : MethodName := ⟨RX0, "put", "(III)I"⟩
def dkwX0_put_1 : List UInt8 := [172, 58, 4, 18, 119, 172]
abbrev dktX0_put_1 : List UInt8 := dkwX0_put_1 ++ []
def dkwX0_put_0 : List UInt8 := [42, 180, 0, 26, 27, 50, 192, 1, 12, 58, 4, 25, 4, 28, 46, 54, 5, 25, 4, 28, 29, 79, 21, 5]
abbrev dktX0_put_0 : List UInt8 := dkwX0_put_0 ++ dktX0_put_1
theorem dksX0_put_0 : cX0_put.data.toList.drop 0 = dktX0_put_0 := by decide +kernel
theorem dksX0_put_1 : cX0_put.data.toList.drop 24 = dktX0_put_1 := dk_seg dksX0_put_0 24 rfl rfl
theorem dX0_put_0 : decode cX0_put 0 = .ok (.aload_n 0, 1) := dk_42 (dk_at dksX0_put_0 0 rfl rfl)
theorem dX0_put_1 : decode cX0_put 1 = .ok (.getfield 26, 3) := dk_180 0 26 (dk_at dksX0_put_0 1 rfl rfl)
theorem dX0_put_4 : decode cX0_put 4 = .ok (.iload_n 1, 1) := dk_27 (dk_at dksX0_put_0 4 rfl rfl)
theorem dX0_put_5 : decode cX0_put 5 = .ok (.aaload, 1) := dk_50 (dk_at dksX0_put_0 5 rfl rfl)
theorem dX0_put_6 : decode cX0_put 6 = .ok (.checkcast 268, 3) := dk_192 1 12 (dk_at dksX0_put_0 6 rfl rfl)
theorem dX0_put_9 : decode cX0_put 9 = .ok (.astore 4, 2) := dk_58 4 (dk_at dksX0_put_0 9 rfl rfl)
theorem dX0_put_11 : decode cX0_put 11 = .ok (.aload 4, 2) := dk_25 4 (dk_at dksX0_put_0 11 rfl rfl)
theorem dX0_put_13 : decode cX0_put 13 = .ok (.iload_n 2, 1) := dk_28 (dk_at dksX0_put_0 13 rfl rfl)
theorem dX0_put_14 : decode cX0_put 14 = .ok (.iaload, 1) := dk_46 (dk_at dksX0_put_0 14 rfl rfl)
theorem dX0_put_15 : decode cX0_put 15 = .ok (.istore 5, 2) := dk_54 5 (dk_at dksX0_put_0 15 rfl rfl)
theorem dX0_put_17 : decode cX0_put 17 = .ok (.aload 4, 2) := dk_25 4 (dk_at dksX0_put_0 17 rfl rfl)
theorem dX0_put_19 : decode cX0_put 19 = .ok (.iload_n 2, 1) := dk_28 (dk_at dksX0_put_0 19 rfl rfl)
theorem dX0_put_20 : decode cX0_put 20 = .ok (.iload_n 3, 1) := dk_29 (dk_at dksX0_put_0 20 rfl rfl)
theorem dX0_put_21 : decode cX0_put 21 = .ok (.iastore, 1) := dk_79 (dk_at dksX0_put_0 21 rfl rfl)
theorem dX0_put_22 : decode cX0_put 22 = .ok (.iload 5, 2) := dk_21 5 (dk_at dksX0_put_0 22 rfl rfl)
theorem dX0_put_24 : decode cX0_put 24 = .ok (.ireturn, 1) := dk_172 (dk_at dksX0_put_1 0 rfl rfl)
theorem dX0_put_25 : decode cX0_put 25 = .ok (.astore 4, 2) := dk_58 4 (dk_at dksX0_put_1 1 rfl rfl)
theorem dX0_put_27 : decode cX0_put 27 = .ok (.ldc 119, 2) := dk_18 119 (dk_at dksX0_put_1 3 rfl rfl)
theorem dX0_put_29 : decode cX0_put 29 = .ok (.ireturn, 1) := dk_172 (dk_at dksX0_put_1 5 rfl rfl)
abbrev cX0_tells : ByteArray := prog_1_method_40_code
def yX0_tells : MethodName := ⟨RX0, "tells", "(II)I"⟩
def dkwX0_tells_7 : List UInt8 := [180, 0, 72, 167, 0, 6, 19, 1, 32, 172, 78, 18, 119, 172, 78, 19, 1, 32, 172]
abbrev dktX0_tells_7 : List UInt8 := dkwX0_tells_7 ++ []
def dkwX0_tells_6 : List UInt8 := [180, 0, 42, 153, 0, 25, 25, 4, 180, 0, 68, 180, 0, 72, 154, 0, 14, 25, 4, 180, 0, 97]
abbrev dktX0_tells_6 : List UInt8 := dkwX0_tells_6 ++ dktX0_tells_7
def dkwX0_tells_5 : List UInt8 := [19, 1, 32, 167, 0, 16, 21, 5, 42, 180, 0, 16, 182, 0, 161, 126, 184, 0, 164, 172, 25, 4]
abbrev dktX0_tells_5 : List UInt8 := dkwX0_tells_5 ++ dktX0_tells_6
def dkwX0_tells_4 : List UInt8 := [29, 172, 21, 5, 154, 0, 11, 25, 4, 180, 0, 116, 167, 0, 6, 19, 1, 32, 172, 21, 5, 154, 0, 9]
abbrev dktX0_tells_4 : List UInt8 := dkwX0_tells_4 ++ dktX0_tells_5
def dkwX0_tells_3 : List UInt8 := [170, 0, 0, 0, 0, 0, 0, 72, 0, 0, 0, 0, 0, 0, 0, 2, 0, 0, 0, 28, 0, 0, 0, 30, 0, 0, 0, 47]
abbrev dktX0_tells_3 : List UInt8 := dkwX0_tells_3 ++ dktX0_tells_4
def dkwX0_tells_2 : List UInt8 := [180, 0, 16, 29, 182, 0, 113, 54, 5, 28]
abbrev dktX0_tells_2 : List UInt8 := dkwX0_tells_2 ++ dktX0_tells_3
def dkwX0_tells_1 : List UInt8 := [180, 0, 26, 27, 50, 192, 1, 24, 180, 1, 26, 62, 42, 180, 0, 16, 180, 0, 38, 29, 50, 58, 4, 42]
abbrev dktX0_tells_1 : List UInt8 := dkwX0_tells_1 ++ dktX0_tells_2
def dkwX0_tells_0 : List UInt8 := [27, 3, 8, 184, 0, 55, 153, 0, 12, 28, 3, 6, 184, 0, 55, 154, 0, 6, 18, 119, 172, 42]
abbrev dktX0_tells_0 : List UInt8 := dkwX0_tells_0 ++ dktX0_tells_1
theorem dksX0_tells_0 : cX0_tells.data.toList.drop 0 = dktX0_tells_0 := by decide +kernel
theorem dksX0_tells_1 : cX0_tells.data.toList.drop 22 = dktX0_tells_1 := dk_seg dksX0_tells_0 22 rfl rfl
theorem dksX0_tells_2 : cX0_tells.data.toList.drop 46 = dktX0_tells_2 := dk_seg dksX0_tells_1 24 rfl rfl
theorem dksX0_tells_3 : cX0_tells.data.toList.drop 56 = dktX0_tells_3 := dk_seg dksX0_tells_2 10 rfl rfl
theorem dksX0_tells_4 : cX0_tells.data.toList.drop 84 = dktX0_tells_4 := dk_seg dksX0_tells_3 28 rfl rfl
theorem dksX0_tells_5 : cX0_tells.data.toList.drop 108 = dktX0_tells_5 := dk_seg dksX0_tells_4 24 rfl rfl
theorem dksX0_tells_6 : cX0_tells.data.toList.drop 130 = dktX0_tells_6 := dk_seg dksX0_tells_5 22 rfl rfl
theorem dksX0_tells_7 : cX0_tells.data.toList.drop 152 = dktX0_tells_7 := dk_seg dksX0_tells_6 22 rfl rfl
theorem dX0_tells_0 : decode cX0_tells 0 = .ok (.iload_n 1, 1) := dk_27 (dk_at dksX0_tells_0 0 rfl rfl)
theorem dX0_tells_1 : decode cX0_tells 1 = .ok (.iconst 0, 1) := dk_3 (dk_at dksX0_tells_0 1 rfl rfl)
theorem dX0_tells_2 : decode cX0_tells 2 = .ok (.iconst 5, 1) := dk_8 (dk_at dksX0_tells_0 2 rfl rfl)
theorem dX0_tells_3 : decode cX0_tells 3 = .ok (.invokestatic 55, 3) := dk_184 0 55 (dk_at dksX0_tells_0 3 rfl rfl)
theorem dX0_tells_6 : decode cX0_tells 6 = .ok (.ifCond .eq 12, 3) := dk_153 0 12 (dk_at dksX0_tells_0 6 rfl rfl)
theorem dX0_tells_9 : decode cX0_tells 9 = .ok (.iload_n 2, 1) := dk_28 (dk_at dksX0_tells_0 9 rfl rfl)
theorem dX0_tells_10 : decode cX0_tells 10 = .ok (.iconst 0, 1) := dk_3 (dk_at dksX0_tells_0 10 rfl rfl)
theorem dX0_tells_11 : decode cX0_tells 11 = .ok (.iconst 3, 1) := dk_6 (dk_at dksX0_tells_0 11 rfl rfl)
theorem dX0_tells_12 : decode cX0_tells 12 = .ok (.invokestatic 55, 3) := dk_184 0 55 (dk_at dksX0_tells_0 12 rfl rfl)
theorem dX0_tells_15 : decode cX0_tells 15 = .ok (.ifCond .ne 6, 3) := dk_154 0 6 (dk_at dksX0_tells_0 15 rfl rfl)
theorem dX0_tells_18 : decode cX0_tells 18 = .ok (.ldc 119, 2) := dk_18 119 (dk_at dksX0_tells_0 18 rfl rfl)
theorem dX0_tells_20 : decode cX0_tells 20 = .ok (.ireturn, 1) := dk_172 (dk_at dksX0_tells_0 20 rfl rfl)
theorem dX0_tells_21 : decode cX0_tells 21 = .ok (.aload_n 0, 1) := dk_42 (dk_at dksX0_tells_0 21 rfl rfl)
theorem dX0_tells_22 : decode cX0_tells 22 = .ok (.getfield 26, 3) := dk_180 0 26 (dk_at dksX0_tells_1 0 rfl rfl)
theorem dX0_tells_25 : decode cX0_tells 25 = .ok (.iload_n 1, 1) := dk_27 (dk_at dksX0_tells_1 3 rfl rfl)
theorem dX0_tells_26 : decode cX0_tells 26 = .ok (.aaload, 1) := dk_50 (dk_at dksX0_tells_1 4 rfl rfl)
theorem dX0_tells_27 : decode cX0_tells 27 = .ok (.checkcast 280, 3) := dk_192 1 24 (dk_at dksX0_tells_1 5 rfl rfl)
theorem dX0_tells_30 : decode cX0_tells 30 = .ok (.getfield 282, 3) := dk_180 1 26 (dk_at dksX0_tells_1 8 rfl rfl)
theorem dX0_tells_33 : decode cX0_tells 33 = .ok (.istore_n 3, 1) := dk_62 (dk_at dksX0_tells_1 11 rfl rfl)
theorem dX0_tells_34 : decode cX0_tells 34 = .ok (.aload_n 0, 1) := dk_42 (dk_at dksX0_tells_1 12 rfl rfl)
theorem dX0_tells_35 : decode cX0_tells 35 = .ok (.getfield 16, 3) := dk_180 0 16 (dk_at dksX0_tells_1 13 rfl rfl)
theorem dX0_tells_38 : decode cX0_tells 38 = .ok (.getfield 38, 3) := dk_180 0 38 (dk_at dksX0_tells_1 16 rfl rfl)
theorem dX0_tells_41 : decode cX0_tells 41 = .ok (.iload_n 3, 1) := dk_29 (dk_at dksX0_tells_1 19 rfl rfl)
theorem dX0_tells_42 : decode cX0_tells 42 = .ok (.aaload, 1) := dk_50 (dk_at dksX0_tells_1 20 rfl rfl)
theorem dX0_tells_43 : decode cX0_tells 43 = .ok (.astore 4, 2) := dk_58 4 (dk_at dksX0_tells_1 21 rfl rfl)
theorem dX0_tells_45 : decode cX0_tells 45 = .ok (.aload_n 0, 1) := dk_42 (dk_at dksX0_tells_1 23 rfl rfl)
theorem dX0_tells_46 : decode cX0_tells 46 = .ok (.getfield 16, 3) := dk_180 0 16 (dk_at dksX0_tells_2 0 rfl rfl)
theorem dX0_tells_49 : decode cX0_tells 49 = .ok (.iload_n 3, 1) := dk_29 (dk_at dksX0_tells_2 3 rfl rfl)
theorem dX0_tells_50 : decode cX0_tells 50 = .ok (.invokevirtual 113, 3) := dk_182 0 113 (dk_at dksX0_tells_2 4 rfl rfl)
theorem dX0_tells_53 : decode cX0_tells 53 = .ok (.istore 5, 2) := dk_54 5 (dk_at dksX0_tells_2 7 rfl rfl)
theorem dX0_tells_55 : decode cX0_tells 55 = .ok (.iload_n 2, 1) := dk_28 (dk_at dksX0_tells_2 9 rfl rfl)
theorem dX0_tells_56 : decode cX0_tells 56 = .ok (.tableswitch 72 0 2 #[28, 30, 47], 28) := by decide +kernel
theorem dX0_tells_84 : decode cX0_tells 84 = .ok (.iload_n 3, 1) := dk_29 (dk_at dksX0_tells_4 0 rfl rfl)
theorem dX0_tells_85 : decode cX0_tells 85 = .ok (.ireturn, 1) := dk_172 (dk_at dksX0_tells_4 1 rfl rfl)
theorem dX0_tells_86 : decode cX0_tells 86 = .ok (.iload 5, 2) := dk_21 5 (dk_at dksX0_tells_4 2 rfl rfl)
theorem dX0_tells_88 : decode cX0_tells 88 = .ok (.ifCond .ne 11, 3) := dk_154 0 11 (dk_at dksX0_tells_4 4 rfl rfl)
theorem dX0_tells_91 : decode cX0_tells 91 = .ok (.aload 4, 2) := dk_25 4 (dk_at dksX0_tells_4 7 rfl rfl)
theorem dX0_tells_93 : decode cX0_tells 93 = .ok (.getfield 116, 3) := dk_180 0 116 (dk_at dksX0_tells_4 9 rfl rfl)
theorem dX0_tells_96 : decode cX0_tells 96 = .ok (.goto 6, 3) := dk_167 0 6 (dk_at dksX0_tells_4 12 rfl rfl)
theorem dX0_tells_99 : decode cX0_tells 99 = .ok (.ldc_w 288, 3) := dk_19 1 32 (dk_at dksX0_tells_4 15 rfl rfl)
theorem dX0_tells_102 : decode cX0_tells 102 = .ok (.ireturn, 1) := dk_172 (dk_at dksX0_tells_4 18 rfl rfl)
theorem dX0_tells_103 : decode cX0_tells 103 = .ok (.iload 5, 2) := dk_21 5 (dk_at dksX0_tells_4 19 rfl rfl)
theorem dX0_tells_105 : decode cX0_tells 105 = .ok (.ifCond .ne 9, 3) := dk_154 0 9 (dk_at dksX0_tells_4 21 rfl rfl)
theorem dX0_tells_108 : decode cX0_tells 108 = .ok (.ldc_w 288, 3) := dk_19 1 32 (dk_at dksX0_tells_5 0 rfl rfl)
theorem dX0_tells_111 : decode cX0_tells 111 = .ok (.goto 16, 3) := dk_167 0 16 (dk_at dksX0_tells_5 3 rfl rfl)
theorem dX0_tells_114 : decode cX0_tells 114 = .ok (.iload 5, 2) := dk_21 5 (dk_at dksX0_tells_5 6 rfl rfl)
theorem dX0_tells_116 : decode cX0_tells 116 = .ok (.aload_n 0, 1) := dk_42 (dk_at dksX0_tells_5 8 rfl rfl)
theorem dX0_tells_117 : decode cX0_tells 117 = .ok (.getfield 16, 3) := dk_180 0 16 (dk_at dksX0_tells_5 9 rfl rfl)
theorem dX0_tells_120 : decode cX0_tells 120 = .ok (.invokevirtual 161, 3) := dk_182 0 161 (dk_at dksX0_tells_5 12 rfl rfl)
theorem dX0_tells_123 : decode cX0_tells 123 = .ok (.iand, 1) := dk_126 (dk_at dksX0_tells_5 15 rfl rfl)
theorem dX0_tells_124 : decode cX0_tells 124 = .ok (.invokestatic 164, 3) := dk_184 0 164 (dk_at dksX0_tells_5 16 rfl rfl)
theorem dX0_tells_127 : decode cX0_tells 127 = .ok (.ireturn, 1) := dk_172 (dk_at dksX0_tells_5 19 rfl rfl)
theorem dX0_tells_128 : decode cX0_tells 128 = .ok (.aload 4, 2) := dk_25 4 (dk_at dksX0_tells_5 20 rfl rfl)
theorem dX0_tells_130 : decode cX0_tells 130 = .ok (.getfield 42, 3) := dk_180 0 42 (dk_at dksX0_tells_6 0 rfl rfl)
theorem dX0_tells_133 : decode cX0_tells 133 = .ok (.ifCond .eq 25, 3) := dk_153 0 25 (dk_at dksX0_tells_6 3 rfl rfl)
theorem dX0_tells_136 : decode cX0_tells 136 = .ok (.aload 4, 2) := dk_25 4 (dk_at dksX0_tells_6 6 rfl rfl)
theorem dX0_tells_138 : decode cX0_tells 138 = .ok (.getfield 68, 3) := dk_180 0 68 (dk_at dksX0_tells_6 8 rfl rfl)
theorem dX0_tells_141 : decode cX0_tells 141 = .ok (.getfield 72, 3) := dk_180 0 72 (dk_at dksX0_tells_6 11 rfl rfl)
theorem dX0_tells_144 : decode cX0_tells 144 = .ok (.ifCond .ne 14, 3) := dk_154 0 14 (dk_at dksX0_tells_6 14 rfl rfl)
theorem dX0_tells_147 : decode cX0_tells 147 = .ok (.aload 4, 2) := dk_25 4 (dk_at dksX0_tells_6 17 rfl rfl)
theorem dX0_tells_149 : decode cX0_tells 149 = .ok (.getfield 97, 3) := dk_180 0 97 (dk_at dksX0_tells_6 19 rfl rfl)
theorem dX0_tells_152 : decode cX0_tells 152 = .ok (.getfield 72, 3) := dk_180 0 72 (dk_at dksX0_tells_7 0 rfl rfl)
theorem dX0_tells_155 : decode cX0_tells 155 = .ok (.goto 6, 3) := dk_167 0 6 (dk_at dksX0_tells_7 3 rfl rfl)
theorem dX0_tells_158 : decode cX0_tells 158 = .ok (.ldc_w 288, 3) := dk_19 1 32 (dk_at dksX0_tells_7 6 rfl rfl)
theorem dX0_tells_161 : decode cX0_tells 161 = .ok (.ireturn, 1) := dk_172 (dk_at dksX0_tells_7 9 rfl rfl)
theorem dX0_tells_162 : decode cX0_tells 162 = .ok (.astore_n 3, 1) := dk_78 (dk_at dksX0_tells_7 10 rfl rfl)
theorem dX0_tells_163 : decode cX0_tells 163 = .ok (.ldc 119, 2) := dk_18 119 (dk_at dksX0_tells_7 11 rfl rfl)
theorem dX0_tells_165 : decode cX0_tells 165 = .ok (.ireturn, 1) := dk_172 (dk_at dksX0_tells_7 13 rfl rfl)
theorem dX0_tells_166 : decode cX0_tells 166 = .ok (.astore_n 3, 1) := dk_78 (dk_at dksX0_tells_7 14 rfl rfl)
theorem dX0_tells_167 : decode cX0_tells 167 = .ok (.ldc_w 288, 3) := dk_19 1 32 (dk_at dksX0_tells_7 15 rfl rfl)
theorem dX0_tells_170 : decode cX0_tells 170 = .ok (.ireturn, 1) := dk_172 (dk_at dksX0_tells_7 18 rfl rfl)
abbrev cX0_count : ByteArray := prog_1_method_41_code
def yX0_count : MethodName := ⟨RX0, "count", "(I)I"⟩
def dkwX0_count_6 : List UInt8 := [180, 0, 242, 172, 2, 172]
abbrev dktX0_count_6 : List UInt8 := dkwX0_count_6 ++ []
def dkwX0_count_5 : List UInt8 := [199, 0, 7, 3, 167, 0, 13, 42, 180, 0, 16, 180, 0, 192, 182, 1, 35, 172, 42, 182, 0, 186, 172, 42]
abbrev dktX0_count_5 : List UInt8 := dkwX0_count_5 ++ dktX0_count_6
def dkwX0_count_4 : List UInt8 := [180, 0, 16, 180, 0, 212, 172, 42, 180, 0, 16, 180, 0, 107, 172, 42, 180, 0, 16, 180, 0, 192]
abbrev dktX0_count_4 : List UInt8 := dkwX0_count_4 ++ dktX0_count_5
def dkwX0_count_3 : List UInt8 := [182, 1, 33, 172, 42, 180, 0, 16, 180, 0, 147, 180, 0, 72, 172, 42, 180, 0, 16, 180, 0, 209, 172, 42]
abbrev dktX0_count_3 : List UInt8 := dkwX0_count_3 ++ dktX0_count_4
def dkwX0_count_2 : List UInt8 := [42, 180, 0, 16, 180, 0, 30, 172, 42, 180, 0, 16, 182, 0, 161, 184, 0, 164, 172, 42, 180, 0, 16]
abbrev dktX0_count_2 : List UInt8 := dkwX0_count_2 ++ dktX0_count_3
def dkwX0_count_1 : List UInt8 := [170, 0, 0, 0, 0, 0, 152, 0, 0, 0, 0, 0, 0, 0, 9, 0, 0, 0, 55, 0, 0, 0, 63, 0, 0, 0, 74, 0, 0, 0, 82, 0, 0, 0, 93, 0, 0, 0, 101, 0, 0, 0, 109, 0, 0, 0, 117, 0, 0, 0, 142, 0, 0, 0, 147]
abbrev dktX0_count_1 : List UInt8 := dkwX0_count_1 ++ dktX0_count_2
def dkwX0_count_0 : List UInt8 := [27]
abbrev dktX0_count_0 : List UInt8 := dkwX0_count_0 ++ dktX0_count_1
theorem dksX0_count_0 : cX0_count.data.toList.drop 0 = dktX0_count_0 := by decide +kernel
theorem dksX0_count_1 : cX0_count.data.toList.drop 1 = dktX0_count_1 := dk_seg dksX0_count_0 1 rfl rfl
theorem dksX0_count_2 : cX0_count.data.toList.drop 56 = dktX0_count_2 := dk_seg dksX0_count_1 55 rfl rfl
theorem dksX0_count_3 : cX0_count.data.toList.drop 79 = dktX0_count_3 := dk_seg dksX0_count_2 23 rfl rfl
theorem dksX0_count_4 : cX0_count.data.toList.drop 103 = dktX0_count_4 := dk_seg dksX0_count_3 24 rfl rfl
theorem dksX0_count_5 : cX0_count.data.toList.drop 125 = dktX0_count_5 := dk_seg dksX0_count_4 22 rfl rfl
theorem dksX0_count_6 : cX0_count.data.toList.drop 149 = dktX0_count_6 := dk_seg dksX0_count_5 24 rfl rfl
theorem dX0_count_0 : decode cX0_count 0 = .ok (.iload_n 1, 1) := dk_27 (dk_at dksX0_count_0 0 rfl rfl)
theorem dX0_count_1 : decode cX0_count 1 = .ok (.tableswitch 152 0 9 #[55, 63, 74, 82, 93, 101, 109, 117, 142, 147], 55) := by decide +kernel
theorem dX0_count_56 : decode cX0_count 56 = .ok (.aload_n 0, 1) := dk_42 (dk_at dksX0_count_2 0 rfl rfl)
theorem dX0_count_57 : decode cX0_count 57 = .ok (.getfield 16, 3) := dk_180 0 16 (dk_at dksX0_count_2 1 rfl rfl)
theorem dX0_count_60 : decode cX0_count 60 = .ok (.getfield 30, 3) := dk_180 0 30 (dk_at dksX0_count_2 4 rfl rfl)
theorem dX0_count_63 : decode cX0_count 63 = .ok (.ireturn, 1) := dk_172 (dk_at dksX0_count_2 7 rfl rfl)
theorem dX0_count_64 : decode cX0_count 64 = .ok (.aload_n 0, 1) := dk_42 (dk_at dksX0_count_2 8 rfl rfl)
theorem dX0_count_65 : decode cX0_count 65 = .ok (.getfield 16, 3) := dk_180 0 16 (dk_at dksX0_count_2 9 rfl rfl)
theorem dX0_count_68 : decode cX0_count 68 = .ok (.invokevirtual 161, 3) := dk_182 0 161 (dk_at dksX0_count_2 12 rfl rfl)
theorem dX0_count_71 : decode cX0_count 71 = .ok (.invokestatic 164, 3) := dk_184 0 164 (dk_at dksX0_count_2 15 rfl rfl)
theorem dX0_count_74 : decode cX0_count 74 = .ok (.ireturn, 1) := dk_172 (dk_at dksX0_count_2 18 rfl rfl)
theorem dX0_count_75 : decode cX0_count 75 = .ok (.aload_n 0, 1) := dk_42 (dk_at dksX0_count_2 19 rfl rfl)
theorem dX0_count_76 : decode cX0_count 76 = .ok (.getfield 16, 3) := dk_180 0 16 (dk_at dksX0_count_2 20 rfl rfl)
theorem dX0_count_79 : decode cX0_count 79 = .ok (.invokevirtual 289, 3) := dk_182 1 33 (dk_at dksX0_count_3 0 rfl rfl)
theorem dX0_count_82 : decode cX0_count 82 = .ok (.ireturn, 1) := dk_172 (dk_at dksX0_count_3 3 rfl rfl)
theorem dX0_count_83 : decode cX0_count 83 = .ok (.aload_n 0, 1) := dk_42 (dk_at dksX0_count_3 4 rfl rfl)
theorem dX0_count_84 : decode cX0_count 84 = .ok (.getfield 16, 3) := dk_180 0 16 (dk_at dksX0_count_3 5 rfl rfl)
theorem dX0_count_87 : decode cX0_count 87 = .ok (.getfield 147, 3) := dk_180 0 147 (dk_at dksX0_count_3 8 rfl rfl)
theorem dX0_count_90 : decode cX0_count 90 = .ok (.getfield 72, 3) := dk_180 0 72 (dk_at dksX0_count_3 11 rfl rfl)
theorem dX0_count_93 : decode cX0_count 93 = .ok (.ireturn, 1) := dk_172 (dk_at dksX0_count_3 14 rfl rfl)
theorem dX0_count_94 : decode cX0_count 94 = .ok (.aload_n 0, 1) := dk_42 (dk_at dksX0_count_3 15 rfl rfl)
theorem dX0_count_95 : decode cX0_count 95 = .ok (.getfield 16, 3) := dk_180 0 16 (dk_at dksX0_count_3 16 rfl rfl)
theorem dX0_count_98 : decode cX0_count 98 = .ok (.getfield 209, 3) := dk_180 0 209 (dk_at dksX0_count_3 19 rfl rfl)
theorem dX0_count_101 : decode cX0_count 101 = .ok (.ireturn, 1) := dk_172 (dk_at dksX0_count_3 22 rfl rfl)
theorem dX0_count_102 : decode cX0_count 102 = .ok (.aload_n 0, 1) := dk_42 (dk_at dksX0_count_3 23 rfl rfl)
theorem dX0_count_103 : decode cX0_count 103 = .ok (.getfield 16, 3) := dk_180 0 16 (dk_at dksX0_count_4 0 rfl rfl)
theorem dX0_count_106 : decode cX0_count 106 = .ok (.getfield 212, 3) := dk_180 0 212 (dk_at dksX0_count_4 3 rfl rfl)
theorem dX0_count_109 : decode cX0_count 109 = .ok (.ireturn, 1) := dk_172 (dk_at dksX0_count_4 6 rfl rfl)
theorem dX0_count_110 : decode cX0_count 110 = .ok (.aload_n 0, 1) := dk_42 (dk_at dksX0_count_4 7 rfl rfl)
theorem dX0_count_111 : decode cX0_count 111 = .ok (.getfield 16, 3) := dk_180 0 16 (dk_at dksX0_count_4 8 rfl rfl)
theorem dX0_count_114 : decode cX0_count 114 = .ok (.getfield 107, 3) := dk_180 0 107 (dk_at dksX0_count_4 11 rfl rfl)
theorem dX0_count_117 : decode cX0_count 117 = .ok (.ireturn, 1) := dk_172 (dk_at dksX0_count_4 14 rfl rfl)
theorem dX0_count_118 : decode cX0_count 118 = .ok (.aload_n 0, 1) := dk_42 (dk_at dksX0_count_4 15 rfl rfl)
theorem dX0_count_119 : decode cX0_count 119 = .ok (.getfield 16, 3) := dk_180 0 16 (dk_at dksX0_count_4 16 rfl rfl)
theorem dX0_count_122 : decode cX0_count 122 = .ok (.getfield 192, 3) := dk_180 0 192 (dk_at dksX0_count_4 19 rfl rfl)
theorem dX0_count_125 : decode cX0_count 125 = .ok (.ifnonnull 7, 3) := dk_199 0 7 (dk_at dksX0_count_5 0 rfl rfl)
theorem dX0_count_128 : decode cX0_count 128 = .ok (.iconst 0, 1) := dk_3 (dk_at dksX0_count_5 3 rfl rfl)
theorem dX0_count_129 : decode cX0_count 129 = .ok (.goto 13, 3) := dk_167 0 13 (dk_at dksX0_count_5 4 rfl rfl)
theorem dX0_count_132 : decode cX0_count 132 = .ok (.aload_n 0, 1) := dk_42 (dk_at dksX0_count_5 7 rfl rfl)
theorem dX0_count_133 : decode cX0_count 133 = .ok (.getfield 16, 3) := dk_180 0 16 (dk_at dksX0_count_5 8 rfl rfl)
theorem dX0_count_136 : decode cX0_count 136 = .ok (.getfield 192, 3) := dk_180 0 192 (dk_at dksX0_count_5 11 rfl rfl)
theorem dX0_count_139 : decode cX0_count 139 = .ok (.invokevirtual 291, 3) := dk_182 1 35 (dk_at dksX0_count_5 14 rfl rfl)
theorem dX0_count_142 : decode cX0_count 142 = .ok (.ireturn, 1) := dk_172 (dk_at dksX0_count_5 17 rfl rfl)
theorem dX0_count_143 : decode cX0_count 143 = .ok (.aload_n 0, 1) := dk_42 (dk_at dksX0_count_5 18 rfl rfl)
theorem dX0_count_144 : decode cX0_count 144 = .ok (.invokevirtual 186, 3) := dk_182 0 186 (dk_at dksX0_count_5 19 rfl rfl)
theorem dX0_count_147 : decode cX0_count 147 = .ok (.ireturn, 1) := dk_172 (dk_at dksX0_count_5 22 rfl rfl)
theorem dX0_count_148 : decode cX0_count 148 = .ok (.aload_n 0, 1) := dk_42 (dk_at dksX0_count_5 23 rfl rfl)
theorem dX0_count_149 : decode cX0_count 149 = .ok (.getfield 242, 3) := dk_180 0 242 (dk_at dksX0_count_6 0 rfl rfl)
theorem dX0_count_152 : decode cX0_count 152 = .ok (.ireturn, 1) := dk_172 (dk_at dksX0_count_6 3 rfl rfl)
theorem dX0_count_153 : decode cX0_count 153 = .ok (.iconst (-1), 1) := dk_2 (dk_at dksX0_count_6 4 rfl rfl)
theorem dX0_count_154 : decode cX0_count 154 = .ok (.ireturn, 1) := dk_172 (dk_at dksX0_count_6 5 rfl rfl)
theorem q74 : (Jvm.Cond.initialized "ActorTrees") ∈ lw_all := lw_g (lw_at lw_m1 1 rfl) rfl
theorem q108 : (Jvm.Cond.instantiable "ActorTrees" (5 : Nat)) ∈ lw_all := lw_g (lw_at lw_m1 35 rfl) rfl
theorem q110 : (Jvm.Cond.instanceMethod ({ cls := "ActorTrees", name := "<init>", desc := "()V" } : Jvm.MethodName)) ∈ lw_all := lw_g (lw_at lw_m1 37 rfl) rfl
theorem q111 : (Jvm.Cond.code ({ cls := "ActorTrees", name := "<init>", desc := "()V" } : Jvm.MethodName) prog_1_method_3_code (1 : Nat) (Option.none : Option Jvm.ClassFile.FieldType)) ∈ lw_all := lw_g (lw_at lw_m1 38 rfl) rfl
theorem q112 : (Jvm.Cond.methodLink "ActorTrees" (7 : Nat) ({ cls := "java/lang/Object", name := "<init>", desc := "()V" } : Jvm.MethodName)) ∈ lw_all := lw_g (lw_at lw_m1 39 rfl) rfl
theorem q115 : (Jvm.Cond.classLink "ActorTrees" (13 : Nat) "ActorTrees$World") ∈ lw_all := lw_g (lw_at lw_m1 42 rfl) rfl
theorem q117 : (Jvm.Cond.methodLinkNest "ActorTrees" (15 : Nat) ({ cls := "ActorTrees$World", name := "<init>", desc := "()V" } : Jvm.MethodName) "ActorTrees") ∈ lw_tbl := lw_at lw_m1 44 rfl
theorem q137 : (Jvm.Cond.fieldLinkNest "ActorTrees" (72 : Nat) "ActorTrees$Queue" "many" "I" "ActorTrees") ∈ lw_tbl := lw_at lw_m1 64 rfl
theorem q160 : (Jvm.Cond.fieldLinkNest "ActorTrees" (38 : Nat) "ActorTrees$World" "actors" "[LActorTrees$Actor;" "ActorTrees") ∈ lw_tbl := lw_at lw_m1 87 rfl
theorem q164 : (Jvm.Cond.fieldLinkNest "ActorTrees" (30 : Nat) "ActorTrees$World" "many" "I" "ActorTrees") ∈ lw_tbl := lw_at lw_m1 91 rfl
theorem q168 : (Jvm.Cond.fieldLinkNest "ActorTrees" (212 : Nat) "ActorTrees$World" "clock" "I" "ActorTrees") ∈ lw_tbl := lw_at lw_m1 95 rfl
theorem q170 : (Jvm.Cond.fieldLinkNest "ActorTrees" (107 : Nat) "ActorTrees$World" "time" "I" "ActorTrees") ∈ lw_tbl := lw_at lw_m1 97 rfl
theorem q173 : (Jvm.Cond.fieldLinkNest "ActorTrees" (209 : Nat) "ActorTrees$World" "dead" "I" "ActorTrees") ∈ lw_tbl := lw_at lw_m1 100 rfl
theorem q175 : (Jvm.Cond.fieldLinkNest "ActorTrees" (147 : Nat) "ActorTrees$World" "timers" "LActorTrees$Queue;" "ActorTrees") ∈ lw_tbl := lw_at lw_m1 102 rfl
theorem q177 : (Jvm.Cond.fieldLinkNest "ActorTrees" (264 : Nat) "ActorTrees$World" "seed" "I" "ActorTrees") ∈ lw_tbl := lw_at lw_m1 104 rfl
theorem q179 : (Jvm.Cond.fieldLinkNest "ActorTrees" (189 : Nat) "ActorTrees$World" "log" "[I" "ActorTrees") ∈ lw_tbl := lw_at lw_m1 106 rfl
theorem q181 : (Jvm.Cond.fieldLinkNest "ActorTrees" (177 : Nat) "ActorTrees$World" "logged" "I" "ActorTrees") ∈ lw_tbl := lw_at lw_m1 108 rfl
theorem q183 : (Jvm.Cond.fieldLinkNest "ActorTrees" (192 : Nat) "ActorTrees$World" "failure" "LActorTrees$Failure;" "ActorTrees") ∈ lw_tbl := lw_at lw_m1 110 rfl
theorem q185 : (Jvm.Cond.fieldLinkNest "ActorTrees" (219 : Nat) "ActorTrees$World" "failures" "I" "ActorTrees") ∈ lw_tbl := lw_at lw_m1 112 rfl
theorem q187 : (Jvm.Cond.fieldLinkNest "ActorTrees" (236 : Nat) "ActorTrees$World" "restarted" "I" "ActorTrees") ∈ lw_tbl := lw_at lw_m1 114 rfl
theorem q189 : (Jvm.Cond.fieldLinkNest "ActorTrees" (174 : Nat) "ActorTrees$World" "ended" "I" "ActorTrees") ∈ lw_tbl := lw_at lw_m1 116 rfl
theorem q222 : (Jvm.Cond.classLink "ActorTrees" (8 : Nat) "java/lang/Object") ∈ lw_all := lw_g (lw_at lw_m1 149 rfl) rfl
theorem q224 : (Jvm.Cond.fieldLink "ActorTrees" (16 : Nat) "ActorTrees" "world" "LActorTrees$World;") ∈ lw_all := lw_g (lw_at lw_m1 151 rfl) rfl
theorem q225 : (Jvm.Cond.fieldLink "ActorTrees" (277 : Nat) "ActorTrees" "kept" "LActorTrees$World;") ∈ lw_all := lw_g (lw_at lw_m1 152 rfl) rfl
theorem q226 : (Jvm.Cond.fieldLink "ActorTrees" (22 : Nat) "ActorTrees" "tape" "[B") ∈ lw_all := lw_g (lw_at lw_m1 153 rfl) rfl
theorem q227 : (Jvm.Cond.fieldLink "ActorTrees" (242 : Nat) "ActorTrees" "taped" "I") ∈ lw_all := lw_g (lw_at lw_m1 154 rfl) rfl
theorem q228 : (Jvm.Cond.fieldLink "ActorTrees" (26 : Nat) "ActorTrees" "handles" "[Ljava/lang/Object;") ∈ lw_all := lw_g (lw_at lw_m1 155 rfl) rfl
theorem q229 : (Jvm.Cond.lays "ActorTrees" "ActorTrees" "world" "LActorTrees$World;") ∈ lw_all := lw_g (lw_at lw_m1 156 rfl) rfl
theorem q230 : (Jvm.Cond.soleField "ActorTrees" "world") ∈ lw_all := lw_g (lw_at lw_m1 157 rfl) rfl
theorem q231 : (Jvm.Cond.lays "ActorTrees" "ActorTrees" "kept" "LActorTrees$World;") ∈ lw_all := lw_g (lw_at lw_m1 158 rfl) rfl
theorem q232 : (Jvm.Cond.soleField "ActorTrees" "kept") ∈ lw_all := lw_g (lw_at lw_m1 159 rfl) rfl
theorem q233 : (Jvm.Cond.laysFinal "ActorTrees" "ActorTrees" "tape" "[B") ∈ lw_all := lw_g (lw_at lw_m1 160 rfl) rfl
theorem q234 : (Jvm.Cond.soleField "ActorTrees" "tape") ∈ lw_all := lw_g (lw_at lw_m1 161 rfl) rfl
theorem q235 : (Jvm.Cond.lays "ActorTrees" "ActorTrees" "taped" "I") ∈ lw_all := lw_g (lw_at lw_m1 162 rfl) rfl
theorem q236 : (Jvm.Cond.soleField "ActorTrees" "taped") ∈ lw_all := lw_g (lw_at lw_m1 163 rfl) rfl
theorem q237 : (Jvm.Cond.laysFinal "ActorTrees" "ActorTrees" "handles" "[Ljava/lang/Object;") ∈ lw_all := lw_g (lw_at lw_m1 164 rfl) rfl
theorem q238 : (Jvm.Cond.soleField "ActorTrees" "handles") ∈ lw_all := lw_g (lw_at lw_m1 165 rfl) rfl
theorem q239 : (Jvm.Cond.superclass "ActorTrees" "java/lang/Object") ∈ lw_all := lw_g (lw_at lw_m1 166 rfl) rfl
theorem q242 : (Jvm.Cond.instanceMethod ({ cls := "ActorTrees", name := "actor", desc := "(III)I" } : Jvm.MethodName)) ∈ lw_all := lw_g (lw_at lw_m1 169 rfl) rfl
theorem q243 : (Jvm.Cond.selects "ActorTrees" ({ cls := "ActorTrees", name := "actor", desc := "(III)I" } : Jvm.MethodName) ({ cls := "ActorTrees", name := "actor", desc := "(III)I" } : Jvm.MethodName)) ∈ lw_all := lw_g (lw_at lw_m1 170 rfl) rfl
theorem q244 : (Jvm.Cond.code ({ cls := "ActorTrees", name := "actor", desc := "(III)I" } : Jvm.MethodName) prog_1_method_6_code (5 : Nat) (Option.some Jvm.ClassFile.FieldType.int)) ∈ lw_all := lw_g (lw_at lw_m1 171 rfl) rfl
theorem q245 : (Jvm.Cond.methodLink "ActorTrees" (48 : Nat) ({ cls := "ActorTrees$World", name := "bars", desc := "(IIIII)I" } : Jvm.MethodName)) ∈ lw_all := lw_g (lw_at lw_m1 172 rfl) rfl
theorem q250 : (Jvm.Cond.static ({ cls := "ActorTrees", name := "within", desc := "(III)Z" } : Jvm.MethodName)) ∈ lw_all := lw_g (lw_at lw_m1 177 rfl) rfl
theorem q251 : (Jvm.Cond.code ({ cls := "ActorTrees", name := "within", desc := "(III)Z" } : Jvm.MethodName) prog_1_method_1_code (3 : Nat) (Option.some Jvm.ClassFile.FieldType.boolean)) ∈ lw_all := lw_g (lw_at lw_m1 178 rfl) rfl
theorem q252 : (Jvm.Cond.methodLink "ActorTrees" (52 : Nat) ({ cls := "ActorTrees$World", name := "comes", desc := "(IIIII)I" } : Jvm.MethodName)) ∈ lw_all := lw_g (lw_at lw_m1 179 rfl) rfl
theorem q265 : (Jvm.Cond.static ({ cls := "ActorTrees", name := "strategyOf", desc := "(I)LActorTrees$Strategy;" } : Jvm.MethodName)) ∈ lw_all := lw_g (lw_at lw_m1 192 rfl) rfl
theorem q266 : (Jvm.Cond.code ({ cls := "ActorTrees", name := "strategyOf", desc := "(I)LActorTrees$Strategy;" } : Jvm.MethodName) prog_1_method_2_code (1 : Nat) (Option.some (Jvm.ClassFile.FieldType.object "ActorTrees$Strategy"))) ∈ lw_all := lw_g (lw_at lw_m1 193 rfl) rfl
theorem q267 : (Jvm.Cond.static ({ cls := "ActorTrees", name := "lambda$strategyOf$0", desc := "(II)Z" } : Jvm.MethodName)) ∈ lw_all := lw_g (lw_at lw_m1 194 rfl) rfl
theorem q268 : (Jvm.Cond.code ({ cls := "ActorTrees", name := "lambda$strategyOf$0", desc := "(II)Z" } : Jvm.MethodName) prog_1_method_44_code (2 : Nat) (Option.some Jvm.ClassFile.FieldType.boolean)) ∈ lw_all := lw_g (lw_at lw_m1 195 rfl) rfl
theorem q269 : (Jvm.Cond.static ({ cls := "ActorTrees", name := "lambda$strategyOf$1", desc := "(II)Z" } : Jvm.MethodName)) ∈ lw_all := lw_g (lw_at lw_m1 196 rfl) rfl
theorem q270 : (Jvm.Cond.code ({ cls := "ActorTrees", name := "lambda$strategyOf$1", desc := "(II)Z" } : Jvm.MethodName) prog_1_method_43_code (2 : Nat) (Option.some Jvm.ClassFile.FieldType.boolean)) ∈ lw_all := lw_g (lw_at lw_m1 197 rfl) rfl
theorem q271 : (Jvm.Cond.static ({ cls := "ActorTrees", name := "lambda$strategyOf$2", desc := "(II)Z" } : Jvm.MethodName)) ∈ lw_all := lw_g (lw_at lw_m1 198 rfl) rfl
theorem q272 : (Jvm.Cond.code ({ cls := "ActorTrees", name := "lambda$strategyOf$2", desc := "(II)Z" } : Jvm.MethodName) prog_1_method_42_code (2 : Nat) (Option.some Jvm.ClassFile.FieldType.boolean)) ∈ lw_all := lw_g (lw_at lw_m1 199 rfl) rfl
theorem q286 : (Jvm.Cond.fieldLinkNest "ActorTrees" (75 : Nat) "ActorTrees$Actor" "parent" "I" "ActorTrees") ∈ lw_tbl := lw_at lw_m1 213 rfl
theorem q289 : (Jvm.Cond.fieldLinkNest "ActorTrees" (78 : Nat) "ActorTrees$Actor" "own" "I" "ActorTrees") ∈ lw_tbl := lw_at lw_m1 216 rfl
theorem q291 : (Jvm.Cond.fieldLinkNest "ActorTrees" (81 : Nat) "ActorTrees$Actor" "strategy" "I" "ActorTrees") ∈ lw_tbl := lw_at lw_m1 218 rfl
theorem q295 : (Jvm.Cond.fieldLinkNest "ActorTrees" (84 : Nat) "ActorTrees$Actor" "budget" "I" "ActorTrees") ∈ lw_tbl := lw_at lw_m1 222 rfl
theorem q298 : (Jvm.Cond.fieldLinkNest "ActorTrees" (87 : Nat) "ActorTrees$Actor" "window" "I" "ActorTrees") ∈ lw_tbl := lw_at lw_m1 225 rfl
theorem q302 : (Jvm.Cond.fieldLinkNest "ActorTrees" (42 : Nat) "ActorTrees$Actor" "live" "Z" "ActorTrees") ∈ lw_tbl := lw_at lw_m1 229 rfl
theorem q305 : (Jvm.Cond.fieldLinkNest "ActorTrees" (116 : Nat) "ActorTrees$Actor" "count" "I" "ActorTrees") ∈ lw_tbl := lw_at lw_m1 232 rfl
theorem q308 : (Jvm.Cond.fieldLinkNest "ActorTrees" (138 : Nat) "ActorTrees$Actor" "stack" "[I" "ActorTrees") ∈ lw_tbl := lw_at lw_m1 235 rfl
theorem q310 : (Jvm.Cond.fieldLinkNest "ActorTrees" (94 : Nat) "ActorTrees$Actor" "stacked" "I" "ActorTrees") ∈ lw_tbl := lw_at lw_m1 237 rfl
theorem q314 : (Jvm.Cond.fieldLinkNest "ActorTrees" (68 : Nat) "ActorTrees$Actor" "mails" "LActorTrees$Queue;" "ActorTrees") ∈ lw_tbl := lw_at lw_m2 1 rfl
theorem q317 : (Jvm.Cond.fieldLinkNest "ActorTrees" (97 : Nat) "ActorTrees$Actor" "stash" "LActorTrees$Queue;" "ActorTrees") ∈ lw_tbl := lw_at lw_m2 4 rfl
theorem q319 : (Jvm.Cond.fieldLinkNest "ActorTrees" (100 : Nat) "ActorTrees$Actor" "watchers" "LActorTrees$Queue;" "ActorTrees") ∈ lw_tbl := lw_at lw_m2 6 rfl
theorem q363 : (Jvm.Cond.instanceMethod ({ cls := "ActorTrees", name := "tell", desc := "(III)I" } : Jvm.MethodName)) ∈ lw_all := lw_g (lw_at lw_m2 50 rfl) rfl
theorem q364 : (Jvm.Cond.selects "ActorTrees" ({ cls := "ActorTrees", name := "tell", desc := "(III)I" } : Jvm.MethodName) ({ cls := "ActorTrees", name := "tell", desc := "(III)I" } : Jvm.MethodName)) ∈ lw_all := lw_g (lw_at lw_m2 51 rfl) rfl
theorem q365 : (Jvm.Cond.code ({ cls := "ActorTrees", name := "tell", desc := "(III)I" } : Jvm.MethodName) prog_1_method_7_code (5 : Nat) (Option.some Jvm.ClassFile.FieldType.int)) ∈ lw_all := lw_g (lw_at lw_m2 52 rfl) rfl
theorem q366 : (Jvm.Cond.methodLink "ActorTrees" (34 : Nat) ({ cls := "ActorTrees", name := "isActor", desc := "(I)Z" } : Jvm.MethodName)) ∈ lw_all := lw_g (lw_at lw_m2 53 rfl) rfl
theorem q367 : (Jvm.Cond.privateMethod ({ cls := "ActorTrees", name := "isActor", desc := "(I)Z" } : Jvm.MethodName)) ∈ lw_tbl := lw_at lw_m2 54 rfl
theorem q368 : (Jvm.Cond.instanceMethod ({ cls := "ActorTrees", name := "isActor", desc := "(I)Z" } : Jvm.MethodName)) ∈ lw_all := lw_g (lw_at lw_m2 55 rfl) rfl
theorem q369 : (Jvm.Cond.code ({ cls := "ActorTrees", name := "isActor", desc := "(I)Z" } : Jvm.MethodName) prog_1_method_4_code (2 : Nat) (Option.some Jvm.ClassFile.FieldType.boolean)) ∈ lw_all := lw_g (lw_at lw_m2 56 rfl) rfl
theorem q370 : (Jvm.Cond.methodLink "ActorTrees" (55 : Nat) ({ cls := "ActorTrees", name := "within", desc := "(III)Z" } : Jvm.MethodName)) ∈ lw_all := lw_g (lw_at lw_m2 57 rfl) rfl
theorem q371 : (Jvm.Cond.classLink "ActorTrees" (59 : Nat) "ActorTrees$Count") ∈ lw_all := lw_g (lw_at lw_m2 58 rfl) rfl
theorem q373 : (Jvm.Cond.methodLink "ActorTrees" (61 : Nat) ({ cls := "ActorTrees$Count", name := "<init>", desc := "(II)V" } : Jvm.MethodName)) ∈ lw_all := lw_g (lw_at lw_m2 60 rfl) rfl
theorem q384 : (Jvm.Cond.fieldLinkNest "ActorTrees" (135 : Nat) "ActorTrees$Message" "from" "I" "ActorTrees") ∈ lw_tbl := lw_at lw_m2 71 rfl
theorem q390 : (Jvm.Cond.methodLink "ActorTrees" (64 : Nat) ({ cls := "ActorTrees$World", name := "sends", desc := "(LActorTrees$Actor;LActorTrees$Message;)Z" } : Jvm.MethodName)) ∈ lw_all := lw_g (lw_at lw_m2 77 rfl) rfl
theorem q423 : (Jvm.Cond.instanceMethod ({ cls := "ActorTrees", name := "of", desc := "(II)I" } : Jvm.MethodName)) ∈ lw_all := lw_g (lw_at lw_m2 110 rfl) rfl
theorem q424 : (Jvm.Cond.selects "ActorTrees" ({ cls := "ActorTrees", name := "of", desc := "(II)I" } : Jvm.MethodName) ({ cls := "ActorTrees", name := "of", desc := "(II)I" } : Jvm.MethodName)) ∈ lw_all := lw_g (lw_at lw_m2 111 rfl) rfl
theorem q425 : (Jvm.Cond.code ({ cls := "ActorTrees", name := "of", desc := "(II)I" } : Jvm.MethodName) prog_1_method_8_code (4 : Nat) (Option.some Jvm.ClassFile.FieldType.int)) ∈ lw_all := lw_g (lw_at lw_m2 112 rfl) rfl
theorem q426 : (Jvm.Cond.methodLink "ActorTrees" (90 : Nat) ({ cls := "ActorTrees$Actor", name := "does", desc := "()I" } : Jvm.MethodName)) ∈ lw_all := lw_g (lw_at lw_m2 113 rfl) rfl
theorem q430 : (Jvm.Cond.methodLink "ActorTrees" (103 : Nat) ({ cls := "ActorTrees$World", name := "timersOf", desc := "(I)I" } : Jvm.MethodName)) ∈ lw_all := lw_g (lw_at lw_m2 117 rfl) rfl
theorem q471 : (Jvm.Cond.methodLink "ActorTrees" (110 : Nat) ({ cls := "ActorTrees$Actor", name := "failures", desc := "(I)I" } : Jvm.MethodName)) ∈ lw_all := lw_g (lw_at lw_m2 158 rfl) rfl
theorem q481 : (Jvm.Cond.methodLink "ActorTrees" (113 : Nat) ({ cls := "ActorTrees$World", name := "childrenOf", desc := "(I)I" } : Jvm.MethodName)) ∈ lw_all := lw_g (lw_at lw_m2 168 rfl) rfl
theorem q486 : (Jvm.Cond.instanceMethod ({ cls := "ActorTrees", name := "counted", desc := "(I)I" } : Jvm.MethodName)) ∈ lw_all := lw_g (lw_at lw_m2 173 rfl) rfl
theorem q487 : (Jvm.Cond.selects "ActorTrees" ({ cls := "ActorTrees", name := "counted", desc := "(I)I" } : Jvm.MethodName) ({ cls := "ActorTrees", name := "counted", desc := "(I)I" } : Jvm.MethodName)) ∈ lw_all := lw_g (lw_at lw_m2 174 rfl) rfl
theorem q488 : (Jvm.Cond.code ({ cls := "ActorTrees", name := "counted", desc := "(I)I" } : Jvm.MethodName) prog_1_method_9_code (2 : Nat) (Option.some Jvm.ClassFile.FieldType.int)) ∈ lw_all := lw_g (lw_at lw_m2 175 rfl) rfl
theorem q489 : (Jvm.Cond.constant "ActorTrees" (119 : Nat) (-2000000000 : Int32)) ∈ lw_all := lw_g (lw_at lw_m2 176 rfl) rfl
theorem q491 : (Jvm.Cond.instanceMethod ({ cls := "ActorTrees", name := "message", desc := "(IIZ)I" } : Jvm.MethodName)) ∈ lw_all := lw_g (lw_at lw_m2 178 rfl) rfl
theorem q492 : (Jvm.Cond.selects "ActorTrees" ({ cls := "ActorTrees", name := "message", desc := "(IIZ)I" } : Jvm.MethodName) ({ cls := "ActorTrees", name := "message", desc := "(IIZ)I" } : Jvm.MethodName)) ∈ lw_all := lw_g (lw_at lw_m2 179 rfl) rfl
theorem q493 : (Jvm.Cond.codeWith ({ cls := "ActorTrees", name := "message", desc := "(IIZ)I" } : Jvm.MethodName) prog_1_method_11_code (5 : Nat) (Option.some Jvm.ClassFile.FieldType.int) [((14 : Nat), (27 : Nat), (28 : Nat), (133 : Nat))]) ∈ lw_all := lw_g (lw_at lw_m2 180 rfl) rfl
theorem q494 : (Jvm.Cond.classLink "ActorTrees" (133 : Nat) "java/lang/NullPointerException") ∈ lw_all := lw_g (lw_at lw_m2 181 rfl) rfl
theorem q580 : (Jvm.Cond.methodLink "ActorTrees" (126 : Nat) ({ cls := "ActorTrees", name := "messageOf", desc := "(IIZ)LActorTrees$Message;" } : Jvm.MethodName)) ∈ lw_all := lw_g (lw_at lw_m3 27 rfl) rfl
theorem q581 : (Jvm.Cond.privateMethod ({ cls := "ActorTrees", name := "messageOf", desc := "(IIZ)LActorTrees$Message;" } : Jvm.MethodName)) ∈ lw_tbl := lw_at lw_m3 28 rfl
theorem q582 : (Jvm.Cond.instanceMethod ({ cls := "ActorTrees", name := "messageOf", desc := "(IIZ)LActorTrees$Message;" } : Jvm.MethodName)) ∈ lw_all := lw_g (lw_at lw_m3 29 rfl) rfl
theorem q583 : (Jvm.Cond.code ({ cls := "ActorTrees", name := "messageOf", desc := "(IIZ)LActorTrees$Message;" } : Jvm.MethodName) prog_1_method_10_code (5 : Nat) (Option.some (Jvm.ClassFile.FieldType.object "ActorTrees$Message"))) ∈ lw_all := lw_g (lw_at lw_m3 30 rfl) rfl
theorem q584 : (Jvm.Cond.methodLink "ActorTrees" (120 : Nat) ({ cls := "ActorTrees$Queue", name := "at", desc := "(I)Ljava/lang/Object;" } : Jvm.MethodName)) ∈ lw_all := lw_g (lw_at lw_m3 31 rfl) rfl
theorem q593 : (Jvm.Cond.classLink "ActorTrees" (124 : Nat) "ActorTrees$Message") ∈ lw_all := lw_g (lw_at lw_m3 40 rfl) rfl
theorem q594 : (Jvm.Cond.methodLink "ActorTrees" (130 : Nat) ({ cls := "ActorTrees$Message", name := "code", desc := "()I" } : Jvm.MethodName)) ∈ lw_all := lw_g (lw_at lw_m3 41 rfl) rfl
theorem q604 : (Jvm.Cond.instanceMethod ({ cls := "ActorTrees", name := "sender", desc := "(IIZ)I" } : Jvm.MethodName)) ∈ lw_all := lw_g (lw_at lw_m3 51 rfl) rfl
theorem q605 : (Jvm.Cond.selects "ActorTrees" ({ cls := "ActorTrees", name := "sender", desc := "(IIZ)I" } : Jvm.MethodName) ({ cls := "ActorTrees", name := "sender", desc := "(IIZ)I" } : Jvm.MethodName)) ∈ lw_all := lw_g (lw_at lw_m3 52 rfl) rfl
theorem q606 : (Jvm.Cond.code ({ cls := "ActorTrees", name := "sender", desc := "(IIZ)I" } : Jvm.MethodName) prog_1_method_12_code (5 : Nat) (Option.some Jvm.ClassFile.FieldType.int)) ∈ lw_all := lw_g (lw_at lw_m3 53 rfl) rfl
theorem q608 : (Jvm.Cond.instanceMethod ({ cls := "ActorTrees", name := "stack", desc := "(II)I" } : Jvm.MethodName)) ∈ lw_all := lw_g (lw_at lw_m3 55 rfl) rfl
theorem q609 : (Jvm.Cond.selects "ActorTrees" ({ cls := "ActorTrees", name := "stack", desc := "(II)I" } : Jvm.MethodName) ({ cls := "ActorTrees", name := "stack", desc := "(II)I" } : Jvm.MethodName)) ∈ lw_all := lw_g (lw_at lw_m3 56 rfl) rfl
theorem q610 : (Jvm.Cond.code ({ cls := "ActorTrees", name := "stack", desc := "(II)I" } : Jvm.MethodName) prog_1_method_13_code (4 : Nat) (Option.some Jvm.ClassFile.FieldType.int)) ∈ lw_all := lw_g (lw_at lw_m3 57 rfl) rfl
theorem q612 : (Jvm.Cond.instanceMethod ({ cls := "ActorTrees", name := "watcher", desc := "(II)I" } : Jvm.MethodName)) ∈ lw_all := lw_g (lw_at lw_m3 59 rfl) rfl
theorem q613 : (Jvm.Cond.selects "ActorTrees" ({ cls := "ActorTrees", name := "watcher", desc := "(II)I" } : Jvm.MethodName) ({ cls := "ActorTrees", name := "watcher", desc := "(II)I" } : Jvm.MethodName)) ∈ lw_all := lw_g (lw_at lw_m3 60 rfl) rfl
theorem q614 : (Jvm.Cond.code ({ cls := "ActorTrees", name := "watcher", desc := "(II)I" } : Jvm.MethodName) prog_1_method_14_code (4 : Nat) (Option.some Jvm.ClassFile.FieldType.int)) ∈ lw_all := lw_g (lw_at lw_m3 61 rfl) rfl
theorem q615 : (Jvm.Cond.classLink "ActorTrees" (142 : Nat) "java/lang/Integer") ∈ lw_all := lw_g (lw_at lw_m3 62 rfl) rfl
theorem q616 : (Jvm.Cond.methodLink "ActorTrees" (144 : Nat) ({ cls := "java/lang/Integer", name := "intValue", desc := "()I" } : Jvm.MethodName)) ∈ lw_all := lw_g (lw_at lw_m3 63 rfl) rfl
theorem q618 : (Jvm.Cond.instanceMethod ({ cls := "ActorTrees", name := "timer", desc := "(II)I" } : Jvm.MethodName)) ∈ lw_all := lw_g (lw_at lw_m3 65 rfl) rfl
theorem q619 : (Jvm.Cond.selects "ActorTrees" ({ cls := "ActorTrees", name := "timer", desc := "(II)I" } : Jvm.MethodName) ({ cls := "ActorTrees", name := "timer", desc := "(II)I" } : Jvm.MethodName)) ∈ lw_all := lw_g (lw_at lw_m3 66 rfl) rfl
theorem q620 : (Jvm.Cond.code ({ cls := "ActorTrees", name := "timer", desc := "(II)I" } : Jvm.MethodName) prog_1_method_15_code (4 : Nat) (Option.some Jvm.ClassFile.FieldType.int)) ∈ lw_all := lw_g (lw_at lw_m3 67 rfl) rfl
theorem q621 : (Jvm.Cond.classLink "ActorTrees" (150 : Nat) "ActorTrees$Timer") ∈ lw_all := lw_g (lw_at lw_m3 68 rfl) rfl
theorem q623 : (Jvm.Cond.instanceMethod ({ cls := "ActorTrees", name := "stop", desc := "(I)I" } : Jvm.MethodName)) ∈ lw_all := lw_g (lw_at lw_m3 70 rfl) rfl
theorem q624 : (Jvm.Cond.selects "ActorTrees" ({ cls := "ActorTrees", name := "stop", desc := "(I)I" } : Jvm.MethodName) ({ cls := "ActorTrees", name := "stop", desc := "(I)I" } : Jvm.MethodName)) ∈ lw_all := lw_g (lw_at lw_m3 71 rfl) rfl
theorem q625 : (Jvm.Cond.code ({ cls := "ActorTrees", name := "stop", desc := "(I)I" } : Jvm.MethodName) prog_1_method_16_code (3 : Nat) (Option.some Jvm.ClassFile.FieldType.int)) ∈ lw_all := lw_g (lw_at lw_m3 72 rfl) rfl
theorem q626 : (Jvm.Cond.methodLink "ActorTrees" (161 : Nat) ({ cls := "ActorTrees$World", name := "liveOnes", desc := "()I" } : Jvm.MethodName)) ∈ lw_all := lw_g (lw_at lw_m3 73 rfl) rfl
theorem q630 : (Jvm.Cond.methodLink "ActorTrees" (164 : Nat) ({ cls := "java/lang/Integer", name := "bitCount", desc := "(I)I" } : Jvm.MethodName)) ∈ lw_all := lw_g (lw_at lw_m3 77 rfl) rfl
theorem q636 : (Jvm.Cond.methodLink "ActorTrees" (167 : Nat) ({ cls := "ActorTrees$World", name := "stops", desc := "(LActorTrees$Actor;)V" } : Jvm.MethodName)) ∈ lw_all := lw_g (lw_at lw_m3 83 rfl) rfl
theorem q687 : (Jvm.Cond.instanceMethod ({ cls := "ActorTrees", name := "run", desc := "(I)I" } : Jvm.MethodName)) ∈ lw_all := lw_g (lw_at lw_m3 134 rfl) rfl
theorem q688 : (Jvm.Cond.selects "ActorTrees" ({ cls := "ActorTrees", name := "run", desc := "(I)I" } : Jvm.MethodName) ({ cls := "ActorTrees", name := "run", desc := "(I)I" } : Jvm.MethodName)) ∈ lw_all := lw_g (lw_at lw_m3 135 rfl) rfl
theorem q689 : (Jvm.Cond.code ({ cls := "ActorTrees", name := "run", desc := "(I)I" } : Jvm.MethodName) prog_1_method_17_code (2 : Nat) (Option.some Jvm.ClassFile.FieldType.int)) ∈ lw_all := lw_g (lw_at lw_m3 136 rfl) rfl
theorem q690 : (Jvm.Cond.methodLink "ActorTrees" (171 : Nat) ({ cls := "ActorTrees$World", name := "runs", desc := "(I)I" } : Jvm.MethodName)) ∈ lw_all := lw_g (lw_at lw_m3 137 rfl) rfl
theorem q751 : (Jvm.Cond.fieldLinkNest "ActorTrees" (201 : Nat) "ActorTrees$Failure" "actor" "I" "ActorTrees") ∈ lw_tbl := lw_at lw_m3 198 rfl
theorem q754 : (Jvm.Cond.fieldLinkNest "ActorTrees" (202 : Nat) "ActorTrees$Failure" "why" "I" "ActorTrees") ∈ lw_tbl := lw_at lw_m3 201 rfl
theorem q900 : (Jvm.Cond.fieldLinkNest "ActorTrees" (152 : Nat) "ActorTrees$Timer" "actor" "I" "ActorTrees") ∈ lw_tbl := lw_at lw_m4 107 rfl
theorem q902 : (Jvm.Cond.fieldLinkNest "ActorTrees" (155 : Nat) "ActorTrees$Timer" "due" "I" "ActorTrees") ∈ lw_tbl := lw_at lw_m4 109 rfl
theorem q905 : (Jvm.Cond.fieldLinkNest "ActorTrees" (158 : Nat) "ActorTrees$Timer" "n" "I" "ActorTrees") ∈ lw_tbl := lw_at lw_m4 112 rfl
theorem q1002 : (Jvm.Cond.instanceMethod ({ cls := "ActorTrees", name := "ended", desc := "()I" } : Jvm.MethodName)) ∈ lw_all := lw_g (lw_at lw_m4 209 rfl) rfl
theorem q1003 : (Jvm.Cond.selects "ActorTrees" ({ cls := "ActorTrees", name := "ended", desc := "()I" } : Jvm.MethodName) ({ cls := "ActorTrees", name := "ended", desc := "()I" } : Jvm.MethodName)) ∈ lw_all := lw_g (lw_at lw_m4 210 rfl) rfl
theorem q1004 : (Jvm.Cond.code ({ cls := "ActorTrees", name := "ended", desc := "()I" } : Jvm.MethodName) prog_1_method_18_code (1 : Nat) (Option.some Jvm.ClassFile.FieldType.int)) ∈ lw_all := lw_g (lw_at lw_m4 211 rfl) rfl
theorem q1006 : (Jvm.Cond.instanceMethod ({ cls := "ActorTrees", name := "log", desc := "(I)I" } : Jvm.MethodName)) ∈ lw_all := lw_g (lw_at lw_m4 213 rfl) rfl
theorem q1007 : (Jvm.Cond.selects "ActorTrees" ({ cls := "ActorTrees", name := "log", desc := "(I)I" } : Jvm.MethodName) ({ cls := "ActorTrees", name := "log", desc := "(I)I" } : Jvm.MethodName)) ∈ lw_all := lw_g (lw_at lw_m4 214 rfl) rfl
theorem q1008 : (Jvm.Cond.code ({ cls := "ActorTrees", name := "log", desc := "(I)I" } : Jvm.MethodName) prog_1_method_20_code (2 : Nat) (Option.some Jvm.ClassFile.FieldType.int)) ∈ lw_all := lw_g (lw_at lw_m4 215 rfl) rfl
theorem q1009 : (Jvm.Cond.methodLink "ActorTrees" (186 : Nat) ({ cls := "ActorTrees", name := "logs", desc := "()I" } : Jvm.MethodName)) ∈ lw_all := lw_g (lw_at lw_m4 216 rfl) rfl
theorem q1010 : (Jvm.Cond.privateMethod ({ cls := "ActorTrees", name := "logs", desc := "()I" } : Jvm.MethodName)) ∈ lw_tbl := lw_at lw_m4 217 rfl
theorem q1011 : (Jvm.Cond.instanceMethod ({ cls := "ActorTrees", name := "logs", desc := "()I" } : Jvm.MethodName)) ∈ lw_all := lw_g (lw_at lw_m4 218 rfl) rfl
theorem q1012 : (Jvm.Cond.code ({ cls := "ActorTrees", name := "logs", desc := "()I" } : Jvm.MethodName) prog_1_method_19_code (1 : Nat) (Option.some Jvm.ClassFile.FieldType.int)) ∈ lw_all := lw_g (lw_at lw_m4 219 rfl) rfl
theorem q1013 : (Jvm.Cond.methodLink "ActorTrees" (180 : Nat) ({ cls := "java/lang/Math", name := "min", desc := "(II)I" } : Jvm.MethodName)) ∈ lw_all := lw_g (lw_at lw_m4 220 rfl) rfl
theorem q1015 : (Jvm.Cond.instanceMethod ({ cls := "ActorTrees", name := "cause", desc := "(II)I" } : Jvm.MethodName)) ∈ lw_all := lw_g (lw_at lw_m4 222 rfl) rfl
theorem q1016 : (Jvm.Cond.selects "ActorTrees" ({ cls := "ActorTrees", name := "cause", desc := "(II)I" } : Jvm.MethodName) ({ cls := "ActorTrees", name := "cause", desc := "(II)I" } : Jvm.MethodName)) ∈ lw_all := lw_g (lw_at lw_m4 223 rfl) rfl
theorem q1017 : (Jvm.Cond.codeWith ({ cls := "ActorTrees", name := "cause", desc := "(II)I" } : Jvm.MethodName) prog_1_method_21_code (4 : Nat) (Option.some Jvm.ClassFile.FieldType.int) [((15 : Nat), (42 : Nat), (43 : Nat), (133 : Nat))]) ∈ lw_all := lw_g (lw_at lw_m4 224 rfl) rfl
theorem q1018 : (Jvm.Cond.methodLink "ActorTrees" (196 : Nat) ({ cls := "ActorTrees$Failure", name := "at", desc := "(I)LActorTrees$Failure;" } : Jvm.MethodName)) ∈ lw_all := lw_g (lw_at lw_m4 225 rfl) rfl
theorem q1034 : (Jvm.Cond.instanceMethod ({ cls := "ActorTrees", name := "dry", desc := "(II)I" } : Jvm.MethodName)) ∈ lw_all := lw_g (lw_at lw_m5 1 rfl) rfl
theorem q1035 : (Jvm.Cond.selects "ActorTrees" ({ cls := "ActorTrees", name := "dry", desc := "(II)I" } : Jvm.MethodName) ({ cls := "ActorTrees", name := "dry", desc := "(II)I" } : Jvm.MethodName)) ∈ lw_all := lw_g (lw_at lw_m5 2 rfl) rfl
theorem q1036 : (Jvm.Cond.code ({ cls := "ActorTrees", name := "dry", desc := "(II)I" } : Jvm.MethodName) prog_1_method_22_code (5 : Nat) (Option.some Jvm.ClassFile.FieldType.int)) ∈ lw_all := lw_g (lw_at lw_m5 3 rfl) rfl
theorem q1037 : (Jvm.Cond.methodLink "ActorTrees" (205 : Nat) ({ cls := "ActorTrees$World", name := "copy", desc := "()LActorTrees$World;" } : Jvm.MethodName)) ∈ lw_all := lw_g (lw_at lw_m5 4 rfl) rfl
theorem q1056 : (Jvm.Cond.instanceMethod ({ cls := "ActorTrees", name := "first", desc := "()I" } : Jvm.MethodName)) ∈ lw_all := lw_g (lw_at lw_m5 23 rfl) rfl
theorem q1057 : (Jvm.Cond.selects "ActorTrees" ({ cls := "ActorTrees", name := "first", desc := "()I" } : Jvm.MethodName) ({ cls := "ActorTrees", name := "first", desc := "()I" } : Jvm.MethodName)) ∈ lw_all := lw_g (lw_at lw_m5 24 rfl) rfl
theorem q1058 : (Jvm.Cond.code ({ cls := "ActorTrees", name := "first", desc := "()I" } : Jvm.MethodName) prog_1_method_23_code (3 : Nat) (Option.some Jvm.ClassFile.FieldType.int)) ∈ lw_all := lw_g (lw_at lw_m5 25 rfl) rfl
theorem q1059 : (Jvm.Cond.methodLink "ActorTrees" (215 : Nat) ({ cls := "ActorTrees$World", name := "steps", desc := "()Z" } : Jvm.MethodName)) ∈ lw_all := lw_g (lw_at lw_m5 26 rfl) rfl
theorem q1061 : (Jvm.Cond.instanceMethod ({ cls := "ActorTrees", name := "quiet", desc := "()I" } : Jvm.MethodName)) ∈ lw_all := lw_g (lw_at lw_m5 28 rfl) rfl
theorem q1062 : (Jvm.Cond.selects "ActorTrees" ({ cls := "ActorTrees", name := "quiet", desc := "()I" } : Jvm.MethodName) ({ cls := "ActorTrees", name := "quiet", desc := "()I" } : Jvm.MethodName)) ∈ lw_all := lw_g (lw_at lw_m5 29 rfl) rfl
theorem q1063 : (Jvm.Cond.code ({ cls := "ActorTrees", name := "quiet", desc := "()I" } : Jvm.MethodName) prog_1_method_24_code (3 : Nat) (Option.some Jvm.ClassFile.FieldType.int)) ∈ lw_all := lw_g (lw_at lw_m5 30 rfl) rfl
theorem q1064 : (Jvm.Cond.methodLink "ActorTrees" (221 : Nat) ({ cls := "ActorTrees$World", name := "isMore", desc := "()Z" } : Jvm.MethodName)) ∈ lw_all := lw_g (lw_at lw_m5 31 rfl) rfl
theorem q1066 : (Jvm.Cond.instanceMethod ({ cls := "ActorTrees", name := "would", desc := "(III)I" } : Jvm.MethodName)) ∈ lw_all := lw_g (lw_at lw_m5 33 rfl) rfl
theorem q1067 : (Jvm.Cond.selects "ActorTrees" ({ cls := "ActorTrees", name := "would", desc := "(III)I" } : Jvm.MethodName) ({ cls := "ActorTrees", name := "would", desc := "(III)I" } : Jvm.MethodName)) ∈ lw_all := lw_g (lw_at lw_m5 34 rfl) rfl
theorem q1068 : (Jvm.Cond.code ({ cls := "ActorTrees", name := "would", desc := "(III)I" } : Jvm.MethodName) prog_1_method_25_code (7 : Nat) (Option.some Jvm.ClassFile.FieldType.int)) ∈ lw_all := lw_g (lw_at lw_m5 35 rfl) rfl
theorem q1069 : (Jvm.Cond.methodLink "ActorTrees" (224 : Nat) ({ cls := "ActorTrees", name := "isLive", desc := "(I)Z" } : Jvm.MethodName)) ∈ lw_all := lw_g (lw_at lw_m5 36 rfl) rfl
theorem q1070 : (Jvm.Cond.privateMethod ({ cls := "ActorTrees", name := "isLive", desc := "(I)Z" } : Jvm.MethodName)) ∈ lw_tbl := lw_at lw_m5 37 rfl
theorem q1071 : (Jvm.Cond.instanceMethod ({ cls := "ActorTrees", name := "isLive", desc := "(I)Z" } : Jvm.MethodName)) ∈ lw_all := lw_g (lw_at lw_m5 38 rfl) rfl
theorem q1072 : (Jvm.Cond.code ({ cls := "ActorTrees", name := "isLive", desc := "(I)Z" } : Jvm.MethodName) prog_1_method_5_code (2 : Nat) (Option.some Jvm.ClassFile.FieldType.boolean)) ∈ lw_all := lw_g (lw_at lw_m5 39 rfl) rfl
theorem q1073 : (Jvm.Cond.methodLink "ActorTrees" (227 : Nat) ({ cls := "ActorTrees$World", name := "deals", desc := "(LActorTrees$Actor;LActorTrees$Message;)I" } : Jvm.MethodName)) ∈ lw_all := lw_g (lw_at lw_m5 40 rfl) rfl
theorem q1075 : (Jvm.Cond.instanceMethod ({ cls := "ActorTrees", name := "brings", desc := "(II)I" } : Jvm.MethodName)) ∈ lw_all := lw_g (lw_at lw_m5 42 rfl) rfl
theorem q1076 : (Jvm.Cond.selects "ActorTrees" ({ cls := "ActorTrees", name := "brings", desc := "(II)I" } : Jvm.MethodName) ({ cls := "ActorTrees", name := "brings", desc := "(II)I" } : Jvm.MethodName)) ∈ lw_all := lw_g (lw_at lw_m5 43 rfl) rfl
theorem q1077 : (Jvm.Cond.code ({ cls := "ActorTrees", name := "brings", desc := "(II)I" } : Jvm.MethodName) prog_1_method_26_code (4 : Nat) (Option.some Jvm.ClassFile.FieldType.int)) ∈ lw_all := lw_g (lw_at lw_m5 44 rfl) rfl
theorem q1078 : (Jvm.Cond.classLink "ActorTrees" (197 : Nat) "ActorTrees$Failure") ∈ lw_all := lw_g (lw_at lw_m5 45 rfl) rfl
theorem q1079 : (Jvm.Cond.methodLink "ActorTrees" (231 : Nat) ({ cls := "ActorTrees$Failure", name := "<init>", desc := "(II)V" } : Jvm.MethodName)) ∈ lw_all := lw_g (lw_at lw_m5 46 rfl) rfl
theorem q1080 : (Jvm.Cond.methodLink "ActorTrees" (232 : Nat) ({ cls := "ActorTrees$World", name := "fails", desc := "(LActorTrees$Failure;)V" } : Jvm.MethodName)) ∈ lw_all := lw_g (lw_at lw_m5 47 rfl) rfl
theorem q1082 : (Jvm.Cond.instanceMethod ({ cls := "ActorTrees", name := "reach", desc := "(II)I" } : Jvm.MethodName)) ∈ lw_all := lw_g (lw_at lw_m5 49 rfl) rfl
theorem q1083 : (Jvm.Cond.selects "ActorTrees" ({ cls := "ActorTrees", name := "reach", desc := "(II)I" } : Jvm.MethodName) ({ cls := "ActorTrees", name := "reach", desc := "(II)I" } : Jvm.MethodName)) ∈ lw_all := lw_g (lw_at lw_m5 50 rfl) rfl
theorem q1084 : (Jvm.Cond.code ({ cls := "ActorTrees", name := "reach", desc := "(II)I" } : Jvm.MethodName) prog_1_method_28_code (5 : Nat) (Option.some Jvm.ClassFile.FieldType.int)) ∈ lw_all := lw_g (lw_at lw_m5 51 rfl) rfl
theorem q1085 : (Jvm.Cond.methodLink "ActorTrees" (239 : Nat) ({ cls := "ActorTrees", name := "around", desc := "(I)I" } : Jvm.MethodName)) ∈ lw_all := lw_g (lw_at lw_m5 52 rfl) rfl
theorem q1086 : (Jvm.Cond.privateMethod ({ cls := "ActorTrees", name := "around", desc := "(I)I" } : Jvm.MethodName)) ∈ lw_tbl := lw_at lw_m5 53 rfl
theorem q1087 : (Jvm.Cond.instanceMethod ({ cls := "ActorTrees", name := "around", desc := "(I)I" } : Jvm.MethodName)) ∈ lw_all := lw_g (lw_at lw_m5 54 rfl) rfl
theorem q1088 : (Jvm.Cond.code ({ cls := "ActorTrees", name := "around", desc := "(I)I" } : Jvm.MethodName) prog_1_method_27_code (5 : Nat) (Option.some Jvm.ClassFile.FieldType.int)) ∈ lw_all := lw_g (lw_at lw_m5 55 rfl) rfl
theorem q1090 : (Jvm.Cond.instanceMethod ({ cls := "ActorTrees", name := "feed", desc := "(I)I" } : Jvm.MethodName)) ∈ lw_all := lw_g (lw_at lw_m5 57 rfl) rfl
theorem q1091 : (Jvm.Cond.selects "ActorTrees" ({ cls := "ActorTrees", name := "feed", desc := "(I)I" } : Jvm.MethodName) ({ cls := "ActorTrees", name := "feed", desc := "(I)I" } : Jvm.MethodName)) ∈ lw_all := lw_g (lw_at lw_m5 58 rfl) rfl
theorem q1092 : (Jvm.Cond.codeWith ({ cls := "ActorTrees", name := "feed", desc := "(I)I" } : Jvm.MethodName) prog_1_method_29_code (3 : Nat) (Option.some Jvm.ClassFile.FieldType.int) [((13 : Nat), (24 : Nat), (27 : Nat), (245 : Nat))]) ∈ lw_all := lw_g (lw_at lw_m5 59 rfl) rfl
theorem q1093 : (Jvm.Cond.classLink "ActorTrees" (245 : Nat) "java/lang/ArrayIndexOutOfBoundsException") ∈ lw_all := lw_g (lw_at lw_m5 60 rfl) rfl
theorem q1095 : (Jvm.Cond.instanceMethod ({ cls := "ActorTrees", name := "script", desc := "()I" } : Jvm.MethodName)) ∈ lw_all := lw_g (lw_at lw_m5 62 rfl) rfl
theorem q1096 : (Jvm.Cond.selects "ActorTrees" ({ cls := "ActorTrees", name := "script", desc := "()I" } : Jvm.MethodName) ({ cls := "ActorTrees", name := "script", desc := "()I" } : Jvm.MethodName)) ∈ lw_all := lw_g (lw_at lw_m5 63 rfl) rfl
theorem q1097 : (Jvm.Cond.codeWith ({ cls := "ActorTrees", name := "script", desc := "()I" } : Jvm.MethodName) prog_1_method_30_code (7 : Nat) (Option.some Jvm.ClassFile.FieldType.int) [((26 : Nat), (46 : Nat), (63 : Nat), (259 : Nat)), ((26 : Nat), (46 : Nat), (89 : Nat), (0 : Nat)), ((63 : Nat), (72 : Nat), (89 : Nat), (0 : Nat)), ((89 : Nat), (91 : Nat), (89 : Nat), (0 : Nat))]) ∈ lw_all := lw_g (lw_at lw_m5 64 rfl) rfl
theorem q1098 : (Jvm.Cond.classLink "ActorTrees" (259 : Nat) "ActorTrees$Wrong") ∈ lw_all := lw_g (lw_at lw_m5 65 rfl) rfl
theorem q1099 : (Jvm.Cond.classLink "ActorTrees" (247 : Nat) "ActorTrees$Reader") ∈ lw_all := lw_g (lw_at lw_m5 66 rfl) rfl
theorem q1101 : (Jvm.Cond.methodLink "ActorTrees" (249 : Nat) ({ cls := "ActorTrees$Reader", name := "<init>", desc := "([BI)V" } : Jvm.MethodName)) ∈ lw_all := lw_g (lw_at lw_m5 68 rfl) rfl
theorem q1109 : (Jvm.Cond.fieldLinkNest "ActorTrees" (258 : Nat) "ActorTrees$Reader" "many" "I" "ActorTrees") ∈ lw_tbl := lw_at lw_m5 76 rfl
theorem q1122 : (Jvm.Cond.methodLink "ActorTrees" (252 : Nat) ({ cls := "ActorTrees$Reader", name := "reads", desc := "()V" } : Jvm.MethodName)) ∈ lw_all := lw_g (lw_at lw_m5 89 rfl) rfl
theorem q1152 : (Jvm.Cond.fieldLinkNest "ActorTrees" (261 : Nat) "ActorTrees$Wrong" "answer" "I" "ActorTrees") ∈ lw_tbl := lw_at lw_m5 119 rfl
theorem q1170 : (Jvm.Cond.methodLink "ActorTrees" (255 : Nat) ({ cls := "ActorTrees$Reader", name := "does", desc := "(LActorTrees$World;)V" } : Jvm.MethodName)) ∈ lw_all := lw_g (lw_at lw_m5 137 rfl) rfl
theorem q1185 : (Jvm.Cond.instanceMethod ({ cls := "ActorTrees", name := "drawn", desc := "(I)I" } : Jvm.MethodName)) ∈ lw_all := lw_g (lw_at lw_m5 152 rfl) rfl
theorem q1186 : (Jvm.Cond.selects "ActorTrees" ({ cls := "ActorTrees", name := "drawn", desc := "(I)I" } : Jvm.MethodName) ({ cls := "ActorTrees", name := "drawn", desc := "(I)I" } : Jvm.MethodName)) ∈ lw_all := lw_g (lw_at lw_m5 153 rfl) rfl
theorem q1187 : (Jvm.Cond.code ({ cls := "ActorTrees", name := "drawn", desc := "(I)I" } : Jvm.MethodName) prog_1_method_31_code (5 : Nat) (Option.some Jvm.ClassFile.FieldType.int)) ∈ lw_all := lw_g (lw_at lw_m5 154 rfl) rfl
theorem q1188 : (Jvm.Cond.constant "ActorTrees" (267 : Nat) (1103515245 : Int32)) ∈ lw_all := lw_g (lw_at lw_m5 155 rfl) rfl
theorem q1190 : (Jvm.Cond.instanceMethod ({ cls := "ActorTrees", name := "seed", desc := "(I)I" } : Jvm.MethodName)) ∈ lw_all := lw_g (lw_at lw_m5 157 rfl) rfl
theorem q1191 : (Jvm.Cond.selects "ActorTrees" ({ cls := "ActorTrees", name := "seed", desc := "(I)I" } : Jvm.MethodName) ({ cls := "ActorTrees", name := "seed", desc := "(I)I" } : Jvm.MethodName)) ∈ lw_all := lw_g (lw_at lw_m5 158 rfl) rfl
theorem q1192 : (Jvm.Cond.code ({ cls := "ActorTrees", name := "seed", desc := "(I)I" } : Jvm.MethodName) prog_1_method_32_code (3 : Nat) (Option.some Jvm.ClassFile.FieldType.int)) ∈ lw_all := lw_g (lw_at lw_m5 159 rfl) rfl
theorem q1194 : (Jvm.Cond.instanceMethod ({ cls := "ActorTrees", name := "order", desc := "(II)I" } : Jvm.MethodName)) ∈ lw_all := lw_g (lw_at lw_m5 161 rfl) rfl
theorem q1195 : (Jvm.Cond.selects "ActorTrees" ({ cls := "ActorTrees", name := "order", desc := "(II)I" } : Jvm.MethodName) ({ cls := "ActorTrees", name := "order", desc := "(II)I" } : Jvm.MethodName)) ∈ lw_all := lw_g (lw_at lw_m5 162 rfl) rfl
theorem q1196 : (Jvm.Cond.codeWith ({ cls := "ActorTrees", name := "order", desc := "(II)I" } : Jvm.MethodName) prog_1_method_34_code (9 : Nat) (Option.some Jvm.ClassFile.FieldType.int) [((11 : Nat), (31 : Nat), (141 : Nat), (133 : Nat)), ((32 : Nat), (47 : Nat), (141 : Nat), (133 : Nat)), ((48 : Nat), (131 : Nat), (141 : Nat), (133 : Nat)), ((132 : Nat), (140 : Nat), (141 : Nat), (133 : Nat)), ((11 : Nat), (31 : Nat), (145 : Nat), (275 : Nat)), ((32 : Nat), (47 : Nat), (145 : Nat), (275 : Nat)), ((48 : Nat), (131 : Nat), (145 : Nat), (275 : Nat)), ((132 : Nat), (140 : Nat), (145 : Nat), (275 : Nat))]) ∈ lw_all := lw_g (lw_at lw_m5 163 rfl) rfl
theorem q1197 : (Jvm.Cond.classLink "ActorTrees" (275 : Nat) "java/lang/ClassCastException") ∈ lw_all := lw_g (lw_at lw_m5 164 rfl) rfl
theorem q1211 : (Jvm.Cond.classLink "ActorTrees" (268 : Nat) "[I") ∈ lw_all := lw_g (lw_at lw_m5 178 rfl) rfl
theorem q1212 : (Jvm.Cond.constantLong "ActorTrees" (269 : Nat) (2 : Int64)) ∈ lw_all := lw_g (lw_at lw_m5 179 rfl) rfl
theorem q1213 : (Jvm.Cond.methodLink "ActorTrees" (271 : Nat) ({ cls := "ActorTrees", name := "nextDealt", desc := "(LActorTrees$World;[I)I" } : Jvm.MethodName)) ∈ lw_all := lw_g (lw_at lw_m5 180 rfl) rfl
theorem q1214 : (Jvm.Cond.static ({ cls := "ActorTrees", name := "nextDealt", desc := "(LActorTrees$World;[I)I" } : Jvm.MethodName)) ∈ lw_all := lw_g (lw_at lw_m5 181 rfl) rfl
theorem q1215 : (Jvm.Cond.code ({ cls := "ActorTrees", name := "nextDealt", desc := "(LActorTrees$World;[I)I" } : Jvm.MethodName) prog_1_method_33_code (3 : Nat) (Option.some Jvm.ClassFile.FieldType.int)) ∈ lw_all := lw_g (lw_at lw_m5 182 rfl) rfl
theorem q1217 : (Jvm.Cond.instanceMethod ({ cls := "ActorTrees", name := "image", desc := "()I" } : Jvm.MethodName)) ∈ lw_all := lw_g (lw_at lw_m5 184 rfl) rfl
theorem q1218 : (Jvm.Cond.selects "ActorTrees" ({ cls := "ActorTrees", name := "image", desc := "()I" } : Jvm.MethodName) ({ cls := "ActorTrees", name := "image", desc := "()I" } : Jvm.MethodName)) ∈ lw_all := lw_g (lw_at lw_m5 185 rfl) rfl
theorem q1219 : (Jvm.Cond.code ({ cls := "ActorTrees", name := "image", desc := "()I" } : Jvm.MethodName) prog_1_method_35_code (1 : Nat) (Option.some Jvm.ClassFile.FieldType.int)) ∈ lw_all := lw_g (lw_at lw_m5 186 rfl) rfl
theorem q1221 : (Jvm.Cond.instanceMethod ({ cls := "ActorTrees", name := "back", desc := "()I" } : Jvm.MethodName)) ∈ lw_all := lw_g (lw_at lw_m5 188 rfl) rfl
theorem q1222 : (Jvm.Cond.selects "ActorTrees" ({ cls := "ActorTrees", name := "back", desc := "()I" } : Jvm.MethodName) ({ cls := "ActorTrees", name := "back", desc := "()I" } : Jvm.MethodName)) ∈ lw_all := lw_g (lw_at lw_m5 189 rfl) rfl
theorem q1223 : (Jvm.Cond.code ({ cls := "ActorTrees", name := "back", desc := "()I" } : Jvm.MethodName) prog_1_method_36_code (4 : Nat) (Option.some Jvm.ClassFile.FieldType.int)) ∈ lw_all := lw_g (lw_at lw_m5 190 rfl) rfl
theorem q1224 : (Jvm.Cond.classLink "ActorTrees" (280 : Nat) "ActorTrees$Seat") ∈ lw_all := lw_g (lw_at lw_m5 191 rfl) rfl
theorem q1226 : (Jvm.Cond.instanceMethod ({ cls := "ActorTrees", name := "hold", desc := "(II)I" } : Jvm.MethodName)) ∈ lw_all := lw_g (lw_at lw_m5 193 rfl) rfl
theorem q1227 : (Jvm.Cond.selects "ActorTrees" ({ cls := "ActorTrees", name := "hold", desc := "(II)I" } : Jvm.MethodName) ({ cls := "ActorTrees", name := "hold", desc := "(II)I" } : Jvm.MethodName)) ∈ lw_all := lw_g (lw_at lw_m5 194 rfl) rfl
theorem q1228 : (Jvm.Cond.codeWith ({ cls := "ActorTrees", name := "hold", desc := "(II)I" } : Jvm.MethodName) prog_1_method_37_code (4 : Nat) (Option.some Jvm.ClassFile.FieldType.int) [((15 : Nat), (39 : Nat), (40 : Nat), (245 : Nat))]) ∈ lw_all := lw_g (lw_at lw_m5 195 rfl) rfl
theorem q1230 : (Jvm.Cond.methodLink "ActorTrees" (283 : Nat) ({ cls := "ActorTrees$Seat", name := "<init>", desc := "(I)V" } : Jvm.MethodName)) ∈ lw_all := lw_g (lw_at lw_m5 197 rfl) rfl
theorem q1235 : (Jvm.Cond.fieldLinkNest "ActorTrees" (282 : Nat) "ActorTrees$Seat" "actor" "I" "ActorTrees") ∈ lw_tbl := lw_at lw_m5 202 rfl
theorem q1240 : (Jvm.Cond.instanceMethod ({ cls := "ActorTrees", name := "row", desc := "(II)I" } : Jvm.MethodName)) ∈ lw_all := lw_g (lw_at lw_m5 207 rfl) rfl
theorem q1241 : (Jvm.Cond.selects "ActorTrees" ({ cls := "ActorTrees", name := "row", desc := "(II)I" } : Jvm.MethodName) ({ cls := "ActorTrees", name := "row", desc := "(II)I" } : Jvm.MethodName)) ∈ lw_all := lw_g (lw_at lw_m5 208 rfl) rfl
theorem q1242 : (Jvm.Cond.codeWith ({ cls := "ActorTrees", name := "row", desc := "(II)I" } : Jvm.MethodName) prog_1_method_38_code (4 : Nat) (Option.some Jvm.ClassFile.FieldType.int) [((17 : Nat), (27 : Nat), (28 : Nat), (286 : Nat))]) ∈ lw_all := lw_g (lw_at lw_m5 209 rfl) rfl
theorem q1243 : (Jvm.Cond.classLink "ActorTrees" (286 : Nat) "java/lang/NegativeArraySizeException") ∈ lw_all := lw_g (lw_at lw_m5 210 rfl) rfl
theorem q1258 : (Jvm.Cond.instanceMethod ({ cls := "ActorTrees", name := "put", desc := "(III)I" } : Jvm.MethodName)) ∈ lw_all := lw_g (lw_at lw_m5 225 rfl) rfl
theorem q1259 : (Jvm.Cond.selects "ActorTrees" ({ cls := "ActorTrees", name := "put", desc := "(III)I" } : Jvm.MethodName) ({ cls := "ActorTrees", name := "put", desc := "(III)I" } : Jvm.MethodName)) ∈ lw_all := lw_g (lw_at lw_m5 226 rfl) rfl
theorem q1260 : (Jvm.Cond.codeWith ({ cls := "ActorTrees", name := "put", desc := "(III)I" } : Jvm.MethodName) prog_1_method_39_code (6 : Nat) (Option.some Jvm.ClassFile.FieldType.int) [((0 : Nat), (24 : Nat), (25 : Nat), (245 : Nat)), ((0 : Nat), (24 : Nat), (25 : Nat), (133 : Nat)), ((0 : Nat), (24 : Nat), (25 : Nat), (275 : Nat))]) ∈ lw_all := lw_g (lw_at lw_m5 227 rfl) rfl
theorem q1262 : (Jvm.Cond.instanceMethod ({ cls := "ActorTrees", name := "tells", desc := "(II)I" } : Jvm.MethodName)) ∈ lw_all := lw_g (lw_at lw_m5 229 rfl) rfl
theorem q1263 : (Jvm.Cond.selects "ActorTrees" ({ cls := "ActorTrees", name := "tells", desc := "(II)I" } : Jvm.MethodName) ({ cls := "ActorTrees", name := "tells", desc := "(II)I" } : Jvm.MethodName)) ∈ lw_all := lw_g (lw_at lw_m5 230 rfl) rfl
theorem q1264 : (Jvm.Cond.codeWith ({ cls := "ActorTrees", name := "tells", desc := "(II)I" } : Jvm.MethodName) prog_1_method_40_code (6 : Nat) (Option.some Jvm.ClassFile.FieldType.int) [((21 : Nat), (85 : Nat), (162 : Nat), (133 : Nat)), ((86 : Nat), (102 : Nat), (162 : Nat), (133 : Nat)), ((103 : Nat), (127 : Nat), (162 : Nat), (133 : Nat)), ((128 : Nat), (161 : Nat), (162 : Nat), (133 : Nat)), ((21 : Nat), (85 : Nat), (166 : Nat), (275 : Nat)), ((86 : Nat), (102 : Nat), (166 : Nat), (275 : Nat)), ((103 : Nat), (127 : Nat), (166 : Nat), (275 : Nat)), ((128 : Nat), (161 : Nat), (166 : Nat), (275 : Nat))]) ∈ lw_all := lw_g (lw_at lw_m5 231 rfl) rfl
theorem q1265 : (Jvm.Cond.constant "ActorTrees" (288 : Nat) (-2000000012 : Int32)) ∈ lw_all := lw_g (lw_at lw_m5 232 rfl) rfl
theorem q1267 : (Jvm.Cond.instanceMethod ({ cls := "ActorTrees", name := "count", desc := "(I)I" } : Jvm.MethodName)) ∈ lw_all := lw_g (lw_at lw_m5 234 rfl) rfl
theorem q1268 : (Jvm.Cond.selects "ActorTrees" ({ cls := "ActorTrees", name := "count", desc := "(I)I" } : Jvm.MethodName) ({ cls := "ActorTrees", name := "count", desc := "(I)I" } : Jvm.MethodName)) ∈ lw_all := lw_g (lw_at lw_m5 235 rfl) rfl
theorem q1269 : (Jvm.Cond.code ({ cls := "ActorTrees", name := "count", desc := "(I)I" } : Jvm.MethodName) prog_1_method_41_code (2 : Nat) (Option.some Jvm.ClassFile.FieldType.int)) ∈ lw_all := lw_g (lw_at lw_m5 236 rfl) rfl
theorem q1270 : (Jvm.Cond.methodLink "ActorTrees" (289 : Nat) ({ cls := "ActorTrees$World", name := "mails", desc := "()I" } : Jvm.MethodName)) ∈ lw_all := lw_g (lw_at lw_m5 237 rfl) rfl
theorem q1274 : (Jvm.Cond.methodLink "ActorTrees" (291 : Nat) ({ cls := "ActorTrees$Failure", name := "deep", desc := "()I" } : Jvm.MethodName)) ∈ lw_all := lw_g (lw_at lw_m6 1 rfl) rfl
theorem q1680 : (Jvm.Cond.castable "ActorTrees" "java/lang/Object") ∈ lw_tbl := lw_at lw_m7 167 rfl
theorem in_X0 : ∀ w ∈ wsX00, w ∈ lw_all := lw_in wsX00 [229, 231, 233, 235, 237] (by decide +kernel) (by decide +kernel)

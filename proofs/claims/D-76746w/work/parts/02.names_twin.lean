/-! ActorTreesModel -/
set_option maxRecDepth 100000
def RX4 : String := "ActorTreesModel"
def TX4 : u_T := fun k => match k with
  | 0 => ("ActorTreesModel", "g", "[I", true)
  | 1 => ("ActorTreesModel", "saved", "[I", true)
  | 2 => ("ActorTreesModel", "whole", "[I", true)
  | 3 => ("ActorTreesModel", "kept", "[I", true)
  | 4 => ("ActorTreesModel", "isKept", "Z", false)
  | 5 => ("ActorTreesModel", "hasFailed", "Z", false)
  | 6 => ("ActorTreesModel", "restarted", "I", false)
  | 7 => ("ActorTreesModel", "dealt", "I", false)
  | 8 => ("ActorTreesModel", "chain", "[I", true)
  | 9 => ("ActorTreesModel", "chained", "I", false)
  | 10 => ("ActorTreesModel", "tape", "[I", true)
  | 11 => ("ActorTreesModel", "tapeMany", "I", false)
  | 12 => ("ActorTreesModel", "held", "[I", true)
  | 13 => ("ActorTreesModel", "heldActor", "[I", true)
  | 14 => ("ActorTreesModel", "rowSize", "[I", true)
  | 15 => ("ActorTreesModel", "rows", "[[I", true)
  | 16 => ("ActorTreesModel", "queue", "[I", true)
  | 17 => ("ActorTreesModel", "ways", "[I", true)
  | 18 => ("ActorTreesModel", "how", "I", false)
  | 19 => ("ActorTreesModel", "spot", "I", false)
  | 20 => ("ActorTreesModel", "fault", "I", false)
  | _ => ("ActorTreesModel", "told", "[I", true)
def tyX4 : Nat → FieldType := fun k => match k with
  | 0 => .array .int
  | 1 => .array .int
  | 2 => .array .int
  | 3 => .array .int
  | 4 => .boolean
  | 5 => .boolean
  | 6 => .int
  | 7 => .int
  | 8 => .array .int
  | 9 => .int
  | 10 => .array .int
  | 11 => .int
  | 12 => .array .int
  | 13 => .array .int
  | 14 => .array .int
  | 15 => .array (.array .int)
  | 16 => .array .int
  | 17 => .array .int
  | 18 => .int
  | 19 => .int
  | 20 => .int
  | _ => .array .int
abbrev wsX40 : List Cond := u_ws RX4 TX4 22
set_option maxRecDepth 100000 in
theorem nmX4 : ∀ a, a < 22 → ∀ b, b < 22 → a ≠ b → (TX4 a).2.1 ≠ (TX4 b).2.1 := by decide +kernel
set_option maxRecDepth 100000 in
theorem tyX4_ok : ∀ k, k < 22 → parseFieldDescriptor (TX4 k).2.2.1 = some (tyX4 k) := by decide +kernel
abbrev cX4_init : ByteArray := prog_23_method_1_code
def yX4_init : MethodName := ⟨RX4, "<init>", "()V"⟩
def dkwX4_init_5 : List UInt8 := [180, 0, 9, 17, 3, 160, 2, 79, 42, 180, 0, 9, 17, 3, 161, 4, 79, 177]
abbrev dktX4_init_5 : List UInt8 := dkwX4_init_5 ++ []
def dkwX4_init_4 : List UInt8 := [16, 12, 188, 10, 181, 0, 42, 42, 16, 12, 188, 10, 181, 0, 45, 42, 8, 188, 10, 181, 0, 48, 42]
abbrev dktX4_init_4 : List UInt8 := dkwX4_init_4 ++ dktX4_init_5
def dkwX4_init_3 : List UInt8 := [181, 0, 31, 42, 16, 6, 188, 10, 181, 0, 34, 42, 16, 6, 16, 60, 197, 0, 37, 2, 181, 0, 39, 42]
abbrev dktX4_init_3 : List UInt8 := dkwX4_init_3 ++ dktX4_init_4
def dkwX4_init_2 : List UInt8 := [181, 0, 22, 42, 16, 120, 188, 10, 181, 0, 25, 42, 16, 6, 188, 10, 181, 0, 28, 42, 16, 6, 188, 10]
abbrev dktX4_init_2 : List UInt8 := dkwX4_init_2 ++ dktX4_init_3
def dkwX4_init_1 : List UInt8 := [17, 3, 250, 188, 10, 181, 0, 16, 42, 17, 3, 250, 188, 10, 181, 0, 19, 42, 16, 26, 188, 10]
abbrev dktX4_init_1 : List UInt8 := dkwX4_init_1 ++ dktX4_init_2
def dkwX4_init_0 : List UInt8 := [42, 183, 0, 3, 42, 17, 3, 250, 188, 10, 181, 0, 9, 42, 17, 3, 250, 188, 10, 181, 0, 13, 42]
abbrev dktX4_init_0 : List UInt8 := dkwX4_init_0 ++ dktX4_init_1
theorem dksX4_init_0 : cX4_init.data.toList.drop 0 = dktX4_init_0 := by decide +kernel
theorem dksX4_init_1 : cX4_init.data.toList.drop 23 = dktX4_init_1 := dk_seg dksX4_init_0 23 rfl rfl
theorem dksX4_init_2 : cX4_init.data.toList.drop 45 = dktX4_init_2 := dk_seg dksX4_init_1 22 rfl rfl
theorem dksX4_init_3 : cX4_init.data.toList.drop 69 = dktX4_init_3 := dk_seg dksX4_init_2 24 rfl rfl
theorem dksX4_init_4 : cX4_init.data.toList.drop 93 = dktX4_init_4 := dk_seg dksX4_init_3 24 rfl rfl
theorem dksX4_init_5 : cX4_init.data.toList.drop 116 = dktX4_init_5 := dk_seg dksX4_init_4 23 rfl rfl
theorem dX4_init_0 : decode cX4_init 0 = .ok (.aload_n 0, 1) := dk_42 (dk_at dksX4_init_0 0 rfl rfl)
theorem dX4_init_1 : decode cX4_init 1 = .ok (.invokespecial 3, 3) := dk_183 0 3 (dk_at dksX4_init_0 1 rfl rfl)
theorem dX4_init_4 : decode cX4_init 4 = .ok (.aload_n 0, 1) := dk_42 (dk_at dksX4_init_0 4 rfl rfl)
theorem dX4_init_5 : decode cX4_init 5 = .ok (.sipush 1018, 3) := dk_17 3 250 (dk_at dksX4_init_0 5 rfl rfl)
theorem dX4_init_8 : decode cX4_init 8 = .ok (.newarray .int, 2) := dk_188_10 (dk_at dksX4_init_0 8 rfl rfl)
theorem dX4_init_10 : decode cX4_init 10 = .ok (.putfield 9, 3) := dk_181 0 9 (dk_at dksX4_init_0 10 rfl rfl)
theorem dX4_init_13 : decode cX4_init 13 = .ok (.aload_n 0, 1) := dk_42 (dk_at dksX4_init_0 13 rfl rfl)
theorem dX4_init_14 : decode cX4_init 14 = .ok (.sipush 1018, 3) := dk_17 3 250 (dk_at dksX4_init_0 14 rfl rfl)
theorem dX4_init_17 : decode cX4_init 17 = .ok (.newarray .int, 2) := dk_188_10 (dk_at dksX4_init_0 17 rfl rfl)
theorem dX4_init_19 : decode cX4_init 19 = .ok (.putfield 13, 3) := dk_181 0 13 (dk_at dksX4_init_0 19 rfl rfl)
theorem dX4_init_22 : decode cX4_init 22 = .ok (.aload_n 0, 1) := dk_42 (dk_at dksX4_init_0 22 rfl rfl)
theorem dX4_init_23 : decode cX4_init 23 = .ok (.sipush 1018, 3) := dk_17 3 250 (dk_at dksX4_init_1 0 rfl rfl)
theorem dX4_init_26 : decode cX4_init 26 = .ok (.newarray .int, 2) := dk_188_10 (dk_at dksX4_init_1 3 rfl rfl)
theorem dX4_init_28 : decode cX4_init 28 = .ok (.putfield 16, 3) := dk_181 0 16 (dk_at dksX4_init_1 5 rfl rfl)
theorem dX4_init_31 : decode cX4_init 31 = .ok (.aload_n 0, 1) := dk_42 (dk_at dksX4_init_1 8 rfl rfl)
theorem dX4_init_32 : decode cX4_init 32 = .ok (.sipush 1018, 3) := dk_17 3 250 (dk_at dksX4_init_1 9 rfl rfl)
theorem dX4_init_35 : decode cX4_init 35 = .ok (.newarray .int, 2) := dk_188_10 (dk_at dksX4_init_1 12 rfl rfl)
theorem dX4_init_37 : decode cX4_init 37 = .ok (.putfield 19, 3) := dk_181 0 19 (dk_at dksX4_init_1 14 rfl rfl)
theorem dX4_init_40 : decode cX4_init 40 = .ok (.aload_n 0, 1) := dk_42 (dk_at dksX4_init_1 17 rfl rfl)
theorem dX4_init_41 : decode cX4_init 41 = .ok (.bipush 26, 2) := dk_16 26 (dk_at dksX4_init_1 18 rfl rfl)
theorem dX4_init_43 : decode cX4_init 43 = .ok (.newarray .int, 2) := dk_188_10 (dk_at dksX4_init_1 20 rfl rfl)
theorem dX4_init_45 : decode cX4_init 45 = .ok (.putfield 22, 3) := dk_181 0 22 (dk_at dksX4_init_2 0 rfl rfl)
theorem dX4_init_48 : decode cX4_init 48 = .ok (.aload_n 0, 1) := dk_42 (dk_at dksX4_init_2 3 rfl rfl)
theorem dX4_init_49 : decode cX4_init 49 = .ok (.bipush 120, 2) := dk_16 120 (dk_at dksX4_init_2 4 rfl rfl)
theorem dX4_init_51 : decode cX4_init 51 = .ok (.newarray .int, 2) := dk_188_10 (dk_at dksX4_init_2 6 rfl rfl)
theorem dX4_init_53 : decode cX4_init 53 = .ok (.putfield 25, 3) := dk_181 0 25 (dk_at dksX4_init_2 8 rfl rfl)
theorem dX4_init_56 : decode cX4_init 56 = .ok (.aload_n 0, 1) := dk_42 (dk_at dksX4_init_2 11 rfl rfl)
theorem dX4_init_57 : decode cX4_init 57 = .ok (.bipush 6, 2) := dk_16 6 (dk_at dksX4_init_2 12 rfl rfl)
theorem dX4_init_59 : decode cX4_init 59 = .ok (.newarray .int, 2) := dk_188_10 (dk_at dksX4_init_2 14 rfl rfl)
theorem dX4_init_61 : decode cX4_init 61 = .ok (.putfield 28, 3) := dk_181 0 28 (dk_at dksX4_init_2 16 rfl rfl)
theorem dX4_init_64 : decode cX4_init 64 = .ok (.aload_n 0, 1) := dk_42 (dk_at dksX4_init_2 19 rfl rfl)
theorem dX4_init_65 : decode cX4_init 65 = .ok (.bipush 6, 2) := dk_16 6 (dk_at dksX4_init_2 20 rfl rfl)
theorem dX4_init_67 : decode cX4_init 67 = .ok (.newarray .int, 2) := dk_188_10 (dk_at dksX4_init_2 22 rfl rfl)
theorem dX4_init_69 : decode cX4_init 69 = .ok (.putfield 31, 3) := dk_181 0 31 (dk_at dksX4_init_3 0 rfl rfl)
theorem dX4_init_72 : decode cX4_init 72 = .ok (.aload_n 0, 1) := dk_42 (dk_at dksX4_init_3 3 rfl rfl)
theorem dX4_init_73 : decode cX4_init 73 = .ok (.bipush 6, 2) := dk_16 6 (dk_at dksX4_init_3 4 rfl rfl)
theorem dX4_init_75 : decode cX4_init 75 = .ok (.newarray .int, 2) := dk_188_10 (dk_at dksX4_init_3 6 rfl rfl)
theorem dX4_init_77 : decode cX4_init 77 = .ok (.putfield 34, 3) := dk_181 0 34 (dk_at dksX4_init_3 8 rfl rfl)
theorem dX4_init_80 : decode cX4_init 80 = .ok (.aload_n 0, 1) := dk_42 (dk_at dksX4_init_3 11 rfl rfl)
theorem dX4_init_81 : decode cX4_init 81 = .ok (.bipush 6, 2) := dk_16 6 (dk_at dksX4_init_3 12 rfl rfl)
theorem dX4_init_83 : decode cX4_init 83 = .ok (.bipush 60, 2) := dk_16 60 (dk_at dksX4_init_3 14 rfl rfl)
theorem dX4_init_85 : decode cX4_init 85 = .ok (.multianewarray 37 2, 4) := by decide +kernel
theorem dX4_init_89 : decode cX4_init 89 = .ok (.putfield 39, 3) := dk_181 0 39 (dk_at dksX4_init_3 20 rfl rfl)
theorem dX4_init_92 : decode cX4_init 92 = .ok (.aload_n 0, 1) := dk_42 (dk_at dksX4_init_3 23 rfl rfl)
theorem dX4_init_93 : decode cX4_init 93 = .ok (.bipush 12, 2) := dk_16 12 (dk_at dksX4_init_4 0 rfl rfl)
theorem dX4_init_95 : decode cX4_init 95 = .ok (.newarray .int, 2) := dk_188_10 (dk_at dksX4_init_4 2 rfl rfl)
theorem dX4_init_97 : decode cX4_init 97 = .ok (.putfield 42, 3) := dk_181 0 42 (dk_at dksX4_init_4 4 rfl rfl)
theorem dX4_init_100 : decode cX4_init 100 = .ok (.aload_n 0, 1) := dk_42 (dk_at dksX4_init_4 7 rfl rfl)
theorem dX4_init_101 : decode cX4_init 101 = .ok (.bipush 12, 2) := dk_16 12 (dk_at dksX4_init_4 8 rfl rfl)
theorem dX4_init_103 : decode cX4_init 103 = .ok (.newarray .int, 2) := dk_188_10 (dk_at dksX4_init_4 10 rfl rfl)
theorem dX4_init_105 : decode cX4_init 105 = .ok (.putfield 45, 3) := dk_181 0 45 (dk_at dksX4_init_4 12 rfl rfl)
theorem dX4_init_108 : decode cX4_init 108 = .ok (.aload_n 0, 1) := dk_42 (dk_at dksX4_init_4 15 rfl rfl)
theorem dX4_init_109 : decode cX4_init 109 = .ok (.iconst 5, 1) := dk_8 (dk_at dksX4_init_4 16 rfl rfl)
theorem dX4_init_110 : decode cX4_init 110 = .ok (.newarray .int, 2) := dk_188_10 (dk_at dksX4_init_4 17 rfl rfl)
theorem dX4_init_112 : decode cX4_init 112 = .ok (.putfield 48, 3) := dk_181 0 48 (dk_at dksX4_init_4 19 rfl rfl)
theorem dX4_init_115 : decode cX4_init 115 = .ok (.aload_n 0, 1) := dk_42 (dk_at dksX4_init_4 22 rfl rfl)
theorem dX4_init_116 : decode cX4_init 116 = .ok (.getfield 9, 3) := dk_180 0 9 (dk_at dksX4_init_5 0 rfl rfl)
theorem dX4_init_119 : decode cX4_init 119 = .ok (.sipush 928, 3) := dk_17 3 160 (dk_at dksX4_init_5 3 rfl rfl)
theorem dX4_init_122 : decode cX4_init 122 = .ok (.iconst (-1), 1) := dk_2 (dk_at dksX4_init_5 6 rfl rfl)
theorem dX4_init_123 : decode cX4_init 123 = .ok (.iastore, 1) := dk_79 (dk_at dksX4_init_5 7 rfl rfl)
theorem dX4_init_124 : decode cX4_init 124 = .ok (.aload_n 0, 1) := dk_42 (dk_at dksX4_init_5 8 rfl rfl)
theorem dX4_init_125 : decode cX4_init 125 = .ok (.getfield 9, 3) := dk_180 0 9 (dk_at dksX4_init_5 9 rfl rfl)
theorem dX4_init_128 : decode cX4_init 128 = .ok (.sipush 929, 3) := dk_17 3 161 (dk_at dksX4_init_5 12 rfl rfl)
theorem dX4_init_131 : decode cX4_init 131 = .ok (.iconst 1, 1) := dk_4 (dk_at dksX4_init_5 15 rfl rfl)
theorem dX4_init_132 : decode cX4_init 132 = .ok (.iastore, 1) := dk_79 (dk_at dksX4_init_5 16 rfl rfl)
theorem dX4_init_133 : decode cX4_init 133 = .ok (.return_, 1) := dk_177 (dk_at dksX4_init_5 17 rfl rfl)
abbrev cX4_actor : ByteArray := prog_23_method_36_code
def yX4_actor : MethodName := ⟨RX4, "actor", "(III)I"⟩
def dkwX4_actor_5 : List UInt8 := [182, 0, 63, 42, 21, 5, 16, 7, 4, 182, 0, 63, 42, 21, 5, 16, 8, 28, 182, 0, 63, 21, 5, 172]
abbrev dktX4_actor_5 : List UInt8 := dkwX4_actor_5 ++ []
def dkwX4_actor_4 : List UInt8 := [16, 10, 112, 182, 0, 63, 42, 21, 5, 7, 29, 16, 100, 112, 182, 0, 63, 42, 21, 5, 8, 4]
abbrev dktX4_actor_4 : List UInt8 := dkwX4_actor_4 ++ dktX4_actor_5
def dkwX4_actor_3 : List UInt8 := [182, 0, 63, 42, 21, 5, 5, 29, 17, 3, 232, 108, 182, 0, 63, 42, 21, 5, 6, 29, 16, 100, 108]
abbrev dktX4_actor_3 : List UInt8 := dkwX4_actor_3 ++ dktX4_actor_4
def dkwX4_actor_2 : List UInt8 := [182, 0, 63, 132, 6, 1, 167, 255, 237, 42, 21, 5, 3, 27, 182, 0, 63, 42, 21, 5, 4, 28]
abbrev dktX4_actor_2 : List UInt8 := dkwX4_actor_2 ++ dktX4_actor_3
def dkwX4_actor_1 : List UInt8 := [92, 46, 91, 4, 96, 79, 54, 5, 3, 54, 6, 21, 6, 16, 77, 162, 0, 18, 42, 21, 5, 21, 6, 3]
abbrev dktX4_actor_1 : List UInt8 := dkwX4_actor_1 ++ dktX4_actor_2
def dkwX4_actor_0 : List UInt8 := [42, 27, 28, 29, 182, 0, 173, 54, 4, 21, 4, 153, 0, 6, 21, 4, 172, 42, 180, 0, 9, 17, 3, 156]
abbrev dktX4_actor_0 : List UInt8 := dkwX4_actor_0 ++ dktX4_actor_1
theorem dksX4_actor_0 : cX4_actor.data.toList.drop 0 = dktX4_actor_0 := by decide +kernel
theorem dksX4_actor_1 : cX4_actor.data.toList.drop 24 = dktX4_actor_1 := dk_seg dksX4_actor_0 24 rfl rfl
theorem dksX4_actor_2 : cX4_actor.data.toList.drop 48 = dktX4_actor_2 := dk_seg dksX4_actor_1 24 rfl rfl
theorem dksX4_actor_3 : cX4_actor.data.toList.drop 70 = dktX4_actor_3 := dk_seg dksX4_actor_2 22 rfl rfl
theorem dksX4_actor_4 : cX4_actor.data.toList.drop 93 = dktX4_actor_4 := dk_seg dksX4_actor_3 23 rfl rfl
theorem dksX4_actor_5 : cX4_actor.data.toList.drop 115 = dktX4_actor_5 := dk_seg dksX4_actor_4 22 rfl rfl
theorem dX4_actor_0 : decode cX4_actor 0 = .ok (.aload_n 0, 1) := dk_42 (dk_at dksX4_actor_0 0 rfl rfl)
theorem dX4_actor_1 : decode cX4_actor 1 = .ok (.iload_n 1, 1) := dk_27 (dk_at dksX4_actor_0 1 rfl rfl)
theorem dX4_actor_2 : decode cX4_actor 2 = .ok (.iload_n 2, 1) := dk_28 (dk_at dksX4_actor_0 2 rfl rfl)
theorem dX4_actor_3 : decode cX4_actor 3 = .ok (.iload_n 3, 1) := dk_29 (dk_at dksX4_actor_0 3 rfl rfl)
theorem dX4_actor_4 : decode cX4_actor 4 = .ok (.invokevirtual 173, 3) := dk_182 0 173 (dk_at dksX4_actor_0 4 rfl rfl)
theorem dX4_actor_7 : decode cX4_actor 7 = .ok (.istore 4, 2) := dk_54 4 (dk_at dksX4_actor_0 7 rfl rfl)
theorem dX4_actor_9 : decode cX4_actor 9 = .ok (.iload 4, 2) := dk_21 4 (dk_at dksX4_actor_0 9 rfl rfl)
theorem dX4_actor_11 : decode cX4_actor 11 = .ok (.ifCond .eq 6, 3) := dk_153 0 6 (dk_at dksX4_actor_0 11 rfl rfl)
theorem dX4_actor_14 : decode cX4_actor 14 = .ok (.iload 4, 2) := dk_21 4 (dk_at dksX4_actor_0 14 rfl rfl)
theorem dX4_actor_16 : decode cX4_actor 16 = .ok (.ireturn, 1) := dk_172 (dk_at dksX4_actor_0 16 rfl rfl)
theorem dX4_actor_17 : decode cX4_actor 17 = .ok (.aload_n 0, 1) := dk_42 (dk_at dksX4_actor_0 17 rfl rfl)
theorem dX4_actor_18 : decode cX4_actor 18 = .ok (.getfield 9, 3) := dk_180 0 9 (dk_at dksX4_actor_0 18 rfl rfl)
theorem dX4_actor_21 : decode cX4_actor 21 = .ok (.sipush 924, 3) := dk_17 3 156 (dk_at dksX4_actor_0 21 rfl rfl)
theorem dX4_actor_24 : decode cX4_actor 24 = .ok (.dup2, 1) := dk_92 (dk_at dksX4_actor_1 0 rfl rfl)
theorem dX4_actor_25 : decode cX4_actor 25 = .ok (.iaload, 1) := dk_46 (dk_at dksX4_actor_1 1 rfl rfl)
theorem dX4_actor_26 : decode cX4_actor 26 = .ok (.dup_x2, 1) := dk_91 (dk_at dksX4_actor_1 2 rfl rfl)
theorem dX4_actor_27 : decode cX4_actor 27 = .ok (.iconst 1, 1) := dk_4 (dk_at dksX4_actor_1 3 rfl rfl)
theorem dX4_actor_28 : decode cX4_actor 28 = .ok (.iadd, 1) := dk_96 (dk_at dksX4_actor_1 4 rfl rfl)
theorem dX4_actor_29 : decode cX4_actor 29 = .ok (.iastore, 1) := dk_79 (dk_at dksX4_actor_1 5 rfl rfl)
theorem dX4_actor_30 : decode cX4_actor 30 = .ok (.istore 5, 2) := dk_54 5 (dk_at dksX4_actor_1 6 rfl rfl)
theorem dX4_actor_32 : decode cX4_actor 32 = .ok (.iconst 0, 1) := dk_3 (dk_at dksX4_actor_1 8 rfl rfl)
theorem dX4_actor_33 : decode cX4_actor 33 = .ok (.istore 6, 2) := dk_54 6 (dk_at dksX4_actor_1 9 rfl rfl)
theorem dX4_actor_35 : decode cX4_actor 35 = .ok (.iload 6, 2) := dk_21 6 (dk_at dksX4_actor_1 11 rfl rfl)
theorem dX4_actor_37 : decode cX4_actor 37 = .ok (.bipush 77, 2) := dk_16 77 (dk_at dksX4_actor_1 13 rfl rfl)
theorem dX4_actor_39 : decode cX4_actor 39 = .ok (.if_icmp .ge 18, 3) := dk_162 0 18 (dk_at dksX4_actor_1 15 rfl rfl)
theorem dX4_actor_42 : decode cX4_actor 42 = .ok (.aload_n 0, 1) := dk_42 (dk_at dksX4_actor_1 18 rfl rfl)
theorem dX4_actor_43 : decode cX4_actor 43 = .ok (.iload 5, 2) := dk_21 5 (dk_at dksX4_actor_1 19 rfl rfl)
theorem dX4_actor_45 : decode cX4_actor 45 = .ok (.iload 6, 2) := dk_21 6 (dk_at dksX4_actor_1 21 rfl rfl)
theorem dX4_actor_47 : decode cX4_actor 47 = .ok (.iconst 0, 1) := dk_3 (dk_at dksX4_actor_1 23 rfl rfl)
theorem dX4_actor_48 : decode cX4_actor 48 = .ok (.invokevirtual 63, 3) := dk_182 0 63 (dk_at dksX4_actor_2 0 rfl rfl)
theorem dX4_actor_51 : decode cX4_actor 51 = .ok (.iinc 6 1, 3) := dk_132 6 1 (dk_at dksX4_actor_2 3 rfl rfl)
theorem dX4_actor_54 : decode cX4_actor 54 = .ok (.goto (-19), 3) := dk_167 255 237 (dk_at dksX4_actor_2 6 rfl rfl)
theorem dX4_actor_57 : decode cX4_actor 57 = .ok (.aload_n 0, 1) := dk_42 (dk_at dksX4_actor_2 9 rfl rfl)
theorem dX4_actor_58 : decode cX4_actor 58 = .ok (.iload 5, 2) := dk_21 5 (dk_at dksX4_actor_2 10 rfl rfl)
theorem dX4_actor_60 : decode cX4_actor 60 = .ok (.iconst 0, 1) := dk_3 (dk_at dksX4_actor_2 12 rfl rfl)
theorem dX4_actor_61 : decode cX4_actor 61 = .ok (.iload_n 1, 1) := dk_27 (dk_at dksX4_actor_2 13 rfl rfl)
theorem dX4_actor_62 : decode cX4_actor 62 = .ok (.invokevirtual 63, 3) := dk_182 0 63 (dk_at dksX4_actor_2 14 rfl rfl)
theorem dX4_actor_65 : decode cX4_actor 65 = .ok (.aload_n 0, 1) := dk_42 (dk_at dksX4_actor_2 17 rfl rfl)
theorem dX4_actor_66 : decode cX4_actor 66 = .ok (.iload 5, 2) := dk_21 5 (dk_at dksX4_actor_2 18 rfl rfl)
theorem dX4_actor_68 : decode cX4_actor 68 = .ok (.iconst 1, 1) := dk_4 (dk_at dksX4_actor_2 20 rfl rfl)
theorem dX4_actor_69 : decode cX4_actor 69 = .ok (.iload_n 2, 1) := dk_28 (dk_at dksX4_actor_2 21 rfl rfl)
theorem dX4_actor_70 : decode cX4_actor 70 = .ok (.invokevirtual 63, 3) := dk_182 0 63 (dk_at dksX4_actor_3 0 rfl rfl)
theorem dX4_actor_73 : decode cX4_actor 73 = .ok (.aload_n 0, 1) := dk_42 (dk_at dksX4_actor_3 3 rfl rfl)
theorem dX4_actor_74 : decode cX4_actor 74 = .ok (.iload 5, 2) := dk_21 5 (dk_at dksX4_actor_3 4 rfl rfl)
theorem dX4_actor_76 : decode cX4_actor 76 = .ok (.iconst 2, 1) := dk_5 (dk_at dksX4_actor_3 6 rfl rfl)
theorem dX4_actor_77 : decode cX4_actor 77 = .ok (.iload_n 3, 1) := dk_29 (dk_at dksX4_actor_3 7 rfl rfl)
theorem dX4_actor_78 : decode cX4_actor 78 = .ok (.sipush 1000, 3) := dk_17 3 232 (dk_at dksX4_actor_3 8 rfl rfl)
theorem dX4_actor_81 : decode cX4_actor 81 = .ok (.idiv, 1) := dk_108 (dk_at dksX4_actor_3 11 rfl rfl)
theorem dX4_actor_82 : decode cX4_actor 82 = .ok (.invokevirtual 63, 3) := dk_182 0 63 (dk_at dksX4_actor_3 12 rfl rfl)
theorem dX4_actor_85 : decode cX4_actor 85 = .ok (.aload_n 0, 1) := dk_42 (dk_at dksX4_actor_3 15 rfl rfl)
theorem dX4_actor_86 : decode cX4_actor 86 = .ok (.iload 5, 2) := dk_21 5 (dk_at dksX4_actor_3 16 rfl rfl)
theorem dX4_actor_88 : decode cX4_actor 88 = .ok (.iconst 3, 1) := dk_6 (dk_at dksX4_actor_3 18 rfl rfl)
theorem dX4_actor_89 : decode cX4_actor 89 = .ok (.iload_n 3, 1) := dk_29 (dk_at dksX4_actor_3 19 rfl rfl)
theorem dX4_actor_90 : decode cX4_actor 90 = .ok (.bipush 100, 2) := dk_16 100 (dk_at dksX4_actor_3 20 rfl rfl)
theorem dX4_actor_92 : decode cX4_actor 92 = .ok (.idiv, 1) := dk_108 (dk_at dksX4_actor_3 22 rfl rfl)
theorem dX4_actor_93 : decode cX4_actor 93 = .ok (.bipush 10, 2) := dk_16 10 (dk_at dksX4_actor_4 0 rfl rfl)
theorem dX4_actor_95 : decode cX4_actor 95 = .ok (.irem, 1) := dk_112 (dk_at dksX4_actor_4 2 rfl rfl)
theorem dX4_actor_96 : decode cX4_actor 96 = .ok (.invokevirtual 63, 3) := dk_182 0 63 (dk_at dksX4_actor_4 3 rfl rfl)
theorem dX4_actor_99 : decode cX4_actor 99 = .ok (.aload_n 0, 1) := dk_42 (dk_at dksX4_actor_4 6 rfl rfl)
theorem dX4_actor_100 : decode cX4_actor 100 = .ok (.iload 5, 2) := dk_21 5 (dk_at dksX4_actor_4 7 rfl rfl)
theorem dX4_actor_102 : decode cX4_actor 102 = .ok (.iconst 4, 1) := dk_7 (dk_at dksX4_actor_4 9 rfl rfl)
theorem dX4_actor_103 : decode cX4_actor 103 = .ok (.iload_n 3, 1) := dk_29 (dk_at dksX4_actor_4 10 rfl rfl)
theorem dX4_actor_104 : decode cX4_actor 104 = .ok (.bipush 100, 2) := dk_16 100 (dk_at dksX4_actor_4 11 rfl rfl)
theorem dX4_actor_106 : decode cX4_actor 106 = .ok (.irem, 1) := dk_112 (dk_at dksX4_actor_4 13 rfl rfl)
theorem dX4_actor_107 : decode cX4_actor 107 = .ok (.invokevirtual 63, 3) := dk_182 0 63 (dk_at dksX4_actor_4 14 rfl rfl)
theorem dX4_actor_110 : decode cX4_actor 110 = .ok (.aload_n 0, 1) := dk_42 (dk_at dksX4_actor_4 17 rfl rfl)
theorem dX4_actor_111 : decode cX4_actor 111 = .ok (.iload 5, 2) := dk_21 5 (dk_at dksX4_actor_4 18 rfl rfl)
theorem dX4_actor_113 : decode cX4_actor 113 = .ok (.iconst 5, 1) := dk_8 (dk_at dksX4_actor_4 20 rfl rfl)
theorem dX4_actor_114 : decode cX4_actor 114 = .ok (.iconst 1, 1) := dk_4 (dk_at dksX4_actor_4 21 rfl rfl)
theorem dX4_actor_115 : decode cX4_actor 115 = .ok (.invokevirtual 63, 3) := dk_182 0 63 (dk_at dksX4_actor_5 0 rfl rfl)
theorem dX4_actor_118 : decode cX4_actor 118 = .ok (.aload_n 0, 1) := dk_42 (dk_at dksX4_actor_5 3 rfl rfl)
theorem dX4_actor_119 : decode cX4_actor 119 = .ok (.iload 5, 2) := dk_21 5 (dk_at dksX4_actor_5 4 rfl rfl)
theorem dX4_actor_121 : decode cX4_actor 121 = .ok (.bipush 7, 2) := dk_16 7 (dk_at dksX4_actor_5 6 rfl rfl)
theorem dX4_actor_123 : decode cX4_actor 123 = .ok (.iconst 1, 1) := dk_4 (dk_at dksX4_actor_5 8 rfl rfl)
theorem dX4_actor_124 : decode cX4_actor 124 = .ok (.invokevirtual 63, 3) := dk_182 0 63 (dk_at dksX4_actor_5 9 rfl rfl)
theorem dX4_actor_127 : decode cX4_actor 127 = .ok (.aload_n 0, 1) := dk_42 (dk_at dksX4_actor_5 12 rfl rfl)
theorem dX4_actor_128 : decode cX4_actor 128 = .ok (.iload 5, 2) := dk_21 5 (dk_at dksX4_actor_5 13 rfl rfl)
theorem dX4_actor_130 : decode cX4_actor 130 = .ok (.bipush 8, 2) := dk_16 8 (dk_at dksX4_actor_5 15 rfl rfl)
theorem dX4_actor_132 : decode cX4_actor 132 = .ok (.iload_n 2, 1) := dk_28 (dk_at dksX4_actor_5 17 rfl rfl)
theorem dX4_actor_133 : decode cX4_actor 133 = .ok (.invokevirtual 63, 3) := dk_182 0 63 (dk_at dksX4_actor_5 18 rfl rfl)
theorem dX4_actor_136 : decode cX4_actor 136 = .ok (.iload 5, 2) := dk_21 5 (dk_at dksX4_actor_5 21 rfl rfl)
theorem dX4_actor_138 : decode cX4_actor 138 = .ok (.ireturn, 1) := dk_172 (dk_at dksX4_actor_5 23 rfl rfl)
abbrev cX4_canBe : ByteArray := prog_23_method_35_code
def yX4_canBe : MethodName := ⟨RX4, "canBe", "(III)I"⟩
def dkwX4_canBe_3 : List UInt8 := [16, 12, 160, 0, 8, 16, 253, 167, 0, 4, 3, 172]
abbrev dktX4_canBe_3 : List UInt8 := dkwX4_canBe_3 ++ []
def dkwX4_canBe_2 : List UInt8 := [155, 0, 16, 42, 27, 182, 0, 59, 154, 0, 8, 16, 251, 167, 0, 22, 42, 180, 0, 9, 17, 3, 156, 46]
abbrev dktX4_canBe_2 : List UInt8 := dkwX4_canBe_2 ++ dktX4_canBe_3
def dkwX4_canBe_1 : List UInt8 := [153, 0, 20, 28, 3, 16, 9, 184, 0, 51, 153, 0, 10, 29, 184, 0, 170, 154, 0, 5, 2, 172, 27]
abbrev dktX4_canBe_1 : List UInt8 := dkwX4_canBe_1 ++ dktX4_canBe_2
def dkwX4_canBe_0 : List UInt8 := [27, 2, 160, 0, 17, 42, 180, 0, 9, 17, 3, 156, 46, 154, 0, 31, 167, 0, 11, 42, 27, 182, 0, 167]
abbrev dktX4_canBe_0 : List UInt8 := dkwX4_canBe_0 ++ dktX4_canBe_1
theorem dksX4_canBe_0 : cX4_canBe.data.toList.drop 0 = dktX4_canBe_0 := by decide +kernel
theorem dksX4_canBe_1 : cX4_canBe.data.toList.drop 24 = dktX4_canBe_1 := dk_seg dksX4_canBe_0 24 rfl rfl
theorem dksX4_canBe_2 : cX4_canBe.data.toList.drop 47 = dktX4_canBe_2 := dk_seg dksX4_canBe_1 23 rfl rfl
theorem dksX4_canBe_3 : cX4_canBe.data.toList.drop 71 = dktX4_canBe_3 := dk_seg dksX4_canBe_2 24 rfl rfl
theorem dX4_canBe_0 : decode cX4_canBe 0 = .ok (.iload_n 1, 1) := dk_27 (dk_at dksX4_canBe_0 0 rfl rfl)
theorem dX4_canBe_1 : decode cX4_canBe 1 = .ok (.iconst (-1), 1) := dk_2 (dk_at dksX4_canBe_0 1 rfl rfl)
theorem dX4_canBe_2 : decode cX4_canBe 2 = .ok (.if_icmp .ne 17, 3) := dk_160 0 17 (dk_at dksX4_canBe_0 2 rfl rfl)
theorem dX4_canBe_5 : decode cX4_canBe 5 = .ok (.aload_n 0, 1) := dk_42 (dk_at dksX4_canBe_0 5 rfl rfl)
theorem dX4_canBe_6 : decode cX4_canBe 6 = .ok (.getfield 9, 3) := dk_180 0 9 (dk_at dksX4_canBe_0 6 rfl rfl)
theorem dX4_canBe_9 : decode cX4_canBe 9 = .ok (.sipush 924, 3) := dk_17 3 156 (dk_at dksX4_canBe_0 9 rfl rfl)
theorem dX4_canBe_12 : decode cX4_canBe 12 = .ok (.iaload, 1) := dk_46 (dk_at dksX4_canBe_0 12 rfl rfl)
theorem dX4_canBe_13 : decode cX4_canBe 13 = .ok (.ifCond .ne 31, 3) := dk_154 0 31 (dk_at dksX4_canBe_0 13 rfl rfl)
theorem dX4_canBe_16 : decode cX4_canBe 16 = .ok (.goto 11, 3) := dk_167 0 11 (dk_at dksX4_canBe_0 16 rfl rfl)
theorem dX4_canBe_19 : decode cX4_canBe 19 = .ok (.aload_n 0, 1) := dk_42 (dk_at dksX4_canBe_0 19 rfl rfl)
theorem dX4_canBe_20 : decode cX4_canBe 20 = .ok (.iload_n 1, 1) := dk_27 (dk_at dksX4_canBe_0 20 rfl rfl)
theorem dX4_canBe_21 : decode cX4_canBe 21 = .ok (.invokevirtual 167, 3) := dk_182 0 167 (dk_at dksX4_canBe_0 21 rfl rfl)
theorem dX4_canBe_24 : decode cX4_canBe 24 = .ok (.ifCond .eq 20, 3) := dk_153 0 20 (dk_at dksX4_canBe_1 0 rfl rfl)
theorem dX4_canBe_27 : decode cX4_canBe 27 = .ok (.iload_n 2, 1) := dk_28 (dk_at dksX4_canBe_1 3 rfl rfl)
theorem dX4_canBe_28 : decode cX4_canBe 28 = .ok (.iconst 0, 1) := dk_3 (dk_at dksX4_canBe_1 4 rfl rfl)
theorem dX4_canBe_29 : decode cX4_canBe 29 = .ok (.bipush 9, 2) := dk_16 9 (dk_at dksX4_canBe_1 5 rfl rfl)
theorem dX4_canBe_31 : decode cX4_canBe 31 = .ok (.invokestatic 51, 3) := dk_184 0 51 (dk_at dksX4_canBe_1 7 rfl rfl)
theorem dX4_canBe_34 : decode cX4_canBe 34 = .ok (.ifCond .eq 10, 3) := dk_153 0 10 (dk_at dksX4_canBe_1 10 rfl rfl)
theorem dX4_canBe_37 : decode cX4_canBe 37 = .ok (.iload_n 3, 1) := dk_29 (dk_at dksX4_canBe_1 13 rfl rfl)
theorem dX4_canBe_38 : decode cX4_canBe 38 = .ok (.invokestatic 170, 3) := dk_184 0 170 (dk_at dksX4_canBe_1 14 rfl rfl)
theorem dX4_canBe_41 : decode cX4_canBe 41 = .ok (.ifCond .ne 5, 3) := dk_154 0 5 (dk_at dksX4_canBe_1 17 rfl rfl)
theorem dX4_canBe_44 : decode cX4_canBe 44 = .ok (.iconst (-1), 1) := dk_2 (dk_at dksX4_canBe_1 20 rfl rfl)
theorem dX4_canBe_45 : decode cX4_canBe 45 = .ok (.ireturn, 1) := dk_172 (dk_at dksX4_canBe_1 21 rfl rfl)
theorem dX4_canBe_46 : decode cX4_canBe 46 = .ok (.iload_n 1, 1) := dk_27 (dk_at dksX4_canBe_1 22 rfl rfl)
theorem dX4_canBe_47 : decode cX4_canBe 47 = .ok (.ifCond .lt 16, 3) := dk_155 0 16 (dk_at dksX4_canBe_2 0 rfl rfl)
theorem dX4_canBe_50 : decode cX4_canBe 50 = .ok (.aload_n 0, 1) := dk_42 (dk_at dksX4_canBe_2 3 rfl rfl)
theorem dX4_canBe_51 : decode cX4_canBe 51 = .ok (.iload_n 1, 1) := dk_27 (dk_at dksX4_canBe_2 4 rfl rfl)
theorem dX4_canBe_52 : decode cX4_canBe 52 = .ok (.invokevirtual 59, 3) := dk_182 0 59 (dk_at dksX4_canBe_2 5 rfl rfl)
theorem dX4_canBe_55 : decode cX4_canBe 55 = .ok (.ifCond .ne 8, 3) := dk_154 0 8 (dk_at dksX4_canBe_2 8 rfl rfl)
theorem dX4_canBe_58 : decode cX4_canBe 58 = .ok (.bipush (-5), 2) := dk_16 251 (dk_at dksX4_canBe_2 11 rfl rfl)
theorem dX4_canBe_60 : decode cX4_canBe 60 = .ok (.goto 22, 3) := dk_167 0 22 (dk_at dksX4_canBe_2 13 rfl rfl)
theorem dX4_canBe_63 : decode cX4_canBe 63 = .ok (.aload_n 0, 1) := dk_42 (dk_at dksX4_canBe_2 16 rfl rfl)
theorem dX4_canBe_64 : decode cX4_canBe 64 = .ok (.getfield 9, 3) := dk_180 0 9 (dk_at dksX4_canBe_2 17 rfl rfl)
theorem dX4_canBe_67 : decode cX4_canBe 67 = .ok (.sipush 924, 3) := dk_17 3 156 (dk_at dksX4_canBe_2 20 rfl rfl)
theorem dX4_canBe_70 : decode cX4_canBe 70 = .ok (.iaload, 1) := dk_46 (dk_at dksX4_canBe_2 23 rfl rfl)
theorem dX4_canBe_71 : decode cX4_canBe 71 = .ok (.bipush 12, 2) := dk_16 12 (dk_at dksX4_canBe_3 0 rfl rfl)
theorem dX4_canBe_73 : decode cX4_canBe 73 = .ok (.if_icmp .ne 8, 3) := dk_160 0 8 (dk_at dksX4_canBe_3 2 rfl rfl)
theorem dX4_canBe_76 : decode cX4_canBe 76 = .ok (.bipush (-3), 2) := dk_16 253 (dk_at dksX4_canBe_3 5 rfl rfl)
theorem dX4_canBe_78 : decode cX4_canBe 78 = .ok (.goto 4, 3) := dk_167 0 4 (dk_at dksX4_canBe_3 7 rfl rfl)
theorem dX4_canBe_81 : decode cX4_canBe 81 = .ok (.iconst 0, 1) := dk_3 (dk_at dksX4_canBe_3 10 rfl rfl)
theorem dX4_canBe_82 : decode cX4_canBe 82 = .ok (.ireturn, 1) := dk_172 (dk_at dksX4_canBe_3 11 rfl rfl)
abbrev cX4_isActor : ByteArray := prog_23_method_6_code
def yX4_isActor : MethodName := ⟨RX4, "isActor", "(I)Z"⟩
def dkwX4_isActor_0 : List UInt8 := [27, 3, 42, 180, 0, 9, 17, 3, 156, 46, 4, 100, 184, 0, 51, 172]
abbrev dktX4_isActor_0 : List UInt8 := dkwX4_isActor_0 ++ []
theorem dksX4_isActor_0 : cX4_isActor.data.toList.drop 0 = dktX4_isActor_0 := by decide +kernel
theorem dX4_isActor_0 : decode cX4_isActor 0 = .ok (.iload_n 1, 1) := dk_27 (dk_at dksX4_isActor_0 0 rfl rfl)
theorem dX4_isActor_1 : decode cX4_isActor 1 = .ok (.iconst 0, 1) := dk_3 (dk_at dksX4_isActor_0 1 rfl rfl)
theorem dX4_isActor_2 : decode cX4_isActor 2 = .ok (.aload_n 0, 1) := dk_42 (dk_at dksX4_isActor_0 2 rfl rfl)
theorem dX4_isActor_3 : decode cX4_isActor 3 = .ok (.getfield 9, 3) := dk_180 0 9 (dk_at dksX4_isActor_0 3 rfl rfl)
theorem dX4_isActor_6 : decode cX4_isActor 6 = .ok (.sipush 924, 3) := dk_17 3 156 (dk_at dksX4_isActor_0 6 rfl rfl)
theorem dX4_isActor_9 : decode cX4_isActor 9 = .ok (.iaload, 1) := dk_46 (dk_at dksX4_isActor_0 9 rfl rfl)
theorem dX4_isActor_10 : decode cX4_isActor 10 = .ok (.iconst 1, 1) := dk_4 (dk_at dksX4_isActor_0 10 rfl rfl)
theorem dX4_isActor_11 : decode cX4_isActor 11 = .ok (.isub, 1) := dk_100 (dk_at dksX4_isActor_0 11 rfl rfl)
theorem dX4_isActor_12 : decode cX4_isActor 12 = .ok (.invokestatic 51, 3) := dk_184 0 51 (dk_at dksX4_isActor_0 12 rfl rfl)
theorem dX4_isActor_15 : decode cX4_isActor 15 = .ok (.ireturn, 1) := dk_172 (dk_at dksX4_isActor_0 15 rfl rfl)
abbrev cX4_in : ByteArray := prog_23_method_2_code
def yX4_in : MethodName := ⟨RX4, "in", "(III)Z"⟩
def dkwX4_in_0 : List UInt8 := [26, 27, 161, 0, 12, 26, 28, 163, 0, 7, 4, 167, 0, 4, 3, 172]
abbrev dktX4_in_0 : List UInt8 := dkwX4_in_0 ++ []
theorem dksX4_in_0 : cX4_in.data.toList.drop 0 = dktX4_in_0 := by decide +kernel
theorem dX4_in_0 : decode cX4_in 0 = .ok (.iload_n 0, 1) := dk_26 (dk_at dksX4_in_0 0 rfl rfl)
theorem dX4_in_1 : decode cX4_in 1 = .ok (.iload_n 1, 1) := dk_27 (dk_at dksX4_in_0 1 rfl rfl)
theorem dX4_in_2 : decode cX4_in 2 = .ok (.if_icmp .lt 12, 3) := dk_161 0 12 (dk_at dksX4_in_0 2 rfl rfl)
theorem dX4_in_5 : decode cX4_in 5 = .ok (.iload_n 0, 1) := dk_26 (dk_at dksX4_in_0 5 rfl rfl)
theorem dX4_in_6 : decode cX4_in 6 = .ok (.iload_n 2, 1) := dk_28 (dk_at dksX4_in_0 6 rfl rfl)
theorem dX4_in_7 : decode cX4_in 7 = .ok (.if_icmp .gt 7, 3) := dk_163 0 7 (dk_at dksX4_in_0 7 rfl rfl)
theorem dX4_in_10 : decode cX4_in 10 = .ok (.iconst 1, 1) := dk_4 (dk_at dksX4_in_0 10 rfl rfl)
theorem dX4_in_11 : decode cX4_in 11 = .ok (.goto 4, 3) := dk_167 0 4 (dk_at dksX4_in_0 11 rfl rfl)
theorem dX4_in_14 : decode cX4_in 14 = .ok (.iconst 0, 1) := dk_3 (dk_at dksX4_in_0 14 rfl rfl)
theorem dX4_in_15 : decode cX4_in 15 = .ok (.ireturn, 1) := dk_172 (dk_at dksX4_in_0 15 rfl rfl)
abbrev cX4_isRule : ByteArray := prog_23_method_34_code
def yX4_isRule : MethodName := ⟨RX4, "isRule", "(I)Z"⟩
def dkwX4_isRule_1 : List UInt8 := [4, 167, 0, 4, 3, 172]
abbrev dktX4_isRule_1 : List UInt8 := dkwX4_isRule_1 ++ []
def dkwX4_isRule_0 : List UInt8 := [26, 3, 17, 11, 183, 184, 0, 51, 153, 0, 20, 26, 16, 100, 112, 4, 16, 50, 184, 0, 51, 153, 0, 7]
abbrev dktX4_isRule_0 : List UInt8 := dkwX4_isRule_0 ++ dktX4_isRule_1
theorem dksX4_isRule_0 : cX4_isRule.data.toList.drop 0 = dktX4_isRule_0 := by decide +kernel
theorem dksX4_isRule_1 : cX4_isRule.data.toList.drop 24 = dktX4_isRule_1 := dk_seg dksX4_isRule_0 24 rfl rfl
theorem dX4_isRule_0 : decode cX4_isRule 0 = .ok (.iload_n 0, 1) := dk_26 (dk_at dksX4_isRule_0 0 rfl rfl)
theorem dX4_isRule_1 : decode cX4_isRule 1 = .ok (.iconst 0, 1) := dk_3 (dk_at dksX4_isRule_0 1 rfl rfl)
theorem dX4_isRule_2 : decode cX4_isRule 2 = .ok (.sipush 2999, 3) := dk_17 11 183 (dk_at dksX4_isRule_0 2 rfl rfl)
theorem dX4_isRule_5 : decode cX4_isRule 5 = .ok (.invokestatic 51, 3) := dk_184 0 51 (dk_at dksX4_isRule_0 5 rfl rfl)
theorem dX4_isRule_8 : decode cX4_isRule 8 = .ok (.ifCond .eq 20, 3) := dk_153 0 20 (dk_at dksX4_isRule_0 8 rfl rfl)
theorem dX4_isRule_11 : decode cX4_isRule 11 = .ok (.iload_n 0, 1) := dk_26 (dk_at dksX4_isRule_0 11 rfl rfl)
theorem dX4_isRule_12 : decode cX4_isRule 12 = .ok (.bipush 100, 2) := dk_16 100 (dk_at dksX4_isRule_0 12 rfl rfl)
theorem dX4_isRule_14 : decode cX4_isRule 14 = .ok (.irem, 1) := dk_112 (dk_at dksX4_isRule_0 14 rfl rfl)
theorem dX4_isRule_15 : decode cX4_isRule 15 = .ok (.iconst 1, 1) := dk_4 (dk_at dksX4_isRule_0 15 rfl rfl)
theorem dX4_isRule_16 : decode cX4_isRule 16 = .ok (.bipush 50, 2) := dk_16 50 (dk_at dksX4_isRule_0 16 rfl rfl)
theorem dX4_isRule_18 : decode cX4_isRule 18 = .ok (.invokestatic 51, 3) := dk_184 0 51 (dk_at dksX4_isRule_0 18 rfl rfl)
theorem dX4_isRule_21 : decode cX4_isRule 21 = .ok (.ifCond .eq 7, 3) := dk_153 0 7 (dk_at dksX4_isRule_0 21 rfl rfl)
theorem dX4_isRule_24 : decode cX4_isRule 24 = .ok (.iconst 1, 1) := dk_4 (dk_at dksX4_isRule_1 0 rfl rfl)
theorem dX4_isRule_25 : decode cX4_isRule 25 = .ok (.goto 4, 3) := dk_167 0 4 (dk_at dksX4_isRule_1 1 rfl rfl)
theorem dX4_isRule_28 : decode cX4_isRule 28 = .ok (.iconst 0, 1) := dk_3 (dk_at dksX4_isRule_1 4 rfl rfl)
theorem dX4_isRule_29 : decode cX4_isRule 29 = .ok (.ireturn, 1) := dk_172 (dk_at dksX4_isRule_1 5 rfl rfl)
abbrev cX4_isLive : ByteArray := prog_23_method_7_code
def yX4_isLive : MethodName := ⟨RX4, "isLive", "(I)Z"⟩
def dkwX4_isLive_0 : List UInt8 := [42, 27, 8, 182, 0, 55, 4, 160, 0, 7, 4, 167, 0, 4, 3, 172]
abbrev dktX4_isLive_0 : List UInt8 := dkwX4_isLive_0 ++ []
theorem dksX4_isLive_0 : cX4_isLive.data.toList.drop 0 = dktX4_isLive_0 := by decide +kernel
theorem dX4_isLive_0 : decode cX4_isLive 0 = .ok (.aload_n 0, 1) := dk_42 (dk_at dksX4_isLive_0 0 rfl rfl)
theorem dX4_isLive_1 : decode cX4_isLive 1 = .ok (.iload_n 1, 1) := dk_27 (dk_at dksX4_isLive_0 1 rfl rfl)
theorem dX4_isLive_2 : decode cX4_isLive 2 = .ok (.iconst 5, 1) := dk_8 (dk_at dksX4_isLive_0 2 rfl rfl)
theorem dX4_isLive_3 : decode cX4_isLive 3 = .ok (.invokevirtual 55, 3) := dk_182 0 55 (dk_at dksX4_isLive_0 3 rfl rfl)
theorem dX4_isLive_6 : decode cX4_isLive 6 = .ok (.iconst 1, 1) := dk_4 (dk_at dksX4_isLive_0 6 rfl rfl)
theorem dX4_isLive_7 : decode cX4_isLive 7 = .ok (.if_icmp .ne 7, 3) := dk_160 0 7 (dk_at dksX4_isLive_0 7 rfl rfl)
theorem dX4_isLive_10 : decode cX4_isLive 10 = .ok (.iconst 1, 1) := dk_4 (dk_at dksX4_isLive_0 10 rfl rfl)
theorem dX4_isLive_11 : decode cX4_isLive 11 = .ok (.goto 4, 3) := dk_167 0 4 (dk_at dksX4_isLive_0 11 rfl rfl)
theorem dX4_isLive_14 : decode cX4_isLive 14 = .ok (.iconst 0, 1) := dk_3 (dk_at dksX4_isLive_0 14 rfl rfl)
theorem dX4_isLive_15 : decode cX4_isLive 15 = .ok (.ireturn, 1) := dk_172 (dk_at dksX4_isLive_0 15 rfl rfl)
abbrev cX4_at : ByteArray := prog_23_method_4_code
def yX4_at : MethodName := ⟨RX4, "at", "(II)I"⟩
def dkwX4_at_0 : List UInt8 := [42, 180, 0, 9, 27, 16, 77, 104, 28, 96, 46, 172]
abbrev dktX4_at_0 : List UInt8 := dkwX4_at_0 ++ []
theorem dksX4_at_0 : cX4_at.data.toList.drop 0 = dktX4_at_0 := by decide +kernel
theorem dX4_at_0 : decode cX4_at 0 = .ok (.aload_n 0, 1) := dk_42 (dk_at dksX4_at_0 0 rfl rfl)
theorem dX4_at_1 : decode cX4_at 1 = .ok (.getfield 9, 3) := dk_180 0 9 (dk_at dksX4_at_0 1 rfl rfl)
theorem dX4_at_4 : decode cX4_at 4 = .ok (.iload_n 1, 1) := dk_27 (dk_at dksX4_at_0 4 rfl rfl)
theorem dX4_at_5 : decode cX4_at 5 = .ok (.bipush 77, 2) := dk_16 77 (dk_at dksX4_at_0 5 rfl rfl)
theorem dX4_at_7 : decode cX4_at 7 = .ok (.imul, 1) := dk_104 (dk_at dksX4_at_0 7 rfl rfl)
theorem dX4_at_8 : decode cX4_at 8 = .ok (.iload_n 2, 1) := dk_28 (dk_at dksX4_at_0 8 rfl rfl)
theorem dX4_at_9 : decode cX4_at 9 = .ok (.iadd, 1) := dk_96 (dk_at dksX4_at_0 9 rfl rfl)
theorem dX4_at_10 : decode cX4_at 10 = .ok (.iaload, 1) := dk_46 (dk_at dksX4_at_0 10 rfl rfl)
theorem dX4_at_11 : decode cX4_at 11 = .ok (.ireturn, 1) := dk_172 (dk_at dksX4_at_0 11 rfl rfl)
abbrev cX4_sets : ByteArray := prog_23_method_5_code
def yX4_sets : MethodName := ⟨RX4, "sets", "(III)V"⟩
def dkwX4_sets_0 : List UInt8 := [42, 180, 0, 9, 27, 16, 77, 104, 28, 96, 29, 79, 177]
abbrev dktX4_sets_0 : List UInt8 := dkwX4_sets_0 ++ []
theorem dksX4_sets_0 : cX4_sets.data.toList.drop 0 = dktX4_sets_0 := by decide +kernel
theorem dX4_sets_0 : decode cX4_sets 0 = .ok (.aload_n 0, 1) := dk_42 (dk_at dksX4_sets_0 0 rfl rfl)
theorem dX4_sets_1 : decode cX4_sets 1 = .ok (.getfield 9, 3) := dk_180 0 9 (dk_at dksX4_sets_0 1 rfl rfl)
theorem dX4_sets_4 : decode cX4_sets 4 = .ok (.iload_n 1, 1) := dk_27 (dk_at dksX4_sets_0 4 rfl rfl)
theorem dX4_sets_5 : decode cX4_sets 5 = .ok (.bipush 77, 2) := dk_16 77 (dk_at dksX4_sets_0 5 rfl rfl)
theorem dX4_sets_7 : decode cX4_sets 7 = .ok (.imul, 1) := dk_104 (dk_at dksX4_sets_0 7 rfl rfl)
theorem dX4_sets_8 : decode cX4_sets 8 = .ok (.iload_n 2, 1) := dk_28 (dk_at dksX4_sets_0 8 rfl rfl)
theorem dX4_sets_9 : decode cX4_sets 9 = .ok (.iadd, 1) := dk_96 (dk_at dksX4_sets_0 9 rfl rfl)
theorem dX4_sets_10 : decode cX4_sets 10 = .ok (.iload_n 3, 1) := dk_29 (dk_at dksX4_sets_0 10 rfl rfl)
theorem dX4_sets_11 : decode cX4_sets 11 = .ok (.iastore, 1) := dk_79 (dk_at dksX4_sets_0 11 rfl rfl)
theorem dX4_sets_12 : decode cX4_sets 12 = .ok (.return_, 1) := dk_177 (dk_at dksX4_sets_0 12 rfl rfl)
abbrev cX4_tell : ByteArray := prog_23_method_38_code
def yX4_tell : MethodName := ⟨RX4, "tell", "(III)I"⟩
def dkwX4_tell_2 : List UInt8 := [182, 0, 55, 167, 0, 5, 16, 251, 172]
abbrev dktX4_tell_2 : List UInt8 := dkwX4_tell_2 ++ []
def dkwX4_tell_1 : List UInt8 := [184, 0, 177, 154, 0, 5, 2, 172, 42, 27, 28, 29, 182, 0, 84, 153, 0, 13, 42, 27, 16, 13]
abbrev dktX4_tell_1 : List UInt8 := dkwX4_tell_1 ++ dktX4_tell_2
def dkwX4_tell_0 : List UInt8 := [42, 27, 182, 0, 167, 153, 0, 23, 28, 2, 159, 0, 11, 42, 28, 182, 0, 167, 153, 0, 10, 29]
abbrev dktX4_tell_0 : List UInt8 := dkwX4_tell_0 ++ dktX4_tell_1
theorem dksX4_tell_0 : cX4_tell.data.toList.drop 0 = dktX4_tell_0 := by decide +kernel
theorem dksX4_tell_1 : cX4_tell.data.toList.drop 22 = dktX4_tell_1 := dk_seg dksX4_tell_0 22 rfl rfl
theorem dksX4_tell_2 : cX4_tell.data.toList.drop 44 = dktX4_tell_2 := dk_seg dksX4_tell_1 22 rfl rfl
theorem dX4_tell_0 : decode cX4_tell 0 = .ok (.aload_n 0, 1) := dk_42 (dk_at dksX4_tell_0 0 rfl rfl)
theorem dX4_tell_1 : decode cX4_tell 1 = .ok (.iload_n 1, 1) := dk_27 (dk_at dksX4_tell_0 1 rfl rfl)
theorem dX4_tell_2 : decode cX4_tell 2 = .ok (.invokevirtual 167, 3) := dk_182 0 167 (dk_at dksX4_tell_0 2 rfl rfl)
theorem dX4_tell_5 : decode cX4_tell 5 = .ok (.ifCond .eq 23, 3) := dk_153 0 23 (dk_at dksX4_tell_0 5 rfl rfl)
theorem dX4_tell_8 : decode cX4_tell 8 = .ok (.iload_n 2, 1) := dk_28 (dk_at dksX4_tell_0 8 rfl rfl)
theorem dX4_tell_9 : decode cX4_tell 9 = .ok (.iconst (-1), 1) := dk_2 (dk_at dksX4_tell_0 9 rfl rfl)
theorem dX4_tell_10 : decode cX4_tell 10 = .ok (.if_icmp .eq 11, 3) := dk_159 0 11 (dk_at dksX4_tell_0 10 rfl rfl)
theorem dX4_tell_13 : decode cX4_tell 13 = .ok (.aload_n 0, 1) := dk_42 (dk_at dksX4_tell_0 13 rfl rfl)
theorem dX4_tell_14 : decode cX4_tell 14 = .ok (.iload_n 2, 1) := dk_28 (dk_at dksX4_tell_0 14 rfl rfl)
theorem dX4_tell_15 : decode cX4_tell 15 = .ok (.invokevirtual 167, 3) := dk_182 0 167 (dk_at dksX4_tell_0 15 rfl rfl)
theorem dX4_tell_18 : decode cX4_tell 18 = .ok (.ifCond .eq 10, 3) := dk_153 0 10 (dk_at dksX4_tell_0 18 rfl rfl)
theorem dX4_tell_21 : decode cX4_tell 21 = .ok (.iload_n 3, 1) := dk_29 (dk_at dksX4_tell_0 21 rfl rfl)
theorem dX4_tell_22 : decode cX4_tell 22 = .ok (.invokestatic 177, 3) := dk_184 0 177 (dk_at dksX4_tell_1 0 rfl rfl)
theorem dX4_tell_25 : decode cX4_tell 25 = .ok (.ifCond .ne 5, 3) := dk_154 0 5 (dk_at dksX4_tell_1 3 rfl rfl)
theorem dX4_tell_28 : decode cX4_tell 28 = .ok (.iconst (-1), 1) := dk_2 (dk_at dksX4_tell_1 6 rfl rfl)
theorem dX4_tell_29 : decode cX4_tell 29 = .ok (.ireturn, 1) := dk_172 (dk_at dksX4_tell_1 7 rfl rfl)
theorem dX4_tell_30 : decode cX4_tell 30 = .ok (.aload_n 0, 1) := dk_42 (dk_at dksX4_tell_1 8 rfl rfl)
theorem dX4_tell_31 : decode cX4_tell 31 = .ok (.iload_n 1, 1) := dk_27 (dk_at dksX4_tell_1 9 rfl rfl)
theorem dX4_tell_32 : decode cX4_tell 32 = .ok (.iload_n 2, 1) := dk_28 (dk_at dksX4_tell_1 10 rfl rfl)
theorem dX4_tell_33 : decode cX4_tell 33 = .ok (.iload_n 3, 1) := dk_29 (dk_at dksX4_tell_1 11 rfl rfl)
theorem dX4_tell_34 : decode cX4_tell 34 = .ok (.invokevirtual 84, 3) := dk_182 0 84 (dk_at dksX4_tell_1 12 rfl rfl)
theorem dX4_tell_37 : decode cX4_tell 37 = .ok (.ifCond .eq 13, 3) := dk_153 0 13 (dk_at dksX4_tell_1 15 rfl rfl)
theorem dX4_tell_40 : decode cX4_tell 40 = .ok (.aload_n 0, 1) := dk_42 (dk_at dksX4_tell_1 18 rfl rfl)
theorem dX4_tell_41 : decode cX4_tell 41 = .ok (.iload_n 1, 1) := dk_27 (dk_at dksX4_tell_1 19 rfl rfl)
theorem dX4_tell_42 : decode cX4_tell 42 = .ok (.bipush 13, 2) := dk_16 13 (dk_at dksX4_tell_1 20 rfl rfl)
theorem dX4_tell_44 : decode cX4_tell 44 = .ok (.invokevirtual 55, 3) := dk_182 0 55 (dk_at dksX4_tell_2 0 rfl rfl)
theorem dX4_tell_47 : decode cX4_tell 47 = .ok (.goto 5, 3) := dk_167 0 5 (dk_at dksX4_tell_2 3 rfl rfl)
theorem dX4_tell_50 : decode cX4_tell 50 = .ok (.bipush (-5), 2) := dk_16 251 (dk_at dksX4_tell_2 6 rfl rfl)
theorem dX4_tell_52 : decode cX4_tell 52 = .ok (.ireturn, 1) := dk_172 (dk_at dksX4_tell_2 8 rfl rfl)
abbrev cX4_isNumber : ByteArray := prog_23_method_37_code
def yX4_isNumber : MethodName := ⟨RX4, "isNumber", "(I)Z"⟩
def dkwX4_isNumber_0 : List UInt8 := [26, 16, 157, 16, 99, 184, 0, 51, 172]
abbrev dktX4_isNumber_0 : List UInt8 := dkwX4_isNumber_0 ++ []
theorem dksX4_isNumber_0 : cX4_isNumber.data.toList.drop 0 = dktX4_isNumber_0 := by decide +kernel
theorem dX4_isNumber_0 : decode cX4_isNumber 0 = .ok (.iload_n 0, 1) := dk_26 (dk_at dksX4_isNumber_0 0 rfl rfl)
theorem dX4_isNumber_1 : decode cX4_isNumber 1 = .ok (.bipush (-99), 2) := dk_16 157 (dk_at dksX4_isNumber_0 1 rfl rfl)
theorem dX4_isNumber_3 : decode cX4_isNumber 3 = .ok (.bipush 99, 2) := dk_16 99 (dk_at dksX4_isNumber_0 3 rfl rfl)
theorem dX4_isNumber_5 : decode cX4_isNumber 5 = .ok (.invokestatic 51, 3) := dk_184 0 51 (dk_at dksX4_isNumber_0 5 rfl rfl)
theorem dX4_isNumber_8 : decode cX4_isNumber 8 = .ok (.ireturn, 1) := dk_172 (dk_at dksX4_isNumber_0 8 rfl rfl)
abbrev cX4_sends : ByteArray := prog_23_method_9_code
def yX4_sends : MethodName := ⟨RX4, "sends", "(III)Z"⟩
def dkwX4_sends_3 : List UInt8 := [4, 96, 182, 0, 63, 4, 172]
abbrev dktX4_sends_3 : List UInt8 := dkwX4_sends_3 ++ []
def dkwX4_sends_2 : List UInt8 := [182, 0, 63, 42, 27, 16, 14, 5, 21, 4, 104, 96, 4, 96, 29, 182, 0, 63, 42, 27, 16, 13, 21, 4]
abbrev dktX4_sends_2 : List UInt8 := dkwX4_sends_2 ++ dktX4_sends_3
def dkwX4_sends_1 : List UInt8 := [42, 180, 0, 9, 17, 3, 159, 92, 46, 4, 96, 79, 3, 172, 42, 27, 16, 14, 5, 21, 4, 104, 96, 28]
abbrev dktX4_sends_1 : List UInt8 := dkwX4_sends_1 ++ dktX4_sends_2
def dkwX4_sends_0 : List UInt8 := [42, 27, 16, 13, 182, 0, 55, 54, 4, 42, 27, 182, 0, 59, 153, 0, 10, 21, 4, 16, 12, 160, 0, 17]
abbrev dktX4_sends_0 : List UInt8 := dkwX4_sends_0 ++ dktX4_sends_1
theorem dksX4_sends_0 : cX4_sends.data.toList.drop 0 = dktX4_sends_0 := by decide +kernel
theorem dksX4_sends_1 : cX4_sends.data.toList.drop 24 = dktX4_sends_1 := dk_seg dksX4_sends_0 24 rfl rfl
theorem dksX4_sends_2 : cX4_sends.data.toList.drop 48 = dktX4_sends_2 := dk_seg dksX4_sends_1 24 rfl rfl
theorem dksX4_sends_3 : cX4_sends.data.toList.drop 72 = dktX4_sends_3 := dk_seg dksX4_sends_2 24 rfl rfl
theorem dX4_sends_0 : decode cX4_sends 0 = .ok (.aload_n 0, 1) := dk_42 (dk_at dksX4_sends_0 0 rfl rfl)
theorem dX4_sends_1 : decode cX4_sends 1 = .ok (.iload_n 1, 1) := dk_27 (dk_at dksX4_sends_0 1 rfl rfl)
theorem dX4_sends_2 : decode cX4_sends 2 = .ok (.bipush 13, 2) := dk_16 13 (dk_at dksX4_sends_0 2 rfl rfl)
theorem dX4_sends_4 : decode cX4_sends 4 = .ok (.invokevirtual 55, 3) := dk_182 0 55 (dk_at dksX4_sends_0 4 rfl rfl)
theorem dX4_sends_7 : decode cX4_sends 7 = .ok (.istore 4, 2) := dk_54 4 (dk_at dksX4_sends_0 7 rfl rfl)
theorem dX4_sends_9 : decode cX4_sends 9 = .ok (.aload_n 0, 1) := dk_42 (dk_at dksX4_sends_0 9 rfl rfl)
theorem dX4_sends_10 : decode cX4_sends 10 = .ok (.iload_n 1, 1) := dk_27 (dk_at dksX4_sends_0 10 rfl rfl)
theorem dX4_sends_11 : decode cX4_sends 11 = .ok (.invokevirtual 59, 3) := dk_182 0 59 (dk_at dksX4_sends_0 11 rfl rfl)
theorem dX4_sends_14 : decode cX4_sends 14 = .ok (.ifCond .eq 10, 3) := dk_153 0 10 (dk_at dksX4_sends_0 14 rfl rfl)
theorem dX4_sends_17 : decode cX4_sends 17 = .ok (.iload 4, 2) := dk_21 4 (dk_at dksX4_sends_0 17 rfl rfl)
theorem dX4_sends_19 : decode cX4_sends 19 = .ok (.bipush 12, 2) := dk_16 12 (dk_at dksX4_sends_0 19 rfl rfl)
theorem dX4_sends_21 : decode cX4_sends 21 = .ok (.if_icmp .ne 17, 3) := dk_160 0 17 (dk_at dksX4_sends_0 21 rfl rfl)
theorem dX4_sends_24 : decode cX4_sends 24 = .ok (.aload_n 0, 1) := dk_42 (dk_at dksX4_sends_1 0 rfl rfl)
theorem dX4_sends_25 : decode cX4_sends 25 = .ok (.getfield 9, 3) := dk_180 0 9 (dk_at dksX4_sends_1 1 rfl rfl)
theorem dX4_sends_28 : decode cX4_sends 28 = .ok (.sipush 927, 3) := dk_17 3 159 (dk_at dksX4_sends_1 4 rfl rfl)
theorem dX4_sends_31 : decode cX4_sends 31 = .ok (.dup2, 1) := dk_92 (dk_at dksX4_sends_1 7 rfl rfl)
theorem dX4_sends_32 : decode cX4_sends 32 = .ok (.iaload, 1) := dk_46 (dk_at dksX4_sends_1 8 rfl rfl)
theorem dX4_sends_33 : decode cX4_sends 33 = .ok (.iconst 1, 1) := dk_4 (dk_at dksX4_sends_1 9 rfl rfl)
theorem dX4_sends_34 : decode cX4_sends 34 = .ok (.iadd, 1) := dk_96 (dk_at dksX4_sends_1 10 rfl rfl)
theorem dX4_sends_35 : decode cX4_sends 35 = .ok (.iastore, 1) := dk_79 (dk_at dksX4_sends_1 11 rfl rfl)
theorem dX4_sends_36 : decode cX4_sends 36 = .ok (.iconst 0, 1) := dk_3 (dk_at dksX4_sends_1 12 rfl rfl)
theorem dX4_sends_37 : decode cX4_sends 37 = .ok (.ireturn, 1) := dk_172 (dk_at dksX4_sends_1 13 rfl rfl)
theorem dX4_sends_38 : decode cX4_sends 38 = .ok (.aload_n 0, 1) := dk_42 (dk_at dksX4_sends_1 14 rfl rfl)
theorem dX4_sends_39 : decode cX4_sends 39 = .ok (.iload_n 1, 1) := dk_27 (dk_at dksX4_sends_1 15 rfl rfl)
theorem dX4_sends_40 : decode cX4_sends 40 = .ok (.bipush 14, 2) := dk_16 14 (dk_at dksX4_sends_1 16 rfl rfl)
theorem dX4_sends_42 : decode cX4_sends 42 = .ok (.iconst 2, 1) := dk_5 (dk_at dksX4_sends_1 18 rfl rfl)
theorem dX4_sends_43 : decode cX4_sends 43 = .ok (.iload 4, 2) := dk_21 4 (dk_at dksX4_sends_1 19 rfl rfl)
theorem dX4_sends_45 : decode cX4_sends 45 = .ok (.imul, 1) := dk_104 (dk_at dksX4_sends_1 21 rfl rfl)
theorem dX4_sends_46 : decode cX4_sends 46 = .ok (.iadd, 1) := dk_96 (dk_at dksX4_sends_1 22 rfl rfl)
theorem dX4_sends_47 : decode cX4_sends 47 = .ok (.iload_n 2, 1) := dk_28 (dk_at dksX4_sends_1 23 rfl rfl)
theorem dX4_sends_48 : decode cX4_sends 48 = .ok (.invokevirtual 63, 3) := dk_182 0 63 (dk_at dksX4_sends_2 0 rfl rfl)
theorem dX4_sends_51 : decode cX4_sends 51 = .ok (.aload_n 0, 1) := dk_42 (dk_at dksX4_sends_2 3 rfl rfl)
theorem dX4_sends_52 : decode cX4_sends 52 = .ok (.iload_n 1, 1) := dk_27 (dk_at dksX4_sends_2 4 rfl rfl)
theorem dX4_sends_53 : decode cX4_sends 53 = .ok (.bipush 14, 2) := dk_16 14 (dk_at dksX4_sends_2 5 rfl rfl)
theorem dX4_sends_55 : decode cX4_sends 55 = .ok (.iconst 2, 1) := dk_5 (dk_at dksX4_sends_2 7 rfl rfl)
theorem dX4_sends_56 : decode cX4_sends 56 = .ok (.iload 4, 2) := dk_21 4 (dk_at dksX4_sends_2 8 rfl rfl)
theorem dX4_sends_58 : decode cX4_sends 58 = .ok (.imul, 1) := dk_104 (dk_at dksX4_sends_2 10 rfl rfl)
theorem dX4_sends_59 : decode cX4_sends 59 = .ok (.iadd, 1) := dk_96 (dk_at dksX4_sends_2 11 rfl rfl)
theorem dX4_sends_60 : decode cX4_sends 60 = .ok (.iconst 1, 1) := dk_4 (dk_at dksX4_sends_2 12 rfl rfl)
theorem dX4_sends_61 : decode cX4_sends 61 = .ok (.iadd, 1) := dk_96 (dk_at dksX4_sends_2 13 rfl rfl)
theorem dX4_sends_62 : decode cX4_sends 62 = .ok (.iload_n 3, 1) := dk_29 (dk_at dksX4_sends_2 14 rfl rfl)
theorem dX4_sends_63 : decode cX4_sends 63 = .ok (.invokevirtual 63, 3) := dk_182 0 63 (dk_at dksX4_sends_2 15 rfl rfl)
theorem dX4_sends_66 : decode cX4_sends 66 = .ok (.aload_n 0, 1) := dk_42 (dk_at dksX4_sends_2 18 rfl rfl)
theorem dX4_sends_67 : decode cX4_sends 67 = .ok (.iload_n 1, 1) := dk_27 (dk_at dksX4_sends_2 19 rfl rfl)
theorem dX4_sends_68 : decode cX4_sends 68 = .ok (.bipush 13, 2) := dk_16 13 (dk_at dksX4_sends_2 20 rfl rfl)
theorem dX4_sends_70 : decode cX4_sends 70 = .ok (.iload 4, 2) := dk_21 4 (dk_at dksX4_sends_2 22 rfl rfl)
theorem dX4_sends_72 : decode cX4_sends 72 = .ok (.iconst 1, 1) := dk_4 (dk_at dksX4_sends_3 0 rfl rfl)
theorem dX4_sends_73 : decode cX4_sends 73 = .ok (.iadd, 1) := dk_96 (dk_at dksX4_sends_3 1 rfl rfl)
theorem dX4_sends_74 : decode cX4_sends 74 = .ok (.invokevirtual 63, 3) := dk_182 0 63 (dk_at dksX4_sends_3 2 rfl rfl)
theorem dX4_sends_77 : decode cX4_sends 77 = .ok (.iconst 1, 1) := dk_4 (dk_at dksX4_sends_3 5 rfl rfl)
theorem dX4_sends_78 : decode cX4_sends 78 = .ok (.ireturn, 1) := dk_172 (dk_at dksX4_sends_3 6 rfl rfl)
abbrev cX4_of : ByteArray := prog_23_method_41_code
def yX4_of : MethodName := ⟨RX4, "of", "(II)I"⟩
def dkwX4_of_5 : List UInt8 := [172, 42, 27, 182, 0, 183, 172, 42, 27, 28, 182, 0, 55, 172]
abbrev dktX4_of_5 : List UInt8 := dkwX4_of_5 ++ []
def dkwX4_of_4 : List UInt8 := [182, 0, 55, 172, 42, 27, 16, 51, 182, 0, 55, 172, 42, 27, 182, 0, 180, 172, 42, 27, 3, 182, 0, 94]
abbrev dktX4_of_4 : List UInt8 := dkwX4_of_4 ++ dktX4_of_5
def dkwX4_of_3 : List UInt8 := [182, 0, 115, 172, 42, 27, 16, 7, 182, 0, 55, 172, 42, 27, 16, 13, 182, 0, 55, 172, 42, 27, 16, 38]
abbrev dktX4_of_3 : List UInt8 := dkwX4_of_3 ++ dktX4_of_4
def dkwX4_of_2 : List UInt8 := [42, 27, 3, 182, 0, 55, 156, 0, 8, 16, 254, 167, 0, 9, 42, 27, 3, 182, 0, 55, 172, 42, 27]
abbrev dktX4_of_2 : List UInt8 := dkwX4_of_2 ++ dktX4_of_3
def dkwX4_of_1 : List UInt8 := [170, 0, 0, 0, 0, 0, 149, 0, 0, 0, 0, 0, 0, 0, 13, 0, 0, 0, 71, 0, 0, 0, 149, 0, 0, 0, 149, 0, 0, 0, 149, 0, 0, 0, 149, 0, 0, 0, 149, 0, 0, 0, 92, 0, 0, 0, 98, 0, 0, 0, 106, 0, 0, 0, 114, 0, 0, 0, 122, 0, 0, 0, 130, 0, 0, 0, 136, 0, 0, 0, 143]
abbrev dktX4_of_1 : List UInt8 := dkwX4_of_1 ++ dktX4_of_2
def dkwX4_of_0 : List UInt8 := [42, 27, 182, 0, 167, 153, 0, 13, 28, 3, 16, 13, 184, 0, 51, 154, 0, 5, 2, 172, 28]
abbrev dktX4_of_0 : List UInt8 := dkwX4_of_0 ++ dktX4_of_1
theorem dksX4_of_0 : cX4_of.data.toList.drop 0 = dktX4_of_0 := by decide +kernel
theorem dksX4_of_1 : cX4_of.data.toList.drop 21 = dktX4_of_1 := dk_seg dksX4_of_0 21 rfl rfl
theorem dksX4_of_2 : cX4_of.data.toList.drop 92 = dktX4_of_2 := dk_seg dksX4_of_1 71 rfl rfl
theorem dksX4_of_3 : cX4_of.data.toList.drop 115 = dktX4_of_3 := dk_seg dksX4_of_2 23 rfl rfl
theorem dksX4_of_4 : cX4_of.data.toList.drop 139 = dktX4_of_4 := dk_seg dksX4_of_3 24 rfl rfl
theorem dksX4_of_5 : cX4_of.data.toList.drop 163 = dktX4_of_5 := dk_seg dksX4_of_4 24 rfl rfl
theorem dX4_of_0 : decode cX4_of 0 = .ok (.aload_n 0, 1) := dk_42 (dk_at dksX4_of_0 0 rfl rfl)
theorem dX4_of_1 : decode cX4_of 1 = .ok (.iload_n 1, 1) := dk_27 (dk_at dksX4_of_0 1 rfl rfl)
theorem dX4_of_2 : decode cX4_of 2 = .ok (.invokevirtual 167, 3) := dk_182 0 167 (dk_at dksX4_of_0 2 rfl rfl)
theorem dX4_of_5 : decode cX4_of 5 = .ok (.ifCond .eq 13, 3) := dk_153 0 13 (dk_at dksX4_of_0 5 rfl rfl)
theorem dX4_of_8 : decode cX4_of 8 = .ok (.iload_n 2, 1) := dk_28 (dk_at dksX4_of_0 8 rfl rfl)
theorem dX4_of_9 : decode cX4_of 9 = .ok (.iconst 0, 1) := dk_3 (dk_at dksX4_of_0 9 rfl rfl)
theorem dX4_of_10 : decode cX4_of 10 = .ok (.bipush 13, 2) := dk_16 13 (dk_at dksX4_of_0 10 rfl rfl)
theorem dX4_of_12 : decode cX4_of 12 = .ok (.invokestatic 51, 3) := dk_184 0 51 (dk_at dksX4_of_0 12 rfl rfl)
theorem dX4_of_15 : decode cX4_of 15 = .ok (.ifCond .ne 5, 3) := dk_154 0 5 (dk_at dksX4_of_0 15 rfl rfl)
theorem dX4_of_18 : decode cX4_of 18 = .ok (.iconst (-1), 1) := dk_2 (dk_at dksX4_of_0 18 rfl rfl)
theorem dX4_of_19 : decode cX4_of 19 = .ok (.ireturn, 1) := dk_172 (dk_at dksX4_of_0 19 rfl rfl)
theorem dX4_of_20 : decode cX4_of 20 = .ok (.iload_n 2, 1) := dk_28 (dk_at dksX4_of_0 20 rfl rfl)
theorem dX4_of_21 : decode cX4_of 21 = .ok (.tableswitch 149 0 13 #[71, 149, 149, 149, 149, 149, 92, 98, 106, 114, 122, 130, 136, 143], 71) := by decide +kernel
theorem dX4_of_92 : decode cX4_of 92 = .ok (.aload_n 0, 1) := dk_42 (dk_at dksX4_of_2 0 rfl rfl)
theorem dX4_of_93 : decode cX4_of 93 = .ok (.iload_n 1, 1) := dk_27 (dk_at dksX4_of_2 1 rfl rfl)
theorem dX4_of_94 : decode cX4_of 94 = .ok (.iconst 0, 1) := dk_3 (dk_at dksX4_of_2 2 rfl rfl)
theorem dX4_of_95 : decode cX4_of 95 = .ok (.invokevirtual 55, 3) := dk_182 0 55 (dk_at dksX4_of_2 3 rfl rfl)
theorem dX4_of_98 : decode cX4_of 98 = .ok (.ifCond .ge 8, 3) := dk_156 0 8 (dk_at dksX4_of_2 6 rfl rfl)
theorem dX4_of_101 : decode cX4_of 101 = .ok (.bipush (-2), 2) := dk_16 254 (dk_at dksX4_of_2 9 rfl rfl)
theorem dX4_of_103 : decode cX4_of 103 = .ok (.goto 9, 3) := dk_167 0 9 (dk_at dksX4_of_2 11 rfl rfl)
theorem dX4_of_106 : decode cX4_of 106 = .ok (.aload_n 0, 1) := dk_42 (dk_at dksX4_of_2 14 rfl rfl)
theorem dX4_of_107 : decode cX4_of 107 = .ok (.iload_n 1, 1) := dk_27 (dk_at dksX4_of_2 15 rfl rfl)
theorem dX4_of_108 : decode cX4_of 108 = .ok (.iconst 0, 1) := dk_3 (dk_at dksX4_of_2 16 rfl rfl)
theorem dX4_of_109 : decode cX4_of 109 = .ok (.invokevirtual 55, 3) := dk_182 0 55 (dk_at dksX4_of_2 17 rfl rfl)
theorem dX4_of_112 : decode cX4_of 112 = .ok (.ireturn, 1) := dk_172 (dk_at dksX4_of_2 20 rfl rfl)
theorem dX4_of_113 : decode cX4_of 113 = .ok (.aload_n 0, 1) := dk_42 (dk_at dksX4_of_2 21 rfl rfl)
theorem dX4_of_114 : decode cX4_of 114 = .ok (.iload_n 1, 1) := dk_27 (dk_at dksX4_of_2 22 rfl rfl)
theorem dX4_of_115 : decode cX4_of 115 = .ok (.invokevirtual 115, 3) := dk_182 0 115 (dk_at dksX4_of_3 0 rfl rfl)
theorem dX4_of_118 : decode cX4_of 118 = .ok (.ireturn, 1) := dk_172 (dk_at dksX4_of_3 3 rfl rfl)
theorem dX4_of_119 : decode cX4_of 119 = .ok (.aload_n 0, 1) := dk_42 (dk_at dksX4_of_3 4 rfl rfl)
theorem dX4_of_120 : decode cX4_of 120 = .ok (.iload_n 1, 1) := dk_27 (dk_at dksX4_of_3 5 rfl rfl)
theorem dX4_of_121 : decode cX4_of 121 = .ok (.bipush 7, 2) := dk_16 7 (dk_at dksX4_of_3 6 rfl rfl)
theorem dX4_of_123 : decode cX4_of 123 = .ok (.invokevirtual 55, 3) := dk_182 0 55 (dk_at dksX4_of_3 8 rfl rfl)
theorem dX4_of_126 : decode cX4_of 126 = .ok (.ireturn, 1) := dk_172 (dk_at dksX4_of_3 11 rfl rfl)
theorem dX4_of_127 : decode cX4_of 127 = .ok (.aload_n 0, 1) := dk_42 (dk_at dksX4_of_3 12 rfl rfl)
theorem dX4_of_128 : decode cX4_of 128 = .ok (.iload_n 1, 1) := dk_27 (dk_at dksX4_of_3 13 rfl rfl)
theorem dX4_of_129 : decode cX4_of 129 = .ok (.bipush 13, 2) := dk_16 13 (dk_at dksX4_of_3 14 rfl rfl)
theorem dX4_of_131 : decode cX4_of 131 = .ok (.invokevirtual 55, 3) := dk_182 0 55 (dk_at dksX4_of_3 16 rfl rfl)
theorem dX4_of_134 : decode cX4_of 134 = .ok (.ireturn, 1) := dk_172 (dk_at dksX4_of_3 19 rfl rfl)
theorem dX4_of_135 : decode cX4_of 135 = .ok (.aload_n 0, 1) := dk_42 (dk_at dksX4_of_3 20 rfl rfl)
theorem dX4_of_136 : decode cX4_of 136 = .ok (.iload_n 1, 1) := dk_27 (dk_at dksX4_of_3 21 rfl rfl)
theorem dX4_of_137 : decode cX4_of 137 = .ok (.bipush 38, 2) := dk_16 38 (dk_at dksX4_of_3 22 rfl rfl)
theorem dX4_of_139 : decode cX4_of 139 = .ok (.invokevirtual 55, 3) := dk_182 0 55 (dk_at dksX4_of_4 0 rfl rfl)
theorem dX4_of_142 : decode cX4_of 142 = .ok (.ireturn, 1) := dk_172 (dk_at dksX4_of_4 3 rfl rfl)
theorem dX4_of_143 : decode cX4_of 143 = .ok (.aload_n 0, 1) := dk_42 (dk_at dksX4_of_4 4 rfl rfl)
theorem dX4_of_144 : decode cX4_of 144 = .ok (.iload_n 1, 1) := dk_27 (dk_at dksX4_of_4 5 rfl rfl)
theorem dX4_of_145 : decode cX4_of 145 = .ok (.bipush 51, 2) := dk_16 51 (dk_at dksX4_of_4 6 rfl rfl)
theorem dX4_of_147 : decode cX4_of 147 = .ok (.invokevirtual 55, 3) := dk_182 0 55 (dk_at dksX4_of_4 8 rfl rfl)
theorem dX4_of_150 : decode cX4_of 150 = .ok (.ireturn, 1) := dk_172 (dk_at dksX4_of_4 11 rfl rfl)
theorem dX4_of_151 : decode cX4_of 151 = .ok (.aload_n 0, 1) := dk_42 (dk_at dksX4_of_4 12 rfl rfl)
theorem dX4_of_152 : decode cX4_of 152 = .ok (.iload_n 1, 1) := dk_27 (dk_at dksX4_of_4 13 rfl rfl)
theorem dX4_of_153 : decode cX4_of 153 = .ok (.invokevirtual 180, 3) := dk_182 0 180 (dk_at dksX4_of_4 14 rfl rfl)
theorem dX4_of_156 : decode cX4_of 156 = .ok (.ireturn, 1) := dk_172 (dk_at dksX4_of_4 17 rfl rfl)
theorem dX4_of_157 : decode cX4_of 157 = .ok (.aload_n 0, 1) := dk_42 (dk_at dksX4_of_4 18 rfl rfl)
theorem dX4_of_158 : decode cX4_of 158 = .ok (.iload_n 1, 1) := dk_27 (dk_at dksX4_of_4 19 rfl rfl)
theorem dX4_of_159 : decode cX4_of 159 = .ok (.iconst 0, 1) := dk_3 (dk_at dksX4_of_4 20 rfl rfl)
theorem dX4_of_160 : decode cX4_of 160 = .ok (.invokevirtual 94, 3) := dk_182 0 94 (dk_at dksX4_of_4 21 rfl rfl)
theorem dX4_of_163 : decode cX4_of 163 = .ok (.ireturn, 1) := dk_172 (dk_at dksX4_of_5 0 rfl rfl)
theorem dX4_of_164 : decode cX4_of 164 = .ok (.aload_n 0, 1) := dk_42 (dk_at dksX4_of_5 1 rfl rfl)
theorem dX4_of_165 : decode cX4_of 165 = .ok (.iload_n 1, 1) := dk_27 (dk_at dksX4_of_5 2 rfl rfl)
theorem dX4_of_166 : decode cX4_of 166 = .ok (.invokevirtual 183, 3) := dk_182 0 183 (dk_at dksX4_of_5 3 rfl rfl)
theorem dX4_of_169 : decode cX4_of 169 = .ok (.ireturn, 1) := dk_172 (dk_at dksX4_of_5 6 rfl rfl)
theorem dX4_of_170 : decode cX4_of 170 = .ok (.aload_n 0, 1) := dk_42 (dk_at dksX4_of_5 7 rfl rfl)
theorem dX4_of_171 : decode cX4_of 171 = .ok (.iload_n 1, 1) := dk_27 (dk_at dksX4_of_5 8 rfl rfl)
theorem dX4_of_172 : decode cX4_of 172 = .ok (.iload_n 2, 1) := dk_28 (dk_at dksX4_of_5 9 rfl rfl)
theorem dX4_of_173 : decode cX4_of 173 = .ok (.invokevirtual 55, 3) := dk_182 0 55 (dk_at dksX4_of_5 10 rfl rfl)
theorem dX4_of_176 : decode cX4_of 176 = .ok (.ireturn, 1) := dk_172 (dk_at dksX4_of_5 13 rfl rfl)
abbrev cX4_doing : ByteArray := prog_23_method_24_code
def yX4_doing : MethodName := ⟨RX4, "doing", "(I)I"⟩
def dkwX4_doing_0 : List UInt8 := [42, 27, 16, 8, 42, 27, 16, 7, 182, 0, 55, 96, 4, 100, 182, 0, 55, 172]
abbrev dktX4_doing_0 : List UInt8 := dkwX4_doing_0 ++ []
theorem dksX4_doing_0 : cX4_doing.data.toList.drop 0 = dktX4_doing_0 := by decide +kernel
theorem dX4_doing_0 : decode cX4_doing 0 = .ok (.aload_n 0, 1) := dk_42 (dk_at dksX4_doing_0 0 rfl rfl)
theorem dX4_doing_1 : decode cX4_doing 1 = .ok (.iload_n 1, 1) := dk_27 (dk_at dksX4_doing_0 1 rfl rfl)
theorem dX4_doing_2 : decode cX4_doing 2 = .ok (.bipush 8, 2) := dk_16 8 (dk_at dksX4_doing_0 2 rfl rfl)
theorem dX4_doing_4 : decode cX4_doing 4 = .ok (.aload_n 0, 1) := dk_42 (dk_at dksX4_doing_0 4 rfl rfl)
theorem dX4_doing_5 : decode cX4_doing 5 = .ok (.iload_n 1, 1) := dk_27 (dk_at dksX4_doing_0 5 rfl rfl)
theorem dX4_doing_6 : decode cX4_doing 6 = .ok (.bipush 7, 2) := dk_16 7 (dk_at dksX4_doing_0 6 rfl rfl)
theorem dX4_doing_8 : decode cX4_doing 8 = .ok (.invokevirtual 55, 3) := dk_182 0 55 (dk_at dksX4_doing_0 8 rfl rfl)
theorem dX4_doing_11 : decode cX4_doing 11 = .ok (.iadd, 1) := dk_96 (dk_at dksX4_doing_0 11 rfl rfl)
theorem dX4_doing_12 : decode cX4_doing 12 = .ok (.iconst 1, 1) := dk_4 (dk_at dksX4_doing_0 12 rfl rfl)
theorem dX4_doing_13 : decode cX4_doing 13 = .ok (.isub, 1) := dk_100 (dk_at dksX4_doing_0 13 rfl rfl)
theorem dX4_doing_14 : decode cX4_doing 14 = .ok (.invokevirtual 55, 3) := dk_182 0 55 (dk_at dksX4_doing_0 14 rfl rfl)
theorem dX4_doing_17 : decode cX4_doing 17 = .ok (.ireturn, 1) := dk_172 (dk_at dksX4_doing_0 17 rfl rfl)
abbrev cX4_timersOf : ByteArray := prog_23_method_39_code
def yX4_timersOf : MethodName := ⟨RX4, "timersOf", "(I)I"⟩
def dkwX4_timersOf_1 : List UInt8 := [6, 29, 104, 96, 46, 27, 160, 0, 7, 4, 167, 0, 4, 3, 96, 61, 132, 3, 1, 167, 255, 217, 28, 172]
abbrev dktX4_timersOf_1 : List UInt8 := dkwX4_timersOf_1 ++ []
def dkwX4_timersOf_0 : List UInt8 := [3, 61, 3, 62, 29, 42, 180, 0, 9, 17, 3, 163, 46, 162, 0, 33, 28, 42, 180, 0, 9, 17, 3, 164]
abbrev dktX4_timersOf_0 : List UInt8 := dkwX4_timersOf_0 ++ dktX4_timersOf_1
theorem dksX4_timersOf_0 : cX4_timersOf.data.toList.drop 0 = dktX4_timersOf_0 := by decide +kernel
theorem dksX4_timersOf_1 : cX4_timersOf.data.toList.drop 24 = dktX4_timersOf_1 := dk_seg dksX4_timersOf_0 24 rfl rfl
theorem dX4_timersOf_0 : decode cX4_timersOf 0 = .ok (.iconst 0, 1) := dk_3 (dk_at dksX4_timersOf_0 0 rfl rfl)
theorem dX4_timersOf_1 : decode cX4_timersOf 1 = .ok (.istore_n 2, 1) := dk_61 (dk_at dksX4_timersOf_0 1 rfl rfl)
theorem dX4_timersOf_2 : decode cX4_timersOf 2 = .ok (.iconst 0, 1) := dk_3 (dk_at dksX4_timersOf_0 2 rfl rfl)
theorem dX4_timersOf_3 : decode cX4_timersOf 3 = .ok (.istore_n 3, 1) := dk_62 (dk_at dksX4_timersOf_0 3 rfl rfl)
theorem dX4_timersOf_4 : decode cX4_timersOf 4 = .ok (.iload_n 3, 1) := dk_29 (dk_at dksX4_timersOf_0 4 rfl rfl)
theorem dX4_timersOf_5 : decode cX4_timersOf 5 = .ok (.aload_n 0, 1) := dk_42 (dk_at dksX4_timersOf_0 5 rfl rfl)
theorem dX4_timersOf_6 : decode cX4_timersOf 6 = .ok (.getfield 9, 3) := dk_180 0 9 (dk_at dksX4_timersOf_0 6 rfl rfl)
theorem dX4_timersOf_9 : decode cX4_timersOf 9 = .ok (.sipush 931, 3) := dk_17 3 163 (dk_at dksX4_timersOf_0 9 rfl rfl)
theorem dX4_timersOf_12 : decode cX4_timersOf 12 = .ok (.iaload, 1) := dk_46 (dk_at dksX4_timersOf_0 12 rfl rfl)
theorem dX4_timersOf_13 : decode cX4_timersOf 13 = .ok (.if_icmp .ge 33, 3) := dk_162 0 33 (dk_at dksX4_timersOf_0 13 rfl rfl)
theorem dX4_timersOf_16 : decode cX4_timersOf 16 = .ok (.iload_n 2, 1) := dk_28 (dk_at dksX4_timersOf_0 16 rfl rfl)
theorem dX4_timersOf_17 : decode cX4_timersOf 17 = .ok (.aload_n 0, 1) := dk_42 (dk_at dksX4_timersOf_0 17 rfl rfl)
theorem dX4_timersOf_18 : decode cX4_timersOf 18 = .ok (.getfield 9, 3) := dk_180 0 9 (dk_at dksX4_timersOf_0 18 rfl rfl)
theorem dX4_timersOf_21 : decode cX4_timersOf 21 = .ok (.sipush 932, 3) := dk_17 3 164 (dk_at dksX4_timersOf_0 21 rfl rfl)
theorem dX4_timersOf_24 : decode cX4_timersOf 24 = .ok (.iconst 3, 1) := dk_6 (dk_at dksX4_timersOf_1 0 rfl rfl)
theorem dX4_timersOf_25 : decode cX4_timersOf 25 = .ok (.iload_n 3, 1) := dk_29 (dk_at dksX4_timersOf_1 1 rfl rfl)
theorem dX4_timersOf_26 : decode cX4_timersOf 26 = .ok (.imul, 1) := dk_104 (dk_at dksX4_timersOf_1 2 rfl rfl)
theorem dX4_timersOf_27 : decode cX4_timersOf 27 = .ok (.iadd, 1) := dk_96 (dk_at dksX4_timersOf_1 3 rfl rfl)
theorem dX4_timersOf_28 : decode cX4_timersOf 28 = .ok (.iaload, 1) := dk_46 (dk_at dksX4_timersOf_1 4 rfl rfl)
theorem dX4_timersOf_29 : decode cX4_timersOf 29 = .ok (.iload_n 1, 1) := dk_27 (dk_at dksX4_timersOf_1 5 rfl rfl)
theorem dX4_timersOf_30 : decode cX4_timersOf 30 = .ok (.if_icmp .ne 7, 3) := dk_160 0 7 (dk_at dksX4_timersOf_1 6 rfl rfl)
theorem dX4_timersOf_33 : decode cX4_timersOf 33 = .ok (.iconst 1, 1) := dk_4 (dk_at dksX4_timersOf_1 9 rfl rfl)
theorem dX4_timersOf_34 : decode cX4_timersOf 34 = .ok (.goto 4, 3) := dk_167 0 4 (dk_at dksX4_timersOf_1 10 rfl rfl)
theorem dX4_timersOf_37 : decode cX4_timersOf 37 = .ok (.iconst 0, 1) := dk_3 (dk_at dksX4_timersOf_1 13 rfl rfl)
theorem dX4_timersOf_38 : decode cX4_timersOf 38 = .ok (.iadd, 1) := dk_96 (dk_at dksX4_timersOf_1 14 rfl rfl)
theorem dX4_timersOf_39 : decode cX4_timersOf 39 = .ok (.istore_n 2, 1) := dk_61 (dk_at dksX4_timersOf_1 15 rfl rfl)
theorem dX4_timersOf_40 : decode cX4_timersOf 40 = .ok (.iinc 3 1, 3) := dk_132 3 1 (dk_at dksX4_timersOf_1 16 rfl rfl)
theorem dX4_timersOf_43 : decode cX4_timersOf 43 = .ok (.goto (-39), 3) := dk_167 255 217 (dk_at dksX4_timersOf_1 19 rfl rfl)
theorem dX4_timersOf_46 : decode cX4_timersOf 46 = .ok (.iload_n 2, 1) := dk_28 (dk_at dksX4_timersOf_1 22 rfl rfl)
theorem dX4_timersOf_47 : decode cX4_timersOf 47 = .ok (.ireturn, 1) := dk_172 (dk_at dksX4_timersOf_1 23 rfl rfl)
abbrev cX4_noted : ByteArray := prog_23_method_16_code
def yX4_noted : MethodName := ⟨RX4, "noted", "(IZ)I"⟩
def dkwX4_noted_3 : List UInt8 := [132, 3, 1, 132, 5, 1, 167, 255, 196, 28, 153, 0, 11, 42, 27, 16, 64, 29, 182, 0, 63, 29, 172]
abbrev dktX4_noted_3 : List UInt8 := dkwX4_noted_3 ++ []
def dkwX4_noted_2 : List UInt8 := [182, 0, 55, 100, 161, 0, 21, 28, 153, 0, 14, 42, 27, 16, 65, 29, 96, 21, 6, 182, 0, 63]
abbrev dktX4_noted_2 : List UInt8 := dkwX4_noted_2 ++ dktX4_noted_3
def dkwX4_noted_1 : List UInt8 := [16, 65, 21, 5, 96, 182, 0, 55, 54, 6, 21, 6, 42, 180, 0, 9, 17, 3, 157, 46, 42, 27, 7]
abbrev dktX4_noted_1 : List UInt8 := dkwX4_noted_1 ++ dktX4_noted_2
def dkwX4_noted_0 : List UInt8 := [3, 62, 42, 27, 16, 64, 182, 0, 55, 54, 4, 3, 54, 5, 21, 5, 21, 4, 162, 0, 59, 42, 27]
abbrev dktX4_noted_0 : List UInt8 := dkwX4_noted_0 ++ dktX4_noted_1
theorem dksX4_noted_0 : cX4_noted.data.toList.drop 0 = dktX4_noted_0 := by decide +kernel
theorem dksX4_noted_1 : cX4_noted.data.toList.drop 23 = dktX4_noted_1 := dk_seg dksX4_noted_0 23 rfl rfl
theorem dksX4_noted_2 : cX4_noted.data.toList.drop 46 = dktX4_noted_2 := dk_seg dksX4_noted_1 23 rfl rfl
theorem dksX4_noted_3 : cX4_noted.data.toList.drop 68 = dktX4_noted_3 := dk_seg dksX4_noted_2 22 rfl rfl
theorem dX4_noted_0 : decode cX4_noted 0 = .ok (.iconst 0, 1) := dk_3 (dk_at dksX4_noted_0 0 rfl rfl)
theorem dX4_noted_1 : decode cX4_noted 1 = .ok (.istore_n 3, 1) := dk_62 (dk_at dksX4_noted_0 1 rfl rfl)
theorem dX4_noted_2 : decode cX4_noted 2 = .ok (.aload_n 0, 1) := dk_42 (dk_at dksX4_noted_0 2 rfl rfl)
theorem dX4_noted_3 : decode cX4_noted 3 = .ok (.iload_n 1, 1) := dk_27 (dk_at dksX4_noted_0 3 rfl rfl)
theorem dX4_noted_4 : decode cX4_noted 4 = .ok (.bipush 64, 2) := dk_16 64 (dk_at dksX4_noted_0 4 rfl rfl)
theorem dX4_noted_6 : decode cX4_noted 6 = .ok (.invokevirtual 55, 3) := dk_182 0 55 (dk_at dksX4_noted_0 6 rfl rfl)
theorem dX4_noted_9 : decode cX4_noted 9 = .ok (.istore 4, 2) := dk_54 4 (dk_at dksX4_noted_0 9 rfl rfl)
theorem dX4_noted_11 : decode cX4_noted 11 = .ok (.iconst 0, 1) := dk_3 (dk_at dksX4_noted_0 11 rfl rfl)
theorem dX4_noted_12 : decode cX4_noted 12 = .ok (.istore 5, 2) := dk_54 5 (dk_at dksX4_noted_0 12 rfl rfl)
theorem dX4_noted_14 : decode cX4_noted 14 = .ok (.iload 5, 2) := dk_21 5 (dk_at dksX4_noted_0 14 rfl rfl)
theorem dX4_noted_16 : decode cX4_noted 16 = .ok (.iload 4, 2) := dk_21 4 (dk_at dksX4_noted_0 16 rfl rfl)
theorem dX4_noted_18 : decode cX4_noted 18 = .ok (.if_icmp .ge 59, 3) := dk_162 0 59 (dk_at dksX4_noted_0 18 rfl rfl)
theorem dX4_noted_21 : decode cX4_noted 21 = .ok (.aload_n 0, 1) := dk_42 (dk_at dksX4_noted_0 21 rfl rfl)
theorem dX4_noted_22 : decode cX4_noted 22 = .ok (.iload_n 1, 1) := dk_27 (dk_at dksX4_noted_0 22 rfl rfl)
theorem dX4_noted_23 : decode cX4_noted 23 = .ok (.bipush 65, 2) := dk_16 65 (dk_at dksX4_noted_1 0 rfl rfl)
theorem dX4_noted_25 : decode cX4_noted 25 = .ok (.iload 5, 2) := dk_21 5 (dk_at dksX4_noted_1 2 rfl rfl)
theorem dX4_noted_27 : decode cX4_noted 27 = .ok (.iadd, 1) := dk_96 (dk_at dksX4_noted_1 4 rfl rfl)
theorem dX4_noted_28 : decode cX4_noted 28 = .ok (.invokevirtual 55, 3) := dk_182 0 55 (dk_at dksX4_noted_1 5 rfl rfl)
theorem dX4_noted_31 : decode cX4_noted 31 = .ok (.istore 6, 2) := dk_54 6 (dk_at dksX4_noted_1 8 rfl rfl)
theorem dX4_noted_33 : decode cX4_noted 33 = .ok (.iload 6, 2) := dk_21 6 (dk_at dksX4_noted_1 10 rfl rfl)
theorem dX4_noted_35 : decode cX4_noted 35 = .ok (.aload_n 0, 1) := dk_42 (dk_at dksX4_noted_1 12 rfl rfl)
theorem dX4_noted_36 : decode cX4_noted 36 = .ok (.getfield 9, 3) := dk_180 0 9 (dk_at dksX4_noted_1 13 rfl rfl)
theorem dX4_noted_39 : decode cX4_noted 39 = .ok (.sipush 925, 3) := dk_17 3 157 (dk_at dksX4_noted_1 16 rfl rfl)
theorem dX4_noted_42 : decode cX4_noted 42 = .ok (.iaload, 1) := dk_46 (dk_at dksX4_noted_1 19 rfl rfl)
theorem dX4_noted_43 : decode cX4_noted 43 = .ok (.aload_n 0, 1) := dk_42 (dk_at dksX4_noted_1 20 rfl rfl)
theorem dX4_noted_44 : decode cX4_noted 44 = .ok (.iload_n 1, 1) := dk_27 (dk_at dksX4_noted_1 21 rfl rfl)
theorem dX4_noted_45 : decode cX4_noted 45 = .ok (.iconst 4, 1) := dk_7 (dk_at dksX4_noted_1 22 rfl rfl)
theorem dX4_noted_46 : decode cX4_noted 46 = .ok (.invokevirtual 55, 3) := dk_182 0 55 (dk_at dksX4_noted_2 0 rfl rfl)
theorem dX4_noted_49 : decode cX4_noted 49 = .ok (.isub, 1) := dk_100 (dk_at dksX4_noted_2 3 rfl rfl)
theorem dX4_noted_50 : decode cX4_noted 50 = .ok (.if_icmp .lt 21, 3) := dk_161 0 21 (dk_at dksX4_noted_2 4 rfl rfl)
theorem dX4_noted_53 : decode cX4_noted 53 = .ok (.iload_n 2, 1) := dk_28 (dk_at dksX4_noted_2 7 rfl rfl)
theorem dX4_noted_54 : decode cX4_noted 54 = .ok (.ifCond .eq 14, 3) := dk_153 0 14 (dk_at dksX4_noted_2 8 rfl rfl)
theorem dX4_noted_57 : decode cX4_noted 57 = .ok (.aload_n 0, 1) := dk_42 (dk_at dksX4_noted_2 11 rfl rfl)
theorem dX4_noted_58 : decode cX4_noted 58 = .ok (.iload_n 1, 1) := dk_27 (dk_at dksX4_noted_2 12 rfl rfl)
theorem dX4_noted_59 : decode cX4_noted 59 = .ok (.bipush 65, 2) := dk_16 65 (dk_at dksX4_noted_2 13 rfl rfl)
theorem dX4_noted_61 : decode cX4_noted 61 = .ok (.iload_n 3, 1) := dk_29 (dk_at dksX4_noted_2 15 rfl rfl)
theorem dX4_noted_62 : decode cX4_noted 62 = .ok (.iadd, 1) := dk_96 (dk_at dksX4_noted_2 16 rfl rfl)
theorem dX4_noted_63 : decode cX4_noted 63 = .ok (.iload 6, 2) := dk_21 6 (dk_at dksX4_noted_2 17 rfl rfl)
theorem dX4_noted_65 : decode cX4_noted 65 = .ok (.invokevirtual 63, 3) := dk_182 0 63 (dk_at dksX4_noted_2 19 rfl rfl)
theorem dX4_noted_68 : decode cX4_noted 68 = .ok (.iinc 3 1, 3) := dk_132 3 1 (dk_at dksX4_noted_3 0 rfl rfl)
theorem dX4_noted_71 : decode cX4_noted 71 = .ok (.iinc 5 1, 3) := dk_132 5 1 (dk_at dksX4_noted_3 3 rfl rfl)
theorem dX4_noted_74 : decode cX4_noted 74 = .ok (.goto (-60), 3) := dk_167 255 196 (dk_at dksX4_noted_3 6 rfl rfl)
theorem dX4_noted_77 : decode cX4_noted 77 = .ok (.iload_n 2, 1) := dk_28 (dk_at dksX4_noted_3 9 rfl rfl)
theorem dX4_noted_78 : decode cX4_noted 78 = .ok (.ifCond .eq 11, 3) := dk_153 0 11 (dk_at dksX4_noted_3 10 rfl rfl)
theorem dX4_noted_81 : decode cX4_noted 81 = .ok (.aload_n 0, 1) := dk_42 (dk_at dksX4_noted_3 13 rfl rfl)
theorem dX4_noted_82 : decode cX4_noted 82 = .ok (.iload_n 1, 1) := dk_27 (dk_at dksX4_noted_3 14 rfl rfl)
theorem dX4_noted_83 : decode cX4_noted 83 = .ok (.bipush 64, 2) := dk_16 64 (dk_at dksX4_noted_3 15 rfl rfl)
theorem dX4_noted_85 : decode cX4_noted 85 = .ok (.iload_n 3, 1) := dk_29 (dk_at dksX4_noted_3 17 rfl rfl)
theorem dX4_noted_86 : decode cX4_noted 86 = .ok (.invokevirtual 63, 3) := dk_182 0 63 (dk_at dksX4_noted_3 18 rfl rfl)
theorem dX4_noted_89 : decode cX4_noted 89 = .ok (.iload_n 3, 1) := dk_29 (dk_at dksX4_noted_3 21 rfl rfl)
theorem dX4_noted_90 : decode cX4_noted 90 = .ok (.ireturn, 1) := dk_172 (dk_at dksX4_noted_3 22 rfl rfl)
abbrev cX4_childrenOf : ByteArray := prog_23_method_40_code
def yX4_childrenOf : MethodName := ⟨RX4, "childrenOf", "(I)I"⟩
def dkwX4_childrenOf_1 : List UInt8 := [160, 0, 9, 4, 29, 120, 167, 0, 4, 3, 128, 61, 132, 3, 1, 167, 255, 221, 28, 172]
abbrev dktX4_childrenOf_1 : List UInt8 := dkwX4_childrenOf_1 ++ []
def dkwX4_childrenOf_0 : List UInt8 := [3, 61, 3, 62, 29, 42, 180, 0, 9, 17, 3, 156, 46, 162, 0, 29, 28, 42, 29, 3, 182, 0, 55, 27]
abbrev dktX4_childrenOf_0 : List UInt8 := dkwX4_childrenOf_0 ++ dktX4_childrenOf_1
theorem dksX4_childrenOf_0 : cX4_childrenOf.data.toList.drop 0 = dktX4_childrenOf_0 := by decide +kernel
theorem dksX4_childrenOf_1 : cX4_childrenOf.data.toList.drop 24 = dktX4_childrenOf_1 := dk_seg dksX4_childrenOf_0 24 rfl rfl
theorem dX4_childrenOf_0 : decode cX4_childrenOf 0 = .ok (.iconst 0, 1) := dk_3 (dk_at dksX4_childrenOf_0 0 rfl rfl)
theorem dX4_childrenOf_1 : decode cX4_childrenOf 1 = .ok (.istore_n 2, 1) := dk_61 (dk_at dksX4_childrenOf_0 1 rfl rfl)
theorem dX4_childrenOf_2 : decode cX4_childrenOf 2 = .ok (.iconst 0, 1) := dk_3 (dk_at dksX4_childrenOf_0 2 rfl rfl)
theorem dX4_childrenOf_3 : decode cX4_childrenOf 3 = .ok (.istore_n 3, 1) := dk_62 (dk_at dksX4_childrenOf_0 3 rfl rfl)
theorem dX4_childrenOf_4 : decode cX4_childrenOf 4 = .ok (.iload_n 3, 1) := dk_29 (dk_at dksX4_childrenOf_0 4 rfl rfl)
theorem dX4_childrenOf_5 : decode cX4_childrenOf 5 = .ok (.aload_n 0, 1) := dk_42 (dk_at dksX4_childrenOf_0 5 rfl rfl)
theorem dX4_childrenOf_6 : decode cX4_childrenOf 6 = .ok (.getfield 9, 3) := dk_180 0 9 (dk_at dksX4_childrenOf_0 6 rfl rfl)
theorem dX4_childrenOf_9 : decode cX4_childrenOf 9 = .ok (.sipush 924, 3) := dk_17 3 156 (dk_at dksX4_childrenOf_0 9 rfl rfl)
theorem dX4_childrenOf_12 : decode cX4_childrenOf 12 = .ok (.iaload, 1) := dk_46 (dk_at dksX4_childrenOf_0 12 rfl rfl)
theorem dX4_childrenOf_13 : decode cX4_childrenOf 13 = .ok (.if_icmp .ge 29, 3) := dk_162 0 29 (dk_at dksX4_childrenOf_0 13 rfl rfl)
theorem dX4_childrenOf_16 : decode cX4_childrenOf 16 = .ok (.iload_n 2, 1) := dk_28 (dk_at dksX4_childrenOf_0 16 rfl rfl)
theorem dX4_childrenOf_17 : decode cX4_childrenOf 17 = .ok (.aload_n 0, 1) := dk_42 (dk_at dksX4_childrenOf_0 17 rfl rfl)
theorem dX4_childrenOf_18 : decode cX4_childrenOf 18 = .ok (.iload_n 3, 1) := dk_29 (dk_at dksX4_childrenOf_0 18 rfl rfl)
theorem dX4_childrenOf_19 : decode cX4_childrenOf 19 = .ok (.iconst 0, 1) := dk_3 (dk_at dksX4_childrenOf_0 19 rfl rfl)
theorem dX4_childrenOf_20 : decode cX4_childrenOf 20 = .ok (.invokevirtual 55, 3) := dk_182 0 55 (dk_at dksX4_childrenOf_0 20 rfl rfl)
theorem dX4_childrenOf_23 : decode cX4_childrenOf 23 = .ok (.iload_n 1, 1) := dk_27 (dk_at dksX4_childrenOf_0 23 rfl rfl)
theorem dX4_childrenOf_24 : decode cX4_childrenOf 24 = .ok (.if_icmp .ne 9, 3) := dk_160 0 9 (dk_at dksX4_childrenOf_1 0 rfl rfl)
theorem dX4_childrenOf_27 : decode cX4_childrenOf 27 = .ok (.iconst 1, 1) := dk_4 (dk_at dksX4_childrenOf_1 3 rfl rfl)
theorem dX4_childrenOf_28 : decode cX4_childrenOf 28 = .ok (.iload_n 3, 1) := dk_29 (dk_at dksX4_childrenOf_1 4 rfl rfl)
theorem dX4_childrenOf_29 : decode cX4_childrenOf 29 = .ok (.ishl, 1) := dk_120 (dk_at dksX4_childrenOf_1 5 rfl rfl)
theorem dX4_childrenOf_30 : decode cX4_childrenOf 30 = .ok (.goto 4, 3) := dk_167 0 4 (dk_at dksX4_childrenOf_1 6 rfl rfl)
theorem dX4_childrenOf_33 : decode cX4_childrenOf 33 = .ok (.iconst 0, 1) := dk_3 (dk_at dksX4_childrenOf_1 9 rfl rfl)
theorem dX4_childrenOf_34 : decode cX4_childrenOf 34 = .ok (.ior, 1) := dk_128 (dk_at dksX4_childrenOf_1 10 rfl rfl)
theorem dX4_childrenOf_35 : decode cX4_childrenOf 35 = .ok (.istore_n 2, 1) := dk_61 (dk_at dksX4_childrenOf_1 11 rfl rfl)
theorem dX4_childrenOf_36 : decode cX4_childrenOf 36 = .ok (.iinc 3 1, 3) := dk_132 3 1 (dk_at dksX4_childrenOf_1 12 rfl rfl)
theorem dX4_childrenOf_39 : decode cX4_childrenOf 39 = .ok (.goto (-35), 3) := dk_167 255 221 (dk_at dksX4_childrenOf_1 15 rfl rfl)
theorem dX4_childrenOf_42 : decode cX4_childrenOf 42 = .ok (.iload_n 2, 1) := dk_28 (dk_at dksX4_childrenOf_1 18 rfl rfl)
theorem dX4_childrenOf_43 : decode cX4_childrenOf 43 = .ok (.ireturn, 1) := dk_172 (dk_at dksX4_childrenOf_1 19 rfl rfl)
abbrev cX4_counted : ByteArray := prog_23_method_42_code
def yX4_counted : MethodName := ⟨RX4, "counted", "(I)I"⟩
def dkwX4_counted_0 : List UInt8 := [42, 27, 182, 0, 167, 153, 0, 13, 42, 27, 16, 6, 182, 0, 55, 167, 0, 5, 18, 186, 172]
abbrev dktX4_counted_0 : List UInt8 := dkwX4_counted_0 ++ []
theorem dksX4_counted_0 : cX4_counted.data.toList.drop 0 = dktX4_counted_0 := by decide +kernel
theorem dX4_counted_0 : decode cX4_counted 0 = .ok (.aload_n 0, 1) := dk_42 (dk_at dksX4_counted_0 0 rfl rfl)
theorem dX4_counted_1 : decode cX4_counted 1 = .ok (.iload_n 1, 1) := dk_27 (dk_at dksX4_counted_0 1 rfl rfl)
theorem dX4_counted_2 : decode cX4_counted 2 = .ok (.invokevirtual 167, 3) := dk_182 0 167 (dk_at dksX4_counted_0 2 rfl rfl)
theorem dX4_counted_5 : decode cX4_counted 5 = .ok (.ifCond .eq 13, 3) := dk_153 0 13 (dk_at dksX4_counted_0 5 rfl rfl)
theorem dX4_counted_8 : decode cX4_counted 8 = .ok (.aload_n 0, 1) := dk_42 (dk_at dksX4_counted_0 8 rfl rfl)
theorem dX4_counted_9 : decode cX4_counted 9 = .ok (.iload_n 1, 1) := dk_27 (dk_at dksX4_counted_0 9 rfl rfl)
theorem dX4_counted_10 : decode cX4_counted 10 = .ok (.bipush 6, 2) := dk_16 6 (dk_at dksX4_counted_0 10 rfl rfl)
theorem dX4_counted_12 : decode cX4_counted 12 = .ok (.invokevirtual 55, 3) := dk_182 0 55 (dk_at dksX4_counted_0 12 rfl rfl)
theorem dX4_counted_15 : decode cX4_counted 15 = .ok (.goto 5, 3) := dk_167 0 5 (dk_at dksX4_counted_0 15 rfl rfl)
theorem dX4_counted_18 : decode cX4_counted 18 = .ok (.ldc 186, 2) := dk_18 186 (dk_at dksX4_counted_0 18 rfl rfl)
theorem dX4_counted_20 : decode cX4_counted 20 = .ok (.ireturn, 1) := dk_172 (dk_at dksX4_counted_0 20 rfl rfl)
abbrev cX4_message : ByteArray := prog_23_method_44_code
def yX4_message : MethodName := ⟨RX4, "message", "(IIZ)I"⟩
def dkwX4_message_2 : List UInt8 := [161, 0, 16, 17, 1, 44, 21, 5, 96, 17, 3, 232, 100, 167, 0, 8, 21, 5, 16, 100, 96, 172]
abbrev dktX4_message_2 : List UInt8 := dkwX4_message_2 ++ []
def dkwX4_message_1 : List UInt8 := [21, 4, 156, 0, 6, 16, 254, 172, 42, 27, 21, 4, 4, 96, 182, 0, 55, 54, 5, 21, 5, 17, 3, 232]
abbrev dktX4_message_1 : List UInt8 := dkwX4_message_1 ++ dktX4_message_2
def dkwX4_message_0 : List UInt8 := [42, 27, 182, 0, 167, 153, 0, 7, 28, 156, 0, 5, 2, 172, 42, 27, 28, 29, 182, 0, 187, 54, 4]
abbrev dktX4_message_0 : List UInt8 := dkwX4_message_0 ++ dktX4_message_1
theorem dksX4_message_0 : cX4_message.data.toList.drop 0 = dktX4_message_0 := by decide +kernel
theorem dksX4_message_1 : cX4_message.data.toList.drop 23 = dktX4_message_1 := dk_seg dksX4_message_0 23 rfl rfl
theorem dksX4_message_2 : cX4_message.data.toList.drop 47 = dktX4_message_2 := dk_seg dksX4_message_1 24 rfl rfl
theorem dX4_message_0 : decode cX4_message 0 = .ok (.aload_n 0, 1) := dk_42 (dk_at dksX4_message_0 0 rfl rfl)
theorem dX4_message_1 : decode cX4_message 1 = .ok (.iload_n 1, 1) := dk_27 (dk_at dksX4_message_0 1 rfl rfl)
theorem dX4_message_2 : decode cX4_message 2 = .ok (.invokevirtual 167, 3) := dk_182 0 167 (dk_at dksX4_message_0 2 rfl rfl)
theorem dX4_message_5 : decode cX4_message 5 = .ok (.ifCond .eq 7, 3) := dk_153 0 7 (dk_at dksX4_message_0 5 rfl rfl)
theorem dX4_message_8 : decode cX4_message 8 = .ok (.iload_n 2, 1) := dk_28 (dk_at dksX4_message_0 8 rfl rfl)
theorem dX4_message_9 : decode cX4_message 9 = .ok (.ifCond .ge 5, 3) := dk_156 0 5 (dk_at dksX4_message_0 9 rfl rfl)
theorem dX4_message_12 : decode cX4_message 12 = .ok (.iconst (-1), 1) := dk_2 (dk_at dksX4_message_0 12 rfl rfl)
theorem dX4_message_13 : decode cX4_message 13 = .ok (.ireturn, 1) := dk_172 (dk_at dksX4_message_0 13 rfl rfl)
theorem dX4_message_14 : decode cX4_message 14 = .ok (.aload_n 0, 1) := dk_42 (dk_at dksX4_message_0 14 rfl rfl)
theorem dX4_message_15 : decode cX4_message 15 = .ok (.iload_n 1, 1) := dk_27 (dk_at dksX4_message_0 15 rfl rfl)
theorem dX4_message_16 : decode cX4_message 16 = .ok (.iload_n 2, 1) := dk_28 (dk_at dksX4_message_0 16 rfl rfl)
theorem dX4_message_17 : decode cX4_message 17 = .ok (.iload_n 3, 1) := dk_29 (dk_at dksX4_message_0 17 rfl rfl)
theorem dX4_message_18 : decode cX4_message 18 = .ok (.invokevirtual 187, 3) := dk_182 0 187 (dk_at dksX4_message_0 18 rfl rfl)
theorem dX4_message_21 : decode cX4_message 21 = .ok (.istore 4, 2) := dk_54 4 (dk_at dksX4_message_0 21 rfl rfl)
theorem dX4_message_23 : decode cX4_message 23 = .ok (.iload 4, 2) := dk_21 4 (dk_at dksX4_message_1 0 rfl rfl)
theorem dX4_message_25 : decode cX4_message 25 = .ok (.ifCond .ge 6, 3) := dk_156 0 6 (dk_at dksX4_message_1 2 rfl rfl)
theorem dX4_message_28 : decode cX4_message 28 = .ok (.bipush (-2), 2) := dk_16 254 (dk_at dksX4_message_1 5 rfl rfl)
theorem dX4_message_30 : decode cX4_message 30 = .ok (.ireturn, 1) := dk_172 (dk_at dksX4_message_1 7 rfl rfl)
theorem dX4_message_31 : decode cX4_message 31 = .ok (.aload_n 0, 1) := dk_42 (dk_at dksX4_message_1 8 rfl rfl)
theorem dX4_message_32 : decode cX4_message 32 = .ok (.iload_n 1, 1) := dk_27 (dk_at dksX4_message_1 9 rfl rfl)
theorem dX4_message_33 : decode cX4_message 33 = .ok (.iload 4, 2) := dk_21 4 (dk_at dksX4_message_1 10 rfl rfl)
theorem dX4_message_35 : decode cX4_message 35 = .ok (.iconst 1, 1) := dk_4 (dk_at dksX4_message_1 12 rfl rfl)
theorem dX4_message_36 : decode cX4_message 36 = .ok (.iadd, 1) := dk_96 (dk_at dksX4_message_1 13 rfl rfl)
theorem dX4_message_37 : decode cX4_message 37 = .ok (.invokevirtual 55, 3) := dk_182 0 55 (dk_at dksX4_message_1 14 rfl rfl)
theorem dX4_message_40 : decode cX4_message 40 = .ok (.istore 5, 2) := dk_54 5 (dk_at dksX4_message_1 17 rfl rfl)
theorem dX4_message_42 : decode cX4_message 42 = .ok (.iload 5, 2) := dk_21 5 (dk_at dksX4_message_1 19 rfl rfl)
theorem dX4_message_44 : decode cX4_message 44 = .ok (.sipush 1000, 3) := dk_17 3 232 (dk_at dksX4_message_1 21 rfl rfl)
theorem dX4_message_47 : decode cX4_message 47 = .ok (.if_icmp .lt 16, 3) := dk_161 0 16 (dk_at dksX4_message_2 0 rfl rfl)
theorem dX4_message_50 : decode cX4_message 50 = .ok (.sipush 300, 3) := dk_17 1 44 (dk_at dksX4_message_2 3 rfl rfl)
theorem dX4_message_53 : decode cX4_message 53 = .ok (.iload 5, 2) := dk_21 5 (dk_at dksX4_message_2 6 rfl rfl)
theorem dX4_message_55 : decode cX4_message 55 = .ok (.iadd, 1) := dk_96 (dk_at dksX4_message_2 8 rfl rfl)
theorem dX4_message_56 : decode cX4_message 56 = .ok (.sipush 1000, 3) := dk_17 3 232 (dk_at dksX4_message_2 9 rfl rfl)
theorem dX4_message_59 : decode cX4_message 59 = .ok (.isub, 1) := dk_100 (dk_at dksX4_message_2 12 rfl rfl)
theorem dX4_message_60 : decode cX4_message 60 = .ok (.goto 8, 3) := dk_167 0 8 (dk_at dksX4_message_2 13 rfl rfl)
theorem dX4_message_63 : decode cX4_message 63 = .ok (.iload 5, 2) := dk_21 5 (dk_at dksX4_message_2 16 rfl rfl)
theorem dX4_message_65 : decode cX4_message 65 = .ok (.bipush 100, 2) := dk_16 100 (dk_at dksX4_message_2 18 rfl rfl)
theorem dX4_message_67 : decode cX4_message 67 = .ok (.iadd, 1) := dk_96 (dk_at dksX4_message_2 20 rfl rfl)
theorem dX4_message_68 : decode cX4_message 68 = .ok (.ireturn, 1) := dk_172 (dk_at dksX4_message_2 21 rfl rfl)
abbrev cX4_messageAt : ByteArray := prog_23_method_43_code
def yX4_messageAt : MethodName := ⟨RX4, "messageAt", "(IIZ)I"⟩
def dkwX4_messageAt_1 : List UInt8 := [16, 39, 167, 0, 5, 16, 14, 5, 28, 104, 96, 167, 0, 5, 16, 254, 172]
abbrev dktX4_messageAt_1 : List UInt8 := dkwX4_messageAt_1 ++ []
def dkwX4_messageAt_0 : List UInt8 := [28, 42, 27, 29, 153, 0, 8, 16, 38, 167, 0, 5, 16, 13, 182, 0, 55, 162, 0, 21, 29, 153, 0, 8]
abbrev dktX4_messageAt_0 : List UInt8 := dkwX4_messageAt_0 ++ dktX4_messageAt_1
theorem dksX4_messageAt_0 : cX4_messageAt.data.toList.drop 0 = dktX4_messageAt_0 := by decide +kernel
theorem dksX4_messageAt_1 : cX4_messageAt.data.toList.drop 24 = dktX4_messageAt_1 := dk_seg dksX4_messageAt_0 24 rfl rfl
theorem dX4_messageAt_0 : decode cX4_messageAt 0 = .ok (.iload_n 2, 1) := dk_28 (dk_at dksX4_messageAt_0 0 rfl rfl)
theorem dX4_messageAt_1 : decode cX4_messageAt 1 = .ok (.aload_n 0, 1) := dk_42 (dk_at dksX4_messageAt_0 1 rfl rfl)
theorem dX4_messageAt_2 : decode cX4_messageAt 2 = .ok (.iload_n 1, 1) := dk_27 (dk_at dksX4_messageAt_0 2 rfl rfl)
theorem dX4_messageAt_3 : decode cX4_messageAt 3 = .ok (.iload_n 3, 1) := dk_29 (dk_at dksX4_messageAt_0 3 rfl rfl)
theorem dX4_messageAt_4 : decode cX4_messageAt 4 = .ok (.ifCond .eq 8, 3) := dk_153 0 8 (dk_at dksX4_messageAt_0 4 rfl rfl)
theorem dX4_messageAt_7 : decode cX4_messageAt 7 = .ok (.bipush 38, 2) := dk_16 38 (dk_at dksX4_messageAt_0 7 rfl rfl)
theorem dX4_messageAt_9 : decode cX4_messageAt 9 = .ok (.goto 5, 3) := dk_167 0 5 (dk_at dksX4_messageAt_0 9 rfl rfl)
theorem dX4_messageAt_12 : decode cX4_messageAt 12 = .ok (.bipush 13, 2) := dk_16 13 (dk_at dksX4_messageAt_0 12 rfl rfl)
theorem dX4_messageAt_14 : decode cX4_messageAt 14 = .ok (.invokevirtual 55, 3) := dk_182 0 55 (dk_at dksX4_messageAt_0 14 rfl rfl)
theorem dX4_messageAt_17 : decode cX4_messageAt 17 = .ok (.if_icmp .ge 21, 3) := dk_162 0 21 (dk_at dksX4_messageAt_0 17 rfl rfl)
theorem dX4_messageAt_20 : decode cX4_messageAt 20 = .ok (.iload_n 3, 1) := dk_29 (dk_at dksX4_messageAt_0 20 rfl rfl)
theorem dX4_messageAt_21 : decode cX4_messageAt 21 = .ok (.ifCond .eq 8, 3) := dk_153 0 8 (dk_at dksX4_messageAt_0 21 rfl rfl)
theorem dX4_messageAt_24 : decode cX4_messageAt 24 = .ok (.bipush 39, 2) := dk_16 39 (dk_at dksX4_messageAt_1 0 rfl rfl)
theorem dX4_messageAt_26 : decode cX4_messageAt 26 = .ok (.goto 5, 3) := dk_167 0 5 (dk_at dksX4_messageAt_1 2 rfl rfl)
theorem dX4_messageAt_29 : decode cX4_messageAt 29 = .ok (.bipush 14, 2) := dk_16 14 (dk_at dksX4_messageAt_1 5 rfl rfl)
theorem dX4_messageAt_31 : decode cX4_messageAt 31 = .ok (.iconst 2, 1) := dk_5 (dk_at dksX4_messageAt_1 7 rfl rfl)
theorem dX4_messageAt_32 : decode cX4_messageAt 32 = .ok (.iload_n 2, 1) := dk_28 (dk_at dksX4_messageAt_1 8 rfl rfl)
theorem dX4_messageAt_33 : decode cX4_messageAt 33 = .ok (.imul, 1) := dk_104 (dk_at dksX4_messageAt_1 9 rfl rfl)
theorem dX4_messageAt_34 : decode cX4_messageAt 34 = .ok (.iadd, 1) := dk_96 (dk_at dksX4_messageAt_1 10 rfl rfl)
theorem dX4_messageAt_35 : decode cX4_messageAt 35 = .ok (.goto 5, 3) := dk_167 0 5 (dk_at dksX4_messageAt_1 11 rfl rfl)
theorem dX4_messageAt_38 : decode cX4_messageAt 38 = .ok (.bipush (-2), 2) := dk_16 254 (dk_at dksX4_messageAt_1 14 rfl rfl)
theorem dX4_messageAt_40 : decode cX4_messageAt 40 = .ok (.ireturn, 1) := dk_172 (dk_at dksX4_messageAt_1 16 rfl rfl)
abbrev cX4_sender : ByteArray := prog_23_method_45_code
def yX4_sender : MethodName := ⟨RX4, "sender", "(IIZ)I"⟩
def dkwX4_sender_1 : List UInt8 := [21, 4, 156, 0, 8, 16, 254, 167, 0, 10, 42, 27, 21, 4, 182, 0, 55, 172]
abbrev dktX4_sender_1 : List UInt8 := dkwX4_sender_1 ++ []
def dkwX4_sender_0 : List UInt8 := [42, 27, 182, 0, 167, 153, 0, 7, 28, 156, 0, 6, 16, 254, 172, 42, 27, 28, 29, 182, 0, 187, 54, 4]
abbrev dktX4_sender_0 : List UInt8 := dkwX4_sender_0 ++ dktX4_sender_1
theorem dksX4_sender_0 : cX4_sender.data.toList.drop 0 = dktX4_sender_0 := by decide +kernel
theorem dksX4_sender_1 : cX4_sender.data.toList.drop 24 = dktX4_sender_1 := dk_seg dksX4_sender_0 24 rfl rfl
theorem dX4_sender_0 : decode cX4_sender 0 = .ok (.aload_n 0, 1) := dk_42 (dk_at dksX4_sender_0 0 rfl rfl)
theorem dX4_sender_1 : decode cX4_sender 1 = .ok (.iload_n 1, 1) := dk_27 (dk_at dksX4_sender_0 1 rfl rfl)
theorem dX4_sender_2 : decode cX4_sender 2 = .ok (.invokevirtual 167, 3) := dk_182 0 167 (dk_at dksX4_sender_0 2 rfl rfl)
theorem dX4_sender_5 : decode cX4_sender 5 = .ok (.ifCond .eq 7, 3) := dk_153 0 7 (dk_at dksX4_sender_0 5 rfl rfl)
theorem dX4_sender_8 : decode cX4_sender 8 = .ok (.iload_n 2, 1) := dk_28 (dk_at dksX4_sender_0 8 rfl rfl)
theorem dX4_sender_9 : decode cX4_sender 9 = .ok (.ifCond .ge 6, 3) := dk_156 0 6 (dk_at dksX4_sender_0 9 rfl rfl)
theorem dX4_sender_12 : decode cX4_sender 12 = .ok (.bipush (-2), 2) := dk_16 254 (dk_at dksX4_sender_0 12 rfl rfl)
theorem dX4_sender_14 : decode cX4_sender 14 = .ok (.ireturn, 1) := dk_172 (dk_at dksX4_sender_0 14 rfl rfl)
theorem dX4_sender_15 : decode cX4_sender 15 = .ok (.aload_n 0, 1) := dk_42 (dk_at dksX4_sender_0 15 rfl rfl)
theorem dX4_sender_16 : decode cX4_sender 16 = .ok (.iload_n 1, 1) := dk_27 (dk_at dksX4_sender_0 16 rfl rfl)
theorem dX4_sender_17 : decode cX4_sender 17 = .ok (.iload_n 2, 1) := dk_28 (dk_at dksX4_sender_0 17 rfl rfl)
theorem dX4_sender_18 : decode cX4_sender 18 = .ok (.iload_n 3, 1) := dk_29 (dk_at dksX4_sender_0 18 rfl rfl)
theorem dX4_sender_19 : decode cX4_sender 19 = .ok (.invokevirtual 187, 3) := dk_182 0 187 (dk_at dksX4_sender_0 19 rfl rfl)
theorem dX4_sender_22 : decode cX4_sender 22 = .ok (.istore 4, 2) := dk_54 4 (dk_at dksX4_sender_0 22 rfl rfl)
theorem dX4_sender_24 : decode cX4_sender 24 = .ok (.iload 4, 2) := dk_21 4 (dk_at dksX4_sender_1 0 rfl rfl)
theorem dX4_sender_26 : decode cX4_sender 26 = .ok (.ifCond .ge 8, 3) := dk_156 0 8 (dk_at dksX4_sender_1 2 rfl rfl)
theorem dX4_sender_29 : decode cX4_sender 29 = .ok (.bipush (-2), 2) := dk_16 254 (dk_at dksX4_sender_1 5 rfl rfl)
theorem dX4_sender_31 : decode cX4_sender 31 = .ok (.goto 10, 3) := dk_167 0 10 (dk_at dksX4_sender_1 7 rfl rfl)
theorem dX4_sender_34 : decode cX4_sender 34 = .ok (.aload_n 0, 1) := dk_42 (dk_at dksX4_sender_1 10 rfl rfl)
theorem dX4_sender_35 : decode cX4_sender 35 = .ok (.iload_n 1, 1) := dk_27 (dk_at dksX4_sender_1 11 rfl rfl)
theorem dX4_sender_36 : decode cX4_sender 36 = .ok (.iload 4, 2) := dk_21 4 (dk_at dksX4_sender_1 12 rfl rfl)
theorem dX4_sender_38 : decode cX4_sender 38 = .ok (.invokevirtual 55, 3) := dk_182 0 55 (dk_at dksX4_sender_1 14 rfl rfl)
theorem dX4_sender_41 : decode cX4_sender 41 = .ok (.ireturn, 1) := dk_172 (dk_at dksX4_sender_1 17 rfl rfl)
abbrev cX4_stack : ByteArray := prog_23_method_46_code
def yX4_stack : MethodName := ⟨RX4, "stack", "(II)I"⟩
def dkwX4_stack_1 : List UInt8 := [162, 0, 15, 42, 27, 16, 8, 28, 96, 182, 0, 55, 167, 0, 5, 16, 254, 172]
abbrev dktX4_stack_1 : List UInt8 := dkwX4_stack_1 ++ []
def dkwX4_stack_0 : List UInt8 := [42, 27, 182, 0, 167, 153, 0, 7, 28, 156, 0, 5, 2, 172, 28, 42, 27, 16, 7, 182, 0, 55]
abbrev dktX4_stack_0 : List UInt8 := dkwX4_stack_0 ++ dktX4_stack_1
theorem dksX4_stack_0 : cX4_stack.data.toList.drop 0 = dktX4_stack_0 := by decide +kernel
theorem dksX4_stack_1 : cX4_stack.data.toList.drop 22 = dktX4_stack_1 := dk_seg dksX4_stack_0 22 rfl rfl
theorem dX4_stack_0 : decode cX4_stack 0 = .ok (.aload_n 0, 1) := dk_42 (dk_at dksX4_stack_0 0 rfl rfl)
theorem dX4_stack_1 : decode cX4_stack 1 = .ok (.iload_n 1, 1) := dk_27 (dk_at dksX4_stack_0 1 rfl rfl)
theorem dX4_stack_2 : decode cX4_stack 2 = .ok (.invokevirtual 167, 3) := dk_182 0 167 (dk_at dksX4_stack_0 2 rfl rfl)
theorem dX4_stack_5 : decode cX4_stack 5 = .ok (.ifCond .eq 7, 3) := dk_153 0 7 (dk_at dksX4_stack_0 5 rfl rfl)
theorem dX4_stack_8 : decode cX4_stack 8 = .ok (.iload_n 2, 1) := dk_28 (dk_at dksX4_stack_0 8 rfl rfl)
theorem dX4_stack_9 : decode cX4_stack 9 = .ok (.ifCond .ge 5, 3) := dk_156 0 5 (dk_at dksX4_stack_0 9 rfl rfl)
theorem dX4_stack_12 : decode cX4_stack 12 = .ok (.iconst (-1), 1) := dk_2 (dk_at dksX4_stack_0 12 rfl rfl)
theorem dX4_stack_13 : decode cX4_stack 13 = .ok (.ireturn, 1) := dk_172 (dk_at dksX4_stack_0 13 rfl rfl)
theorem dX4_stack_14 : decode cX4_stack 14 = .ok (.iload_n 2, 1) := dk_28 (dk_at dksX4_stack_0 14 rfl rfl)
theorem dX4_stack_15 : decode cX4_stack 15 = .ok (.aload_n 0, 1) := dk_42 (dk_at dksX4_stack_0 15 rfl rfl)
theorem dX4_stack_16 : decode cX4_stack 16 = .ok (.iload_n 1, 1) := dk_27 (dk_at dksX4_stack_0 16 rfl rfl)
theorem dX4_stack_17 : decode cX4_stack 17 = .ok (.bipush 7, 2) := dk_16 7 (dk_at dksX4_stack_0 17 rfl rfl)
theorem dX4_stack_19 : decode cX4_stack 19 = .ok (.invokevirtual 55, 3) := dk_182 0 55 (dk_at dksX4_stack_0 19 rfl rfl)
theorem dX4_stack_22 : decode cX4_stack 22 = .ok (.if_icmp .ge 15, 3) := dk_162 0 15 (dk_at dksX4_stack_1 0 rfl rfl)
theorem dX4_stack_25 : decode cX4_stack 25 = .ok (.aload_n 0, 1) := dk_42 (dk_at dksX4_stack_1 3 rfl rfl)
theorem dX4_stack_26 : decode cX4_stack 26 = .ok (.iload_n 1, 1) := dk_27 (dk_at dksX4_stack_1 4 rfl rfl)
theorem dX4_stack_27 : decode cX4_stack 27 = .ok (.bipush 8, 2) := dk_16 8 (dk_at dksX4_stack_1 5 rfl rfl)
theorem dX4_stack_29 : decode cX4_stack 29 = .ok (.iload_n 2, 1) := dk_28 (dk_at dksX4_stack_1 7 rfl rfl)
theorem dX4_stack_30 : decode cX4_stack 30 = .ok (.iadd, 1) := dk_96 (dk_at dksX4_stack_1 8 rfl rfl)
theorem dX4_stack_31 : decode cX4_stack 31 = .ok (.invokevirtual 55, 3) := dk_182 0 55 (dk_at dksX4_stack_1 9 rfl rfl)
theorem dX4_stack_34 : decode cX4_stack 34 = .ok (.goto 5, 3) := dk_167 0 5 (dk_at dksX4_stack_1 12 rfl rfl)
theorem dX4_stack_37 : decode cX4_stack 37 = .ok (.bipush (-2), 2) := dk_16 254 (dk_at dksX4_stack_1 15 rfl rfl)
theorem dX4_stack_39 : decode cX4_stack 39 = .ok (.ireturn, 1) := dk_172 (dk_at dksX4_stack_1 17 rfl rfl)
abbrev cX4_watcher : ByteArray := prog_23_method_47_code
def yX4_watcher : MethodName := ⟨RX4, "watcher", "(II)I"⟩
def dkwX4_watcher_1 : List UInt8 := [162, 0, 15, 42, 27, 16, 52, 28, 96, 182, 0, 55, 167, 0, 5, 16, 254, 172]
abbrev dktX4_watcher_1 : List UInt8 := dkwX4_watcher_1 ++ []
def dkwX4_watcher_0 : List UInt8 := [42, 27, 182, 0, 167, 153, 0, 7, 28, 156, 0, 5, 2, 172, 28, 42, 27, 16, 51, 182, 0, 55]
abbrev dktX4_watcher_0 : List UInt8 := dkwX4_watcher_0 ++ dktX4_watcher_1
theorem dksX4_watcher_0 : cX4_watcher.data.toList.drop 0 = dktX4_watcher_0 := by decide +kernel
theorem dksX4_watcher_1 : cX4_watcher.data.toList.drop 22 = dktX4_watcher_1 := dk_seg dksX4_watcher_0 22 rfl rfl
theorem dX4_watcher_0 : decode cX4_watcher 0 = .ok (.aload_n 0, 1) := dk_42 (dk_at dksX4_watcher_0 0 rfl rfl)
theorem dX4_watcher_1 : decode cX4_watcher 1 = .ok (.iload_n 1, 1) := dk_27 (dk_at dksX4_watcher_0 1 rfl rfl)
theorem dX4_watcher_2 : decode cX4_watcher 2 = .ok (.invokevirtual 167, 3) := dk_182 0 167 (dk_at dksX4_watcher_0 2 rfl rfl)
theorem dX4_watcher_5 : decode cX4_watcher 5 = .ok (.ifCond .eq 7, 3) := dk_153 0 7 (dk_at dksX4_watcher_0 5 rfl rfl)
theorem dX4_watcher_8 : decode cX4_watcher 8 = .ok (.iload_n 2, 1) := dk_28 (dk_at dksX4_watcher_0 8 rfl rfl)
theorem dX4_watcher_9 : decode cX4_watcher 9 = .ok (.ifCond .ge 5, 3) := dk_156 0 5 (dk_at dksX4_watcher_0 9 rfl rfl)
theorem dX4_watcher_12 : decode cX4_watcher 12 = .ok (.iconst (-1), 1) := dk_2 (dk_at dksX4_watcher_0 12 rfl rfl)
theorem dX4_watcher_13 : decode cX4_watcher 13 = .ok (.ireturn, 1) := dk_172 (dk_at dksX4_watcher_0 13 rfl rfl)
theorem dX4_watcher_14 : decode cX4_watcher 14 = .ok (.iload_n 2, 1) := dk_28 (dk_at dksX4_watcher_0 14 rfl rfl)
theorem dX4_watcher_15 : decode cX4_watcher 15 = .ok (.aload_n 0, 1) := dk_42 (dk_at dksX4_watcher_0 15 rfl rfl)
theorem dX4_watcher_16 : decode cX4_watcher 16 = .ok (.iload_n 1, 1) := dk_27 (dk_at dksX4_watcher_0 16 rfl rfl)
theorem dX4_watcher_17 : decode cX4_watcher 17 = .ok (.bipush 51, 2) := dk_16 51 (dk_at dksX4_watcher_0 17 rfl rfl)
theorem dX4_watcher_19 : decode cX4_watcher 19 = .ok (.invokevirtual 55, 3) := dk_182 0 55 (dk_at dksX4_watcher_0 19 rfl rfl)
theorem dX4_watcher_22 : decode cX4_watcher 22 = .ok (.if_icmp .ge 15, 3) := dk_162 0 15 (dk_at dksX4_watcher_1 0 rfl rfl)
theorem dX4_watcher_25 : decode cX4_watcher 25 = .ok (.aload_n 0, 1) := dk_42 (dk_at dksX4_watcher_1 3 rfl rfl)
theorem dX4_watcher_26 : decode cX4_watcher 26 = .ok (.iload_n 1, 1) := dk_27 (dk_at dksX4_watcher_1 4 rfl rfl)
theorem dX4_watcher_27 : decode cX4_watcher 27 = .ok (.bipush 52, 2) := dk_16 52 (dk_at dksX4_watcher_1 5 rfl rfl)
theorem dX4_watcher_29 : decode cX4_watcher 29 = .ok (.iload_n 2, 1) := dk_28 (dk_at dksX4_watcher_1 7 rfl rfl)
theorem dX4_watcher_30 : decode cX4_watcher 30 = .ok (.iadd, 1) := dk_96 (dk_at dksX4_watcher_1 8 rfl rfl)
theorem dX4_watcher_31 : decode cX4_watcher 31 = .ok (.invokevirtual 55, 3) := dk_182 0 55 (dk_at dksX4_watcher_1 9 rfl rfl)
theorem dX4_watcher_34 : decode cX4_watcher 34 = .ok (.goto 5, 3) := dk_167 0 5 (dk_at dksX4_watcher_1 12 rfl rfl)
theorem dX4_watcher_37 : decode cX4_watcher 37 = .ok (.bipush (-2), 2) := dk_16 254 (dk_at dksX4_watcher_1 15 rfl rfl)
theorem dX4_watcher_39 : decode cX4_watcher 39 = .ok (.ireturn, 1) := dk_172 (dk_at dksX4_watcher_1 17 rfl rfl)
abbrev cX4_timer : ByteArray := prog_23_method_48_code
def yX4_timer : MethodName := ⟨RX4, "timer", "(II)I"⟩
def dkwX4_timer_6 : List UInt8 := [5, 160, 0, 8, 16, 100, 167, 0, 4, 3, 96, 172, 132, 3, 1, 167, 255, 120, 16, 254, 172]
abbrev dktX4_timer_6 : List UInt8 := dkwX4_timer_6 ++ []
def dkwX4_timer_5 : List UInt8 := [167, 255, 193, 21, 4, 27, 160, 0, 30, 42, 180, 0, 9, 17, 3, 164, 6, 29, 104, 96, 28, 96, 46, 28]
abbrev dktX4_timer_5 : List UInt8 := dkwX4_timer_5 ++ dktX4_timer_6
def dkwX4_timer_4 : List UInt8 := [21, 5, 160, 0, 13, 21, 6, 29, 162, 0, 7, 4, 167, 0, 4, 3, 96, 54, 4, 132, 6, 1]
abbrev dktX4_timer_4 : List UInt8 := dkwX4_timer_4 ++ dktX4_timer_5
def dkwX4_timer_3 : List UInt8 := [17, 3, 164, 6, 21, 6, 104, 96, 4, 96, 46, 54, 7, 21, 4, 21, 7, 21, 5, 161, 0, 16, 21, 7]
abbrev dktX4_timer_3 : List UInt8 := dkwX4_timer_3 ++ dktX4_timer_4
def dkwX4_timer_2 : List UInt8 := [54, 5, 3, 54, 6, 21, 6, 42, 180, 0, 9, 17, 3, 163, 46, 162, 0, 56, 42, 180, 0, 9]
abbrev dktX4_timer_2 : List UInt8 := dkwX4_timer_2 ++ dktX4_timer_3
def dkwX4_timer_1 : List UInt8 := [17, 3, 163, 46, 162, 0, 130, 3, 54, 4, 42, 180, 0, 9, 17, 3, 164, 6, 29, 104, 96, 4, 96, 46]
abbrev dktX4_timer_1 : List UInt8 := dkwX4_timer_1 ++ dktX4_timer_2
def dkwX4_timer_0 : List UInt8 := [27, 155, 0, 12, 28, 3, 5, 184, 0, 51, 154, 0, 5, 2, 172, 3, 62, 29, 42, 180, 0, 9]
abbrev dktX4_timer_0 : List UInt8 := dkwX4_timer_0 ++ dktX4_timer_1
theorem dksX4_timer_0 : cX4_timer.data.toList.drop 0 = dktX4_timer_0 := by decide +kernel
theorem dksX4_timer_1 : cX4_timer.data.toList.drop 22 = dktX4_timer_1 := dk_seg dksX4_timer_0 22 rfl rfl
theorem dksX4_timer_2 : cX4_timer.data.toList.drop 46 = dktX4_timer_2 := dk_seg dksX4_timer_1 24 rfl rfl
theorem dksX4_timer_3 : cX4_timer.data.toList.drop 68 = dktX4_timer_3 := dk_seg dksX4_timer_2 22 rfl rfl
theorem dksX4_timer_4 : cX4_timer.data.toList.drop 92 = dktX4_timer_4 := dk_seg dksX4_timer_3 24 rfl rfl
theorem dksX4_timer_5 : cX4_timer.data.toList.drop 114 = dktX4_timer_5 := dk_seg dksX4_timer_4 22 rfl rfl
theorem dksX4_timer_6 : cX4_timer.data.toList.drop 138 = dktX4_timer_6 := dk_seg dksX4_timer_5 24 rfl rfl
theorem dX4_timer_0 : decode cX4_timer 0 = .ok (.iload_n 1, 1) := dk_27 (dk_at dksX4_timer_0 0 rfl rfl)
theorem dX4_timer_1 : decode cX4_timer 1 = .ok (.ifCond .lt 12, 3) := dk_155 0 12 (dk_at dksX4_timer_0 1 rfl rfl)
theorem dX4_timer_4 : decode cX4_timer 4 = .ok (.iload_n 2, 1) := dk_28 (dk_at dksX4_timer_0 4 rfl rfl)
theorem dX4_timer_5 : decode cX4_timer 5 = .ok (.iconst 0, 1) := dk_3 (dk_at dksX4_timer_0 5 rfl rfl)
theorem dX4_timer_6 : decode cX4_timer 6 = .ok (.iconst 2, 1) := dk_5 (dk_at dksX4_timer_0 6 rfl rfl)
theorem dX4_timer_7 : decode cX4_timer 7 = .ok (.invokestatic 51, 3) := dk_184 0 51 (dk_at dksX4_timer_0 7 rfl rfl)
theorem dX4_timer_10 : decode cX4_timer 10 = .ok (.ifCond .ne 5, 3) := dk_154 0 5 (dk_at dksX4_timer_0 10 rfl rfl)
theorem dX4_timer_13 : decode cX4_timer 13 = .ok (.iconst (-1), 1) := dk_2 (dk_at dksX4_timer_0 13 rfl rfl)
theorem dX4_timer_14 : decode cX4_timer 14 = .ok (.ireturn, 1) := dk_172 (dk_at dksX4_timer_0 14 rfl rfl)
theorem dX4_timer_15 : decode cX4_timer 15 = .ok (.iconst 0, 1) := dk_3 (dk_at dksX4_timer_0 15 rfl rfl)
theorem dX4_timer_16 : decode cX4_timer 16 = .ok (.istore_n 3, 1) := dk_62 (dk_at dksX4_timer_0 16 rfl rfl)
theorem dX4_timer_17 : decode cX4_timer 17 = .ok (.iload_n 3, 1) := dk_29 (dk_at dksX4_timer_0 17 rfl rfl)
theorem dX4_timer_18 : decode cX4_timer 18 = .ok (.aload_n 0, 1) := dk_42 (dk_at dksX4_timer_0 18 rfl rfl)
theorem dX4_timer_19 : decode cX4_timer 19 = .ok (.getfield 9, 3) := dk_180 0 9 (dk_at dksX4_timer_0 19 rfl rfl)
theorem dX4_timer_22 : decode cX4_timer 22 = .ok (.sipush 931, 3) := dk_17 3 163 (dk_at dksX4_timer_1 0 rfl rfl)
theorem dX4_timer_25 : decode cX4_timer 25 = .ok (.iaload, 1) := dk_46 (dk_at dksX4_timer_1 3 rfl rfl)
theorem dX4_timer_26 : decode cX4_timer 26 = .ok (.if_icmp .ge 130, 3) := dk_162 0 130 (dk_at dksX4_timer_1 4 rfl rfl)
theorem dX4_timer_29 : decode cX4_timer 29 = .ok (.iconst 0, 1) := dk_3 (dk_at dksX4_timer_1 7 rfl rfl)
theorem dX4_timer_30 : decode cX4_timer 30 = .ok (.istore 4, 2) := dk_54 4 (dk_at dksX4_timer_1 8 rfl rfl)
theorem dX4_timer_32 : decode cX4_timer 32 = .ok (.aload_n 0, 1) := dk_42 (dk_at dksX4_timer_1 10 rfl rfl)
theorem dX4_timer_33 : decode cX4_timer 33 = .ok (.getfield 9, 3) := dk_180 0 9 (dk_at dksX4_timer_1 11 rfl rfl)
theorem dX4_timer_36 : decode cX4_timer 36 = .ok (.sipush 932, 3) := dk_17 3 164 (dk_at dksX4_timer_1 14 rfl rfl)
theorem dX4_timer_39 : decode cX4_timer 39 = .ok (.iconst 3, 1) := dk_6 (dk_at dksX4_timer_1 17 rfl rfl)
theorem dX4_timer_40 : decode cX4_timer 40 = .ok (.iload_n 3, 1) := dk_29 (dk_at dksX4_timer_1 18 rfl rfl)
theorem dX4_timer_41 : decode cX4_timer 41 = .ok (.imul, 1) := dk_104 (dk_at dksX4_timer_1 19 rfl rfl)
theorem dX4_timer_42 : decode cX4_timer 42 = .ok (.iadd, 1) := dk_96 (dk_at dksX4_timer_1 20 rfl rfl)
theorem dX4_timer_43 : decode cX4_timer 43 = .ok (.iconst 1, 1) := dk_4 (dk_at dksX4_timer_1 21 rfl rfl)
theorem dX4_timer_44 : decode cX4_timer 44 = .ok (.iadd, 1) := dk_96 (dk_at dksX4_timer_1 22 rfl rfl)
theorem dX4_timer_45 : decode cX4_timer 45 = .ok (.iaload, 1) := dk_46 (dk_at dksX4_timer_1 23 rfl rfl)
theorem dX4_timer_46 : decode cX4_timer 46 = .ok (.istore 5, 2) := dk_54 5 (dk_at dksX4_timer_2 0 rfl rfl)
theorem dX4_timer_48 : decode cX4_timer 48 = .ok (.iconst 0, 1) := dk_3 (dk_at dksX4_timer_2 2 rfl rfl)
theorem dX4_timer_49 : decode cX4_timer 49 = .ok (.istore 6, 2) := dk_54 6 (dk_at dksX4_timer_2 3 rfl rfl)
theorem dX4_timer_51 : decode cX4_timer 51 = .ok (.iload 6, 2) := dk_21 6 (dk_at dksX4_timer_2 5 rfl rfl)
theorem dX4_timer_53 : decode cX4_timer 53 = .ok (.aload_n 0, 1) := dk_42 (dk_at dksX4_timer_2 7 rfl rfl)
theorem dX4_timer_54 : decode cX4_timer 54 = .ok (.getfield 9, 3) := dk_180 0 9 (dk_at dksX4_timer_2 8 rfl rfl)
theorem dX4_timer_57 : decode cX4_timer 57 = .ok (.sipush 931, 3) := dk_17 3 163 (dk_at dksX4_timer_2 11 rfl rfl)
theorem dX4_timer_60 : decode cX4_timer 60 = .ok (.iaload, 1) := dk_46 (dk_at dksX4_timer_2 14 rfl rfl)
theorem dX4_timer_61 : decode cX4_timer 61 = .ok (.if_icmp .ge 56, 3) := dk_162 0 56 (dk_at dksX4_timer_2 15 rfl rfl)
theorem dX4_timer_64 : decode cX4_timer 64 = .ok (.aload_n 0, 1) := dk_42 (dk_at dksX4_timer_2 18 rfl rfl)
theorem dX4_timer_65 : decode cX4_timer 65 = .ok (.getfield 9, 3) := dk_180 0 9 (dk_at dksX4_timer_2 19 rfl rfl)
theorem dX4_timer_68 : decode cX4_timer 68 = .ok (.sipush 932, 3) := dk_17 3 164 (dk_at dksX4_timer_3 0 rfl rfl)
theorem dX4_timer_71 : decode cX4_timer 71 = .ok (.iconst 3, 1) := dk_6 (dk_at dksX4_timer_3 3 rfl rfl)
theorem dX4_timer_72 : decode cX4_timer 72 = .ok (.iload 6, 2) := dk_21 6 (dk_at dksX4_timer_3 4 rfl rfl)
theorem dX4_timer_74 : decode cX4_timer 74 = .ok (.imul, 1) := dk_104 (dk_at dksX4_timer_3 6 rfl rfl)
theorem dX4_timer_75 : decode cX4_timer 75 = .ok (.iadd, 1) := dk_96 (dk_at dksX4_timer_3 7 rfl rfl)
theorem dX4_timer_76 : decode cX4_timer 76 = .ok (.iconst 1, 1) := dk_4 (dk_at dksX4_timer_3 8 rfl rfl)
theorem dX4_timer_77 : decode cX4_timer 77 = .ok (.iadd, 1) := dk_96 (dk_at dksX4_timer_3 9 rfl rfl)
theorem dX4_timer_78 : decode cX4_timer 78 = .ok (.iaload, 1) := dk_46 (dk_at dksX4_timer_3 10 rfl rfl)
theorem dX4_timer_79 : decode cX4_timer 79 = .ok (.istore 7, 2) := dk_54 7 (dk_at dksX4_timer_3 11 rfl rfl)
theorem dX4_timer_81 : decode cX4_timer 81 = .ok (.iload 4, 2) := dk_21 4 (dk_at dksX4_timer_3 13 rfl rfl)
theorem dX4_timer_83 : decode cX4_timer 83 = .ok (.iload 7, 2) := dk_21 7 (dk_at dksX4_timer_3 15 rfl rfl)
theorem dX4_timer_85 : decode cX4_timer 85 = .ok (.iload 5, 2) := dk_21 5 (dk_at dksX4_timer_3 17 rfl rfl)
theorem dX4_timer_87 : decode cX4_timer 87 = .ok (.if_icmp .lt 16, 3) := dk_161 0 16 (dk_at dksX4_timer_3 19 rfl rfl)
theorem dX4_timer_90 : decode cX4_timer 90 = .ok (.iload 7, 2) := dk_21 7 (dk_at dksX4_timer_3 22 rfl rfl)
theorem dX4_timer_92 : decode cX4_timer 92 = .ok (.iload 5, 2) := dk_21 5 (dk_at dksX4_timer_4 0 rfl rfl)
theorem dX4_timer_94 : decode cX4_timer 94 = .ok (.if_icmp .ne 13, 3) := dk_160 0 13 (dk_at dksX4_timer_4 2 rfl rfl)
theorem dX4_timer_97 : decode cX4_timer 97 = .ok (.iload 6, 2) := dk_21 6 (dk_at dksX4_timer_4 5 rfl rfl)
theorem dX4_timer_99 : decode cX4_timer 99 = .ok (.iload_n 3, 1) := dk_29 (dk_at dksX4_timer_4 7 rfl rfl)
theorem dX4_timer_100 : decode cX4_timer 100 = .ok (.if_icmp .ge 7, 3) := dk_162 0 7 (dk_at dksX4_timer_4 8 rfl rfl)
theorem dX4_timer_103 : decode cX4_timer 103 = .ok (.iconst 1, 1) := dk_4 (dk_at dksX4_timer_4 11 rfl rfl)
theorem dX4_timer_104 : decode cX4_timer 104 = .ok (.goto 4, 3) := dk_167 0 4 (dk_at dksX4_timer_4 12 rfl rfl)
theorem dX4_timer_107 : decode cX4_timer 107 = .ok (.iconst 0, 1) := dk_3 (dk_at dksX4_timer_4 15 rfl rfl)
theorem dX4_timer_108 : decode cX4_timer 108 = .ok (.iadd, 1) := dk_96 (dk_at dksX4_timer_4 16 rfl rfl)
theorem dX4_timer_109 : decode cX4_timer 109 = .ok (.istore 4, 2) := dk_54 4 (dk_at dksX4_timer_4 17 rfl rfl)
theorem dX4_timer_111 : decode cX4_timer 111 = .ok (.iinc 6 1, 3) := dk_132 6 1 (dk_at dksX4_timer_4 19 rfl rfl)
theorem dX4_timer_114 : decode cX4_timer 114 = .ok (.goto (-63), 3) := dk_167 255 193 (dk_at dksX4_timer_5 0 rfl rfl)
theorem dX4_timer_117 : decode cX4_timer 117 = .ok (.iload 4, 2) := dk_21 4 (dk_at dksX4_timer_5 3 rfl rfl)
theorem dX4_timer_119 : decode cX4_timer 119 = .ok (.iload_n 1, 1) := dk_27 (dk_at dksX4_timer_5 5 rfl rfl)
theorem dX4_timer_120 : decode cX4_timer 120 = .ok (.if_icmp .ne 30, 3) := dk_160 0 30 (dk_at dksX4_timer_5 6 rfl rfl)
theorem dX4_timer_123 : decode cX4_timer 123 = .ok (.aload_n 0, 1) := dk_42 (dk_at dksX4_timer_5 9 rfl rfl)
theorem dX4_timer_124 : decode cX4_timer 124 = .ok (.getfield 9, 3) := dk_180 0 9 (dk_at dksX4_timer_5 10 rfl rfl)
theorem dX4_timer_127 : decode cX4_timer 127 = .ok (.sipush 932, 3) := dk_17 3 164 (dk_at dksX4_timer_5 13 rfl rfl)
theorem dX4_timer_130 : decode cX4_timer 130 = .ok (.iconst 3, 1) := dk_6 (dk_at dksX4_timer_5 16 rfl rfl)
theorem dX4_timer_131 : decode cX4_timer 131 = .ok (.iload_n 3, 1) := dk_29 (dk_at dksX4_timer_5 17 rfl rfl)
theorem dX4_timer_132 : decode cX4_timer 132 = .ok (.imul, 1) := dk_104 (dk_at dksX4_timer_5 18 rfl rfl)
theorem dX4_timer_133 : decode cX4_timer 133 = .ok (.iadd, 1) := dk_96 (dk_at dksX4_timer_5 19 rfl rfl)
theorem dX4_timer_134 : decode cX4_timer 134 = .ok (.iload_n 2, 1) := dk_28 (dk_at dksX4_timer_5 20 rfl rfl)
theorem dX4_timer_135 : decode cX4_timer 135 = .ok (.iadd, 1) := dk_96 (dk_at dksX4_timer_5 21 rfl rfl)
theorem dX4_timer_136 : decode cX4_timer 136 = .ok (.iaload, 1) := dk_46 (dk_at dksX4_timer_5 22 rfl rfl)
theorem dX4_timer_137 : decode cX4_timer 137 = .ok (.iload_n 2, 1) := dk_28 (dk_at dksX4_timer_5 23 rfl rfl)
theorem dX4_timer_138 : decode cX4_timer 138 = .ok (.iconst 2, 1) := dk_5 (dk_at dksX4_timer_6 0 rfl rfl)
theorem dX4_timer_139 : decode cX4_timer 139 = .ok (.if_icmp .ne 8, 3) := dk_160 0 8 (dk_at dksX4_timer_6 1 rfl rfl)
theorem dX4_timer_142 : decode cX4_timer 142 = .ok (.bipush 100, 2) := dk_16 100 (dk_at dksX4_timer_6 4 rfl rfl)
theorem dX4_timer_144 : decode cX4_timer 144 = .ok (.goto 4, 3) := dk_167 0 4 (dk_at dksX4_timer_6 6 rfl rfl)
theorem dX4_timer_147 : decode cX4_timer 147 = .ok (.iconst 0, 1) := dk_3 (dk_at dksX4_timer_6 9 rfl rfl)
theorem dX4_timer_148 : decode cX4_timer 148 = .ok (.iadd, 1) := dk_96 (dk_at dksX4_timer_6 10 rfl rfl)
theorem dX4_timer_149 : decode cX4_timer 149 = .ok (.ireturn, 1) := dk_172 (dk_at dksX4_timer_6 11 rfl rfl)
theorem dX4_timer_150 : decode cX4_timer 150 = .ok (.iinc 3 1, 3) := dk_132 3 1 (dk_at dksX4_timer_6 12 rfl rfl)
theorem dX4_timer_153 : decode cX4_timer 153 = .ok (.goto (-136), 3) := dk_167 255 120 (dk_at dksX4_timer_6 15 rfl rfl)
theorem dX4_timer_156 : decode cX4_timer 156 = .ok (.bipush (-2), 2) := dk_16 254 (dk_at dksX4_timer_6 18 rfl rfl)
theorem dX4_timer_158 : decode cX4_timer 158 = .ok (.ireturn, 1) := dk_172 (dk_at dksX4_timer_6 20 rfl rfl)
abbrev cX4_stop : ByteArray := prog_23_method_51_code
def yX4_stop : MethodName := ⟨RX4, "stop", "(I)I"⟩
def dkwX4_stop_1 : List UInt8 := [182, 0, 191, 184, 0, 194, 61, 42, 27, 182, 0, 71, 28, 42, 182, 0, 191, 184, 0, 194, 100, 172]
abbrev dktX4_stop_1 : List UInt8 := dkwX4_stop_1 ++ []
def dkwX4_stop_0 : List UInt8 := [42, 27, 182, 0, 167, 154, 0, 5, 2, 172, 42, 27, 182, 0, 59, 154, 0, 6, 16, 251, 172, 42]
abbrev dktX4_stop_0 : List UInt8 := dkwX4_stop_0 ++ dktX4_stop_1
theorem dksX4_stop_0 : cX4_stop.data.toList.drop 0 = dktX4_stop_0 := by decide +kernel
theorem dksX4_stop_1 : cX4_stop.data.toList.drop 22 = dktX4_stop_1 := dk_seg dksX4_stop_0 22 rfl rfl
theorem dX4_stop_0 : decode cX4_stop 0 = .ok (.aload_n 0, 1) := dk_42 (dk_at dksX4_stop_0 0 rfl rfl)
theorem dX4_stop_1 : decode cX4_stop 1 = .ok (.iload_n 1, 1) := dk_27 (dk_at dksX4_stop_0 1 rfl rfl)
theorem dX4_stop_2 : decode cX4_stop 2 = .ok (.invokevirtual 167, 3) := dk_182 0 167 (dk_at dksX4_stop_0 2 rfl rfl)
theorem dX4_stop_5 : decode cX4_stop 5 = .ok (.ifCond .ne 5, 3) := dk_154 0 5 (dk_at dksX4_stop_0 5 rfl rfl)
theorem dX4_stop_8 : decode cX4_stop 8 = .ok (.iconst (-1), 1) := dk_2 (dk_at dksX4_stop_0 8 rfl rfl)
theorem dX4_stop_9 : decode cX4_stop 9 = .ok (.ireturn, 1) := dk_172 (dk_at dksX4_stop_0 9 rfl rfl)
theorem dX4_stop_10 : decode cX4_stop 10 = .ok (.aload_n 0, 1) := dk_42 (dk_at dksX4_stop_0 10 rfl rfl)
theorem dX4_stop_11 : decode cX4_stop 11 = .ok (.iload_n 1, 1) := dk_27 (dk_at dksX4_stop_0 11 rfl rfl)
theorem dX4_stop_12 : decode cX4_stop 12 = .ok (.invokevirtual 59, 3) := dk_182 0 59 (dk_at dksX4_stop_0 12 rfl rfl)
theorem dX4_stop_15 : decode cX4_stop 15 = .ok (.ifCond .ne 6, 3) := dk_154 0 6 (dk_at dksX4_stop_0 15 rfl rfl)
theorem dX4_stop_18 : decode cX4_stop 18 = .ok (.bipush (-5), 2) := dk_16 251 (dk_at dksX4_stop_0 18 rfl rfl)
theorem dX4_stop_20 : decode cX4_stop 20 = .ok (.ireturn, 1) := dk_172 (dk_at dksX4_stop_0 20 rfl rfl)
theorem dX4_stop_21 : decode cX4_stop 21 = .ok (.aload_n 0, 1) := dk_42 (dk_at dksX4_stop_0 21 rfl rfl)
theorem dX4_stop_22 : decode cX4_stop 22 = .ok (.invokevirtual 191, 3) := dk_182 0 191 (dk_at dksX4_stop_1 0 rfl rfl)
theorem dX4_stop_25 : decode cX4_stop 25 = .ok (.invokestatic 194, 3) := dk_184 0 194 (dk_at dksX4_stop_1 3 rfl rfl)
theorem dX4_stop_28 : decode cX4_stop 28 = .ok (.istore_n 2, 1) := dk_61 (dk_at dksX4_stop_1 6 rfl rfl)
theorem dX4_stop_29 : decode cX4_stop 29 = .ok (.aload_n 0, 1) := dk_42 (dk_at dksX4_stop_1 7 rfl rfl)
theorem dX4_stop_30 : decode cX4_stop 30 = .ok (.iload_n 1, 1) := dk_27 (dk_at dksX4_stop_1 8 rfl rfl)
theorem dX4_stop_31 : decode cX4_stop 31 = .ok (.invokevirtual 71, 3) := dk_182 0 71 (dk_at dksX4_stop_1 9 rfl rfl)
theorem dX4_stop_34 : decode cX4_stop 34 = .ok (.iload_n 2, 1) := dk_28 (dk_at dksX4_stop_1 12 rfl rfl)
theorem dX4_stop_35 : decode cX4_stop 35 = .ok (.aload_n 0, 1) := dk_42 (dk_at dksX4_stop_1 13 rfl rfl)
theorem dX4_stop_36 : decode cX4_stop 36 = .ok (.invokevirtual 191, 3) := dk_182 0 191 (dk_at dksX4_stop_1 14 rfl rfl)
theorem dX4_stop_39 : decode cX4_stop 39 = .ok (.invokestatic 194, 3) := dk_184 0 194 (dk_at dksX4_stop_1 17 rfl rfl)
theorem dX4_stop_42 : decode cX4_stop 42 = .ok (.isub, 1) := dk_100 (dk_at dksX4_stop_1 20 rfl rfl)
theorem dX4_stop_43 : decode cX4_stop 43 = .ok (.ireturn, 1) := dk_172 (dk_at dksX4_stop_1 21 rfl rfl)
abbrev cX4_liveOnes : ByteArray := prog_23_method_49_code
def yX4_liveOnes : MethodName := ⟨RX4, "liveOnes", "()I"⟩
def dkwX4_liveOnes_1 : List UInt8 := [153, 0, 9, 4, 28, 120, 167, 0, 4, 3, 128, 60, 132, 2, 1, 167, 255, 223, 27, 172]
abbrev dktX4_liveOnes_1 : List UInt8 := dkwX4_liveOnes_1 ++ []
def dkwX4_liveOnes_0 : List UInt8 := [3, 60, 3, 61, 28, 42, 180, 0, 9, 17, 3, 156, 46, 162, 0, 27, 27, 42, 28, 182, 0, 59]
abbrev dktX4_liveOnes_0 : List UInt8 := dkwX4_liveOnes_0 ++ dktX4_liveOnes_1
theorem dksX4_liveOnes_0 : cX4_liveOnes.data.toList.drop 0 = dktX4_liveOnes_0 := by decide +kernel
theorem dksX4_liveOnes_1 : cX4_liveOnes.data.toList.drop 22 = dktX4_liveOnes_1 := dk_seg dksX4_liveOnes_0 22 rfl rfl
theorem dX4_liveOnes_0 : decode cX4_liveOnes 0 = .ok (.iconst 0, 1) := dk_3 (dk_at dksX4_liveOnes_0 0 rfl rfl)
theorem dX4_liveOnes_1 : decode cX4_liveOnes 1 = .ok (.istore_n 1, 1) := dk_60 (dk_at dksX4_liveOnes_0 1 rfl rfl)
theorem dX4_liveOnes_2 : decode cX4_liveOnes 2 = .ok (.iconst 0, 1) := dk_3 (dk_at dksX4_liveOnes_0 2 rfl rfl)
theorem dX4_liveOnes_3 : decode cX4_liveOnes 3 = .ok (.istore_n 2, 1) := dk_61 (dk_at dksX4_liveOnes_0 3 rfl rfl)
theorem dX4_liveOnes_4 : decode cX4_liveOnes 4 = .ok (.iload_n 2, 1) := dk_28 (dk_at dksX4_liveOnes_0 4 rfl rfl)
theorem dX4_liveOnes_5 : decode cX4_liveOnes 5 = .ok (.aload_n 0, 1) := dk_42 (dk_at dksX4_liveOnes_0 5 rfl rfl)
theorem dX4_liveOnes_6 : decode cX4_liveOnes 6 = .ok (.getfield 9, 3) := dk_180 0 9 (dk_at dksX4_liveOnes_0 6 rfl rfl)
theorem dX4_liveOnes_9 : decode cX4_liveOnes 9 = .ok (.sipush 924, 3) := dk_17 3 156 (dk_at dksX4_liveOnes_0 9 rfl rfl)
theorem dX4_liveOnes_12 : decode cX4_liveOnes 12 = .ok (.iaload, 1) := dk_46 (dk_at dksX4_liveOnes_0 12 rfl rfl)
theorem dX4_liveOnes_13 : decode cX4_liveOnes 13 = .ok (.if_icmp .ge 27, 3) := dk_162 0 27 (dk_at dksX4_liveOnes_0 13 rfl rfl)
theorem dX4_liveOnes_16 : decode cX4_liveOnes 16 = .ok (.iload_n 1, 1) := dk_27 (dk_at dksX4_liveOnes_0 16 rfl rfl)
theorem dX4_liveOnes_17 : decode cX4_liveOnes 17 = .ok (.aload_n 0, 1) := dk_42 (dk_at dksX4_liveOnes_0 17 rfl rfl)
theorem dX4_liveOnes_18 : decode cX4_liveOnes 18 = .ok (.iload_n 2, 1) := dk_28 (dk_at dksX4_liveOnes_0 18 rfl rfl)
theorem dX4_liveOnes_19 : decode cX4_liveOnes 19 = .ok (.invokevirtual 59, 3) := dk_182 0 59 (dk_at dksX4_liveOnes_0 19 rfl rfl)
theorem dX4_liveOnes_22 : decode cX4_liveOnes 22 = .ok (.ifCond .eq 9, 3) := dk_153 0 9 (dk_at dksX4_liveOnes_1 0 rfl rfl)
theorem dX4_liveOnes_25 : decode cX4_liveOnes 25 = .ok (.iconst 1, 1) := dk_4 (dk_at dksX4_liveOnes_1 3 rfl rfl)
theorem dX4_liveOnes_26 : decode cX4_liveOnes 26 = .ok (.iload_n 2, 1) := dk_28 (dk_at dksX4_liveOnes_1 4 rfl rfl)
theorem dX4_liveOnes_27 : decode cX4_liveOnes 27 = .ok (.ishl, 1) := dk_120 (dk_at dksX4_liveOnes_1 5 rfl rfl)
theorem dX4_liveOnes_28 : decode cX4_liveOnes 28 = .ok (.goto 4, 3) := dk_167 0 4 (dk_at dksX4_liveOnes_1 6 rfl rfl)
theorem dX4_liveOnes_31 : decode cX4_liveOnes 31 = .ok (.iconst 0, 1) := dk_3 (dk_at dksX4_liveOnes_1 9 rfl rfl)
theorem dX4_liveOnes_32 : decode cX4_liveOnes 32 = .ok (.ior, 1) := dk_128 (dk_at dksX4_liveOnes_1 10 rfl rfl)
theorem dX4_liveOnes_33 : decode cX4_liveOnes 33 = .ok (.istore_n 1, 1) := dk_60 (dk_at dksX4_liveOnes_1 11 rfl rfl)
theorem dX4_liveOnes_34 : decode cX4_liveOnes 34 = .ok (.iinc 2 1, 3) := dk_132 2 1 (dk_at dksX4_liveOnes_1 12 rfl rfl)
theorem dX4_liveOnes_37 : decode cX4_liveOnes 37 = .ok (.goto (-33), 3) := dk_167 255 223 (dk_at dksX4_liveOnes_1 15 rfl rfl)
theorem dX4_liveOnes_40 : decode cX4_liveOnes 40 = .ok (.iload_n 1, 1) := dk_27 (dk_at dksX4_liveOnes_1 18 rfl rfl)
theorem dX4_liveOnes_41 : decode cX4_liveOnes 41 = .ok (.ireturn, 1) := dk_172 (dk_at dksX4_liveOnes_1 19 rfl rfl)
abbrev cX4_bits : ByteArray := prog_23_method_50_code
def yX4_bits : MethodName := ⟨RX4, "bits", "(I)I"⟩
def dkwX4_bits_0 : List UInt8 := [3, 60, 26, 61, 28, 153, 0, 15, 132, 1, 1, 28, 28, 4, 100, 126, 61, 167, 255, 243, 27, 172]
abbrev dktX4_bits_0 : List UInt8 := dkwX4_bits_0 ++ []
theorem dksX4_bits_0 : cX4_bits.data.toList.drop 0 = dktX4_bits_0 := by decide +kernel
theorem dX4_bits_0 : decode cX4_bits 0 = .ok (.iconst 0, 1) := dk_3 (dk_at dksX4_bits_0 0 rfl rfl)
theorem dX4_bits_1 : decode cX4_bits 1 = .ok (.istore_n 1, 1) := dk_60 (dk_at dksX4_bits_0 1 rfl rfl)
theorem dX4_bits_2 : decode cX4_bits 2 = .ok (.iload_n 0, 1) := dk_26 (dk_at dksX4_bits_0 2 rfl rfl)
theorem dX4_bits_3 : decode cX4_bits 3 = .ok (.istore_n 2, 1) := dk_61 (dk_at dksX4_bits_0 3 rfl rfl)
theorem dX4_bits_4 : decode cX4_bits 4 = .ok (.iload_n 2, 1) := dk_28 (dk_at dksX4_bits_0 4 rfl rfl)
theorem dX4_bits_5 : decode cX4_bits 5 = .ok (.ifCond .eq 15, 3) := dk_153 0 15 (dk_at dksX4_bits_0 5 rfl rfl)
theorem dX4_bits_8 : decode cX4_bits 8 = .ok (.iinc 1 1, 3) := dk_132 1 1 (dk_at dksX4_bits_0 8 rfl rfl)
theorem dX4_bits_11 : decode cX4_bits 11 = .ok (.iload_n 2, 1) := dk_28 (dk_at dksX4_bits_0 11 rfl rfl)
theorem dX4_bits_12 : decode cX4_bits 12 = .ok (.iload_n 2, 1) := dk_28 (dk_at dksX4_bits_0 12 rfl rfl)
theorem dX4_bits_13 : decode cX4_bits 13 = .ok (.iconst 1, 1) := dk_4 (dk_at dksX4_bits_0 13 rfl rfl)
theorem dX4_bits_14 : decode cX4_bits 14 = .ok (.isub, 1) := dk_100 (dk_at dksX4_bits_0 14 rfl rfl)
theorem dX4_bits_15 : decode cX4_bits 15 = .ok (.iand, 1) := dk_126 (dk_at dksX4_bits_0 15 rfl rfl)
theorem dX4_bits_16 : decode cX4_bits 16 = .ok (.istore_n 2, 1) := dk_61 (dk_at dksX4_bits_0 16 rfl rfl)
theorem dX4_bits_17 : decode cX4_bits 17 = .ok (.goto (-13), 3) := dk_167 255 243 (dk_at dksX4_bits_0 17 rfl rfl)
theorem dX4_bits_20 : decode cX4_bits 20 = .ok (.iload_n 1, 1) := dk_27 (dk_at dksX4_bits_0 20 rfl rfl)
theorem dX4_bits_21 : decode cX4_bits 21 = .ok (.ireturn, 1) := dk_172 (dk_at dksX4_bits_0 21 rfl rfl)
abbrev cX4_stops : ByteArray := prog_23_method_14_code
def yX4_stops : MethodName := ⟨RX4, "stops", "(I)V"⟩
def dkwX4_stops_3 : List UInt8 := [17, 3, 232, 27, 96, 182, 0, 84, 87, 132, 3, 1, 167, 255, 228, 177]
abbrev dktX4_stops_3 : List UInt8 := dkwX4_stops_3 ++ []
def dkwX4_stops_2 : List UInt8 := [16, 51, 3, 182, 0, 63, 3, 62, 29, 28, 162, 0, 29, 42, 42, 27, 16, 52, 29, 96, 182, 0, 55, 2]
abbrev dktX4_stops_2 : List UInt8 := dkwX4_stops_2 ++ dktX4_stops_3
def dkwX4_stops_1 : List UInt8 := [3, 182, 0, 63, 42, 27, 182, 0, 78, 42, 27, 182, 0, 81, 42, 27, 16, 51, 182, 0, 55, 61, 42, 27]
abbrev dktX4_stops_1 : List UInt8 := dkwX4_stops_1 ++ dktX4_stops_2
def dkwX4_stops_0 : List UInt8 := [42, 27, 182, 0, 75, 42, 27, 8, 3, 182, 0, 63, 42, 27, 16, 13, 3, 182, 0, 63, 42, 27, 16, 38]
abbrev dktX4_stops_0 : List UInt8 := dkwX4_stops_0 ++ dktX4_stops_1
theorem dksX4_stops_0 : cX4_stops.data.toList.drop 0 = dktX4_stops_0 := by decide +kernel
theorem dksX4_stops_1 : cX4_stops.data.toList.drop 24 = dktX4_stops_1 := dk_seg dksX4_stops_0 24 rfl rfl
theorem dksX4_stops_2 : cX4_stops.data.toList.drop 48 = dktX4_stops_2 := dk_seg dksX4_stops_1 24 rfl rfl
theorem dksX4_stops_3 : cX4_stops.data.toList.drop 72 = dktX4_stops_3 := dk_seg dksX4_stops_2 24 rfl rfl
theorem dX4_stops_0 : decode cX4_stops 0 = .ok (.aload_n 0, 1) := dk_42 (dk_at dksX4_stops_0 0 rfl rfl)
theorem dX4_stops_1 : decode cX4_stops 1 = .ok (.iload_n 1, 1) := dk_27 (dk_at dksX4_stops_0 1 rfl rfl)
theorem dX4_stops_2 : decode cX4_stops 2 = .ok (.invokevirtual 75, 3) := dk_182 0 75 (dk_at dksX4_stops_0 2 rfl rfl)
theorem dX4_stops_5 : decode cX4_stops 5 = .ok (.aload_n 0, 1) := dk_42 (dk_at dksX4_stops_0 5 rfl rfl)
theorem dX4_stops_6 : decode cX4_stops 6 = .ok (.iload_n 1, 1) := dk_27 (dk_at dksX4_stops_0 6 rfl rfl)
theorem dX4_stops_7 : decode cX4_stops 7 = .ok (.iconst 5, 1) := dk_8 (dk_at dksX4_stops_0 7 rfl rfl)
theorem dX4_stops_8 : decode cX4_stops 8 = .ok (.iconst 0, 1) := dk_3 (dk_at dksX4_stops_0 8 rfl rfl)
theorem dX4_stops_9 : decode cX4_stops 9 = .ok (.invokevirtual 63, 3) := dk_182 0 63 (dk_at dksX4_stops_0 9 rfl rfl)
theorem dX4_stops_12 : decode cX4_stops 12 = .ok (.aload_n 0, 1) := dk_42 (dk_at dksX4_stops_0 12 rfl rfl)
theorem dX4_stops_13 : decode cX4_stops 13 = .ok (.iload_n 1, 1) := dk_27 (dk_at dksX4_stops_0 13 rfl rfl)
theorem dX4_stops_14 : decode cX4_stops 14 = .ok (.bipush 13, 2) := dk_16 13 (dk_at dksX4_stops_0 14 rfl rfl)
theorem dX4_stops_16 : decode cX4_stops 16 = .ok (.iconst 0, 1) := dk_3 (dk_at dksX4_stops_0 16 rfl rfl)
theorem dX4_stops_17 : decode cX4_stops 17 = .ok (.invokevirtual 63, 3) := dk_182 0 63 (dk_at dksX4_stops_0 17 rfl rfl)
theorem dX4_stops_20 : decode cX4_stops 20 = .ok (.aload_n 0, 1) := dk_42 (dk_at dksX4_stops_0 20 rfl rfl)
theorem dX4_stops_21 : decode cX4_stops 21 = .ok (.iload_n 1, 1) := dk_27 (dk_at dksX4_stops_0 21 rfl rfl)
theorem dX4_stops_22 : decode cX4_stops 22 = .ok (.bipush 38, 2) := dk_16 38 (dk_at dksX4_stops_0 22 rfl rfl)
theorem dX4_stops_24 : decode cX4_stops 24 = .ok (.iconst 0, 1) := dk_3 (dk_at dksX4_stops_1 0 rfl rfl)
theorem dX4_stops_25 : decode cX4_stops 25 = .ok (.invokevirtual 63, 3) := dk_182 0 63 (dk_at dksX4_stops_1 1 rfl rfl)
theorem dX4_stops_28 : decode cX4_stops 28 = .ok (.aload_n 0, 1) := dk_42 (dk_at dksX4_stops_1 4 rfl rfl)
theorem dX4_stops_29 : decode cX4_stops 29 = .ok (.iload_n 1, 1) := dk_27 (dk_at dksX4_stops_1 5 rfl rfl)
theorem dX4_stops_30 : decode cX4_stops 30 = .ok (.invokevirtual 78, 3) := dk_182 0 78 (dk_at dksX4_stops_1 6 rfl rfl)
theorem dX4_stops_33 : decode cX4_stops 33 = .ok (.aload_n 0, 1) := dk_42 (dk_at dksX4_stops_1 9 rfl rfl)
theorem dX4_stops_34 : decode cX4_stops 34 = .ok (.iload_n 1, 1) := dk_27 (dk_at dksX4_stops_1 10 rfl rfl)
theorem dX4_stops_35 : decode cX4_stops 35 = .ok (.invokevirtual 81, 3) := dk_182 0 81 (dk_at dksX4_stops_1 11 rfl rfl)
theorem dX4_stops_38 : decode cX4_stops 38 = .ok (.aload_n 0, 1) := dk_42 (dk_at dksX4_stops_1 14 rfl rfl)
theorem dX4_stops_39 : decode cX4_stops 39 = .ok (.iload_n 1, 1) := dk_27 (dk_at dksX4_stops_1 15 rfl rfl)
theorem dX4_stops_40 : decode cX4_stops 40 = .ok (.bipush 51, 2) := dk_16 51 (dk_at dksX4_stops_1 16 rfl rfl)
theorem dX4_stops_42 : decode cX4_stops 42 = .ok (.invokevirtual 55, 3) := dk_182 0 55 (dk_at dksX4_stops_1 18 rfl rfl)
theorem dX4_stops_45 : decode cX4_stops 45 = .ok (.istore_n 2, 1) := dk_61 (dk_at dksX4_stops_1 21 rfl rfl)
theorem dX4_stops_46 : decode cX4_stops 46 = .ok (.aload_n 0, 1) := dk_42 (dk_at dksX4_stops_1 22 rfl rfl)
theorem dX4_stops_47 : decode cX4_stops 47 = .ok (.iload_n 1, 1) := dk_27 (dk_at dksX4_stops_1 23 rfl rfl)
theorem dX4_stops_48 : decode cX4_stops 48 = .ok (.bipush 51, 2) := dk_16 51 (dk_at dksX4_stops_2 0 rfl rfl)
theorem dX4_stops_50 : decode cX4_stops 50 = .ok (.iconst 0, 1) := dk_3 (dk_at dksX4_stops_2 2 rfl rfl)
theorem dX4_stops_51 : decode cX4_stops 51 = .ok (.invokevirtual 63, 3) := dk_182 0 63 (dk_at dksX4_stops_2 3 rfl rfl)
theorem dX4_stops_54 : decode cX4_stops 54 = .ok (.iconst 0, 1) := dk_3 (dk_at dksX4_stops_2 6 rfl rfl)
theorem dX4_stops_55 : decode cX4_stops 55 = .ok (.istore_n 3, 1) := dk_62 (dk_at dksX4_stops_2 7 rfl rfl)
theorem dX4_stops_56 : decode cX4_stops 56 = .ok (.iload_n 3, 1) := dk_29 (dk_at dksX4_stops_2 8 rfl rfl)
theorem dX4_stops_57 : decode cX4_stops 57 = .ok (.iload_n 2, 1) := dk_28 (dk_at dksX4_stops_2 9 rfl rfl)
theorem dX4_stops_58 : decode cX4_stops 58 = .ok (.if_icmp .ge 29, 3) := dk_162 0 29 (dk_at dksX4_stops_2 10 rfl rfl)
theorem dX4_stops_61 : decode cX4_stops 61 = .ok (.aload_n 0, 1) := dk_42 (dk_at dksX4_stops_2 13 rfl rfl)
theorem dX4_stops_62 : decode cX4_stops 62 = .ok (.aload_n 0, 1) := dk_42 (dk_at dksX4_stops_2 14 rfl rfl)
theorem dX4_stops_63 : decode cX4_stops 63 = .ok (.iload_n 1, 1) := dk_27 (dk_at dksX4_stops_2 15 rfl rfl)
theorem dX4_stops_64 : decode cX4_stops 64 = .ok (.bipush 52, 2) := dk_16 52 (dk_at dksX4_stops_2 16 rfl rfl)
theorem dX4_stops_66 : decode cX4_stops 66 = .ok (.iload_n 3, 1) := dk_29 (dk_at dksX4_stops_2 18 rfl rfl)
theorem dX4_stops_67 : decode cX4_stops 67 = .ok (.iadd, 1) := dk_96 (dk_at dksX4_stops_2 19 rfl rfl)
theorem dX4_stops_68 : decode cX4_stops 68 = .ok (.invokevirtual 55, 3) := dk_182 0 55 (dk_at dksX4_stops_2 20 rfl rfl)
theorem dX4_stops_71 : decode cX4_stops 71 = .ok (.iconst (-1), 1) := dk_2 (dk_at dksX4_stops_2 23 rfl rfl)
theorem dX4_stops_72 : decode cX4_stops 72 = .ok (.sipush 1000, 3) := dk_17 3 232 (dk_at dksX4_stops_3 0 rfl rfl)
theorem dX4_stops_75 : decode cX4_stops 75 = .ok (.iload_n 1, 1) := dk_27 (dk_at dksX4_stops_3 3 rfl rfl)
theorem dX4_stops_76 : decode cX4_stops 76 = .ok (.iadd, 1) := dk_96 (dk_at dksX4_stops_3 4 rfl rfl)
theorem dX4_stops_77 : decode cX4_stops 77 = .ok (.invokevirtual 84, 3) := dk_182 0 84 (dk_at dksX4_stops_3 5 rfl rfl)
theorem dX4_stops_80 : decode cX4_stops 80 = .ok (.pop, 1) := dk_87 (dk_at dksX4_stops_3 8 rfl rfl)
theorem dX4_stops_81 : decode cX4_stops 81 = .ok (.iinc 3 1, 3) := dk_132 3 1 (dk_at dksX4_stops_3 9 rfl rfl)
theorem dX4_stops_84 : decode cX4_stops 84 = .ok (.goto (-28), 3) := dk_167 255 228 (dk_at dksX4_stops_3 12 rfl rfl)
theorem dX4_stops_87 : decode cX4_stops 87 = .ok (.return_, 1) := dk_177 (dk_at dksX4_stops_3 15 rfl rfl)
abbrev cX4_stopsChildren : ByteArray := prog_23_method_13_code
def yX4_stopsChildren : MethodName := ⟨RX4, "stopsChildren", "(I)V"⟩
def dkwX4_stopsChildren_1 : List UInt8 := [153, 0, 8, 42, 28, 182, 0, 71, 132, 2, 255, 167, 255, 234, 177]
abbrev dktX4_stopsChildren_1 : List UInt8 := dkwX4_stopsChildren_1 ++ []
def dkwX4_stopsChildren_0 : List UInt8 := [42, 180, 0, 9, 17, 3, 156, 46, 4, 100, 61, 28, 27, 164, 0, 23, 42, 28, 27, 182, 0, 67]
abbrev dktX4_stopsChildren_0 : List UInt8 := dkwX4_stopsChildren_0 ++ dktX4_stopsChildren_1
theorem dksX4_stopsChildren_0 : cX4_stopsChildren.data.toList.drop 0 = dktX4_stopsChildren_0 := by decide +kernel
theorem dksX4_stopsChildren_1 : cX4_stopsChildren.data.toList.drop 22 = dktX4_stopsChildren_1 := dk_seg dksX4_stopsChildren_0 22 rfl rfl
theorem dX4_stopsChildren_0 : decode cX4_stopsChildren 0 = .ok (.aload_n 0, 1) := dk_42 (dk_at dksX4_stopsChildren_0 0 rfl rfl)
theorem dX4_stopsChildren_1 : decode cX4_stopsChildren 1 = .ok (.getfield 9, 3) := dk_180 0 9 (dk_at dksX4_stopsChildren_0 1 rfl rfl)
theorem dX4_stopsChildren_4 : decode cX4_stopsChildren 4 = .ok (.sipush 924, 3) := dk_17 3 156 (dk_at dksX4_stopsChildren_0 4 rfl rfl)
theorem dX4_stopsChildren_7 : decode cX4_stopsChildren 7 = .ok (.iaload, 1) := dk_46 (dk_at dksX4_stopsChildren_0 7 rfl rfl)
theorem dX4_stopsChildren_8 : decode cX4_stopsChildren 8 = .ok (.iconst 1, 1) := dk_4 (dk_at dksX4_stopsChildren_0 8 rfl rfl)
theorem dX4_stopsChildren_9 : decode cX4_stopsChildren 9 = .ok (.isub, 1) := dk_100 (dk_at dksX4_stopsChildren_0 9 rfl rfl)
theorem dX4_stopsChildren_10 : decode cX4_stopsChildren 10 = .ok (.istore_n 2, 1) := dk_61 (dk_at dksX4_stopsChildren_0 10 rfl rfl)
theorem dX4_stopsChildren_11 : decode cX4_stopsChildren 11 = .ok (.iload_n 2, 1) := dk_28 (dk_at dksX4_stopsChildren_0 11 rfl rfl)
theorem dX4_stopsChildren_12 : decode cX4_stopsChildren 12 = .ok (.iload_n 1, 1) := dk_27 (dk_at dksX4_stopsChildren_0 12 rfl rfl)
theorem dX4_stopsChildren_13 : decode cX4_stopsChildren 13 = .ok (.if_icmp .le 23, 3) := dk_164 0 23 (dk_at dksX4_stopsChildren_0 13 rfl rfl)
theorem dX4_stopsChildren_16 : decode cX4_stopsChildren 16 = .ok (.aload_n 0, 1) := dk_42 (dk_at dksX4_stopsChildren_0 16 rfl rfl)
theorem dX4_stopsChildren_17 : decode cX4_stopsChildren 17 = .ok (.iload_n 2, 1) := dk_28 (dk_at dksX4_stopsChildren_0 17 rfl rfl)
theorem dX4_stopsChildren_18 : decode cX4_stopsChildren 18 = .ok (.iload_n 1, 1) := dk_27 (dk_at dksX4_stopsChildren_0 18 rfl rfl)
theorem dX4_stopsChildren_19 : decode cX4_stopsChildren 19 = .ok (.invokevirtual 67, 3) := dk_182 0 67 (dk_at dksX4_stopsChildren_0 19 rfl rfl)
theorem dX4_stopsChildren_22 : decode cX4_stopsChildren 22 = .ok (.ifCond .eq 8, 3) := dk_153 0 8 (dk_at dksX4_stopsChildren_1 0 rfl rfl)
theorem dX4_stopsChildren_25 : decode cX4_stopsChildren 25 = .ok (.aload_n 0, 1) := dk_42 (dk_at dksX4_stopsChildren_1 3 rfl rfl)
theorem dX4_stopsChildren_26 : decode cX4_stopsChildren 26 = .ok (.iload_n 2, 1) := dk_28 (dk_at dksX4_stopsChildren_1 4 rfl rfl)
theorem dX4_stopsChildren_27 : decode cX4_stopsChildren 27 = .ok (.invokevirtual 71, 3) := dk_182 0 71 (dk_at dksX4_stopsChildren_1 5 rfl rfl)
theorem dX4_stopsChildren_30 : decode cX4_stopsChildren 30 = .ok (.iinc 2 (-1), 3) := dk_132 2 255 (dk_at dksX4_stopsChildren_1 8 rfl rfl)
theorem dX4_stopsChildren_33 : decode cX4_stopsChildren 33 = .ok (.goto (-22), 3) := dk_167 255 234 (dk_at dksX4_stopsChildren_1 11 rfl rfl)
theorem dX4_stopsChildren_36 : decode cX4_stopsChildren 36 = .ok (.return_, 1) := dk_177 (dk_at dksX4_stopsChildren_1 14 rfl rfl)
abbrev cX4_isLiveChild : ByteArray := prog_23_method_8_code
def yX4_isLiveChild : MethodName := ⟨RX4, "isLiveChild", "(II)Z"⟩
def dkwX4_isLiveChild_0 : List UInt8 := [42, 27, 3, 182, 0, 55, 28, 160, 0, 15, 42, 27, 182, 0, 59, 153, 0, 7, 4, 167, 0, 4, 3, 172]
abbrev dktX4_isLiveChild_0 : List UInt8 := dkwX4_isLiveChild_0 ++ []
theorem dksX4_isLiveChild_0 : cX4_isLiveChild.data.toList.drop 0 = dktX4_isLiveChild_0 := by decide +kernel
theorem dX4_isLiveChild_0 : decode cX4_isLiveChild 0 = .ok (.aload_n 0, 1) := dk_42 (dk_at dksX4_isLiveChild_0 0 rfl rfl)
theorem dX4_isLiveChild_1 : decode cX4_isLiveChild 1 = .ok (.iload_n 1, 1) := dk_27 (dk_at dksX4_isLiveChild_0 1 rfl rfl)
theorem dX4_isLiveChild_2 : decode cX4_isLiveChild 2 = .ok (.iconst 0, 1) := dk_3 (dk_at dksX4_isLiveChild_0 2 rfl rfl)
theorem dX4_isLiveChild_3 : decode cX4_isLiveChild 3 = .ok (.invokevirtual 55, 3) := dk_182 0 55 (dk_at dksX4_isLiveChild_0 3 rfl rfl)
theorem dX4_isLiveChild_6 : decode cX4_isLiveChild 6 = .ok (.iload_n 2, 1) := dk_28 (dk_at dksX4_isLiveChild_0 6 rfl rfl)
theorem dX4_isLiveChild_7 : decode cX4_isLiveChild 7 = .ok (.if_icmp .ne 15, 3) := dk_160 0 15 (dk_at dksX4_isLiveChild_0 7 rfl rfl)
theorem dX4_isLiveChild_10 : decode cX4_isLiveChild 10 = .ok (.aload_n 0, 1) := dk_42 (dk_at dksX4_isLiveChild_0 10 rfl rfl)
theorem dX4_isLiveChild_11 : decode cX4_isLiveChild 11 = .ok (.iload_n 1, 1) := dk_27 (dk_at dksX4_isLiveChild_0 11 rfl rfl)
theorem dX4_isLiveChild_12 : decode cX4_isLiveChild 12 = .ok (.invokevirtual 59, 3) := dk_182 0 59 (dk_at dksX4_isLiveChild_0 12 rfl rfl)
theorem dX4_isLiveChild_15 : decode cX4_isLiveChild 15 = .ok (.ifCond .eq 7, 3) := dk_153 0 7 (dk_at dksX4_isLiveChild_0 15 rfl rfl)
theorem dX4_isLiveChild_18 : decode cX4_isLiveChild 18 = .ok (.iconst 1, 1) := dk_4 (dk_at dksX4_isLiveChild_0 18 rfl rfl)
theorem dX4_isLiveChild_19 : decode cX4_isLiveChild 19 = .ok (.goto 4, 3) := dk_167 0 4 (dk_at dksX4_isLiveChild_0 19 rfl rfl)
theorem dX4_isLiveChild_22 : decode cX4_isLiveChild 22 = .ok (.iconst 0, 1) := dk_3 (dk_at dksX4_isLiveChild_0 22 rfl rfl)
theorem dX4_isLiveChild_23 : decode cX4_isLiveChild 23 = .ok (.ireturn, 1) := dk_172 (dk_at dksX4_isLiveChild_0 23 rfl rfl)
abbrev cX4_forgets : ByteArray := prog_23_method_11_code
def yX4_forgets : MethodName := ⟨RX4, "forgets", "(I)V"⟩
def dkwX4_forgets_4 : List UInt8 := [167, 255, 217, 132, 2, 1, 132, 3, 1, 167, 255, 177, 42, 180, 0, 9, 17, 3, 163, 28, 79, 177]
abbrev dktX4_forgets_4 : List UInt8 := dkwX4_forgets_4 ++ []
def dkwX4_forgets_3 : List UInt8 := [21, 4, 96, 42, 180, 0, 9, 17, 3, 164, 6, 29, 104, 96, 21, 4, 96, 46, 79, 132, 4, 1]
abbrev dktX4_forgets_3 : List UInt8 := dkwX4_forgets_3 ++ dktX4_forgets_4
def dkwX4_forgets_2 : List UInt8 := [159, 0, 51, 3, 54, 4, 21, 4, 6, 162, 0, 39, 42, 180, 0, 9, 17, 3, 164, 6, 28, 104, 96]
abbrev dktX4_forgets_2 : List UInt8 := dkwX4_forgets_2 ++ dktX4_forgets_3
def dkwX4_forgets_1 : List UInt8 := [180, 0, 9, 17, 3, 163, 46, 162, 0, 73, 42, 180, 0, 9, 17, 3, 164, 6, 29, 104, 96, 46, 27]
abbrev dktX4_forgets_1 : List UInt8 := dkwX4_forgets_1 ++ dktX4_forgets_2
def dkwX4_forgets_0 : List UInt8 := [42, 27, 16, 7, 4, 182, 0, 63, 42, 27, 16, 64, 3, 182, 0, 63, 3, 61, 3, 62, 29, 42]
abbrev dktX4_forgets_0 : List UInt8 := dkwX4_forgets_0 ++ dktX4_forgets_1
theorem dksX4_forgets_0 : cX4_forgets.data.toList.drop 0 = dktX4_forgets_0 := by decide +kernel
theorem dksX4_forgets_1 : cX4_forgets.data.toList.drop 22 = dktX4_forgets_1 := dk_seg dksX4_forgets_0 22 rfl rfl
theorem dksX4_forgets_2 : cX4_forgets.data.toList.drop 45 = dktX4_forgets_2 := dk_seg dksX4_forgets_1 23 rfl rfl
theorem dksX4_forgets_3 : cX4_forgets.data.toList.drop 68 = dktX4_forgets_3 := dk_seg dksX4_forgets_2 23 rfl rfl
theorem dksX4_forgets_4 : cX4_forgets.data.toList.drop 90 = dktX4_forgets_4 := dk_seg dksX4_forgets_3 22 rfl rfl
theorem dX4_forgets_0 : decode cX4_forgets 0 = .ok (.aload_n 0, 1) := dk_42 (dk_at dksX4_forgets_0 0 rfl rfl)
theorem dX4_forgets_1 : decode cX4_forgets 1 = .ok (.iload_n 1, 1) := dk_27 (dk_at dksX4_forgets_0 1 rfl rfl)
theorem dX4_forgets_2 : decode cX4_forgets 2 = .ok (.bipush 7, 2) := dk_16 7 (dk_at dksX4_forgets_0 2 rfl rfl)
theorem dX4_forgets_4 : decode cX4_forgets 4 = .ok (.iconst 1, 1) := dk_4 (dk_at dksX4_forgets_0 4 rfl rfl)
theorem dX4_forgets_5 : decode cX4_forgets 5 = .ok (.invokevirtual 63, 3) := dk_182 0 63 (dk_at dksX4_forgets_0 5 rfl rfl)
theorem dX4_forgets_8 : decode cX4_forgets 8 = .ok (.aload_n 0, 1) := dk_42 (dk_at dksX4_forgets_0 8 rfl rfl)
theorem dX4_forgets_9 : decode cX4_forgets 9 = .ok (.iload_n 1, 1) := dk_27 (dk_at dksX4_forgets_0 9 rfl rfl)
theorem dX4_forgets_10 : decode cX4_forgets 10 = .ok (.bipush 64, 2) := dk_16 64 (dk_at dksX4_forgets_0 10 rfl rfl)
theorem dX4_forgets_12 : decode cX4_forgets 12 = .ok (.iconst 0, 1) := dk_3 (dk_at dksX4_forgets_0 12 rfl rfl)
theorem dX4_forgets_13 : decode cX4_forgets 13 = .ok (.invokevirtual 63, 3) := dk_182 0 63 (dk_at dksX4_forgets_0 13 rfl rfl)
theorem dX4_forgets_16 : decode cX4_forgets 16 = .ok (.iconst 0, 1) := dk_3 (dk_at dksX4_forgets_0 16 rfl rfl)
theorem dX4_forgets_17 : decode cX4_forgets 17 = .ok (.istore_n 2, 1) := dk_61 (dk_at dksX4_forgets_0 17 rfl rfl)
theorem dX4_forgets_18 : decode cX4_forgets 18 = .ok (.iconst 0, 1) := dk_3 (dk_at dksX4_forgets_0 18 rfl rfl)
theorem dX4_forgets_19 : decode cX4_forgets 19 = .ok (.istore_n 3, 1) := dk_62 (dk_at dksX4_forgets_0 19 rfl rfl)
theorem dX4_forgets_20 : decode cX4_forgets 20 = .ok (.iload_n 3, 1) := dk_29 (dk_at dksX4_forgets_0 20 rfl rfl)
theorem dX4_forgets_21 : decode cX4_forgets 21 = .ok (.aload_n 0, 1) := dk_42 (dk_at dksX4_forgets_0 21 rfl rfl)
theorem dX4_forgets_22 : decode cX4_forgets 22 = .ok (.getfield 9, 3) := dk_180 0 9 (dk_at dksX4_forgets_1 0 rfl rfl)
theorem dX4_forgets_25 : decode cX4_forgets 25 = .ok (.sipush 931, 3) := dk_17 3 163 (dk_at dksX4_forgets_1 3 rfl rfl)
theorem dX4_forgets_28 : decode cX4_forgets 28 = .ok (.iaload, 1) := dk_46 (dk_at dksX4_forgets_1 6 rfl rfl)
theorem dX4_forgets_29 : decode cX4_forgets 29 = .ok (.if_icmp .ge 73, 3) := dk_162 0 73 (dk_at dksX4_forgets_1 7 rfl rfl)
theorem dX4_forgets_32 : decode cX4_forgets 32 = .ok (.aload_n 0, 1) := dk_42 (dk_at dksX4_forgets_1 10 rfl rfl)
theorem dX4_forgets_33 : decode cX4_forgets 33 = .ok (.getfield 9, 3) := dk_180 0 9 (dk_at dksX4_forgets_1 11 rfl rfl)
theorem dX4_forgets_36 : decode cX4_forgets 36 = .ok (.sipush 932, 3) := dk_17 3 164 (dk_at dksX4_forgets_1 14 rfl rfl)
theorem dX4_forgets_39 : decode cX4_forgets 39 = .ok (.iconst 3, 1) := dk_6 (dk_at dksX4_forgets_1 17 rfl rfl)
theorem dX4_forgets_40 : decode cX4_forgets 40 = .ok (.iload_n 3, 1) := dk_29 (dk_at dksX4_forgets_1 18 rfl rfl)
theorem dX4_forgets_41 : decode cX4_forgets 41 = .ok (.imul, 1) := dk_104 (dk_at dksX4_forgets_1 19 rfl rfl)
theorem dX4_forgets_42 : decode cX4_forgets 42 = .ok (.iadd, 1) := dk_96 (dk_at dksX4_forgets_1 20 rfl rfl)
theorem dX4_forgets_43 : decode cX4_forgets 43 = .ok (.iaload, 1) := dk_46 (dk_at dksX4_forgets_1 21 rfl rfl)
theorem dX4_forgets_44 : decode cX4_forgets 44 = .ok (.iload_n 1, 1) := dk_27 (dk_at dksX4_forgets_1 22 rfl rfl)
theorem dX4_forgets_45 : decode cX4_forgets 45 = .ok (.if_icmp .eq 51, 3) := dk_159 0 51 (dk_at dksX4_forgets_2 0 rfl rfl)
theorem dX4_forgets_48 : decode cX4_forgets 48 = .ok (.iconst 0, 1) := dk_3 (dk_at dksX4_forgets_2 3 rfl rfl)
theorem dX4_forgets_49 : decode cX4_forgets 49 = .ok (.istore 4, 2) := dk_54 4 (dk_at dksX4_forgets_2 4 rfl rfl)
theorem dX4_forgets_51 : decode cX4_forgets 51 = .ok (.iload 4, 2) := dk_21 4 (dk_at dksX4_forgets_2 6 rfl rfl)
theorem dX4_forgets_53 : decode cX4_forgets 53 = .ok (.iconst 3, 1) := dk_6 (dk_at dksX4_forgets_2 8 rfl rfl)
theorem dX4_forgets_54 : decode cX4_forgets 54 = .ok (.if_icmp .ge 39, 3) := dk_162 0 39 (dk_at dksX4_forgets_2 9 rfl rfl)
theorem dX4_forgets_57 : decode cX4_forgets 57 = .ok (.aload_n 0, 1) := dk_42 (dk_at dksX4_forgets_2 12 rfl rfl)
theorem dX4_forgets_58 : decode cX4_forgets 58 = .ok (.getfield 9, 3) := dk_180 0 9 (dk_at dksX4_forgets_2 13 rfl rfl)
theorem dX4_forgets_61 : decode cX4_forgets 61 = .ok (.sipush 932, 3) := dk_17 3 164 (dk_at dksX4_forgets_2 16 rfl rfl)
theorem dX4_forgets_64 : decode cX4_forgets 64 = .ok (.iconst 3, 1) := dk_6 (dk_at dksX4_forgets_2 19 rfl rfl)
theorem dX4_forgets_65 : decode cX4_forgets 65 = .ok (.iload_n 2, 1) := dk_28 (dk_at dksX4_forgets_2 20 rfl rfl)
theorem dX4_forgets_66 : decode cX4_forgets 66 = .ok (.imul, 1) := dk_104 (dk_at dksX4_forgets_2 21 rfl rfl)
theorem dX4_forgets_67 : decode cX4_forgets 67 = .ok (.iadd, 1) := dk_96 (dk_at dksX4_forgets_2 22 rfl rfl)
theorem dX4_forgets_68 : decode cX4_forgets 68 = .ok (.iload 4, 2) := dk_21 4 (dk_at dksX4_forgets_3 0 rfl rfl)
theorem dX4_forgets_70 : decode cX4_forgets 70 = .ok (.iadd, 1) := dk_96 (dk_at dksX4_forgets_3 2 rfl rfl)
theorem dX4_forgets_71 : decode cX4_forgets 71 = .ok (.aload_n 0, 1) := dk_42 (dk_at dksX4_forgets_3 3 rfl rfl)
theorem dX4_forgets_72 : decode cX4_forgets 72 = .ok (.getfield 9, 3) := dk_180 0 9 (dk_at dksX4_forgets_3 4 rfl rfl)
theorem dX4_forgets_75 : decode cX4_forgets 75 = .ok (.sipush 932, 3) := dk_17 3 164 (dk_at dksX4_forgets_3 7 rfl rfl)
theorem dX4_forgets_78 : decode cX4_forgets 78 = .ok (.iconst 3, 1) := dk_6 (dk_at dksX4_forgets_3 10 rfl rfl)
theorem dX4_forgets_79 : decode cX4_forgets 79 = .ok (.iload_n 3, 1) := dk_29 (dk_at dksX4_forgets_3 11 rfl rfl)
theorem dX4_forgets_80 : decode cX4_forgets 80 = .ok (.imul, 1) := dk_104 (dk_at dksX4_forgets_3 12 rfl rfl)
theorem dX4_forgets_81 : decode cX4_forgets 81 = .ok (.iadd, 1) := dk_96 (dk_at dksX4_forgets_3 13 rfl rfl)
theorem dX4_forgets_82 : decode cX4_forgets 82 = .ok (.iload 4, 2) := dk_21 4 (dk_at dksX4_forgets_3 14 rfl rfl)
theorem dX4_forgets_84 : decode cX4_forgets 84 = .ok (.iadd, 1) := dk_96 (dk_at dksX4_forgets_3 16 rfl rfl)
theorem dX4_forgets_85 : decode cX4_forgets 85 = .ok (.iaload, 1) := dk_46 (dk_at dksX4_forgets_3 17 rfl rfl)
theorem dX4_forgets_86 : decode cX4_forgets 86 = .ok (.iastore, 1) := dk_79 (dk_at dksX4_forgets_3 18 rfl rfl)
theorem dX4_forgets_87 : decode cX4_forgets 87 = .ok (.iinc 4 1, 3) := dk_132 4 1 (dk_at dksX4_forgets_3 19 rfl rfl)
theorem dX4_forgets_90 : decode cX4_forgets 90 = .ok (.goto (-39), 3) := dk_167 255 217 (dk_at dksX4_forgets_4 0 rfl rfl)
theorem dX4_forgets_93 : decode cX4_forgets 93 = .ok (.iinc 2 1, 3) := dk_132 2 1 (dk_at dksX4_forgets_4 3 rfl rfl)
theorem dX4_forgets_96 : decode cX4_forgets 96 = .ok (.iinc 3 1, 3) := dk_132 3 1 (dk_at dksX4_forgets_4 6 rfl rfl)
theorem dX4_forgets_99 : decode cX4_forgets 99 = .ok (.goto (-79), 3) := dk_167 255 177 (dk_at dksX4_forgets_4 9 rfl rfl)
theorem dX4_forgets_102 : decode cX4_forgets 102 = .ok (.aload_n 0, 1) := dk_42 (dk_at dksX4_forgets_4 12 rfl rfl)
theorem dX4_forgets_103 : decode cX4_forgets 103 = .ok (.getfield 9, 3) := dk_180 0 9 (dk_at dksX4_forgets_4 13 rfl rfl)
theorem dX4_forgets_106 : decode cX4_forgets 106 = .ok (.sipush 931, 3) := dk_17 3 163 (dk_at dksX4_forgets_4 16 rfl rfl)
theorem dX4_forgets_109 : decode cX4_forgets 109 = .ok (.iload_n 2, 1) := dk_28 (dk_at dksX4_forgets_4 19 rfl rfl)
theorem dX4_forgets_110 : decode cX4_forgets 110 = .ok (.iastore, 1) := dk_79 (dk_at dksX4_forgets_4 20 rfl rfl)
theorem dX4_forgets_111 : decode cX4_forgets 111 = .ok (.return_, 1) := dk_177 (dk_at dksX4_forgets_4 21 rfl rfl)
abbrev cX4_unwatches : ByteArray := prog_23_method_12_code
def yX4_unwatches : MethodName := ⟨RX4, "unwatches", "(I)V"⟩
def dkwX4_unwatches_3 : List UInt8 := [132, 3, 1, 132, 5, 1, 167, 255, 210, 42, 28, 16, 51, 29, 182, 0, 63, 132, 2, 1, 167, 255, 170, 177]
abbrev dktX4_unwatches_3 : List UInt8 := dkwX4_unwatches_3 ++ []
def dkwX4_unwatches_2 : List UInt8 := [159, 0, 25, 42, 28, 16, 52, 29, 96, 42, 28, 16, 52, 21, 5, 96, 182, 0, 55, 182, 0, 63]
abbrev dktX4_unwatches_2 : List UInt8 := dkwX4_unwatches_2 ++ dktX4_unwatches_3
def dkwX4_unwatches_1 : List UInt8 := [54, 4, 3, 54, 5, 21, 5, 21, 4, 162, 0, 45, 42, 28, 16, 52, 21, 5, 96, 182, 0, 55, 27]
abbrev dktX4_unwatches_1 : List UInt8 := dkwX4_unwatches_1 ++ dktX4_unwatches_2
def dkwX4_unwatches_0 : List UInt8 := [3, 61, 28, 42, 180, 0, 9, 17, 3, 156, 46, 162, 0, 80, 3, 62, 42, 28, 16, 51, 182, 0, 55]
abbrev dktX4_unwatches_0 : List UInt8 := dkwX4_unwatches_0 ++ dktX4_unwatches_1
theorem dksX4_unwatches_0 : cX4_unwatches.data.toList.drop 0 = dktX4_unwatches_0 := by decide +kernel
theorem dksX4_unwatches_1 : cX4_unwatches.data.toList.drop 23 = dktX4_unwatches_1 := dk_seg dksX4_unwatches_0 23 rfl rfl
theorem dksX4_unwatches_2 : cX4_unwatches.data.toList.drop 46 = dktX4_unwatches_2 := dk_seg dksX4_unwatches_1 23 rfl rfl
theorem dksX4_unwatches_3 : cX4_unwatches.data.toList.drop 68 = dktX4_unwatches_3 := dk_seg dksX4_unwatches_2 22 rfl rfl
theorem dX4_unwatches_0 : decode cX4_unwatches 0 = .ok (.iconst 0, 1) := dk_3 (dk_at dksX4_unwatches_0 0 rfl rfl)
theorem dX4_unwatches_1 : decode cX4_unwatches 1 = .ok (.istore_n 2, 1) := dk_61 (dk_at dksX4_unwatches_0 1 rfl rfl)
theorem dX4_unwatches_2 : decode cX4_unwatches 2 = .ok (.iload_n 2, 1) := dk_28 (dk_at dksX4_unwatches_0 2 rfl rfl)
theorem dX4_unwatches_3 : decode cX4_unwatches 3 = .ok (.aload_n 0, 1) := dk_42 (dk_at dksX4_unwatches_0 3 rfl rfl)
theorem dX4_unwatches_4 : decode cX4_unwatches 4 = .ok (.getfield 9, 3) := dk_180 0 9 (dk_at dksX4_unwatches_0 4 rfl rfl)
theorem dX4_unwatches_7 : decode cX4_unwatches 7 = .ok (.sipush 924, 3) := dk_17 3 156 (dk_at dksX4_unwatches_0 7 rfl rfl)
theorem dX4_unwatches_10 : decode cX4_unwatches 10 = .ok (.iaload, 1) := dk_46 (dk_at dksX4_unwatches_0 10 rfl rfl)
theorem dX4_unwatches_11 : decode cX4_unwatches 11 = .ok (.if_icmp .ge 80, 3) := dk_162 0 80 (dk_at dksX4_unwatches_0 11 rfl rfl)
theorem dX4_unwatches_14 : decode cX4_unwatches 14 = .ok (.iconst 0, 1) := dk_3 (dk_at dksX4_unwatches_0 14 rfl rfl)
theorem dX4_unwatches_15 : decode cX4_unwatches 15 = .ok (.istore_n 3, 1) := dk_62 (dk_at dksX4_unwatches_0 15 rfl rfl)
theorem dX4_unwatches_16 : decode cX4_unwatches 16 = .ok (.aload_n 0, 1) := dk_42 (dk_at dksX4_unwatches_0 16 rfl rfl)
theorem dX4_unwatches_17 : decode cX4_unwatches 17 = .ok (.iload_n 2, 1) := dk_28 (dk_at dksX4_unwatches_0 17 rfl rfl)
theorem dX4_unwatches_18 : decode cX4_unwatches 18 = .ok (.bipush 51, 2) := dk_16 51 (dk_at dksX4_unwatches_0 18 rfl rfl)
theorem dX4_unwatches_20 : decode cX4_unwatches 20 = .ok (.invokevirtual 55, 3) := dk_182 0 55 (dk_at dksX4_unwatches_0 20 rfl rfl)
theorem dX4_unwatches_23 : decode cX4_unwatches 23 = .ok (.istore 4, 2) := dk_54 4 (dk_at dksX4_unwatches_1 0 rfl rfl)
theorem dX4_unwatches_25 : decode cX4_unwatches 25 = .ok (.iconst 0, 1) := dk_3 (dk_at dksX4_unwatches_1 2 rfl rfl)
theorem dX4_unwatches_26 : decode cX4_unwatches 26 = .ok (.istore 5, 2) := dk_54 5 (dk_at dksX4_unwatches_1 3 rfl rfl)
theorem dX4_unwatches_28 : decode cX4_unwatches 28 = .ok (.iload 5, 2) := dk_21 5 (dk_at dksX4_unwatches_1 5 rfl rfl)
theorem dX4_unwatches_30 : decode cX4_unwatches 30 = .ok (.iload 4, 2) := dk_21 4 (dk_at dksX4_unwatches_1 7 rfl rfl)
theorem dX4_unwatches_32 : decode cX4_unwatches 32 = .ok (.if_icmp .ge 45, 3) := dk_162 0 45 (dk_at dksX4_unwatches_1 9 rfl rfl)
theorem dX4_unwatches_35 : decode cX4_unwatches 35 = .ok (.aload_n 0, 1) := dk_42 (dk_at dksX4_unwatches_1 12 rfl rfl)
theorem dX4_unwatches_36 : decode cX4_unwatches 36 = .ok (.iload_n 2, 1) := dk_28 (dk_at dksX4_unwatches_1 13 rfl rfl)
theorem dX4_unwatches_37 : decode cX4_unwatches 37 = .ok (.bipush 52, 2) := dk_16 52 (dk_at dksX4_unwatches_1 14 rfl rfl)
theorem dX4_unwatches_39 : decode cX4_unwatches 39 = .ok (.iload 5, 2) := dk_21 5 (dk_at dksX4_unwatches_1 16 rfl rfl)
theorem dX4_unwatches_41 : decode cX4_unwatches 41 = .ok (.iadd, 1) := dk_96 (dk_at dksX4_unwatches_1 18 rfl rfl)
theorem dX4_unwatches_42 : decode cX4_unwatches 42 = .ok (.invokevirtual 55, 3) := dk_182 0 55 (dk_at dksX4_unwatches_1 19 rfl rfl)
theorem dX4_unwatches_45 : decode cX4_unwatches 45 = .ok (.iload_n 1, 1) := dk_27 (dk_at dksX4_unwatches_1 22 rfl rfl)
theorem dX4_unwatches_46 : decode cX4_unwatches 46 = .ok (.if_icmp .eq 25, 3) := dk_159 0 25 (dk_at dksX4_unwatches_2 0 rfl rfl)
theorem dX4_unwatches_49 : decode cX4_unwatches 49 = .ok (.aload_n 0, 1) := dk_42 (dk_at dksX4_unwatches_2 3 rfl rfl)
theorem dX4_unwatches_50 : decode cX4_unwatches 50 = .ok (.iload_n 2, 1) := dk_28 (dk_at dksX4_unwatches_2 4 rfl rfl)
theorem dX4_unwatches_51 : decode cX4_unwatches 51 = .ok (.bipush 52, 2) := dk_16 52 (dk_at dksX4_unwatches_2 5 rfl rfl)
theorem dX4_unwatches_53 : decode cX4_unwatches 53 = .ok (.iload_n 3, 1) := dk_29 (dk_at dksX4_unwatches_2 7 rfl rfl)
theorem dX4_unwatches_54 : decode cX4_unwatches 54 = .ok (.iadd, 1) := dk_96 (dk_at dksX4_unwatches_2 8 rfl rfl)
theorem dX4_unwatches_55 : decode cX4_unwatches 55 = .ok (.aload_n 0, 1) := dk_42 (dk_at dksX4_unwatches_2 9 rfl rfl)
theorem dX4_unwatches_56 : decode cX4_unwatches 56 = .ok (.iload_n 2, 1) := dk_28 (dk_at dksX4_unwatches_2 10 rfl rfl)
theorem dX4_unwatches_57 : decode cX4_unwatches 57 = .ok (.bipush 52, 2) := dk_16 52 (dk_at dksX4_unwatches_2 11 rfl rfl)
theorem dX4_unwatches_59 : decode cX4_unwatches 59 = .ok (.iload 5, 2) := dk_21 5 (dk_at dksX4_unwatches_2 13 rfl rfl)
theorem dX4_unwatches_61 : decode cX4_unwatches 61 = .ok (.iadd, 1) := dk_96 (dk_at dksX4_unwatches_2 15 rfl rfl)
theorem dX4_unwatches_62 : decode cX4_unwatches 62 = .ok (.invokevirtual 55, 3) := dk_182 0 55 (dk_at dksX4_unwatches_2 16 rfl rfl)
theorem dX4_unwatches_65 : decode cX4_unwatches 65 = .ok (.invokevirtual 63, 3) := dk_182 0 63 (dk_at dksX4_unwatches_2 19 rfl rfl)
theorem dX4_unwatches_68 : decode cX4_unwatches 68 = .ok (.iinc 3 1, 3) := dk_132 3 1 (dk_at dksX4_unwatches_3 0 rfl rfl)
theorem dX4_unwatches_71 : decode cX4_unwatches 71 = .ok (.iinc 5 1, 3) := dk_132 5 1 (dk_at dksX4_unwatches_3 3 rfl rfl)
theorem dX4_unwatches_74 : decode cX4_unwatches 74 = .ok (.goto (-46), 3) := dk_167 255 210 (dk_at dksX4_unwatches_3 6 rfl rfl)
theorem dX4_unwatches_77 : decode cX4_unwatches 77 = .ok (.aload_n 0, 1) := dk_42 (dk_at dksX4_unwatches_3 9 rfl rfl)
theorem dX4_unwatches_78 : decode cX4_unwatches 78 = .ok (.iload_n 2, 1) := dk_28 (dk_at dksX4_unwatches_3 10 rfl rfl)
theorem dX4_unwatches_79 : decode cX4_unwatches 79 = .ok (.bipush 51, 2) := dk_16 51 (dk_at dksX4_unwatches_3 11 rfl rfl)
theorem dX4_unwatches_81 : decode cX4_unwatches 81 = .ok (.iload_n 3, 1) := dk_29 (dk_at dksX4_unwatches_3 13 rfl rfl)
theorem dX4_unwatches_82 : decode cX4_unwatches 82 = .ok (.invokevirtual 63, 3) := dk_182 0 63 (dk_at dksX4_unwatches_3 14 rfl rfl)
theorem dX4_unwatches_85 : decode cX4_unwatches 85 = .ok (.iinc 2 1, 3) := dk_132 2 1 (dk_at dksX4_unwatches_3 17 rfl rfl)
theorem dX4_unwatches_88 : decode cX4_unwatches 88 = .ok (.goto (-86), 3) := dk_167 255 170 (dk_at dksX4_unwatches_3 20 rfl rfl)
theorem dX4_unwatches_91 : decode cX4_unwatches 91 = .ok (.return_, 1) := dk_177 (dk_at dksX4_unwatches_3 23 rfl rfl)
abbrev cX4_run : ByteArray := prog_23_method_52_code
def yX4_run : MethodName := ⟨RX4, "run", "(I)I"⟩
def dkwX4_run_1 : List UInt8 := [17, 3, 162, 42, 180, 0, 158, 79, 28, 172]
abbrev dktX4_run_1 : List UInt8 := dkwX4_run_1 ++ []
def dkwX4_run_0 : List UInt8 := [27, 4, 17, 0, 200, 184, 0, 51, 154, 0, 5, 2, 172, 42, 27, 182, 0, 197, 61, 42, 180, 0, 9]
abbrev dktX4_run_0 : List UInt8 := dkwX4_run_0 ++ dktX4_run_1
theorem dksX4_run_0 : cX4_run.data.toList.drop 0 = dktX4_run_0 := by decide +kernel
theorem dksX4_run_1 : cX4_run.data.toList.drop 23 = dktX4_run_1 := dk_seg dksX4_run_0 23 rfl rfl
theorem dX4_run_0 : decode cX4_run 0 = .ok (.iload_n 1, 1) := dk_27 (dk_at dksX4_run_0 0 rfl rfl)
theorem dX4_run_1 : decode cX4_run 1 = .ok (.iconst 1, 1) := dk_4 (dk_at dksX4_run_0 1 rfl rfl)
theorem dX4_run_2 : decode cX4_run 2 = .ok (.sipush 200, 3) := dk_17 0 200 (dk_at dksX4_run_0 2 rfl rfl)
theorem dX4_run_5 : decode cX4_run 5 = .ok (.invokestatic 51, 3) := dk_184 0 51 (dk_at dksX4_run_0 5 rfl rfl)
theorem dX4_run_8 : decode cX4_run 8 = .ok (.ifCond .ne 5, 3) := dk_154 0 5 (dk_at dksX4_run_0 8 rfl rfl)
theorem dX4_run_11 : decode cX4_run 11 = .ok (.iconst (-1), 1) := dk_2 (dk_at dksX4_run_0 11 rfl rfl)
theorem dX4_run_12 : decode cX4_run 12 = .ok (.ireturn, 1) := dk_172 (dk_at dksX4_run_0 12 rfl rfl)
theorem dX4_run_13 : decode cX4_run 13 = .ok (.aload_n 0, 1) := dk_42 (dk_at dksX4_run_0 13 rfl rfl)
theorem dX4_run_14 : decode cX4_run 14 = .ok (.iload_n 1, 1) := dk_27 (dk_at dksX4_run_0 14 rfl rfl)
theorem dX4_run_15 : decode cX4_run 15 = .ok (.invokevirtual 197, 3) := dk_182 0 197 (dk_at dksX4_run_0 15 rfl rfl)
theorem dX4_run_18 : decode cX4_run 18 = .ok (.istore_n 2, 1) := dk_61 (dk_at dksX4_run_0 18 rfl rfl)
theorem dX4_run_19 : decode cX4_run 19 = .ok (.aload_n 0, 1) := dk_42 (dk_at dksX4_run_0 19 rfl rfl)
theorem dX4_run_20 : decode cX4_run 20 = .ok (.getfield 9, 3) := dk_180 0 9 (dk_at dksX4_run_0 20 rfl rfl)
theorem dX4_run_23 : decode cX4_run 23 = .ok (.sipush 930, 3) := dk_17 3 162 (dk_at dksX4_run_1 0 rfl rfl)
theorem dX4_run_26 : decode cX4_run 26 = .ok (.aload_n 0, 1) := dk_42 (dk_at dksX4_run_1 3 rfl rfl)
theorem dX4_run_27 : decode cX4_run 27 = .ok (.getfield 158, 3) := dk_180 0 158 (dk_at dksX4_run_1 4 rfl rfl)
theorem dX4_run_30 : decode cX4_run 30 = .ok (.iastore, 1) := dk_79 (dk_at dksX4_run_1 7 rfl rfl)
theorem dX4_run_31 : decode cX4_run 31 = .ok (.iload_n 2, 1) := dk_28 (dk_at dksX4_run_1 8 rfl rfl)
theorem dX4_run_32 : decode cX4_run 32 = .ok (.ireturn, 1) := dk_172 (dk_at dksX4_run_1 9 rfl rfl)
abbrev cX4_runs : ByteArray := prog_23_method_33_code
def yX4_runs : MethodName := ⟨RX4, "runs", "(I)I"⟩
def dkwX4_runs_0 : List UInt8 := [3, 61, 42, 28, 27, 182, 0, 161, 154, 0, 13, 42, 182, 0, 164, 132, 2, 1, 167, 255, 240, 28, 172]
abbrev dktX4_runs_0 : List UInt8 := dkwX4_runs_0 ++ []
theorem dksX4_runs_0 : cX4_runs.data.toList.drop 0 = dktX4_runs_0 := by decide +kernel
theorem dX4_runs_0 : decode cX4_runs 0 = .ok (.iconst 0, 1) := dk_3 (dk_at dksX4_runs_0 0 rfl rfl)
theorem dX4_runs_1 : decode cX4_runs 1 = .ok (.istore_n 2, 1) := dk_61 (dk_at dksX4_runs_0 1 rfl rfl)
theorem dX4_runs_2 : decode cX4_runs 2 = .ok (.aload_n 0, 1) := dk_42 (dk_at dksX4_runs_0 2 rfl rfl)
theorem dX4_runs_3 : decode cX4_runs 3 = .ok (.iload_n 2, 1) := dk_28 (dk_at dksX4_runs_0 3 rfl rfl)
theorem dX4_runs_4 : decode cX4_runs 4 = .ok (.iload_n 1, 1) := dk_27 (dk_at dksX4_runs_0 4 rfl rfl)
theorem dX4_runs_5 : decode cX4_runs 5 = .ok (.invokevirtual 161, 3) := dk_182 0 161 (dk_at dksX4_runs_0 5 rfl rfl)
theorem dX4_runs_8 : decode cX4_runs 8 = .ok (.ifCond .ne 13, 3) := dk_154 0 13 (dk_at dksX4_runs_0 8 rfl rfl)
theorem dX4_runs_11 : decode cX4_runs 11 = .ok (.aload_n 0, 1) := dk_42 (dk_at dksX4_runs_0 11 rfl rfl)
theorem dX4_runs_12 : decode cX4_runs 12 = .ok (.invokevirtual 164, 3) := dk_182 0 164 (dk_at dksX4_runs_0 12 rfl rfl)
theorem dX4_runs_15 : decode cX4_runs 15 = .ok (.iinc 2 1, 3) := dk_132 2 1 (dk_at dksX4_runs_0 15 rfl rfl)
theorem dX4_runs_18 : decode cX4_runs 18 = .ok (.goto (-16), 3) := dk_167 255 240 (dk_at dksX4_runs_0 18 rfl rfl)
theorem dX4_runs_21 : decode cX4_runs 21 = .ok (.iload_n 2, 1) := dk_28 (dk_at dksX4_runs_0 21 rfl rfl)
theorem dX4_runs_22 : decode cX4_runs 22 = .ok (.ireturn, 1) := dk_172 (dk_at dksX4_runs_0 22 rfl rfl)
abbrev cX4_isEnd : ByteArray := prog_23_method_32_code
def yX4_isEnd : MethodName := ⟨RX4, "isEnd", "(II)Z"⟩
def dkwX4_isEnd_2 : List UInt8 := [160, 0, 7, 4, 167, 0, 4, 3, 172]
abbrev dktX4_isEnd_2 : List UInt8 := dkwX4_isEnd_2 ++ []
def dkwX4_isEnd_1 : List UInt8 := [42, 182, 0, 154, 154, 0, 7, 4, 167, 0, 4, 3, 181, 0, 158, 42, 180, 0, 158, 157, 0, 8, 27, 28]
abbrev dktX4_isEnd_1 : List UInt8 := dkwX4_isEnd_1 ++ dktX4_isEnd_2
def dkwX4_isEnd_0 : List UInt8 := [42, 42, 180, 0, 9, 17, 3, 156, 46, 158, 0, 15, 42, 3, 182, 0, 59, 154, 0, 7, 5, 167, 0, 15]
abbrev dktX4_isEnd_0 : List UInt8 := dkwX4_isEnd_0 ++ dktX4_isEnd_1
theorem dksX4_isEnd_0 : cX4_isEnd.data.toList.drop 0 = dktX4_isEnd_0 := by decide +kernel
theorem dksX4_isEnd_1 : cX4_isEnd.data.toList.drop 24 = dktX4_isEnd_1 := dk_seg dksX4_isEnd_0 24 rfl rfl
theorem dksX4_isEnd_2 : cX4_isEnd.data.toList.drop 48 = dktX4_isEnd_2 := dk_seg dksX4_isEnd_1 24 rfl rfl
theorem dX4_isEnd_0 : decode cX4_isEnd 0 = .ok (.aload_n 0, 1) := dk_42 (dk_at dksX4_isEnd_0 0 rfl rfl)
theorem dX4_isEnd_1 : decode cX4_isEnd 1 = .ok (.aload_n 0, 1) := dk_42 (dk_at dksX4_isEnd_0 1 rfl rfl)
theorem dX4_isEnd_2 : decode cX4_isEnd 2 = .ok (.getfield 9, 3) := dk_180 0 9 (dk_at dksX4_isEnd_0 2 rfl rfl)
theorem dX4_isEnd_5 : decode cX4_isEnd 5 = .ok (.sipush 924, 3) := dk_17 3 156 (dk_at dksX4_isEnd_0 5 rfl rfl)
theorem dX4_isEnd_8 : decode cX4_isEnd 8 = .ok (.iaload, 1) := dk_46 (dk_at dksX4_isEnd_0 8 rfl rfl)
theorem dX4_isEnd_9 : decode cX4_isEnd 9 = .ok (.ifCond .le 15, 3) := dk_158 0 15 (dk_at dksX4_isEnd_0 9 rfl rfl)
theorem dX4_isEnd_12 : decode cX4_isEnd 12 = .ok (.aload_n 0, 1) := dk_42 (dk_at dksX4_isEnd_0 12 rfl rfl)
theorem dX4_isEnd_13 : decode cX4_isEnd 13 = .ok (.iconst 0, 1) := dk_3 (dk_at dksX4_isEnd_0 13 rfl rfl)
theorem dX4_isEnd_14 : decode cX4_isEnd 14 = .ok (.invokevirtual 59, 3) := dk_182 0 59 (dk_at dksX4_isEnd_0 14 rfl rfl)
theorem dX4_isEnd_17 : decode cX4_isEnd 17 = .ok (.ifCond .ne 7, 3) := dk_154 0 7 (dk_at dksX4_isEnd_0 17 rfl rfl)
theorem dX4_isEnd_20 : decode cX4_isEnd 20 = .ok (.iconst 2, 1) := dk_5 (dk_at dksX4_isEnd_0 20 rfl rfl)
theorem dX4_isEnd_21 : decode cX4_isEnd 21 = .ok (.goto 15, 3) := dk_167 0 15 (dk_at dksX4_isEnd_0 21 rfl rfl)
theorem dX4_isEnd_24 : decode cX4_isEnd 24 = .ok (.aload_n 0, 1) := dk_42 (dk_at dksX4_isEnd_1 0 rfl rfl)
theorem dX4_isEnd_25 : decode cX4_isEnd 25 = .ok (.invokevirtual 154, 3) := dk_182 0 154 (dk_at dksX4_isEnd_1 1 rfl rfl)
theorem dX4_isEnd_28 : decode cX4_isEnd 28 = .ok (.ifCond .ne 7, 3) := dk_154 0 7 (dk_at dksX4_isEnd_1 4 rfl rfl)
theorem dX4_isEnd_31 : decode cX4_isEnd 31 = .ok (.iconst 1, 1) := dk_4 (dk_at dksX4_isEnd_1 7 rfl rfl)
theorem dX4_isEnd_32 : decode cX4_isEnd 32 = .ok (.goto 4, 3) := dk_167 0 4 (dk_at dksX4_isEnd_1 8 rfl rfl)
theorem dX4_isEnd_35 : decode cX4_isEnd 35 = .ok (.iconst 0, 1) := dk_3 (dk_at dksX4_isEnd_1 11 rfl rfl)
theorem dX4_isEnd_36 : decode cX4_isEnd 36 = .ok (.putfield 158, 3) := dk_181 0 158 (dk_at dksX4_isEnd_1 12 rfl rfl)
theorem dX4_isEnd_39 : decode cX4_isEnd 39 = .ok (.aload_n 0, 1) := dk_42 (dk_at dksX4_isEnd_1 15 rfl rfl)
theorem dX4_isEnd_40 : decode cX4_isEnd 40 = .ok (.getfield 158, 3) := dk_180 0 158 (dk_at dksX4_isEnd_1 16 rfl rfl)
theorem dX4_isEnd_43 : decode cX4_isEnd 43 = .ok (.ifCond .gt 8, 3) := dk_157 0 8 (dk_at dksX4_isEnd_1 19 rfl rfl)
theorem dX4_isEnd_46 : decode cX4_isEnd 46 = .ok (.iload_n 1, 1) := dk_27 (dk_at dksX4_isEnd_1 22 rfl rfl)
theorem dX4_isEnd_47 : decode cX4_isEnd 47 = .ok (.iload_n 2, 1) := dk_28 (dk_at dksX4_isEnd_1 23 rfl rfl)
theorem dX4_isEnd_48 : decode cX4_isEnd 48 = .ok (.if_icmp .ne 7, 3) := dk_160 0 7 (dk_at dksX4_isEnd_2 0 rfl rfl)
theorem dX4_isEnd_51 : decode cX4_isEnd 51 = .ok (.iconst 1, 1) := dk_4 (dk_at dksX4_isEnd_2 3 rfl rfl)
theorem dX4_isEnd_52 : decode cX4_isEnd 52 = .ok (.goto 4, 3) := dk_167 0 4 (dk_at dksX4_isEnd_2 4 rfl rfl)
theorem dX4_isEnd_55 : decode cX4_isEnd 55 = .ok (.iconst 0, 1) := dk_3 (dk_at dksX4_isEnd_2 7 rfl rfl)
theorem dX4_isEnd_56 : decode cX4_isEnd 56 = .ok (.ireturn, 1) := dk_172 (dk_at dksX4_isEnd_2 8 rfl rfl)
abbrev cX4_hasStep : ByteArray := prog_23_method_28_code
def yX4_hasStep : MethodName := ⟨RX4, "hasStep", "()Z"⟩
def dkwX4_hasStep_0 : List UInt8 := [42, 182, 0, 135, 156, 0, 14, 42, 180, 0, 9, 17, 3, 163, 46, 158, 0, 7, 4, 167, 0, 4, 3, 172]
abbrev dktX4_hasStep_0 : List UInt8 := dkwX4_hasStep_0 ++ []
theorem dksX4_hasStep_0 : cX4_hasStep.data.toList.drop 0 = dktX4_hasStep_0 := by decide +kernel
theorem dX4_hasStep_0 : decode cX4_hasStep 0 = .ok (.aload_n 0, 1) := dk_42 (dk_at dksX4_hasStep_0 0 rfl rfl)
theorem dX4_hasStep_1 : decode cX4_hasStep 1 = .ok (.invokevirtual 135, 3) := dk_182 0 135 (dk_at dksX4_hasStep_0 1 rfl rfl)
theorem dX4_hasStep_4 : decode cX4_hasStep 4 = .ok (.ifCond .ge 14, 3) := dk_156 0 14 (dk_at dksX4_hasStep_0 4 rfl rfl)
theorem dX4_hasStep_7 : decode cX4_hasStep 7 = .ok (.aload_n 0, 1) := dk_42 (dk_at dksX4_hasStep_0 7 rfl rfl)
theorem dX4_hasStep_8 : decode cX4_hasStep 8 = .ok (.getfield 9, 3) := dk_180 0 9 (dk_at dksX4_hasStep_0 8 rfl rfl)
theorem dX4_hasStep_11 : decode cX4_hasStep 11 = .ok (.sipush 931, 3) := dk_17 3 163 (dk_at dksX4_hasStep_0 11 rfl rfl)
theorem dX4_hasStep_14 : decode cX4_hasStep 14 = .ok (.iaload, 1) := dk_46 (dk_at dksX4_hasStep_0 14 rfl rfl)
theorem dX4_hasStep_15 : decode cX4_hasStep 15 = .ok (.ifCond .le 7, 3) := dk_158 0 7 (dk_at dksX4_hasStep_0 15 rfl rfl)
theorem dX4_hasStep_18 : decode cX4_hasStep 18 = .ok (.iconst 1, 1) := dk_4 (dk_at dksX4_hasStep_0 18 rfl rfl)
theorem dX4_hasStep_19 : decode cX4_hasStep 19 = .ok (.goto 4, 3) := dk_167 0 4 (dk_at dksX4_hasStep_0 19 rfl rfl)
theorem dX4_hasStep_22 : decode cX4_hasStep 22 = .ok (.iconst 0, 1) := dk_3 (dk_at dksX4_hasStep_0 22 rfl rfl)
theorem dX4_hasStep_23 : decode cX4_hasStep 23 = .ok (.ireturn, 1) := dk_172 (dk_at dksX4_hasStep_0 23 rfl rfl)
abbrev cX4_nextActor : ByteArray := prog_23_method_26_code
def yX4_nextActor : MethodName := ⟨RX4, "nextActor", "()I"⟩
def dkwX4_nextActor_2 : List UInt8 := [16, 13, 182, 0, 55, 158, 0, 5, 28, 172, 132, 1, 1, 167, 255, 198, 16, 254, 172]
abbrev dktX4_nextActor_2 : List UInt8 := dkwX4_nextActor_2 ++ []
def dkwX4_nextActor_1 : List UInt8 := [61, 28, 42, 180, 0, 9, 17, 3, 156, 46, 162, 0, 23, 42, 28, 182, 0, 59, 153, 0, 15, 42, 28]
abbrev dktX4_nextActor_1 : List UInt8 := dkwX4_nextActor_1 ++ dktX4_nextActor_2
def dkwX4_nextActor_0 : List UInt8 := [4, 60, 27, 16, 12, 163, 0, 58, 42, 180, 0, 9, 17, 3, 160, 46, 27, 96, 16, 12, 96, 16, 12, 112]
abbrev dktX4_nextActor_0 : List UInt8 := dkwX4_nextActor_0 ++ dktX4_nextActor_1
theorem dksX4_nextActor_0 : cX4_nextActor.data.toList.drop 0 = dktX4_nextActor_0 := by decide +kernel
theorem dksX4_nextActor_1 : cX4_nextActor.data.toList.drop 24 = dktX4_nextActor_1 := dk_seg dksX4_nextActor_0 24 rfl rfl
theorem dksX4_nextActor_2 : cX4_nextActor.data.toList.drop 47 = dktX4_nextActor_2 := dk_seg dksX4_nextActor_1 23 rfl rfl
theorem dX4_nextActor_0 : decode cX4_nextActor 0 = .ok (.iconst 1, 1) := dk_4 (dk_at dksX4_nextActor_0 0 rfl rfl)
theorem dX4_nextActor_1 : decode cX4_nextActor 1 = .ok (.istore_n 1, 1) := dk_60 (dk_at dksX4_nextActor_0 1 rfl rfl)
theorem dX4_nextActor_2 : decode cX4_nextActor 2 = .ok (.iload_n 1, 1) := dk_27 (dk_at dksX4_nextActor_0 2 rfl rfl)
theorem dX4_nextActor_3 : decode cX4_nextActor 3 = .ok (.bipush 12, 2) := dk_16 12 (dk_at dksX4_nextActor_0 3 rfl rfl)
theorem dX4_nextActor_5 : decode cX4_nextActor 5 = .ok (.if_icmp .gt 58, 3) := dk_163 0 58 (dk_at dksX4_nextActor_0 5 rfl rfl)
theorem dX4_nextActor_8 : decode cX4_nextActor 8 = .ok (.aload_n 0, 1) := dk_42 (dk_at dksX4_nextActor_0 8 rfl rfl)
theorem dX4_nextActor_9 : decode cX4_nextActor 9 = .ok (.getfield 9, 3) := dk_180 0 9 (dk_at dksX4_nextActor_0 9 rfl rfl)
theorem dX4_nextActor_12 : decode cX4_nextActor 12 = .ok (.sipush 928, 3) := dk_17 3 160 (dk_at dksX4_nextActor_0 12 rfl rfl)
theorem dX4_nextActor_15 : decode cX4_nextActor 15 = .ok (.iaload, 1) := dk_46 (dk_at dksX4_nextActor_0 15 rfl rfl)
theorem dX4_nextActor_16 : decode cX4_nextActor 16 = .ok (.iload_n 1, 1) := dk_27 (dk_at dksX4_nextActor_0 16 rfl rfl)
theorem dX4_nextActor_17 : decode cX4_nextActor 17 = .ok (.iadd, 1) := dk_96 (dk_at dksX4_nextActor_0 17 rfl rfl)
theorem dX4_nextActor_18 : decode cX4_nextActor 18 = .ok (.bipush 12, 2) := dk_16 12 (dk_at dksX4_nextActor_0 18 rfl rfl)
theorem dX4_nextActor_20 : decode cX4_nextActor 20 = .ok (.iadd, 1) := dk_96 (dk_at dksX4_nextActor_0 20 rfl rfl)
theorem dX4_nextActor_21 : decode cX4_nextActor 21 = .ok (.bipush 12, 2) := dk_16 12 (dk_at dksX4_nextActor_0 21 rfl rfl)
theorem dX4_nextActor_23 : decode cX4_nextActor 23 = .ok (.irem, 1) := dk_112 (dk_at dksX4_nextActor_0 23 rfl rfl)
theorem dX4_nextActor_24 : decode cX4_nextActor 24 = .ok (.istore_n 2, 1) := dk_61 (dk_at dksX4_nextActor_1 0 rfl rfl)
theorem dX4_nextActor_25 : decode cX4_nextActor 25 = .ok (.iload_n 2, 1) := dk_28 (dk_at dksX4_nextActor_1 1 rfl rfl)
theorem dX4_nextActor_26 : decode cX4_nextActor 26 = .ok (.aload_n 0, 1) := dk_42 (dk_at dksX4_nextActor_1 2 rfl rfl)
theorem dX4_nextActor_27 : decode cX4_nextActor 27 = .ok (.getfield 9, 3) := dk_180 0 9 (dk_at dksX4_nextActor_1 3 rfl rfl)
theorem dX4_nextActor_30 : decode cX4_nextActor 30 = .ok (.sipush 924, 3) := dk_17 3 156 (dk_at dksX4_nextActor_1 6 rfl rfl)
theorem dX4_nextActor_33 : decode cX4_nextActor 33 = .ok (.iaload, 1) := dk_46 (dk_at dksX4_nextActor_1 9 rfl rfl)
theorem dX4_nextActor_34 : decode cX4_nextActor 34 = .ok (.if_icmp .ge 23, 3) := dk_162 0 23 (dk_at dksX4_nextActor_1 10 rfl rfl)
theorem dX4_nextActor_37 : decode cX4_nextActor 37 = .ok (.aload_n 0, 1) := dk_42 (dk_at dksX4_nextActor_1 13 rfl rfl)
theorem dX4_nextActor_38 : decode cX4_nextActor 38 = .ok (.iload_n 2, 1) := dk_28 (dk_at dksX4_nextActor_1 14 rfl rfl)
theorem dX4_nextActor_39 : decode cX4_nextActor 39 = .ok (.invokevirtual 59, 3) := dk_182 0 59 (dk_at dksX4_nextActor_1 15 rfl rfl)
theorem dX4_nextActor_42 : decode cX4_nextActor 42 = .ok (.ifCond .eq 15, 3) := dk_153 0 15 (dk_at dksX4_nextActor_1 18 rfl rfl)
theorem dX4_nextActor_45 : decode cX4_nextActor 45 = .ok (.aload_n 0, 1) := dk_42 (dk_at dksX4_nextActor_1 21 rfl rfl)
theorem dX4_nextActor_46 : decode cX4_nextActor 46 = .ok (.iload_n 2, 1) := dk_28 (dk_at dksX4_nextActor_1 22 rfl rfl)
theorem dX4_nextActor_47 : decode cX4_nextActor 47 = .ok (.bipush 13, 2) := dk_16 13 (dk_at dksX4_nextActor_2 0 rfl rfl)
theorem dX4_nextActor_49 : decode cX4_nextActor 49 = .ok (.invokevirtual 55, 3) := dk_182 0 55 (dk_at dksX4_nextActor_2 2 rfl rfl)
theorem dX4_nextActor_52 : decode cX4_nextActor 52 = .ok (.ifCond .le 5, 3) := dk_158 0 5 (dk_at dksX4_nextActor_2 5 rfl rfl)
theorem dX4_nextActor_55 : decode cX4_nextActor 55 = .ok (.iload_n 2, 1) := dk_28 (dk_at dksX4_nextActor_2 8 rfl rfl)
theorem dX4_nextActor_56 : decode cX4_nextActor 56 = .ok (.ireturn, 1) := dk_172 (dk_at dksX4_nextActor_2 9 rfl rfl)
theorem dX4_nextActor_57 : decode cX4_nextActor 57 = .ok (.iinc 1 1, 3) := dk_132 1 1 (dk_at dksX4_nextActor_2 10 rfl rfl)
theorem dX4_nextActor_60 : decode cX4_nextActor 60 = .ok (.goto (-58), 3) := dk_167 255 198 (dk_at dksX4_nextActor_2 13 rfl rfl)
theorem dX4_nextActor_63 : decode cX4_nextActor 63 = .ok (.bipush (-2), 2) := dk_16 254 (dk_at dksX4_nextActor_2 16 rfl rfl)
theorem dX4_nextActor_65 : decode cX4_nextActor 65 = .ok (.ireturn, 1) := dk_172 (dk_at dksX4_nextActor_2 18 rfl rfl)
abbrev cX4_step : ByteArray := prog_23_method_31_code
def yX4_step : MethodName := ⟨RX4, "step", "()V"⟩
def dkwX4_step_10 : List UInt8 := [182, 0, 84, 87, 177]
abbrev dktX4_step_10 : List UInt8 := dkwX4_step_10 ++ []
def dkwX4_step_9 : List UInt8 := [21, 5, 42, 180, 0, 9, 21, 5, 6, 96, 46, 79, 132, 5, 1, 167, 255, 218, 42, 29, 2, 21, 4]
abbrev dktX4_step_9 : List UInt8 := dkwX4_step_9 ++ dktX4_step_10
def dkwX4_step_8 : List UInt8 := [21, 5, 17, 3, 164, 6, 42, 180, 0, 9, 17, 3, 163, 46, 104, 96, 162, 0, 25, 42, 180, 0, 9]
abbrev dktX4_step_8 : List UInt8 := dkwX4_step_8 ++ dktX4_step_9
def dkwX4_step_7 : List UInt8 := [180, 0, 9, 28, 4, 96, 46, 79, 42, 180, 0, 9, 17, 3, 163, 92, 46, 4, 100, 79, 28, 54, 5]
abbrev dktX4_step_7 : List UInt8 := dkwX4_step_7 ++ dktX4_step_8
def dkwX4_step_6 : List UInt8 := [180, 0, 9, 28, 46, 62, 42, 180, 0, 9, 28, 5, 96, 46, 54, 4, 42, 180, 0, 9, 17, 3, 157, 42]
abbrev dktX4_step_6 : List UInt8 := dkwX4_step_6 ++ dktX4_step_7
def dkwX4_step_5 : List UInt8 := [182, 0, 145, 42, 27, 28, 29, 182, 0, 148, 177, 17, 3, 164, 6, 42, 182, 0, 151, 104, 96, 61, 42]
abbrev dktX4_step_5 : List UInt8 := dkwX4_step_5 ++ dktX4_step_6
def dkwX4_step_4 : List UInt8 := [180, 0, 9, 17, 3, 160, 27, 79, 42, 180, 0, 9, 17, 3, 158, 92, 46, 4, 96, 79, 42, 27, 29]
abbrev dktX4_step_4 : List UInt8 := dkwX4_step_4 ++ dktX4_step_5
def dkwX4_step_3 : List UInt8 := [182, 0, 55, 182, 0, 63, 132, 5, 1, 167, 255, 222, 42, 27, 16, 13, 21, 4, 182, 0, 63, 42]
abbrev dktX4_step_3 : List UInt8 := dkwX4_step_3 ++ dktX4_step_4
def dkwX4_step_2 : List UInt8 := [21, 4, 104, 162, 0, 31, 42, 27, 16, 14, 21, 5, 96, 42, 27, 16, 14, 21, 5, 96, 5, 96]
abbrev dktX4_step_2 : List UInt8 := dkwX4_step_2 ++ dktX4_step_3
def dkwX4_step_1 : List UInt8 := [27, 16, 15, 182, 0, 55, 62, 42, 27, 16, 13, 182, 0, 55, 4, 100, 54, 4, 3, 54, 5, 21, 5, 5]
abbrev dktX4_step_1 : List UInt8 := dkwX4_step_1 ++ dktX4_step_2
def dkwX4_step_0 : List UInt8 := [42, 16, 254, 181, 0, 142, 42, 182, 0, 135, 60, 27, 155, 0, 114, 42, 27, 16, 14, 182, 0, 55, 61, 42]
abbrev dktX4_step_0 : List UInt8 := dkwX4_step_0 ++ dktX4_step_1
theorem dksX4_step_0 : cX4_step.data.toList.drop 0 = dktX4_step_0 := by decide +kernel
theorem dksX4_step_1 : cX4_step.data.toList.drop 24 = dktX4_step_1 := dk_seg dksX4_step_0 24 rfl rfl
theorem dksX4_step_2 : cX4_step.data.toList.drop 48 = dktX4_step_2 := dk_seg dksX4_step_1 24 rfl rfl
theorem dksX4_step_3 : cX4_step.data.toList.drop 70 = dktX4_step_3 := dk_seg dksX4_step_2 22 rfl rfl
theorem dksX4_step_4 : cX4_step.data.toList.drop 92 = dktX4_step_4 := dk_seg dksX4_step_3 22 rfl rfl
theorem dksX4_step_5 : cX4_step.data.toList.drop 115 = dktX4_step_5 := dk_seg dksX4_step_4 23 rfl rfl
theorem dksX4_step_6 : cX4_step.data.toList.drop 138 = dktX4_step_6 := dk_seg dksX4_step_5 23 rfl rfl
theorem dksX4_step_7 : cX4_step.data.toList.drop 162 = dktX4_step_7 := dk_seg dksX4_step_6 24 rfl rfl
theorem dksX4_step_8 : cX4_step.data.toList.drop 185 = dktX4_step_8 := dk_seg dksX4_step_7 23 rfl rfl
theorem dksX4_step_9 : cX4_step.data.toList.drop 208 = dktX4_step_9 := dk_seg dksX4_step_8 23 rfl rfl
theorem dksX4_step_10 : cX4_step.data.toList.drop 231 = dktX4_step_10 := dk_seg dksX4_step_9 23 rfl rfl
theorem dX4_step_0 : decode cX4_step 0 = .ok (.aload_n 0, 1) := dk_42 (dk_at dksX4_step_0 0 rfl rfl)
theorem dX4_step_1 : decode cX4_step 1 = .ok (.bipush (-2), 2) := dk_16 254 (dk_at dksX4_step_0 1 rfl rfl)
theorem dX4_step_3 : decode cX4_step 3 = .ok (.putfield 142, 3) := dk_181 0 142 (dk_at dksX4_step_0 3 rfl rfl)
theorem dX4_step_6 : decode cX4_step 6 = .ok (.aload_n 0, 1) := dk_42 (dk_at dksX4_step_0 6 rfl rfl)
theorem dX4_step_7 : decode cX4_step 7 = .ok (.invokevirtual 135, 3) := dk_182 0 135 (dk_at dksX4_step_0 7 rfl rfl)
theorem dX4_step_10 : decode cX4_step 10 = .ok (.istore_n 1, 1) := dk_60 (dk_at dksX4_step_0 10 rfl rfl)
theorem dX4_step_11 : decode cX4_step 11 = .ok (.iload_n 1, 1) := dk_27 (dk_at dksX4_step_0 11 rfl rfl)
theorem dX4_step_12 : decode cX4_step 12 = .ok (.ifCond .lt 114, 3) := dk_155 0 114 (dk_at dksX4_step_0 12 rfl rfl)
theorem dX4_step_15 : decode cX4_step 15 = .ok (.aload_n 0, 1) := dk_42 (dk_at dksX4_step_0 15 rfl rfl)
theorem dX4_step_16 : decode cX4_step 16 = .ok (.iload_n 1, 1) := dk_27 (dk_at dksX4_step_0 16 rfl rfl)
theorem dX4_step_17 : decode cX4_step 17 = .ok (.bipush 14, 2) := dk_16 14 (dk_at dksX4_step_0 17 rfl rfl)
theorem dX4_step_19 : decode cX4_step 19 = .ok (.invokevirtual 55, 3) := dk_182 0 55 (dk_at dksX4_step_0 19 rfl rfl)
theorem dX4_step_22 : decode cX4_step 22 = .ok (.istore_n 2, 1) := dk_61 (dk_at dksX4_step_0 22 rfl rfl)
theorem dX4_step_23 : decode cX4_step 23 = .ok (.aload_n 0, 1) := dk_42 (dk_at dksX4_step_0 23 rfl rfl)
theorem dX4_step_24 : decode cX4_step 24 = .ok (.iload_n 1, 1) := dk_27 (dk_at dksX4_step_1 0 rfl rfl)
theorem dX4_step_25 : decode cX4_step 25 = .ok (.bipush 15, 2) := dk_16 15 (dk_at dksX4_step_1 1 rfl rfl)
theorem dX4_step_27 : decode cX4_step 27 = .ok (.invokevirtual 55, 3) := dk_182 0 55 (dk_at dksX4_step_1 3 rfl rfl)
theorem dX4_step_30 : decode cX4_step 30 = .ok (.istore_n 3, 1) := dk_62 (dk_at dksX4_step_1 6 rfl rfl)
theorem dX4_step_31 : decode cX4_step 31 = .ok (.aload_n 0, 1) := dk_42 (dk_at dksX4_step_1 7 rfl rfl)
theorem dX4_step_32 : decode cX4_step 32 = .ok (.iload_n 1, 1) := dk_27 (dk_at dksX4_step_1 8 rfl rfl)
theorem dX4_step_33 : decode cX4_step 33 = .ok (.bipush 13, 2) := dk_16 13 (dk_at dksX4_step_1 9 rfl rfl)
theorem dX4_step_35 : decode cX4_step 35 = .ok (.invokevirtual 55, 3) := dk_182 0 55 (dk_at dksX4_step_1 11 rfl rfl)
theorem dX4_step_38 : decode cX4_step 38 = .ok (.iconst 1, 1) := dk_4 (dk_at dksX4_step_1 14 rfl rfl)
theorem dX4_step_39 : decode cX4_step 39 = .ok (.isub, 1) := dk_100 (dk_at dksX4_step_1 15 rfl rfl)
theorem dX4_step_40 : decode cX4_step 40 = .ok (.istore 4, 2) := dk_54 4 (dk_at dksX4_step_1 16 rfl rfl)
theorem dX4_step_42 : decode cX4_step 42 = .ok (.iconst 0, 1) := dk_3 (dk_at dksX4_step_1 18 rfl rfl)
theorem dX4_step_43 : decode cX4_step 43 = .ok (.istore 5, 2) := dk_54 5 (dk_at dksX4_step_1 19 rfl rfl)
theorem dX4_step_45 : decode cX4_step 45 = .ok (.iload 5, 2) := dk_21 5 (dk_at dksX4_step_1 21 rfl rfl)
theorem dX4_step_47 : decode cX4_step 47 = .ok (.iconst 2, 1) := dk_5 (dk_at dksX4_step_1 23 rfl rfl)
theorem dX4_step_48 : decode cX4_step 48 = .ok (.iload 4, 2) := dk_21 4 (dk_at dksX4_step_2 0 rfl rfl)
theorem dX4_step_50 : decode cX4_step 50 = .ok (.imul, 1) := dk_104 (dk_at dksX4_step_2 2 rfl rfl)
theorem dX4_step_51 : decode cX4_step 51 = .ok (.if_icmp .ge 31, 3) := dk_162 0 31 (dk_at dksX4_step_2 3 rfl rfl)
theorem dX4_step_54 : decode cX4_step 54 = .ok (.aload_n 0, 1) := dk_42 (dk_at dksX4_step_2 6 rfl rfl)
theorem dX4_step_55 : decode cX4_step 55 = .ok (.iload_n 1, 1) := dk_27 (dk_at dksX4_step_2 7 rfl rfl)
theorem dX4_step_56 : decode cX4_step 56 = .ok (.bipush 14, 2) := dk_16 14 (dk_at dksX4_step_2 8 rfl rfl)
theorem dX4_step_58 : decode cX4_step 58 = .ok (.iload 5, 2) := dk_21 5 (dk_at dksX4_step_2 10 rfl rfl)
theorem dX4_step_60 : decode cX4_step 60 = .ok (.iadd, 1) := dk_96 (dk_at dksX4_step_2 12 rfl rfl)
theorem dX4_step_61 : decode cX4_step 61 = .ok (.aload_n 0, 1) := dk_42 (dk_at dksX4_step_2 13 rfl rfl)
theorem dX4_step_62 : decode cX4_step 62 = .ok (.iload_n 1, 1) := dk_27 (dk_at dksX4_step_2 14 rfl rfl)
theorem dX4_step_63 : decode cX4_step 63 = .ok (.bipush 14, 2) := dk_16 14 (dk_at dksX4_step_2 15 rfl rfl)
theorem dX4_step_65 : decode cX4_step 65 = .ok (.iload 5, 2) := dk_21 5 (dk_at dksX4_step_2 17 rfl rfl)
theorem dX4_step_67 : decode cX4_step 67 = .ok (.iadd, 1) := dk_96 (dk_at dksX4_step_2 19 rfl rfl)
theorem dX4_step_68 : decode cX4_step 68 = .ok (.iconst 2, 1) := dk_5 (dk_at dksX4_step_2 20 rfl rfl)
theorem dX4_step_69 : decode cX4_step 69 = .ok (.iadd, 1) := dk_96 (dk_at dksX4_step_2 21 rfl rfl)
theorem dX4_step_70 : decode cX4_step 70 = .ok (.invokevirtual 55, 3) := dk_182 0 55 (dk_at dksX4_step_3 0 rfl rfl)
theorem dX4_step_73 : decode cX4_step 73 = .ok (.invokevirtual 63, 3) := dk_182 0 63 (dk_at dksX4_step_3 3 rfl rfl)
theorem dX4_step_76 : decode cX4_step 76 = .ok (.iinc 5 1, 3) := dk_132 5 1 (dk_at dksX4_step_3 6 rfl rfl)
theorem dX4_step_79 : decode cX4_step 79 = .ok (.goto (-34), 3) := dk_167 255 222 (dk_at dksX4_step_3 9 rfl rfl)
theorem dX4_step_82 : decode cX4_step 82 = .ok (.aload_n 0, 1) := dk_42 (dk_at dksX4_step_3 12 rfl rfl)
theorem dX4_step_83 : decode cX4_step 83 = .ok (.iload_n 1, 1) := dk_27 (dk_at dksX4_step_3 13 rfl rfl)
theorem dX4_step_84 : decode cX4_step 84 = .ok (.bipush 13, 2) := dk_16 13 (dk_at dksX4_step_3 14 rfl rfl)
theorem dX4_step_86 : decode cX4_step 86 = .ok (.iload 4, 2) := dk_21 4 (dk_at dksX4_step_3 16 rfl rfl)
theorem dX4_step_88 : decode cX4_step 88 = .ok (.invokevirtual 63, 3) := dk_182 0 63 (dk_at dksX4_step_3 18 rfl rfl)
theorem dX4_step_91 : decode cX4_step 91 = .ok (.aload_n 0, 1) := dk_42 (dk_at dksX4_step_3 21 rfl rfl)
theorem dX4_step_92 : decode cX4_step 92 = .ok (.getfield 9, 3) := dk_180 0 9 (dk_at dksX4_step_4 0 rfl rfl)
theorem dX4_step_95 : decode cX4_step 95 = .ok (.sipush 928, 3) := dk_17 3 160 (dk_at dksX4_step_4 3 rfl rfl)
theorem dX4_step_98 : decode cX4_step 98 = .ok (.iload_n 1, 1) := dk_27 (dk_at dksX4_step_4 6 rfl rfl)
theorem dX4_step_99 : decode cX4_step 99 = .ok (.iastore, 1) := dk_79 (dk_at dksX4_step_4 7 rfl rfl)
theorem dX4_step_100 : decode cX4_step 100 = .ok (.aload_n 0, 1) := dk_42 (dk_at dksX4_step_4 8 rfl rfl)
theorem dX4_step_101 : decode cX4_step 101 = .ok (.getfield 9, 3) := dk_180 0 9 (dk_at dksX4_step_4 9 rfl rfl)
theorem dX4_step_104 : decode cX4_step 104 = .ok (.sipush 926, 3) := dk_17 3 158 (dk_at dksX4_step_4 12 rfl rfl)
theorem dX4_step_107 : decode cX4_step 107 = .ok (.dup2, 1) := dk_92 (dk_at dksX4_step_4 15 rfl rfl)
theorem dX4_step_108 : decode cX4_step 108 = .ok (.iaload, 1) := dk_46 (dk_at dksX4_step_4 16 rfl rfl)
theorem dX4_step_109 : decode cX4_step 109 = .ok (.iconst 1, 1) := dk_4 (dk_at dksX4_step_4 17 rfl rfl)
theorem dX4_step_110 : decode cX4_step 110 = .ok (.iadd, 1) := dk_96 (dk_at dksX4_step_4 18 rfl rfl)
theorem dX4_step_111 : decode cX4_step 111 = .ok (.iastore, 1) := dk_79 (dk_at dksX4_step_4 19 rfl rfl)
theorem dX4_step_112 : decode cX4_step 112 = .ok (.aload_n 0, 1) := dk_42 (dk_at dksX4_step_4 20 rfl rfl)
theorem dX4_step_113 : decode cX4_step 113 = .ok (.iload_n 1, 1) := dk_27 (dk_at dksX4_step_4 21 rfl rfl)
theorem dX4_step_114 : decode cX4_step 114 = .ok (.iload_n 3, 1) := dk_29 (dk_at dksX4_step_4 22 rfl rfl)
theorem dX4_step_115 : decode cX4_step 115 = .ok (.invokevirtual 145, 3) := dk_182 0 145 (dk_at dksX4_step_5 0 rfl rfl)
theorem dX4_step_118 : decode cX4_step 118 = .ok (.aload_n 0, 1) := dk_42 (dk_at dksX4_step_5 3 rfl rfl)
theorem dX4_step_119 : decode cX4_step 119 = .ok (.iload_n 1, 1) := dk_27 (dk_at dksX4_step_5 4 rfl rfl)
theorem dX4_step_120 : decode cX4_step 120 = .ok (.iload_n 2, 1) := dk_28 (dk_at dksX4_step_5 5 rfl rfl)
theorem dX4_step_121 : decode cX4_step 121 = .ok (.iload_n 3, 1) := dk_29 (dk_at dksX4_step_5 6 rfl rfl)
theorem dX4_step_122 : decode cX4_step 122 = .ok (.invokevirtual 148, 3) := dk_182 0 148 (dk_at dksX4_step_5 7 rfl rfl)
theorem dX4_step_125 : decode cX4_step 125 = .ok (.return_, 1) := dk_177 (dk_at dksX4_step_5 10 rfl rfl)
theorem dX4_step_126 : decode cX4_step 126 = .ok (.sipush 932, 3) := dk_17 3 164 (dk_at dksX4_step_5 11 rfl rfl)
theorem dX4_step_129 : decode cX4_step 129 = .ok (.iconst 3, 1) := dk_6 (dk_at dksX4_step_5 14 rfl rfl)
theorem dX4_step_130 : decode cX4_step 130 = .ok (.aload_n 0, 1) := dk_42 (dk_at dksX4_step_5 15 rfl rfl)
theorem dX4_step_131 : decode cX4_step 131 = .ok (.invokevirtual 151, 3) := dk_182 0 151 (dk_at dksX4_step_5 16 rfl rfl)
theorem dX4_step_134 : decode cX4_step 134 = .ok (.imul, 1) := dk_104 (dk_at dksX4_step_5 19 rfl rfl)
theorem dX4_step_135 : decode cX4_step 135 = .ok (.iadd, 1) := dk_96 (dk_at dksX4_step_5 20 rfl rfl)
theorem dX4_step_136 : decode cX4_step 136 = .ok (.istore_n 2, 1) := dk_61 (dk_at dksX4_step_5 21 rfl rfl)
theorem dX4_step_137 : decode cX4_step 137 = .ok (.aload_n 0, 1) := dk_42 (dk_at dksX4_step_5 22 rfl rfl)
theorem dX4_step_138 : decode cX4_step 138 = .ok (.getfield 9, 3) := dk_180 0 9 (dk_at dksX4_step_6 0 rfl rfl)
theorem dX4_step_141 : decode cX4_step 141 = .ok (.iload_n 2, 1) := dk_28 (dk_at dksX4_step_6 3 rfl rfl)
theorem dX4_step_142 : decode cX4_step 142 = .ok (.iaload, 1) := dk_46 (dk_at dksX4_step_6 4 rfl rfl)
theorem dX4_step_143 : decode cX4_step 143 = .ok (.istore_n 3, 1) := dk_62 (dk_at dksX4_step_6 5 rfl rfl)
theorem dX4_step_144 : decode cX4_step 144 = .ok (.aload_n 0, 1) := dk_42 (dk_at dksX4_step_6 6 rfl rfl)
theorem dX4_step_145 : decode cX4_step 145 = .ok (.getfield 9, 3) := dk_180 0 9 (dk_at dksX4_step_6 7 rfl rfl)
theorem dX4_step_148 : decode cX4_step 148 = .ok (.iload_n 2, 1) := dk_28 (dk_at dksX4_step_6 10 rfl rfl)
theorem dX4_step_149 : decode cX4_step 149 = .ok (.iconst 2, 1) := dk_5 (dk_at dksX4_step_6 11 rfl rfl)
theorem dX4_step_150 : decode cX4_step 150 = .ok (.iadd, 1) := dk_96 (dk_at dksX4_step_6 12 rfl rfl)
theorem dX4_step_151 : decode cX4_step 151 = .ok (.iaload, 1) := dk_46 (dk_at dksX4_step_6 13 rfl rfl)
theorem dX4_step_152 : decode cX4_step 152 = .ok (.istore 4, 2) := dk_54 4 (dk_at dksX4_step_6 14 rfl rfl)
theorem dX4_step_154 : decode cX4_step 154 = .ok (.aload_n 0, 1) := dk_42 (dk_at dksX4_step_6 16 rfl rfl)
theorem dX4_step_155 : decode cX4_step 155 = .ok (.getfield 9, 3) := dk_180 0 9 (dk_at dksX4_step_6 17 rfl rfl)
theorem dX4_step_158 : decode cX4_step 158 = .ok (.sipush 925, 3) := dk_17 3 157 (dk_at dksX4_step_6 20 rfl rfl)
theorem dX4_step_161 : decode cX4_step 161 = .ok (.aload_n 0, 1) := dk_42 (dk_at dksX4_step_6 23 rfl rfl)
theorem dX4_step_162 : decode cX4_step 162 = .ok (.getfield 9, 3) := dk_180 0 9 (dk_at dksX4_step_7 0 rfl rfl)
theorem dX4_step_165 : decode cX4_step 165 = .ok (.iload_n 2, 1) := dk_28 (dk_at dksX4_step_7 3 rfl rfl)
theorem dX4_step_166 : decode cX4_step 166 = .ok (.iconst 1, 1) := dk_4 (dk_at dksX4_step_7 4 rfl rfl)
theorem dX4_step_167 : decode cX4_step 167 = .ok (.iadd, 1) := dk_96 (dk_at dksX4_step_7 5 rfl rfl)
theorem dX4_step_168 : decode cX4_step 168 = .ok (.iaload, 1) := dk_46 (dk_at dksX4_step_7 6 rfl rfl)
theorem dX4_step_169 : decode cX4_step 169 = .ok (.iastore, 1) := dk_79 (dk_at dksX4_step_7 7 rfl rfl)
theorem dX4_step_170 : decode cX4_step 170 = .ok (.aload_n 0, 1) := dk_42 (dk_at dksX4_step_7 8 rfl rfl)
theorem dX4_step_171 : decode cX4_step 171 = .ok (.getfield 9, 3) := dk_180 0 9 (dk_at dksX4_step_7 9 rfl rfl)
theorem dX4_step_174 : decode cX4_step 174 = .ok (.sipush 931, 3) := dk_17 3 163 (dk_at dksX4_step_7 12 rfl rfl)
theorem dX4_step_177 : decode cX4_step 177 = .ok (.dup2, 1) := dk_92 (dk_at dksX4_step_7 15 rfl rfl)
theorem dX4_step_178 : decode cX4_step 178 = .ok (.iaload, 1) := dk_46 (dk_at dksX4_step_7 16 rfl rfl)
theorem dX4_step_179 : decode cX4_step 179 = .ok (.iconst 1, 1) := dk_4 (dk_at dksX4_step_7 17 rfl rfl)
theorem dX4_step_180 : decode cX4_step 180 = .ok (.isub, 1) := dk_100 (dk_at dksX4_step_7 18 rfl rfl)
theorem dX4_step_181 : decode cX4_step 181 = .ok (.iastore, 1) := dk_79 (dk_at dksX4_step_7 19 rfl rfl)
theorem dX4_step_182 : decode cX4_step 182 = .ok (.iload_n 2, 1) := dk_28 (dk_at dksX4_step_7 20 rfl rfl)
theorem dX4_step_183 : decode cX4_step 183 = .ok (.istore 5, 2) := dk_54 5 (dk_at dksX4_step_7 21 rfl rfl)
theorem dX4_step_185 : decode cX4_step 185 = .ok (.iload 5, 2) := dk_21 5 (dk_at dksX4_step_8 0 rfl rfl)
theorem dX4_step_187 : decode cX4_step 187 = .ok (.sipush 932, 3) := dk_17 3 164 (dk_at dksX4_step_8 2 rfl rfl)
theorem dX4_step_190 : decode cX4_step 190 = .ok (.iconst 3, 1) := dk_6 (dk_at dksX4_step_8 5 rfl rfl)
theorem dX4_step_191 : decode cX4_step 191 = .ok (.aload_n 0, 1) := dk_42 (dk_at dksX4_step_8 6 rfl rfl)
theorem dX4_step_192 : decode cX4_step 192 = .ok (.getfield 9, 3) := dk_180 0 9 (dk_at dksX4_step_8 7 rfl rfl)
theorem dX4_step_195 : decode cX4_step 195 = .ok (.sipush 931, 3) := dk_17 3 163 (dk_at dksX4_step_8 10 rfl rfl)
theorem dX4_step_198 : decode cX4_step 198 = .ok (.iaload, 1) := dk_46 (dk_at dksX4_step_8 13 rfl rfl)
theorem dX4_step_199 : decode cX4_step 199 = .ok (.imul, 1) := dk_104 (dk_at dksX4_step_8 14 rfl rfl)
theorem dX4_step_200 : decode cX4_step 200 = .ok (.iadd, 1) := dk_96 (dk_at dksX4_step_8 15 rfl rfl)
theorem dX4_step_201 : decode cX4_step 201 = .ok (.if_icmp .ge 25, 3) := dk_162 0 25 (dk_at dksX4_step_8 16 rfl rfl)
theorem dX4_step_204 : decode cX4_step 204 = .ok (.aload_n 0, 1) := dk_42 (dk_at dksX4_step_8 19 rfl rfl)
theorem dX4_step_205 : decode cX4_step 205 = .ok (.getfield 9, 3) := dk_180 0 9 (dk_at dksX4_step_8 20 rfl rfl)
theorem dX4_step_208 : decode cX4_step 208 = .ok (.iload 5, 2) := dk_21 5 (dk_at dksX4_step_9 0 rfl rfl)
theorem dX4_step_210 : decode cX4_step 210 = .ok (.aload_n 0, 1) := dk_42 (dk_at dksX4_step_9 2 rfl rfl)
theorem dX4_step_211 : decode cX4_step 211 = .ok (.getfield 9, 3) := dk_180 0 9 (dk_at dksX4_step_9 3 rfl rfl)
theorem dX4_step_214 : decode cX4_step 214 = .ok (.iload 5, 2) := dk_21 5 (dk_at dksX4_step_9 6 rfl rfl)
theorem dX4_step_216 : decode cX4_step 216 = .ok (.iconst 3, 1) := dk_6 (dk_at dksX4_step_9 8 rfl rfl)
theorem dX4_step_217 : decode cX4_step 217 = .ok (.iadd, 1) := dk_96 (dk_at dksX4_step_9 9 rfl rfl)
theorem dX4_step_218 : decode cX4_step 218 = .ok (.iaload, 1) := dk_46 (dk_at dksX4_step_9 10 rfl rfl)
theorem dX4_step_219 : decode cX4_step 219 = .ok (.iastore, 1) := dk_79 (dk_at dksX4_step_9 11 rfl rfl)
theorem dX4_step_220 : decode cX4_step 220 = .ok (.iinc 5 1, 3) := dk_132 5 1 (dk_at dksX4_step_9 12 rfl rfl)
theorem dX4_step_223 : decode cX4_step 223 = .ok (.goto (-38), 3) := dk_167 255 218 (dk_at dksX4_step_9 15 rfl rfl)
theorem dX4_step_226 : decode cX4_step 226 = .ok (.aload_n 0, 1) := dk_42 (dk_at dksX4_step_9 18 rfl rfl)
theorem dX4_step_227 : decode cX4_step 227 = .ok (.iload_n 3, 1) := dk_29 (dk_at dksX4_step_9 19 rfl rfl)
theorem dX4_step_228 : decode cX4_step 228 = .ok (.iconst (-1), 1) := dk_2 (dk_at dksX4_step_9 20 rfl rfl)
theorem dX4_step_229 : decode cX4_step 229 = .ok (.iload 4, 2) := dk_21 4 (dk_at dksX4_step_9 21 rfl rfl)
theorem dX4_step_231 : decode cX4_step 231 = .ok (.invokevirtual 84, 3) := dk_182 0 84 (dk_at dksX4_step_10 0 rfl rfl)
theorem dX4_step_234 : decode cX4_step 234 = .ok (.pop, 1) := dk_87 (dk_at dksX4_step_10 3 rfl rfl)
theorem dX4_step_235 : decode cX4_step 235 = .ok (.return_, 1) := dk_177 (dk_at dksX4_step_10 4 rfl rfl)
abbrev cX4_logs : ByteArray := prog_23_method_30_code
def yX4_logs : MethodName := ⟨RX4, "logs", "(II)V"⟩
def dkwX4_logs_4 : List UInt8 := [17, 3, 194, 46, 96, 42, 180, 0, 142, 79, 42, 180, 0, 9, 17, 3, 194, 92, 46, 4, 96, 79, 177]
abbrev dktX4_logs_4 : List UInt8 := dkwX4_logs_4 ++ []
def dkwX4_logs_3 : List UInt8 := [184, 0, 139, 96, 17, 1, 44, 96, 181, 0, 142, 42, 180, 0, 9, 17, 3, 195, 42, 180, 0, 9]
abbrev dktX4_logs_3 : List UInt8 := dkwX4_logs_3 ++ dktX4_logs_4
def dkwX4_logs_2 : List UInt8 := [167, 255, 225, 42, 180, 0, 9, 17, 3, 194, 92, 46, 4, 100, 79, 42, 17, 3, 232, 27, 104, 28]
abbrev dktX4_logs_2 : List UInt8 := dkwX4_logs_2 ++ dktX4_logs_3
def dkwX4_logs_1 : List UInt8 := [180, 0, 9, 17, 3, 195, 29, 96, 4, 100, 42, 180, 0, 9, 17, 3, 195, 29, 96, 46, 79, 132, 3, 1]
abbrev dktX4_logs_1 : List UInt8 := dkwX4_logs_1 ++ dktX4_logs_2
def dkwX4_logs_0 : List UInt8 := [42, 180, 0, 9, 17, 3, 194, 46, 16, 30, 160, 0, 51, 4, 62, 29, 16, 30, 162, 0, 31, 42]
abbrev dktX4_logs_0 : List UInt8 := dkwX4_logs_0 ++ dktX4_logs_1
theorem dksX4_logs_0 : cX4_logs.data.toList.drop 0 = dktX4_logs_0 := by decide +kernel
theorem dksX4_logs_1 : cX4_logs.data.toList.drop 22 = dktX4_logs_1 := dk_seg dksX4_logs_0 22 rfl rfl
theorem dksX4_logs_2 : cX4_logs.data.toList.drop 46 = dktX4_logs_2 := dk_seg dksX4_logs_1 24 rfl rfl
theorem dksX4_logs_3 : cX4_logs.data.toList.drop 68 = dktX4_logs_3 := dk_seg dksX4_logs_2 22 rfl rfl
theorem dksX4_logs_4 : cX4_logs.data.toList.drop 90 = dktX4_logs_4 := dk_seg dksX4_logs_3 22 rfl rfl
theorem dX4_logs_0 : decode cX4_logs 0 = .ok (.aload_n 0, 1) := dk_42 (dk_at dksX4_logs_0 0 rfl rfl)
theorem dX4_logs_1 : decode cX4_logs 1 = .ok (.getfield 9, 3) := dk_180 0 9 (dk_at dksX4_logs_0 1 rfl rfl)
theorem dX4_logs_4 : decode cX4_logs 4 = .ok (.sipush 962, 3) := dk_17 3 194 (dk_at dksX4_logs_0 4 rfl rfl)
theorem dX4_logs_7 : decode cX4_logs 7 = .ok (.iaload, 1) := dk_46 (dk_at dksX4_logs_0 7 rfl rfl)
theorem dX4_logs_8 : decode cX4_logs 8 = .ok (.bipush 30, 2) := dk_16 30 (dk_at dksX4_logs_0 8 rfl rfl)
theorem dX4_logs_10 : decode cX4_logs 10 = .ok (.if_icmp .ne 51, 3) := dk_160 0 51 (dk_at dksX4_logs_0 10 rfl rfl)
theorem dX4_logs_13 : decode cX4_logs 13 = .ok (.iconst 1, 1) := dk_4 (dk_at dksX4_logs_0 13 rfl rfl)
theorem dX4_logs_14 : decode cX4_logs 14 = .ok (.istore_n 3, 1) := dk_62 (dk_at dksX4_logs_0 14 rfl rfl)
theorem dX4_logs_15 : decode cX4_logs 15 = .ok (.iload_n 3, 1) := dk_29 (dk_at dksX4_logs_0 15 rfl rfl)
theorem dX4_logs_16 : decode cX4_logs 16 = .ok (.bipush 30, 2) := dk_16 30 (dk_at dksX4_logs_0 16 rfl rfl)
theorem dX4_logs_18 : decode cX4_logs 18 = .ok (.if_icmp .ge 31, 3) := dk_162 0 31 (dk_at dksX4_logs_0 18 rfl rfl)
theorem dX4_logs_21 : decode cX4_logs 21 = .ok (.aload_n 0, 1) := dk_42 (dk_at dksX4_logs_0 21 rfl rfl)
theorem dX4_logs_22 : decode cX4_logs 22 = .ok (.getfield 9, 3) := dk_180 0 9 (dk_at dksX4_logs_1 0 rfl rfl)
theorem dX4_logs_25 : decode cX4_logs 25 = .ok (.sipush 963, 3) := dk_17 3 195 (dk_at dksX4_logs_1 3 rfl rfl)
theorem dX4_logs_28 : decode cX4_logs 28 = .ok (.iload_n 3, 1) := dk_29 (dk_at dksX4_logs_1 6 rfl rfl)
theorem dX4_logs_29 : decode cX4_logs 29 = .ok (.iadd, 1) := dk_96 (dk_at dksX4_logs_1 7 rfl rfl)
theorem dX4_logs_30 : decode cX4_logs 30 = .ok (.iconst 1, 1) := dk_4 (dk_at dksX4_logs_1 8 rfl rfl)
theorem dX4_logs_31 : decode cX4_logs 31 = .ok (.isub, 1) := dk_100 (dk_at dksX4_logs_1 9 rfl rfl)
theorem dX4_logs_32 : decode cX4_logs 32 = .ok (.aload_n 0, 1) := dk_42 (dk_at dksX4_logs_1 10 rfl rfl)
theorem dX4_logs_33 : decode cX4_logs 33 = .ok (.getfield 9, 3) := dk_180 0 9 (dk_at dksX4_logs_1 11 rfl rfl)
theorem dX4_logs_36 : decode cX4_logs 36 = .ok (.sipush 963, 3) := dk_17 3 195 (dk_at dksX4_logs_1 14 rfl rfl)
theorem dX4_logs_39 : decode cX4_logs 39 = .ok (.iload_n 3, 1) := dk_29 (dk_at dksX4_logs_1 17 rfl rfl)
theorem dX4_logs_40 : decode cX4_logs 40 = .ok (.iadd, 1) := dk_96 (dk_at dksX4_logs_1 18 rfl rfl)
theorem dX4_logs_41 : decode cX4_logs 41 = .ok (.iaload, 1) := dk_46 (dk_at dksX4_logs_1 19 rfl rfl)
theorem dX4_logs_42 : decode cX4_logs 42 = .ok (.iastore, 1) := dk_79 (dk_at dksX4_logs_1 20 rfl rfl)
theorem dX4_logs_43 : decode cX4_logs 43 = .ok (.iinc 3 1, 3) := dk_132 3 1 (dk_at dksX4_logs_1 21 rfl rfl)
theorem dX4_logs_46 : decode cX4_logs 46 = .ok (.goto (-31), 3) := dk_167 255 225 (dk_at dksX4_logs_2 0 rfl rfl)
theorem dX4_logs_49 : decode cX4_logs 49 = .ok (.aload_n 0, 1) := dk_42 (dk_at dksX4_logs_2 3 rfl rfl)
theorem dX4_logs_50 : decode cX4_logs 50 = .ok (.getfield 9, 3) := dk_180 0 9 (dk_at dksX4_logs_2 4 rfl rfl)
theorem dX4_logs_53 : decode cX4_logs 53 = .ok (.sipush 962, 3) := dk_17 3 194 (dk_at dksX4_logs_2 7 rfl rfl)
theorem dX4_logs_56 : decode cX4_logs 56 = .ok (.dup2, 1) := dk_92 (dk_at dksX4_logs_2 10 rfl rfl)
theorem dX4_logs_57 : decode cX4_logs 57 = .ok (.iaload, 1) := dk_46 (dk_at dksX4_logs_2 11 rfl rfl)
theorem dX4_logs_58 : decode cX4_logs 58 = .ok (.iconst 1, 1) := dk_4 (dk_at dksX4_logs_2 12 rfl rfl)
theorem dX4_logs_59 : decode cX4_logs 59 = .ok (.isub, 1) := dk_100 (dk_at dksX4_logs_2 13 rfl rfl)
theorem dX4_logs_60 : decode cX4_logs 60 = .ok (.iastore, 1) := dk_79 (dk_at dksX4_logs_2 14 rfl rfl)
theorem dX4_logs_61 : decode cX4_logs 61 = .ok (.aload_n 0, 1) := dk_42 (dk_at dksX4_logs_2 15 rfl rfl)
theorem dX4_logs_62 : decode cX4_logs 62 = .ok (.sipush 1000, 3) := dk_17 3 232 (dk_at dksX4_logs_2 16 rfl rfl)
theorem dX4_logs_65 : decode cX4_logs 65 = .ok (.iload_n 1, 1) := dk_27 (dk_at dksX4_logs_2 19 rfl rfl)
theorem dX4_logs_66 : decode cX4_logs 66 = .ok (.imul, 1) := dk_104 (dk_at dksX4_logs_2 20 rfl rfl)
theorem dX4_logs_67 : decode cX4_logs 67 = .ok (.iload_n 2, 1) := dk_28 (dk_at dksX4_logs_2 21 rfl rfl)
theorem dX4_logs_68 : decode cX4_logs 68 = .ok (.invokestatic 139, 3) := dk_184 0 139 (dk_at dksX4_logs_3 0 rfl rfl)
theorem dX4_logs_71 : decode cX4_logs 71 = .ok (.iadd, 1) := dk_96 (dk_at dksX4_logs_3 3 rfl rfl)
theorem dX4_logs_72 : decode cX4_logs 72 = .ok (.sipush 300, 3) := dk_17 1 44 (dk_at dksX4_logs_3 4 rfl rfl)
theorem dX4_logs_75 : decode cX4_logs 75 = .ok (.iadd, 1) := dk_96 (dk_at dksX4_logs_3 7 rfl rfl)
theorem dX4_logs_76 : decode cX4_logs 76 = .ok (.putfield 142, 3) := dk_181 0 142 (dk_at dksX4_logs_3 8 rfl rfl)
theorem dX4_logs_79 : decode cX4_logs 79 = .ok (.aload_n 0, 1) := dk_42 (dk_at dksX4_logs_3 11 rfl rfl)
theorem dX4_logs_80 : decode cX4_logs 80 = .ok (.getfield 9, 3) := dk_180 0 9 (dk_at dksX4_logs_3 12 rfl rfl)
theorem dX4_logs_83 : decode cX4_logs 83 = .ok (.sipush 963, 3) := dk_17 3 195 (dk_at dksX4_logs_3 15 rfl rfl)
theorem dX4_logs_86 : decode cX4_logs 86 = .ok (.aload_n 0, 1) := dk_42 (dk_at dksX4_logs_3 18 rfl rfl)
theorem dX4_logs_87 : decode cX4_logs 87 = .ok (.getfield 9, 3) := dk_180 0 9 (dk_at dksX4_logs_3 19 rfl rfl)
theorem dX4_logs_90 : decode cX4_logs 90 = .ok (.sipush 962, 3) := dk_17 3 194 (dk_at dksX4_logs_4 0 rfl rfl)
theorem dX4_logs_93 : decode cX4_logs 93 = .ok (.iaload, 1) := dk_46 (dk_at dksX4_logs_4 3 rfl rfl)
theorem dX4_logs_94 : decode cX4_logs 94 = .ok (.iadd, 1) := dk_96 (dk_at dksX4_logs_4 4 rfl rfl)
theorem dX4_logs_95 : decode cX4_logs 95 = .ok (.aload_n 0, 1) := dk_42 (dk_at dksX4_logs_4 5 rfl rfl)
theorem dX4_logs_96 : decode cX4_logs 96 = .ok (.getfield 142, 3) := dk_180 0 142 (dk_at dksX4_logs_4 6 rfl rfl)
theorem dX4_logs_99 : decode cX4_logs 99 = .ok (.iastore, 1) := dk_79 (dk_at dksX4_logs_4 9 rfl rfl)
theorem dX4_logs_100 : decode cX4_logs 100 = .ok (.aload_n 0, 1) := dk_42 (dk_at dksX4_logs_4 10 rfl rfl)
theorem dX4_logs_101 : decode cX4_logs 101 = .ok (.getfield 9, 3) := dk_180 0 9 (dk_at dksX4_logs_4 11 rfl rfl)
theorem dX4_logs_104 : decode cX4_logs 104 = .ok (.sipush 962, 3) := dk_17 3 194 (dk_at dksX4_logs_4 14 rfl rfl)
theorem dX4_logs_107 : decode cX4_logs 107 = .ok (.dup2, 1) := dk_92 (dk_at dksX4_logs_4 17 rfl rfl)
theorem dX4_logs_108 : decode cX4_logs 108 = .ok (.iaload, 1) := dk_46 (dk_at dksX4_logs_4 18 rfl rfl)
theorem dX4_logs_109 : decode cX4_logs 109 = .ok (.iconst 1, 1) := dk_4 (dk_at dksX4_logs_4 19 rfl rfl)
theorem dX4_logs_110 : decode cX4_logs 110 = .ok (.iadd, 1) := dk_96 (dk_at dksX4_logs_4 20 rfl rfl)
theorem dX4_logs_111 : decode cX4_logs 111 = .ok (.iastore, 1) := dk_79 (dk_at dksX4_logs_4 21 rfl rfl)
theorem dX4_logs_112 : decode cX4_logs 112 = .ok (.return_, 1) := dk_177 (dk_at dksX4_logs_4 22 rfl rfl)
abbrev cX4_toldAs : ByteArray := prog_23_method_29_code
def yX4_toldAs : MethodName := ⟨RX4, "toldAs", "(I)I"⟩
def dkwX4_toldAs_0 : List UInt8 := [26, 17, 3, 232, 161, 0, 15, 17, 0, 200, 26, 96, 17, 3, 232, 100, 167, 0, 4, 26, 172]
abbrev dktX4_toldAs_0 : List UInt8 := dkwX4_toldAs_0 ++ []
theorem dksX4_toldAs_0 : cX4_toldAs.data.toList.drop 0 = dktX4_toldAs_0 := by decide +kernel
theorem dX4_toldAs_0 : decode cX4_toldAs 0 = .ok (.iload_n 0, 1) := dk_26 (dk_at dksX4_toldAs_0 0 rfl rfl)
theorem dX4_toldAs_1 : decode cX4_toldAs 1 = .ok (.sipush 1000, 3) := dk_17 3 232 (dk_at dksX4_toldAs_0 1 rfl rfl)
theorem dX4_toldAs_4 : decode cX4_toldAs 4 = .ok (.if_icmp .lt 15, 3) := dk_161 0 15 (dk_at dksX4_toldAs_0 4 rfl rfl)
theorem dX4_toldAs_7 : decode cX4_toldAs 7 = .ok (.sipush 200, 3) := dk_17 0 200 (dk_at dksX4_toldAs_0 7 rfl rfl)
theorem dX4_toldAs_10 : decode cX4_toldAs 10 = .ok (.iload_n 0, 1) := dk_26 (dk_at dksX4_toldAs_0 10 rfl rfl)
theorem dX4_toldAs_11 : decode cX4_toldAs 11 = .ok (.iadd, 1) := dk_96 (dk_at dksX4_toldAs_0 11 rfl rfl)
theorem dX4_toldAs_12 : decode cX4_toldAs 12 = .ok (.sipush 1000, 3) := dk_17 3 232 (dk_at dksX4_toldAs_0 12 rfl rfl)
theorem dX4_toldAs_15 : decode cX4_toldAs 15 = .ok (.isub, 1) := dk_100 (dk_at dksX4_toldAs_0 15 rfl rfl)
theorem dX4_toldAs_16 : decode cX4_toldAs 16 = .ok (.goto 4, 3) := dk_167 0 4 (dk_at dksX4_toldAs_0 16 rfl rfl)
theorem dX4_toldAs_19 : decode cX4_toldAs 19 = .ok (.iload_n 0, 1) := dk_26 (dk_at dksX4_toldAs_0 19 rfl rfl)
theorem dX4_toldAs_20 : decode cX4_toldAs 20 = .ok (.ireturn, 1) := dk_172 (dk_at dksX4_toldAs_0 20 rfl rfl)
abbrev cX4_deals : ByteArray := prog_23_method_25_code
def yX4_deals : MethodName := ⟨RX4, "deals", "(III)V"⟩
def dkwX4_deals_9 : List UInt8 := [167, 0, 17, 42, 27, 29, 182, 0, 132, 167, 0, 8, 42, 27, 182, 0, 71, 177]
abbrev dktX4_deals_9 : List UInt8 := dkwX4_deals_9 ++ []
def dkwX4_deals_8 : List UInt8 := [182, 0, 63, 167, 0, 36, 42, 27, 29, 182, 0, 129, 167, 0, 27, 42, 27, 29, 4, 182, 0, 119]
abbrev dktX4_deals_8 : List UInt8 := dkwX4_deals_8 ++ dktX4_deals_9
def dkwX4_deals_7 : List UInt8 := [27, 16, 6, 182, 0, 55, 162, 0, 12, 42, 27, 4, 182, 0, 111, 167, 0, 47, 42, 27, 16, 6, 29]
abbrev dktX4_deals_7 : List UInt8 := dkwX4_deals_7 ++ dktX4_deals_8
def dkwX4_deals_6 : List UInt8 := [167, 0, 86, 42, 27, 28, 29, 182, 0, 123, 167, 0, 76, 42, 27, 29, 182, 0, 126, 167, 0, 67, 29, 42]
abbrev dktX4_deals_6 : List UInt8 := dkwX4_deals_6 ++ dktX4_deals_7
def dkwX4_deals_5 : List UInt8 := [182, 0, 119, 167, 0, 107, 29, 158, 0, 103, 28, 155, 0, 99, 42, 28, 27, 29, 4, 100, 182, 0, 84, 87]
abbrev dktX4_deals_5 : List UInt8 := dkwX4_deals_5 ++ dktX4_deals_6
def dkwX4_deals_4 : List UInt8 := [42, 27, 16, 6, 42, 27, 16, 6, 182, 0, 55, 29, 96, 182, 0, 63, 167, 0, 117, 42, 27, 29, 3]
abbrev dktX4_deals_4 : List UInt8 := dkwX4_deals_4 ++ dktX4_deals_5
def dkwX4_deals_3 : List UInt8 := [170, 0, 0, 0, 177, 0, 0, 0, 0, 0, 0, 0, 8, 0, 0, 0, 49, 0, 0, 0, 68, 0, 0, 0, 78, 0, 0, 0, 99, 0, 0, 0, 109, 0, 0, 0, 118, 0, 0, 0, 149, 0, 0, 0, 158, 0, 0, 0, 168]
abbrev dktX4_deals_3 : List UInt8 := dkwX4_deals_3 ++ dktX4_deals_4
def dkwX4_deals_2 : List UInt8 := [17, 3, 232, 100, 182, 0, 63, 177, 21, 4]
abbrev dktX4_deals_2 : List UInt8 := dkwX4_deals_2 ++ dktX4_deals_3
def dkwX4_deals_1 : List UInt8 := [182, 0, 111, 167, 0, 26, 42, 27, 16, 6, 42, 27, 16, 6, 182, 0, 55, 16, 100, 96, 29, 96]
abbrev dktX4_deals_1 : List UInt8 := dkwX4_deals_1 ++ dktX4_deals_2
def dkwX4_deals_0 : List UInt8 := [42, 27, 182, 0, 115, 54, 4, 29, 17, 3, 232, 161, 0, 42, 21, 4, 8, 160, 0, 12, 42, 27, 5]
abbrev dktX4_deals_0 : List UInt8 := dkwX4_deals_0 ++ dktX4_deals_1
theorem dksX4_deals_0 : cX4_deals.data.toList.drop 0 = dktX4_deals_0 := by decide +kernel
theorem dksX4_deals_1 : cX4_deals.data.toList.drop 23 = dktX4_deals_1 := dk_seg dksX4_deals_0 23 rfl rfl
theorem dksX4_deals_2 : cX4_deals.data.toList.drop 45 = dktX4_deals_2 := dk_seg dksX4_deals_1 22 rfl rfl
theorem dksX4_deals_3 : cX4_deals.data.toList.drop 55 = dktX4_deals_3 := dk_seg dksX4_deals_2 10 rfl rfl
theorem dksX4_deals_4 : cX4_deals.data.toList.drop 104 = dktX4_deals_4 := dk_seg dksX4_deals_3 49 rfl rfl
theorem dksX4_deals_5 : cX4_deals.data.toList.drop 127 = dktX4_deals_5 := dk_seg dksX4_deals_4 23 rfl rfl
theorem dksX4_deals_6 : cX4_deals.data.toList.drop 151 = dktX4_deals_6 := dk_seg dksX4_deals_5 24 rfl rfl
theorem dksX4_deals_7 : cX4_deals.data.toList.drop 175 = dktX4_deals_7 := dk_seg dksX4_deals_6 24 rfl rfl
theorem dksX4_deals_8 : cX4_deals.data.toList.drop 198 = dktX4_deals_8 := dk_seg dksX4_deals_7 23 rfl rfl
theorem dksX4_deals_9 : cX4_deals.data.toList.drop 220 = dktX4_deals_9 := dk_seg dksX4_deals_8 22 rfl rfl
theorem dX4_deals_0 : decode cX4_deals 0 = .ok (.aload_n 0, 1) := dk_42 (dk_at dksX4_deals_0 0 rfl rfl)
theorem dX4_deals_1 : decode cX4_deals 1 = .ok (.iload_n 1, 1) := dk_27 (dk_at dksX4_deals_0 1 rfl rfl)
theorem dX4_deals_2 : decode cX4_deals 2 = .ok (.invokevirtual 115, 3) := dk_182 0 115 (dk_at dksX4_deals_0 2 rfl rfl)
theorem dX4_deals_5 : decode cX4_deals 5 = .ok (.istore 4, 2) := dk_54 4 (dk_at dksX4_deals_0 5 rfl rfl)
theorem dX4_deals_7 : decode cX4_deals 7 = .ok (.iload_n 3, 1) := dk_29 (dk_at dksX4_deals_0 7 rfl rfl)
theorem dX4_deals_8 : decode cX4_deals 8 = .ok (.sipush 1000, 3) := dk_17 3 232 (dk_at dksX4_deals_0 8 rfl rfl)
theorem dX4_deals_11 : decode cX4_deals 11 = .ok (.if_icmp .lt 42, 3) := dk_161 0 42 (dk_at dksX4_deals_0 11 rfl rfl)
theorem dX4_deals_14 : decode cX4_deals 14 = .ok (.iload 4, 2) := dk_21 4 (dk_at dksX4_deals_0 14 rfl rfl)
theorem dX4_deals_16 : decode cX4_deals 16 = .ok (.iconst 5, 1) := dk_8 (dk_at dksX4_deals_0 16 rfl rfl)
theorem dX4_deals_17 : decode cX4_deals 17 = .ok (.if_icmp .ne 12, 3) := dk_160 0 12 (dk_at dksX4_deals_0 17 rfl rfl)
theorem dX4_deals_20 : decode cX4_deals 20 = .ok (.aload_n 0, 1) := dk_42 (dk_at dksX4_deals_0 20 rfl rfl)
theorem dX4_deals_21 : decode cX4_deals 21 = .ok (.iload_n 1, 1) := dk_27 (dk_at dksX4_deals_0 21 rfl rfl)
theorem dX4_deals_22 : decode cX4_deals 22 = .ok (.iconst 2, 1) := dk_5 (dk_at dksX4_deals_0 22 rfl rfl)
theorem dX4_deals_23 : decode cX4_deals 23 = .ok (.invokevirtual 111, 3) := dk_182 0 111 (dk_at dksX4_deals_1 0 rfl rfl)
theorem dX4_deals_26 : decode cX4_deals 26 = .ok (.goto 26, 3) := dk_167 0 26 (dk_at dksX4_deals_1 3 rfl rfl)
theorem dX4_deals_29 : decode cX4_deals 29 = .ok (.aload_n 0, 1) := dk_42 (dk_at dksX4_deals_1 6 rfl rfl)
theorem dX4_deals_30 : decode cX4_deals 30 = .ok (.iload_n 1, 1) := dk_27 (dk_at dksX4_deals_1 7 rfl rfl)
theorem dX4_deals_31 : decode cX4_deals 31 = .ok (.bipush 6, 2) := dk_16 6 (dk_at dksX4_deals_1 8 rfl rfl)
theorem dX4_deals_33 : decode cX4_deals 33 = .ok (.aload_n 0, 1) := dk_42 (dk_at dksX4_deals_1 10 rfl rfl)
theorem dX4_deals_34 : decode cX4_deals 34 = .ok (.iload_n 1, 1) := dk_27 (dk_at dksX4_deals_1 11 rfl rfl)
theorem dX4_deals_35 : decode cX4_deals 35 = .ok (.bipush 6, 2) := dk_16 6 (dk_at dksX4_deals_1 12 rfl rfl)
theorem dX4_deals_37 : decode cX4_deals 37 = .ok (.invokevirtual 55, 3) := dk_182 0 55 (dk_at dksX4_deals_1 14 rfl rfl)
theorem dX4_deals_40 : decode cX4_deals 40 = .ok (.bipush 100, 2) := dk_16 100 (dk_at dksX4_deals_1 17 rfl rfl)
theorem dX4_deals_42 : decode cX4_deals 42 = .ok (.iadd, 1) := dk_96 (dk_at dksX4_deals_1 19 rfl rfl)
theorem dX4_deals_43 : decode cX4_deals 43 = .ok (.iload_n 3, 1) := dk_29 (dk_at dksX4_deals_1 20 rfl rfl)
theorem dX4_deals_44 : decode cX4_deals 44 = .ok (.iadd, 1) := dk_96 (dk_at dksX4_deals_1 21 rfl rfl)
theorem dX4_deals_45 : decode cX4_deals 45 = .ok (.sipush 1000, 3) := dk_17 3 232 (dk_at dksX4_deals_2 0 rfl rfl)
theorem dX4_deals_48 : decode cX4_deals 48 = .ok (.isub, 1) := dk_100 (dk_at dksX4_deals_2 3 rfl rfl)
theorem dX4_deals_49 : decode cX4_deals 49 = .ok (.invokevirtual 63, 3) := dk_182 0 63 (dk_at dksX4_deals_2 4 rfl rfl)
theorem dX4_deals_52 : decode cX4_deals 52 = .ok (.return_, 1) := dk_177 (dk_at dksX4_deals_2 7 rfl rfl)
theorem dX4_deals_53 : decode cX4_deals 53 = .ok (.iload 4, 2) := dk_21 4 (dk_at dksX4_deals_2 8 rfl rfl)
theorem dX4_deals_55 : decode cX4_deals 55 = .ok (.tableswitch 177 0 8 #[49, 68, 78, 99, 109, 118, 149, 158, 168], 49) := by decide +kernel
theorem dX4_deals_104 : decode cX4_deals 104 = .ok (.aload_n 0, 1) := dk_42 (dk_at dksX4_deals_4 0 rfl rfl)
theorem dX4_deals_105 : decode cX4_deals 105 = .ok (.iload_n 1, 1) := dk_27 (dk_at dksX4_deals_4 1 rfl rfl)
theorem dX4_deals_106 : decode cX4_deals 106 = .ok (.bipush 6, 2) := dk_16 6 (dk_at dksX4_deals_4 2 rfl rfl)
theorem dX4_deals_108 : decode cX4_deals 108 = .ok (.aload_n 0, 1) := dk_42 (dk_at dksX4_deals_4 4 rfl rfl)
theorem dX4_deals_109 : decode cX4_deals 109 = .ok (.iload_n 1, 1) := dk_27 (dk_at dksX4_deals_4 5 rfl rfl)
theorem dX4_deals_110 : decode cX4_deals 110 = .ok (.bipush 6, 2) := dk_16 6 (dk_at dksX4_deals_4 6 rfl rfl)
theorem dX4_deals_112 : decode cX4_deals 112 = .ok (.invokevirtual 55, 3) := dk_182 0 55 (dk_at dksX4_deals_4 8 rfl rfl)
theorem dX4_deals_115 : decode cX4_deals 115 = .ok (.iload_n 3, 1) := dk_29 (dk_at dksX4_deals_4 11 rfl rfl)
theorem dX4_deals_116 : decode cX4_deals 116 = .ok (.iadd, 1) := dk_96 (dk_at dksX4_deals_4 12 rfl rfl)
theorem dX4_deals_117 : decode cX4_deals 117 = .ok (.invokevirtual 63, 3) := dk_182 0 63 (dk_at dksX4_deals_4 13 rfl rfl)
theorem dX4_deals_120 : decode cX4_deals 120 = .ok (.goto 117, 3) := dk_167 0 117 (dk_at dksX4_deals_4 16 rfl rfl)
theorem dX4_deals_123 : decode cX4_deals 123 = .ok (.aload_n 0, 1) := dk_42 (dk_at dksX4_deals_4 19 rfl rfl)
theorem dX4_deals_124 : decode cX4_deals 124 = .ok (.iload_n 1, 1) := dk_27 (dk_at dksX4_deals_4 20 rfl rfl)
theorem dX4_deals_125 : decode cX4_deals 125 = .ok (.iload_n 3, 1) := dk_29 (dk_at dksX4_deals_4 21 rfl rfl)
theorem dX4_deals_126 : decode cX4_deals 126 = .ok (.iconst 0, 1) := dk_3 (dk_at dksX4_deals_4 22 rfl rfl)
theorem dX4_deals_127 : decode cX4_deals 127 = .ok (.invokevirtual 119, 3) := dk_182 0 119 (dk_at dksX4_deals_5 0 rfl rfl)
theorem dX4_deals_130 : decode cX4_deals 130 = .ok (.goto 107, 3) := dk_167 0 107 (dk_at dksX4_deals_5 3 rfl rfl)
theorem dX4_deals_133 : decode cX4_deals 133 = .ok (.iload_n 3, 1) := dk_29 (dk_at dksX4_deals_5 6 rfl rfl)
theorem dX4_deals_134 : decode cX4_deals 134 = .ok (.ifCond .le 103, 3) := dk_158 0 103 (dk_at dksX4_deals_5 7 rfl rfl)
theorem dX4_deals_137 : decode cX4_deals 137 = .ok (.iload_n 2, 1) := dk_28 (dk_at dksX4_deals_5 10 rfl rfl)
theorem dX4_deals_138 : decode cX4_deals 138 = .ok (.ifCond .lt 99, 3) := dk_155 0 99 (dk_at dksX4_deals_5 11 rfl rfl)
theorem dX4_deals_141 : decode cX4_deals 141 = .ok (.aload_n 0, 1) := dk_42 (dk_at dksX4_deals_5 14 rfl rfl)
theorem dX4_deals_142 : decode cX4_deals 142 = .ok (.iload_n 2, 1) := dk_28 (dk_at dksX4_deals_5 15 rfl rfl)
theorem dX4_deals_143 : decode cX4_deals 143 = .ok (.iload_n 1, 1) := dk_27 (dk_at dksX4_deals_5 16 rfl rfl)
theorem dX4_deals_144 : decode cX4_deals 144 = .ok (.iload_n 3, 1) := dk_29 (dk_at dksX4_deals_5 17 rfl rfl)
theorem dX4_deals_145 : decode cX4_deals 145 = .ok (.iconst 1, 1) := dk_4 (dk_at dksX4_deals_5 18 rfl rfl)
theorem dX4_deals_146 : decode cX4_deals 146 = .ok (.isub, 1) := dk_100 (dk_at dksX4_deals_5 19 rfl rfl)
theorem dX4_deals_147 : decode cX4_deals 147 = .ok (.invokevirtual 84, 3) := dk_182 0 84 (dk_at dksX4_deals_5 20 rfl rfl)
theorem dX4_deals_150 : decode cX4_deals 150 = .ok (.pop, 1) := dk_87 (dk_at dksX4_deals_5 23 rfl rfl)
theorem dX4_deals_151 : decode cX4_deals 151 = .ok (.goto 86, 3) := dk_167 0 86 (dk_at dksX4_deals_6 0 rfl rfl)
theorem dX4_deals_154 : decode cX4_deals 154 = .ok (.aload_n 0, 1) := dk_42 (dk_at dksX4_deals_6 3 rfl rfl)
theorem dX4_deals_155 : decode cX4_deals 155 = .ok (.iload_n 1, 1) := dk_27 (dk_at dksX4_deals_6 4 rfl rfl)
theorem dX4_deals_156 : decode cX4_deals 156 = .ok (.iload_n 2, 1) := dk_28 (dk_at dksX4_deals_6 5 rfl rfl)
theorem dX4_deals_157 : decode cX4_deals 157 = .ok (.iload_n 3, 1) := dk_29 (dk_at dksX4_deals_6 6 rfl rfl)
theorem dX4_deals_158 : decode cX4_deals 158 = .ok (.invokevirtual 123, 3) := dk_182 0 123 (dk_at dksX4_deals_6 7 rfl rfl)
theorem dX4_deals_161 : decode cX4_deals 161 = .ok (.goto 76, 3) := dk_167 0 76 (dk_at dksX4_deals_6 10 rfl rfl)
theorem dX4_deals_164 : decode cX4_deals 164 = .ok (.aload_n 0, 1) := dk_42 (dk_at dksX4_deals_6 13 rfl rfl)
theorem dX4_deals_165 : decode cX4_deals 165 = .ok (.iload_n 1, 1) := dk_27 (dk_at dksX4_deals_6 14 rfl rfl)
theorem dX4_deals_166 : decode cX4_deals 166 = .ok (.iload_n 3, 1) := dk_29 (dk_at dksX4_deals_6 15 rfl rfl)
theorem dX4_deals_167 : decode cX4_deals 167 = .ok (.invokevirtual 126, 3) := dk_182 0 126 (dk_at dksX4_deals_6 16 rfl rfl)
theorem dX4_deals_170 : decode cX4_deals 170 = .ok (.goto 67, 3) := dk_167 0 67 (dk_at dksX4_deals_6 19 rfl rfl)
theorem dX4_deals_173 : decode cX4_deals 173 = .ok (.iload_n 3, 1) := dk_29 (dk_at dksX4_deals_6 22 rfl rfl)
theorem dX4_deals_174 : decode cX4_deals 174 = .ok (.aload_n 0, 1) := dk_42 (dk_at dksX4_deals_6 23 rfl rfl)
theorem dX4_deals_175 : decode cX4_deals 175 = .ok (.iload_n 1, 1) := dk_27 (dk_at dksX4_deals_7 0 rfl rfl)
theorem dX4_deals_176 : decode cX4_deals 176 = .ok (.bipush 6, 2) := dk_16 6 (dk_at dksX4_deals_7 1 rfl rfl)
theorem dX4_deals_178 : decode cX4_deals 178 = .ok (.invokevirtual 55, 3) := dk_182 0 55 (dk_at dksX4_deals_7 3 rfl rfl)
theorem dX4_deals_181 : decode cX4_deals 181 = .ok (.if_icmp .ge 12, 3) := dk_162 0 12 (dk_at dksX4_deals_7 6 rfl rfl)
theorem dX4_deals_184 : decode cX4_deals 184 = .ok (.aload_n 0, 1) := dk_42 (dk_at dksX4_deals_7 9 rfl rfl)
theorem dX4_deals_185 : decode cX4_deals 185 = .ok (.iload_n 1, 1) := dk_27 (dk_at dksX4_deals_7 10 rfl rfl)
theorem dX4_deals_186 : decode cX4_deals 186 = .ok (.iconst 1, 1) := dk_4 (dk_at dksX4_deals_7 11 rfl rfl)
theorem dX4_deals_187 : decode cX4_deals 187 = .ok (.invokevirtual 111, 3) := dk_182 0 111 (dk_at dksX4_deals_7 12 rfl rfl)
theorem dX4_deals_190 : decode cX4_deals 190 = .ok (.goto 47, 3) := dk_167 0 47 (dk_at dksX4_deals_7 15 rfl rfl)
theorem dX4_deals_193 : decode cX4_deals 193 = .ok (.aload_n 0, 1) := dk_42 (dk_at dksX4_deals_7 18 rfl rfl)
theorem dX4_deals_194 : decode cX4_deals 194 = .ok (.iload_n 1, 1) := dk_27 (dk_at dksX4_deals_7 19 rfl rfl)
theorem dX4_deals_195 : decode cX4_deals 195 = .ok (.bipush 6, 2) := dk_16 6 (dk_at dksX4_deals_7 20 rfl rfl)
theorem dX4_deals_197 : decode cX4_deals 197 = .ok (.iload_n 3, 1) := dk_29 (dk_at dksX4_deals_7 22 rfl rfl)
theorem dX4_deals_198 : decode cX4_deals 198 = .ok (.invokevirtual 63, 3) := dk_182 0 63 (dk_at dksX4_deals_8 0 rfl rfl)
theorem dX4_deals_201 : decode cX4_deals 201 = .ok (.goto 36, 3) := dk_167 0 36 (dk_at dksX4_deals_8 3 rfl rfl)
theorem dX4_deals_204 : decode cX4_deals 204 = .ok (.aload_n 0, 1) := dk_42 (dk_at dksX4_deals_8 6 rfl rfl)
theorem dX4_deals_205 : decode cX4_deals 205 = .ok (.iload_n 1, 1) := dk_27 (dk_at dksX4_deals_8 7 rfl rfl)
theorem dX4_deals_206 : decode cX4_deals 206 = .ok (.iload_n 3, 1) := dk_29 (dk_at dksX4_deals_8 8 rfl rfl)
theorem dX4_deals_207 : decode cX4_deals 207 = .ok (.invokevirtual 129, 3) := dk_182 0 129 (dk_at dksX4_deals_8 9 rfl rfl)
theorem dX4_deals_210 : decode cX4_deals 210 = .ok (.goto 27, 3) := dk_167 0 27 (dk_at dksX4_deals_8 12 rfl rfl)
theorem dX4_deals_213 : decode cX4_deals 213 = .ok (.aload_n 0, 1) := dk_42 (dk_at dksX4_deals_8 15 rfl rfl)
theorem dX4_deals_214 : decode cX4_deals 214 = .ok (.iload_n 1, 1) := dk_27 (dk_at dksX4_deals_8 16 rfl rfl)
theorem dX4_deals_215 : decode cX4_deals 215 = .ok (.iload_n 3, 1) := dk_29 (dk_at dksX4_deals_8 17 rfl rfl)
theorem dX4_deals_216 : decode cX4_deals 216 = .ok (.iconst 1, 1) := dk_4 (dk_at dksX4_deals_8 18 rfl rfl)
theorem dX4_deals_217 : decode cX4_deals 217 = .ok (.invokevirtual 119, 3) := dk_182 0 119 (dk_at dksX4_deals_8 19 rfl rfl)
theorem dX4_deals_220 : decode cX4_deals 220 = .ok (.goto 17, 3) := dk_167 0 17 (dk_at dksX4_deals_9 0 rfl rfl)
theorem dX4_deals_223 : decode cX4_deals 223 = .ok (.aload_n 0, 1) := dk_42 (dk_at dksX4_deals_9 3 rfl rfl)
theorem dX4_deals_224 : decode cX4_deals 224 = .ok (.iload_n 1, 1) := dk_27 (dk_at dksX4_deals_9 4 rfl rfl)
theorem dX4_deals_225 : decode cX4_deals 225 = .ok (.iload_n 3, 1) := dk_29 (dk_at dksX4_deals_9 5 rfl rfl)
theorem dX4_deals_226 : decode cX4_deals 226 = .ok (.invokevirtual 132, 3) := dk_182 0 132 (dk_at dksX4_deals_9 6 rfl rfl)
theorem dX4_deals_229 : decode cX4_deals 229 = .ok (.goto 8, 3) := dk_167 0 8 (dk_at dksX4_deals_9 9 rfl rfl)
theorem dX4_deals_232 : decode cX4_deals 232 = .ok (.aload_n 0, 1) := dk_42 (dk_at dksX4_deals_9 12 rfl rfl)
theorem dX4_deals_233 : decode cX4_deals 233 = .ok (.iload_n 1, 1) := dk_27 (dk_at dksX4_deals_9 13 rfl rfl)
theorem dX4_deals_234 : decode cX4_deals 234 = .ok (.invokevirtual 71, 3) := dk_182 0 71 (dk_at dksX4_deals_9 14 rfl rfl)
theorem dX4_deals_237 : decode cX4_deals 237 = .ok (.return_, 1) := dk_177 (dk_at dksX4_deals_9 17 rfl rfl)
abbrev cX4_fails : ByteArray := prog_23_method_18_code
def yX4_fails : MethodName := ⟨RX4, "fails", "(II)V"⟩
def dkwX4_fails_13 : List UInt8 := [132, 7, 1, 167, 255, 187, 177]
abbrev dktX4_fails_13 : List UInt8 := dkwX4_fails_13 ++ []
def dkwX4_fails_12 : List UInt8 := [54, 8, 21, 8, 153, 0, 20, 42, 21, 7, 21, 5, 182, 0, 67, 153, 0, 9, 42, 21, 7, 182, 0, 108]
abbrev dktX4_fails_12 : List UInt8 := dkwX4_fails_12 ++ dktX4_fails_13
def dkwX4_fails_11 : List UInt8 := [21, 6, 4, 159, 0, 15, 21, 6, 5, 160, 0, 13, 21, 7, 29, 164, 0, 7, 4, 167, 0, 4, 3]
abbrev dktX4_fails_11 : List UInt8 := dkwX4_fails_11 ++ dktX4_fails_12
def dkwX4_fails_10 : List UInt8 := [54, 6, 3, 54, 7, 21, 7, 42, 180, 0, 9, 17, 3, 156, 46, 162, 0, 62, 21, 7, 29, 159, 0, 21]
abbrev dktX4_fails_10 : List UInt8 := dkwX4_fails_10 ++ dktX4_fails_11
def dkwX4_fails_9 : List UInt8 := [182, 0, 55, 54, 5, 21, 5, 156, 0, 9, 42, 29, 182, 0, 71, 177, 42, 21, 5, 5, 182, 0, 55]
abbrev dktX4_fails_9 : List UInt8 := dkwX4_fails_9 ++ dktX4_fails_10
def dkwX4_fails_8 : List UInt8 := [180, 0, 102, 4, 100, 21, 5, 100, 104, 4, 96, 46, 79, 132, 5, 1, 167, 255, 182, 42, 29, 3]
abbrev dktX4_fails_8 : List UInt8 := dkwX4_fails_8 ++ dktX4_fails_9
def dkwX4_fails_7 : List UInt8 := [100, 104, 46, 79, 42, 180, 0, 9, 17, 3, 226, 5, 21, 5, 104, 96, 4, 96, 42, 180, 0, 22, 5, 42]
abbrev dktX4_fails_7 : List UInt8 := dkwX4_fails_7 ++ dktX4_fails_8
def dkwX4_fails_6 : List UInt8 := [180, 0, 9, 17, 3, 226, 5, 21, 5, 104, 96, 42, 180, 0, 22, 5, 42, 180, 0, 102, 4, 100, 21, 5]
abbrev dktX4_fails_6 : List UInt8 := dkwX4_fails_6 ++ dktX4_fails_7
def dkwX4_fails_5 : List UInt8 := [180, 0, 9, 17, 3, 225, 42, 180, 0, 102, 79, 3, 54, 5, 21, 5, 42, 180, 0, 102, 162, 0, 71, 42]
abbrev dktX4_fails_5 : List UInt8 := dkwX4_fails_5 ++ dktX4_fails_6
def dkwX4_fails_4 : List UInt8 := [42, 180, 0, 102, 104, 4, 96, 16, 9, 79, 42, 89, 180, 0, 102, 4, 96, 181, 0, 102, 167, 255, 176, 42]
abbrev dktX4_fails_4 : List UInt8 := dkwX4_fails_4 ++ dktX4_fails_5
def dkwX4_fails_3 : List UInt8 := [153, 0, 44, 21, 5, 62, 42, 180, 0, 22, 5, 42, 180, 0, 102, 104, 21, 5, 79, 42, 180, 0, 22, 5]
abbrev dktX4_fails_3 : List UInt8 := dkwX4_fails_3 ++ dktX4_fails_4
def dkwX4_fails_2 : List UInt8 := [21, 5, 155, 0, 16, 42, 21, 5, 182, 0, 105, 153, 0, 7, 4, 167, 0, 4, 3, 54, 4, 21, 4]
abbrev dktX4_fails_2 : List UInt8 := dkwX4_fails_2 ++ dktX4_fails_3
def dkwX4_fails_1 : List UInt8 := [28, 79, 42, 4, 181, 0, 102, 4, 54, 4, 21, 4, 153, 0, 81, 42, 29, 3, 182, 0, 55, 54, 5]
abbrev dktX4_fails_1 : List UInt8 := dkwX4_fails_1 ++ dktX4_fails_2
def dkwX4_fails_0 : List UInt8 := [42, 4, 181, 0, 98, 42, 3, 181, 0, 102, 27, 62, 42, 180, 0, 22, 3, 27, 79, 42, 180, 0, 22, 4]
abbrev dktX4_fails_0 : List UInt8 := dkwX4_fails_0 ++ dktX4_fails_1
theorem dksX4_fails_0 : cX4_fails.data.toList.drop 0 = dktX4_fails_0 := by decide +kernel
theorem dksX4_fails_1 : cX4_fails.data.toList.drop 24 = dktX4_fails_1 := dk_seg dksX4_fails_0 24 rfl rfl
theorem dksX4_fails_2 : cX4_fails.data.toList.drop 47 = dktX4_fails_2 := dk_seg dksX4_fails_1 23 rfl rfl
theorem dksX4_fails_3 : cX4_fails.data.toList.drop 70 = dktX4_fails_3 := dk_seg dksX4_fails_2 23 rfl rfl
theorem dksX4_fails_4 : cX4_fails.data.toList.drop 94 = dktX4_fails_4 := dk_seg dksX4_fails_3 24 rfl rfl
theorem dksX4_fails_5 : cX4_fails.data.toList.drop 118 = dktX4_fails_5 := dk_seg dksX4_fails_4 24 rfl rfl
theorem dksX4_fails_6 : cX4_fails.data.toList.drop 142 = dktX4_fails_6 := dk_seg dksX4_fails_5 24 rfl rfl
theorem dksX4_fails_7 : cX4_fails.data.toList.drop 166 = dktX4_fails_7 := dk_seg dksX4_fails_6 24 rfl rfl
theorem dksX4_fails_8 : cX4_fails.data.toList.drop 190 = dktX4_fails_8 := dk_seg dksX4_fails_7 24 rfl rfl
theorem dksX4_fails_9 : cX4_fails.data.toList.drop 212 = dktX4_fails_9 := dk_seg dksX4_fails_8 22 rfl rfl
theorem dksX4_fails_10 : cX4_fails.data.toList.drop 235 = dktX4_fails_10 := dk_seg dksX4_fails_9 23 rfl rfl
theorem dksX4_fails_11 : cX4_fails.data.toList.drop 259 = dktX4_fails_11 := dk_seg dksX4_fails_10 24 rfl rfl
theorem dksX4_fails_12 : cX4_fails.data.toList.drop 282 = dktX4_fails_12 := dk_seg dksX4_fails_11 23 rfl rfl
theorem dksX4_fails_13 : cX4_fails.data.toList.drop 306 = dktX4_fails_13 := dk_seg dksX4_fails_12 24 rfl rfl
theorem dX4_fails_0 : decode cX4_fails 0 = .ok (.aload_n 0, 1) := dk_42 (dk_at dksX4_fails_0 0 rfl rfl)
theorem dX4_fails_1 : decode cX4_fails 1 = .ok (.iconst 1, 1) := dk_4 (dk_at dksX4_fails_0 1 rfl rfl)
theorem dX4_fails_2 : decode cX4_fails 2 = .ok (.putfield 98, 3) := dk_181 0 98 (dk_at dksX4_fails_0 2 rfl rfl)
theorem dX4_fails_5 : decode cX4_fails 5 = .ok (.aload_n 0, 1) := dk_42 (dk_at dksX4_fails_0 5 rfl rfl)
theorem dX4_fails_6 : decode cX4_fails 6 = .ok (.iconst 0, 1) := dk_3 (dk_at dksX4_fails_0 6 rfl rfl)
theorem dX4_fails_7 : decode cX4_fails 7 = .ok (.putfield 102, 3) := dk_181 0 102 (dk_at dksX4_fails_0 7 rfl rfl)
theorem dX4_fails_10 : decode cX4_fails 10 = .ok (.iload_n 1, 1) := dk_27 (dk_at dksX4_fails_0 10 rfl rfl)
theorem dX4_fails_11 : decode cX4_fails 11 = .ok (.istore_n 3, 1) := dk_62 (dk_at dksX4_fails_0 11 rfl rfl)
theorem dX4_fails_12 : decode cX4_fails 12 = .ok (.aload_n 0, 1) := dk_42 (dk_at dksX4_fails_0 12 rfl rfl)
theorem dX4_fails_13 : decode cX4_fails 13 = .ok (.getfield 22, 3) := dk_180 0 22 (dk_at dksX4_fails_0 13 rfl rfl)
theorem dX4_fails_16 : decode cX4_fails 16 = .ok (.iconst 0, 1) := dk_3 (dk_at dksX4_fails_0 16 rfl rfl)
theorem dX4_fails_17 : decode cX4_fails 17 = .ok (.iload_n 1, 1) := dk_27 (dk_at dksX4_fails_0 17 rfl rfl)
theorem dX4_fails_18 : decode cX4_fails 18 = .ok (.iastore, 1) := dk_79 (dk_at dksX4_fails_0 18 rfl rfl)
theorem dX4_fails_19 : decode cX4_fails 19 = .ok (.aload_n 0, 1) := dk_42 (dk_at dksX4_fails_0 19 rfl rfl)
theorem dX4_fails_20 : decode cX4_fails 20 = .ok (.getfield 22, 3) := dk_180 0 22 (dk_at dksX4_fails_0 20 rfl rfl)
theorem dX4_fails_23 : decode cX4_fails 23 = .ok (.iconst 1, 1) := dk_4 (dk_at dksX4_fails_0 23 rfl rfl)
theorem dX4_fails_24 : decode cX4_fails 24 = .ok (.iload_n 2, 1) := dk_28 (dk_at dksX4_fails_1 0 rfl rfl)
theorem dX4_fails_25 : decode cX4_fails 25 = .ok (.iastore, 1) := dk_79 (dk_at dksX4_fails_1 1 rfl rfl)
theorem dX4_fails_26 : decode cX4_fails 26 = .ok (.aload_n 0, 1) := dk_42 (dk_at dksX4_fails_1 2 rfl rfl)
theorem dX4_fails_27 : decode cX4_fails 27 = .ok (.iconst 1, 1) := dk_4 (dk_at dksX4_fails_1 3 rfl rfl)
theorem dX4_fails_28 : decode cX4_fails 28 = .ok (.putfield 102, 3) := dk_181 0 102 (dk_at dksX4_fails_1 4 rfl rfl)
theorem dX4_fails_31 : decode cX4_fails 31 = .ok (.iconst 1, 1) := dk_4 (dk_at dksX4_fails_1 7 rfl rfl)
theorem dX4_fails_32 : decode cX4_fails 32 = .ok (.istore 4, 2) := dk_54 4 (dk_at dksX4_fails_1 8 rfl rfl)
theorem dX4_fails_34 : decode cX4_fails 34 = .ok (.iload 4, 2) := dk_21 4 (dk_at dksX4_fails_1 10 rfl rfl)
theorem dX4_fails_36 : decode cX4_fails 36 = .ok (.ifCond .eq 81, 3) := dk_153 0 81 (dk_at dksX4_fails_1 12 rfl rfl)
theorem dX4_fails_39 : decode cX4_fails 39 = .ok (.aload_n 0, 1) := dk_42 (dk_at dksX4_fails_1 15 rfl rfl)
theorem dX4_fails_40 : decode cX4_fails 40 = .ok (.iload_n 3, 1) := dk_29 (dk_at dksX4_fails_1 16 rfl rfl)
theorem dX4_fails_41 : decode cX4_fails 41 = .ok (.iconst 0, 1) := dk_3 (dk_at dksX4_fails_1 17 rfl rfl)
theorem dX4_fails_42 : decode cX4_fails 42 = .ok (.invokevirtual 55, 3) := dk_182 0 55 (dk_at dksX4_fails_1 18 rfl rfl)
theorem dX4_fails_45 : decode cX4_fails 45 = .ok (.istore 5, 2) := dk_54 5 (dk_at dksX4_fails_1 21 rfl rfl)
theorem dX4_fails_47 : decode cX4_fails 47 = .ok (.iload 5, 2) := dk_21 5 (dk_at dksX4_fails_2 0 rfl rfl)
theorem dX4_fails_49 : decode cX4_fails 49 = .ok (.ifCond .lt 16, 3) := dk_155 0 16 (dk_at dksX4_fails_2 2 rfl rfl)
theorem dX4_fails_52 : decode cX4_fails 52 = .ok (.aload_n 0, 1) := dk_42 (dk_at dksX4_fails_2 5 rfl rfl)
theorem dX4_fails_53 : decode cX4_fails 53 = .ok (.iload 5, 2) := dk_21 5 (dk_at dksX4_fails_2 6 rfl rfl)
theorem dX4_fails_55 : decode cX4_fails 55 = .ok (.invokevirtual 105, 3) := dk_182 0 105 (dk_at dksX4_fails_2 8 rfl rfl)
theorem dX4_fails_58 : decode cX4_fails 58 = .ok (.ifCond .eq 7, 3) := dk_153 0 7 (dk_at dksX4_fails_2 11 rfl rfl)
theorem dX4_fails_61 : decode cX4_fails 61 = .ok (.iconst 1, 1) := dk_4 (dk_at dksX4_fails_2 14 rfl rfl)
theorem dX4_fails_62 : decode cX4_fails 62 = .ok (.goto 4, 3) := dk_167 0 4 (dk_at dksX4_fails_2 15 rfl rfl)
theorem dX4_fails_65 : decode cX4_fails 65 = .ok (.iconst 0, 1) := dk_3 (dk_at dksX4_fails_2 18 rfl rfl)
theorem dX4_fails_66 : decode cX4_fails 66 = .ok (.istore 4, 2) := dk_54 4 (dk_at dksX4_fails_2 19 rfl rfl)
theorem dX4_fails_68 : decode cX4_fails 68 = .ok (.iload 4, 2) := dk_21 4 (dk_at dksX4_fails_2 21 rfl rfl)
theorem dX4_fails_70 : decode cX4_fails 70 = .ok (.ifCond .eq 44, 3) := dk_153 0 44 (dk_at dksX4_fails_3 0 rfl rfl)
theorem dX4_fails_73 : decode cX4_fails 73 = .ok (.iload 5, 2) := dk_21 5 (dk_at dksX4_fails_3 3 rfl rfl)
theorem dX4_fails_75 : decode cX4_fails 75 = .ok (.istore_n 3, 1) := dk_62 (dk_at dksX4_fails_3 5 rfl rfl)
theorem dX4_fails_76 : decode cX4_fails 76 = .ok (.aload_n 0, 1) := dk_42 (dk_at dksX4_fails_3 6 rfl rfl)
theorem dX4_fails_77 : decode cX4_fails 77 = .ok (.getfield 22, 3) := dk_180 0 22 (dk_at dksX4_fails_3 7 rfl rfl)
theorem dX4_fails_80 : decode cX4_fails 80 = .ok (.iconst 2, 1) := dk_5 (dk_at dksX4_fails_3 10 rfl rfl)
theorem dX4_fails_81 : decode cX4_fails 81 = .ok (.aload_n 0, 1) := dk_42 (dk_at dksX4_fails_3 11 rfl rfl)
theorem dX4_fails_82 : decode cX4_fails 82 = .ok (.getfield 102, 3) := dk_180 0 102 (dk_at dksX4_fails_3 12 rfl rfl)
theorem dX4_fails_85 : decode cX4_fails 85 = .ok (.imul, 1) := dk_104 (dk_at dksX4_fails_3 15 rfl rfl)
theorem dX4_fails_86 : decode cX4_fails 86 = .ok (.iload 5, 2) := dk_21 5 (dk_at dksX4_fails_3 16 rfl rfl)
theorem dX4_fails_88 : decode cX4_fails 88 = .ok (.iastore, 1) := dk_79 (dk_at dksX4_fails_3 18 rfl rfl)
theorem dX4_fails_89 : decode cX4_fails 89 = .ok (.aload_n 0, 1) := dk_42 (dk_at dksX4_fails_3 19 rfl rfl)
theorem dX4_fails_90 : decode cX4_fails 90 = .ok (.getfield 22, 3) := dk_180 0 22 (dk_at dksX4_fails_3 20 rfl rfl)
theorem dX4_fails_93 : decode cX4_fails 93 = .ok (.iconst 2, 1) := dk_5 (dk_at dksX4_fails_3 23 rfl rfl)
theorem dX4_fails_94 : decode cX4_fails 94 = .ok (.aload_n 0, 1) := dk_42 (dk_at dksX4_fails_4 0 rfl rfl)
theorem dX4_fails_95 : decode cX4_fails 95 = .ok (.getfield 102, 3) := dk_180 0 102 (dk_at dksX4_fails_4 1 rfl rfl)
theorem dX4_fails_98 : decode cX4_fails 98 = .ok (.imul, 1) := dk_104 (dk_at dksX4_fails_4 4 rfl rfl)
theorem dX4_fails_99 : decode cX4_fails 99 = .ok (.iconst 1, 1) := dk_4 (dk_at dksX4_fails_4 5 rfl rfl)
theorem dX4_fails_100 : decode cX4_fails 100 = .ok (.iadd, 1) := dk_96 (dk_at dksX4_fails_4 6 rfl rfl)
theorem dX4_fails_101 : decode cX4_fails 101 = .ok (.bipush 9, 2) := dk_16 9 (dk_at dksX4_fails_4 7 rfl rfl)
theorem dX4_fails_103 : decode cX4_fails 103 = .ok (.iastore, 1) := dk_79 (dk_at dksX4_fails_4 9 rfl rfl)
theorem dX4_fails_104 : decode cX4_fails 104 = .ok (.aload_n 0, 1) := dk_42 (dk_at dksX4_fails_4 10 rfl rfl)
theorem dX4_fails_105 : decode cX4_fails 105 = .ok (.dup, 1) := dk_89 (dk_at dksX4_fails_4 11 rfl rfl)
theorem dX4_fails_106 : decode cX4_fails 106 = .ok (.getfield 102, 3) := dk_180 0 102 (dk_at dksX4_fails_4 12 rfl rfl)
theorem dX4_fails_109 : decode cX4_fails 109 = .ok (.iconst 1, 1) := dk_4 (dk_at dksX4_fails_4 15 rfl rfl)
theorem dX4_fails_110 : decode cX4_fails 110 = .ok (.iadd, 1) := dk_96 (dk_at dksX4_fails_4 16 rfl rfl)
theorem dX4_fails_111 : decode cX4_fails 111 = .ok (.putfield 102, 3) := dk_181 0 102 (dk_at dksX4_fails_4 17 rfl rfl)
theorem dX4_fails_114 : decode cX4_fails 114 = .ok (.goto (-80), 3) := dk_167 255 176 (dk_at dksX4_fails_4 20 rfl rfl)
theorem dX4_fails_117 : decode cX4_fails 117 = .ok (.aload_n 0, 1) := dk_42 (dk_at dksX4_fails_4 23 rfl rfl)
theorem dX4_fails_118 : decode cX4_fails 118 = .ok (.getfield 9, 3) := dk_180 0 9 (dk_at dksX4_fails_5 0 rfl rfl)
theorem dX4_fails_121 : decode cX4_fails 121 = .ok (.sipush 993, 3) := dk_17 3 225 (dk_at dksX4_fails_5 3 rfl rfl)
theorem dX4_fails_124 : decode cX4_fails 124 = .ok (.aload_n 0, 1) := dk_42 (dk_at dksX4_fails_5 6 rfl rfl)
theorem dX4_fails_125 : decode cX4_fails 125 = .ok (.getfield 102, 3) := dk_180 0 102 (dk_at dksX4_fails_5 7 rfl rfl)
theorem dX4_fails_128 : decode cX4_fails 128 = .ok (.iastore, 1) := dk_79 (dk_at dksX4_fails_5 10 rfl rfl)
theorem dX4_fails_129 : decode cX4_fails 129 = .ok (.iconst 0, 1) := dk_3 (dk_at dksX4_fails_5 11 rfl rfl)
theorem dX4_fails_130 : decode cX4_fails 130 = .ok (.istore 5, 2) := dk_54 5 (dk_at dksX4_fails_5 12 rfl rfl)
theorem dX4_fails_132 : decode cX4_fails 132 = .ok (.iload 5, 2) := dk_21 5 (dk_at dksX4_fails_5 14 rfl rfl)
theorem dX4_fails_134 : decode cX4_fails 134 = .ok (.aload_n 0, 1) := dk_42 (dk_at dksX4_fails_5 16 rfl rfl)
theorem dX4_fails_135 : decode cX4_fails 135 = .ok (.getfield 102, 3) := dk_180 0 102 (dk_at dksX4_fails_5 17 rfl rfl)
theorem dX4_fails_138 : decode cX4_fails 138 = .ok (.if_icmp .ge 71, 3) := dk_162 0 71 (dk_at dksX4_fails_5 20 rfl rfl)
theorem dX4_fails_141 : decode cX4_fails 141 = .ok (.aload_n 0, 1) := dk_42 (dk_at dksX4_fails_5 23 rfl rfl)
theorem dX4_fails_142 : decode cX4_fails 142 = .ok (.getfield 9, 3) := dk_180 0 9 (dk_at dksX4_fails_6 0 rfl rfl)
theorem dX4_fails_145 : decode cX4_fails 145 = .ok (.sipush 994, 3) := dk_17 3 226 (dk_at dksX4_fails_6 3 rfl rfl)
theorem dX4_fails_148 : decode cX4_fails 148 = .ok (.iconst 2, 1) := dk_5 (dk_at dksX4_fails_6 6 rfl rfl)
theorem dX4_fails_149 : decode cX4_fails 149 = .ok (.iload 5, 2) := dk_21 5 (dk_at dksX4_fails_6 7 rfl rfl)
theorem dX4_fails_151 : decode cX4_fails 151 = .ok (.imul, 1) := dk_104 (dk_at dksX4_fails_6 9 rfl rfl)
theorem dX4_fails_152 : decode cX4_fails 152 = .ok (.iadd, 1) := dk_96 (dk_at dksX4_fails_6 10 rfl rfl)
theorem dX4_fails_153 : decode cX4_fails 153 = .ok (.aload_n 0, 1) := dk_42 (dk_at dksX4_fails_6 11 rfl rfl)
theorem dX4_fails_154 : decode cX4_fails 154 = .ok (.getfield 22, 3) := dk_180 0 22 (dk_at dksX4_fails_6 12 rfl rfl)
theorem dX4_fails_157 : decode cX4_fails 157 = .ok (.iconst 2, 1) := dk_5 (dk_at dksX4_fails_6 15 rfl rfl)
theorem dX4_fails_158 : decode cX4_fails 158 = .ok (.aload_n 0, 1) := dk_42 (dk_at dksX4_fails_6 16 rfl rfl)
theorem dX4_fails_159 : decode cX4_fails 159 = .ok (.getfield 102, 3) := dk_180 0 102 (dk_at dksX4_fails_6 17 rfl rfl)
theorem dX4_fails_162 : decode cX4_fails 162 = .ok (.iconst 1, 1) := dk_4 (dk_at dksX4_fails_6 20 rfl rfl)
theorem dX4_fails_163 : decode cX4_fails 163 = .ok (.isub, 1) := dk_100 (dk_at dksX4_fails_6 21 rfl rfl)
theorem dX4_fails_164 : decode cX4_fails 164 = .ok (.iload 5, 2) := dk_21 5 (dk_at dksX4_fails_6 22 rfl rfl)
theorem dX4_fails_166 : decode cX4_fails 166 = .ok (.isub, 1) := dk_100 (dk_at dksX4_fails_7 0 rfl rfl)
theorem dX4_fails_167 : decode cX4_fails 167 = .ok (.imul, 1) := dk_104 (dk_at dksX4_fails_7 1 rfl rfl)
theorem dX4_fails_168 : decode cX4_fails 168 = .ok (.iaload, 1) := dk_46 (dk_at dksX4_fails_7 2 rfl rfl)
theorem dX4_fails_169 : decode cX4_fails 169 = .ok (.iastore, 1) := dk_79 (dk_at dksX4_fails_7 3 rfl rfl)
theorem dX4_fails_170 : decode cX4_fails 170 = .ok (.aload_n 0, 1) := dk_42 (dk_at dksX4_fails_7 4 rfl rfl)
theorem dX4_fails_171 : decode cX4_fails 171 = .ok (.getfield 9, 3) := dk_180 0 9 (dk_at dksX4_fails_7 5 rfl rfl)
theorem dX4_fails_174 : decode cX4_fails 174 = .ok (.sipush 994, 3) := dk_17 3 226 (dk_at dksX4_fails_7 8 rfl rfl)
theorem dX4_fails_177 : decode cX4_fails 177 = .ok (.iconst 2, 1) := dk_5 (dk_at dksX4_fails_7 11 rfl rfl)
theorem dX4_fails_178 : decode cX4_fails 178 = .ok (.iload 5, 2) := dk_21 5 (dk_at dksX4_fails_7 12 rfl rfl)
theorem dX4_fails_180 : decode cX4_fails 180 = .ok (.imul, 1) := dk_104 (dk_at dksX4_fails_7 14 rfl rfl)
theorem dX4_fails_181 : decode cX4_fails 181 = .ok (.iadd, 1) := dk_96 (dk_at dksX4_fails_7 15 rfl rfl)
theorem dX4_fails_182 : decode cX4_fails 182 = .ok (.iconst 1, 1) := dk_4 (dk_at dksX4_fails_7 16 rfl rfl)
theorem dX4_fails_183 : decode cX4_fails 183 = .ok (.iadd, 1) := dk_96 (dk_at dksX4_fails_7 17 rfl rfl)
theorem dX4_fails_184 : decode cX4_fails 184 = .ok (.aload_n 0, 1) := dk_42 (dk_at dksX4_fails_7 18 rfl rfl)
theorem dX4_fails_185 : decode cX4_fails 185 = .ok (.getfield 22, 3) := dk_180 0 22 (dk_at dksX4_fails_7 19 rfl rfl)
theorem dX4_fails_188 : decode cX4_fails 188 = .ok (.iconst 2, 1) := dk_5 (dk_at dksX4_fails_7 22 rfl rfl)
theorem dX4_fails_189 : decode cX4_fails 189 = .ok (.aload_n 0, 1) := dk_42 (dk_at dksX4_fails_7 23 rfl rfl)
theorem dX4_fails_190 : decode cX4_fails 190 = .ok (.getfield 102, 3) := dk_180 0 102 (dk_at dksX4_fails_8 0 rfl rfl)
theorem dX4_fails_193 : decode cX4_fails 193 = .ok (.iconst 1, 1) := dk_4 (dk_at dksX4_fails_8 3 rfl rfl)
theorem dX4_fails_194 : decode cX4_fails 194 = .ok (.isub, 1) := dk_100 (dk_at dksX4_fails_8 4 rfl rfl)
theorem dX4_fails_195 : decode cX4_fails 195 = .ok (.iload 5, 2) := dk_21 5 (dk_at dksX4_fails_8 5 rfl rfl)
theorem dX4_fails_197 : decode cX4_fails 197 = .ok (.isub, 1) := dk_100 (dk_at dksX4_fails_8 7 rfl rfl)
theorem dX4_fails_198 : decode cX4_fails 198 = .ok (.imul, 1) := dk_104 (dk_at dksX4_fails_8 8 rfl rfl)
theorem dX4_fails_199 : decode cX4_fails 199 = .ok (.iconst 1, 1) := dk_4 (dk_at dksX4_fails_8 9 rfl rfl)
theorem dX4_fails_200 : decode cX4_fails 200 = .ok (.iadd, 1) := dk_96 (dk_at dksX4_fails_8 10 rfl rfl)
theorem dX4_fails_201 : decode cX4_fails 201 = .ok (.iaload, 1) := dk_46 (dk_at dksX4_fails_8 11 rfl rfl)
theorem dX4_fails_202 : decode cX4_fails 202 = .ok (.iastore, 1) := dk_79 (dk_at dksX4_fails_8 12 rfl rfl)
theorem dX4_fails_203 : decode cX4_fails 203 = .ok (.iinc 5 1, 3) := dk_132 5 1 (dk_at dksX4_fails_8 13 rfl rfl)
theorem dX4_fails_206 : decode cX4_fails 206 = .ok (.goto (-74), 3) := dk_167 255 182 (dk_at dksX4_fails_8 16 rfl rfl)
theorem dX4_fails_209 : decode cX4_fails 209 = .ok (.aload_n 0, 1) := dk_42 (dk_at dksX4_fails_8 19 rfl rfl)
theorem dX4_fails_210 : decode cX4_fails 210 = .ok (.iload_n 3, 1) := dk_29 (dk_at dksX4_fails_8 20 rfl rfl)
theorem dX4_fails_211 : decode cX4_fails 211 = .ok (.iconst 0, 1) := dk_3 (dk_at dksX4_fails_8 21 rfl rfl)
theorem dX4_fails_212 : decode cX4_fails 212 = .ok (.invokevirtual 55, 3) := dk_182 0 55 (dk_at dksX4_fails_9 0 rfl rfl)
theorem dX4_fails_215 : decode cX4_fails 215 = .ok (.istore 5, 2) := dk_54 5 (dk_at dksX4_fails_9 3 rfl rfl)
theorem dX4_fails_217 : decode cX4_fails 217 = .ok (.iload 5, 2) := dk_21 5 (dk_at dksX4_fails_9 5 rfl rfl)
theorem dX4_fails_219 : decode cX4_fails 219 = .ok (.ifCond .ge 9, 3) := dk_156 0 9 (dk_at dksX4_fails_9 7 rfl rfl)
theorem dX4_fails_222 : decode cX4_fails 222 = .ok (.aload_n 0, 1) := dk_42 (dk_at dksX4_fails_9 10 rfl rfl)
theorem dX4_fails_223 : decode cX4_fails 223 = .ok (.iload_n 3, 1) := dk_29 (dk_at dksX4_fails_9 11 rfl rfl)
theorem dX4_fails_224 : decode cX4_fails 224 = .ok (.invokevirtual 71, 3) := dk_182 0 71 (dk_at dksX4_fails_9 12 rfl rfl)
theorem dX4_fails_227 : decode cX4_fails 227 = .ok (.return_, 1) := dk_177 (dk_at dksX4_fails_9 15 rfl rfl)
theorem dX4_fails_228 : decode cX4_fails 228 = .ok (.aload_n 0, 1) := dk_42 (dk_at dksX4_fails_9 16 rfl rfl)
theorem dX4_fails_229 : decode cX4_fails 229 = .ok (.iload 5, 2) := dk_21 5 (dk_at dksX4_fails_9 17 rfl rfl)
theorem dX4_fails_231 : decode cX4_fails 231 = .ok (.iconst 2, 1) := dk_5 (dk_at dksX4_fails_9 19 rfl rfl)
theorem dX4_fails_232 : decode cX4_fails 232 = .ok (.invokevirtual 55, 3) := dk_182 0 55 (dk_at dksX4_fails_9 20 rfl rfl)
theorem dX4_fails_235 : decode cX4_fails 235 = .ok (.istore 6, 2) := dk_54 6 (dk_at dksX4_fails_10 0 rfl rfl)
theorem dX4_fails_237 : decode cX4_fails 237 = .ok (.iconst 0, 1) := dk_3 (dk_at dksX4_fails_10 2 rfl rfl)
theorem dX4_fails_238 : decode cX4_fails 238 = .ok (.istore 7, 2) := dk_54 7 (dk_at dksX4_fails_10 3 rfl rfl)
theorem dX4_fails_240 : decode cX4_fails 240 = .ok (.iload 7, 2) := dk_21 7 (dk_at dksX4_fails_10 5 rfl rfl)
theorem dX4_fails_242 : decode cX4_fails 242 = .ok (.aload_n 0, 1) := dk_42 (dk_at dksX4_fails_10 7 rfl rfl)
theorem dX4_fails_243 : decode cX4_fails 243 = .ok (.getfield 9, 3) := dk_180 0 9 (dk_at dksX4_fails_10 8 rfl rfl)
theorem dX4_fails_246 : decode cX4_fails 246 = .ok (.sipush 924, 3) := dk_17 3 156 (dk_at dksX4_fails_10 11 rfl rfl)
theorem dX4_fails_249 : decode cX4_fails 249 = .ok (.iaload, 1) := dk_46 (dk_at dksX4_fails_10 14 rfl rfl)
theorem dX4_fails_250 : decode cX4_fails 250 = .ok (.if_icmp .ge 62, 3) := dk_162 0 62 (dk_at dksX4_fails_10 15 rfl rfl)
theorem dX4_fails_253 : decode cX4_fails 253 = .ok (.iload 7, 2) := dk_21 7 (dk_at dksX4_fails_10 18 rfl rfl)
theorem dX4_fails_255 : decode cX4_fails 255 = .ok (.iload_n 3, 1) := dk_29 (dk_at dksX4_fails_10 20 rfl rfl)
theorem dX4_fails_256 : decode cX4_fails 256 = .ok (.if_icmp .eq 21, 3) := dk_159 0 21 (dk_at dksX4_fails_10 21 rfl rfl)
theorem dX4_fails_259 : decode cX4_fails 259 = .ok (.iload 6, 2) := dk_21 6 (dk_at dksX4_fails_11 0 rfl rfl)
theorem dX4_fails_261 : decode cX4_fails 261 = .ok (.iconst 1, 1) := dk_4 (dk_at dksX4_fails_11 2 rfl rfl)
theorem dX4_fails_262 : decode cX4_fails 262 = .ok (.if_icmp .eq 15, 3) := dk_159 0 15 (dk_at dksX4_fails_11 3 rfl rfl)
theorem dX4_fails_265 : decode cX4_fails 265 = .ok (.iload 6, 2) := dk_21 6 (dk_at dksX4_fails_11 6 rfl rfl)
theorem dX4_fails_267 : decode cX4_fails 267 = .ok (.iconst 2, 1) := dk_5 (dk_at dksX4_fails_11 8 rfl rfl)
theorem dX4_fails_268 : decode cX4_fails 268 = .ok (.if_icmp .ne 13, 3) := dk_160 0 13 (dk_at dksX4_fails_11 9 rfl rfl)
theorem dX4_fails_271 : decode cX4_fails 271 = .ok (.iload 7, 2) := dk_21 7 (dk_at dksX4_fails_11 12 rfl rfl)
theorem dX4_fails_273 : decode cX4_fails 273 = .ok (.iload_n 3, 1) := dk_29 (dk_at dksX4_fails_11 14 rfl rfl)
theorem dX4_fails_274 : decode cX4_fails 274 = .ok (.if_icmp .le 7, 3) := dk_164 0 7 (dk_at dksX4_fails_11 15 rfl rfl)
theorem dX4_fails_277 : decode cX4_fails 277 = .ok (.iconst 1, 1) := dk_4 (dk_at dksX4_fails_11 18 rfl rfl)
theorem dX4_fails_278 : decode cX4_fails 278 = .ok (.goto 4, 3) := dk_167 0 4 (dk_at dksX4_fails_11 19 rfl rfl)
theorem dX4_fails_281 : decode cX4_fails 281 = .ok (.iconst 0, 1) := dk_3 (dk_at dksX4_fails_11 22 rfl rfl)
theorem dX4_fails_282 : decode cX4_fails 282 = .ok (.istore 8, 2) := dk_54 8 (dk_at dksX4_fails_12 0 rfl rfl)
theorem dX4_fails_284 : decode cX4_fails 284 = .ok (.iload 8, 2) := dk_21 8 (dk_at dksX4_fails_12 2 rfl rfl)
theorem dX4_fails_286 : decode cX4_fails 286 = .ok (.ifCond .eq 20, 3) := dk_153 0 20 (dk_at dksX4_fails_12 4 rfl rfl)
theorem dX4_fails_289 : decode cX4_fails 289 = .ok (.aload_n 0, 1) := dk_42 (dk_at dksX4_fails_12 7 rfl rfl)
theorem dX4_fails_290 : decode cX4_fails 290 = .ok (.iload 7, 2) := dk_21 7 (dk_at dksX4_fails_12 8 rfl rfl)
theorem dX4_fails_292 : decode cX4_fails 292 = .ok (.iload 5, 2) := dk_21 5 (dk_at dksX4_fails_12 10 rfl rfl)
theorem dX4_fails_294 : decode cX4_fails 294 = .ok (.invokevirtual 67, 3) := dk_182 0 67 (dk_at dksX4_fails_12 12 rfl rfl)
theorem dX4_fails_297 : decode cX4_fails 297 = .ok (.ifCond .eq 9, 3) := dk_153 0 9 (dk_at dksX4_fails_12 15 rfl rfl)
theorem dX4_fails_300 : decode cX4_fails 300 = .ok (.aload_n 0, 1) := dk_42 (dk_at dksX4_fails_12 18 rfl rfl)
theorem dX4_fails_301 : decode cX4_fails 301 = .ok (.iload 7, 2) := dk_21 7 (dk_at dksX4_fails_12 19 rfl rfl)
theorem dX4_fails_303 : decode cX4_fails 303 = .ok (.invokevirtual 108, 3) := dk_182 0 108 (dk_at dksX4_fails_12 21 rfl rfl)
theorem dX4_fails_306 : decode cX4_fails 306 = .ok (.iinc 7 1, 3) := dk_132 7 1 (dk_at dksX4_fails_13 0 rfl rfl)
theorem dX4_fails_309 : decode cX4_fails 309 = .ok (.goto (-69), 3) := dk_167 255 187 (dk_at dksX4_fails_13 3 rfl rfl)
theorem dX4_fails_312 : decode cX4_fails 312 = .ok (.return_, 1) := dk_177 (dk_at dksX4_fails_13 6 rfl rfl)
abbrev cX4_isOverBudget : ByteArray := prog_23_method_17_code
def yX4_isOverBudget : MethodName := ⟨RX4, "isOverBudget", "(I)Z"⟩
def dkwX4_isOverBudget_2 : List UInt8 := [167, 0, 4, 3, 172]
abbrev dktX4_isOverBudget_2 : List UInt8 := dkwX4_isOverBudget_2 ++ []
def dkwX4_isOverBudget_1 : List UInt8 := [42, 27, 16, 64, 28, 4, 96, 182, 0, 63, 28, 4, 96, 42, 27, 6, 182, 0, 55, 164, 0, 7, 4]
abbrev dktX4_isOverBudget_1 : List UInt8 := dkwX4_isOverBudget_1 ++ dktX4_isOverBudget_2
def dkwX4_isOverBudget_0 : List UInt8 := [42, 27, 4, 182, 0, 94, 61, 42, 27, 16, 65, 28, 96, 42, 180, 0, 9, 17, 3, 157, 46, 182, 0, 63]
abbrev dktX4_isOverBudget_0 : List UInt8 := dkwX4_isOverBudget_0 ++ dktX4_isOverBudget_1
theorem dksX4_isOverBudget_0 : cX4_isOverBudget.data.toList.drop 0 = dktX4_isOverBudget_0 := by decide +kernel
theorem dksX4_isOverBudget_1 : cX4_isOverBudget.data.toList.drop 24 = dktX4_isOverBudget_1 := dk_seg dksX4_isOverBudget_0 24 rfl rfl
theorem dksX4_isOverBudget_2 : cX4_isOverBudget.data.toList.drop 47 = dktX4_isOverBudget_2 := dk_seg dksX4_isOverBudget_1 23 rfl rfl
theorem dX4_isOverBudget_0 : decode cX4_isOverBudget 0 = .ok (.aload_n 0, 1) := dk_42 (dk_at dksX4_isOverBudget_0 0 rfl rfl)
theorem dX4_isOverBudget_1 : decode cX4_isOverBudget 1 = .ok (.iload_n 1, 1) := dk_27 (dk_at dksX4_isOverBudget_0 1 rfl rfl)
theorem dX4_isOverBudget_2 : decode cX4_isOverBudget 2 = .ok (.iconst 1, 1) := dk_4 (dk_at dksX4_isOverBudget_0 2 rfl rfl)
theorem dX4_isOverBudget_3 : decode cX4_isOverBudget 3 = .ok (.invokevirtual 94, 3) := dk_182 0 94 (dk_at dksX4_isOverBudget_0 3 rfl rfl)
theorem dX4_isOverBudget_6 : decode cX4_isOverBudget 6 = .ok (.istore_n 2, 1) := dk_61 (dk_at dksX4_isOverBudget_0 6 rfl rfl)
theorem dX4_isOverBudget_7 : decode cX4_isOverBudget 7 = .ok (.aload_n 0, 1) := dk_42 (dk_at dksX4_isOverBudget_0 7 rfl rfl)
theorem dX4_isOverBudget_8 : decode cX4_isOverBudget 8 = .ok (.iload_n 1, 1) := dk_27 (dk_at dksX4_isOverBudget_0 8 rfl rfl)
theorem dX4_isOverBudget_9 : decode cX4_isOverBudget 9 = .ok (.bipush 65, 2) := dk_16 65 (dk_at dksX4_isOverBudget_0 9 rfl rfl)
theorem dX4_isOverBudget_11 : decode cX4_isOverBudget 11 = .ok (.iload_n 2, 1) := dk_28 (dk_at dksX4_isOverBudget_0 11 rfl rfl)
theorem dX4_isOverBudget_12 : decode cX4_isOverBudget 12 = .ok (.iadd, 1) := dk_96 (dk_at dksX4_isOverBudget_0 12 rfl rfl)
theorem dX4_isOverBudget_13 : decode cX4_isOverBudget 13 = .ok (.aload_n 0, 1) := dk_42 (dk_at dksX4_isOverBudget_0 13 rfl rfl)
theorem dX4_isOverBudget_14 : decode cX4_isOverBudget 14 = .ok (.getfield 9, 3) := dk_180 0 9 (dk_at dksX4_isOverBudget_0 14 rfl rfl)
theorem dX4_isOverBudget_17 : decode cX4_isOverBudget 17 = .ok (.sipush 925, 3) := dk_17 3 157 (dk_at dksX4_isOverBudget_0 17 rfl rfl)
theorem dX4_isOverBudget_20 : decode cX4_isOverBudget 20 = .ok (.iaload, 1) := dk_46 (dk_at dksX4_isOverBudget_0 20 rfl rfl)
theorem dX4_isOverBudget_21 : decode cX4_isOverBudget 21 = .ok (.invokevirtual 63, 3) := dk_182 0 63 (dk_at dksX4_isOverBudget_0 21 rfl rfl)
theorem dX4_isOverBudget_24 : decode cX4_isOverBudget 24 = .ok (.aload_n 0, 1) := dk_42 (dk_at dksX4_isOverBudget_1 0 rfl rfl)
theorem dX4_isOverBudget_25 : decode cX4_isOverBudget 25 = .ok (.iload_n 1, 1) := dk_27 (dk_at dksX4_isOverBudget_1 1 rfl rfl)
theorem dX4_isOverBudget_26 : decode cX4_isOverBudget 26 = .ok (.bipush 64, 2) := dk_16 64 (dk_at dksX4_isOverBudget_1 2 rfl rfl)
theorem dX4_isOverBudget_28 : decode cX4_isOverBudget 28 = .ok (.iload_n 2, 1) := dk_28 (dk_at dksX4_isOverBudget_1 4 rfl rfl)
theorem dX4_isOverBudget_29 : decode cX4_isOverBudget 29 = .ok (.iconst 1, 1) := dk_4 (dk_at dksX4_isOverBudget_1 5 rfl rfl)
theorem dX4_isOverBudget_30 : decode cX4_isOverBudget 30 = .ok (.iadd, 1) := dk_96 (dk_at dksX4_isOverBudget_1 6 rfl rfl)
theorem dX4_isOverBudget_31 : decode cX4_isOverBudget 31 = .ok (.invokevirtual 63, 3) := dk_182 0 63 (dk_at dksX4_isOverBudget_1 7 rfl rfl)
theorem dX4_isOverBudget_34 : decode cX4_isOverBudget 34 = .ok (.iload_n 2, 1) := dk_28 (dk_at dksX4_isOverBudget_1 10 rfl rfl)
theorem dX4_isOverBudget_35 : decode cX4_isOverBudget 35 = .ok (.iconst 1, 1) := dk_4 (dk_at dksX4_isOverBudget_1 11 rfl rfl)
theorem dX4_isOverBudget_36 : decode cX4_isOverBudget 36 = .ok (.iadd, 1) := dk_96 (dk_at dksX4_isOverBudget_1 12 rfl rfl)
theorem dX4_isOverBudget_37 : decode cX4_isOverBudget 37 = .ok (.aload_n 0, 1) := dk_42 (dk_at dksX4_isOverBudget_1 13 rfl rfl)
theorem dX4_isOverBudget_38 : decode cX4_isOverBudget 38 = .ok (.iload_n 1, 1) := dk_27 (dk_at dksX4_isOverBudget_1 14 rfl rfl)
theorem dX4_isOverBudget_39 : decode cX4_isOverBudget 39 = .ok (.iconst 3, 1) := dk_6 (dk_at dksX4_isOverBudget_1 15 rfl rfl)
theorem dX4_isOverBudget_40 : decode cX4_isOverBudget 40 = .ok (.invokevirtual 55, 3) := dk_182 0 55 (dk_at dksX4_isOverBudget_1 16 rfl rfl)
theorem dX4_isOverBudget_43 : decode cX4_isOverBudget 43 = .ok (.if_icmp .le 7, 3) := dk_164 0 7 (dk_at dksX4_isOverBudget_1 19 rfl rfl)
theorem dX4_isOverBudget_46 : decode cX4_isOverBudget 46 = .ok (.iconst 1, 1) := dk_4 (dk_at dksX4_isOverBudget_1 22 rfl rfl)
theorem dX4_isOverBudget_47 : decode cX4_isOverBudget 47 = .ok (.goto 4, 3) := dk_167 0 4 (dk_at dksX4_isOverBudget_2 0 rfl rfl)
theorem dX4_isOverBudget_50 : decode cX4_isOverBudget 50 = .ok (.iconst 0, 1) := dk_3 (dk_at dksX4_isOverBudget_2 3 rfl rfl)
theorem dX4_isOverBudget_51 : decode cX4_isOverBudget 51 = .ok (.ireturn, 1) := dk_172 (dk_at dksX4_isOverBudget_2 4 rfl rfl)
abbrev cX4_restarts : ByteArray := prog_23_method_15_code
def yX4_restarts : MethodName := ⟨RX4, "restarts", "(I)V"⟩
def dkwX4_restarts_1 : List UInt8 := [89, 180, 0, 90, 4, 27, 120, 128, 181, 0, 90, 177]
abbrev dktX4_restarts_1 : List UInt8 := dkwX4_restarts_1 ++ []
def dkwX4_restarts_0 : List UInt8 := [42, 27, 182, 0, 75, 42, 27, 16, 6, 3, 182, 0, 63, 42, 27, 182, 0, 78, 42, 27, 182, 0, 87, 42]
abbrev dktX4_restarts_0 : List UInt8 := dkwX4_restarts_0 ++ dktX4_restarts_1
theorem dksX4_restarts_0 : cX4_restarts.data.toList.drop 0 = dktX4_restarts_0 := by decide +kernel
theorem dksX4_restarts_1 : cX4_restarts.data.toList.drop 24 = dktX4_restarts_1 := dk_seg dksX4_restarts_0 24 rfl rfl
theorem dX4_restarts_0 : decode cX4_restarts 0 = .ok (.aload_n 0, 1) := dk_42 (dk_at dksX4_restarts_0 0 rfl rfl)
theorem dX4_restarts_1 : decode cX4_restarts 1 = .ok (.iload_n 1, 1) := dk_27 (dk_at dksX4_restarts_0 1 rfl rfl)
theorem dX4_restarts_2 : decode cX4_restarts 2 = .ok (.invokevirtual 75, 3) := dk_182 0 75 (dk_at dksX4_restarts_0 2 rfl rfl)
theorem dX4_restarts_5 : decode cX4_restarts 5 = .ok (.aload_n 0, 1) := dk_42 (dk_at dksX4_restarts_0 5 rfl rfl)
theorem dX4_restarts_6 : decode cX4_restarts 6 = .ok (.iload_n 1, 1) := dk_27 (dk_at dksX4_restarts_0 6 rfl rfl)
theorem dX4_restarts_7 : decode cX4_restarts 7 = .ok (.bipush 6, 2) := dk_16 6 (dk_at dksX4_restarts_0 7 rfl rfl)
theorem dX4_restarts_9 : decode cX4_restarts 9 = .ok (.iconst 0, 1) := dk_3 (dk_at dksX4_restarts_0 9 rfl rfl)
theorem dX4_restarts_10 : decode cX4_restarts 10 = .ok (.invokevirtual 63, 3) := dk_182 0 63 (dk_at dksX4_restarts_0 10 rfl rfl)
theorem dX4_restarts_13 : decode cX4_restarts 13 = .ok (.aload_n 0, 1) := dk_42 (dk_at dksX4_restarts_0 13 rfl rfl)
theorem dX4_restarts_14 : decode cX4_restarts 14 = .ok (.iload_n 1, 1) := dk_27 (dk_at dksX4_restarts_0 14 rfl rfl)
theorem dX4_restarts_15 : decode cX4_restarts 15 = .ok (.invokevirtual 78, 3) := dk_182 0 78 (dk_at dksX4_restarts_0 15 rfl rfl)
theorem dX4_restarts_18 : decode cX4_restarts 18 = .ok (.aload_n 0, 1) := dk_42 (dk_at dksX4_restarts_0 18 rfl rfl)
theorem dX4_restarts_19 : decode cX4_restarts 19 = .ok (.iload_n 1, 1) := dk_27 (dk_at dksX4_restarts_0 19 rfl rfl)
theorem dX4_restarts_20 : decode cX4_restarts 20 = .ok (.invokevirtual 87, 3) := dk_182 0 87 (dk_at dksX4_restarts_0 20 rfl rfl)
theorem dX4_restarts_23 : decode cX4_restarts 23 = .ok (.aload_n 0, 1) := dk_42 (dk_at dksX4_restarts_0 23 rfl rfl)
theorem dX4_restarts_24 : decode cX4_restarts 24 = .ok (.dup, 1) := dk_89 (dk_at dksX4_restarts_1 0 rfl rfl)
theorem dX4_restarts_25 : decode cX4_restarts 25 = .ok (.getfield 90, 3) := dk_180 0 90 (dk_at dksX4_restarts_1 1 rfl rfl)
theorem dX4_restarts_28 : decode cX4_restarts 28 = .ok (.iconst 1, 1) := dk_4 (dk_at dksX4_restarts_1 4 rfl rfl)
theorem dX4_restarts_29 : decode cX4_restarts 29 = .ok (.iload_n 1, 1) := dk_27 (dk_at dksX4_restarts_1 5 rfl rfl)
theorem dX4_restarts_30 : decode cX4_restarts 30 = .ok (.ishl, 1) := dk_120 (dk_at dksX4_restarts_1 6 rfl rfl)
theorem dX4_restarts_31 : decode cX4_restarts 31 = .ok (.ior, 1) := dk_128 (dk_at dksX4_restarts_1 7 rfl rfl)
theorem dX4_restarts_32 : decode cX4_restarts 32 = .ok (.putfield 90, 3) := dk_181 0 90 (dk_at dksX4_restarts_1 8 rfl rfl)
theorem dX4_restarts_35 : decode cX4_restarts 35 = .ok (.return_, 1) := dk_177 (dk_at dksX4_restarts_1 11 rfl rfl)
abbrev cX4_comesBack : ByteArray := prog_23_method_10_code
def yX4_comesBack : MethodName := ⟨RX4, "comesBack", "(I)V"⟩
def dkwX4_comesBack_6 : List UInt8 := [29, 21, 4, 100, 96, 79, 177]
abbrev dktX4_comesBack_6 : List UInt8 := dkwX4_comesBack_6 ++ []
def dkwX4_comesBack_5 : List UInt8 := [28, 21, 4, 96, 182, 0, 63, 42, 27, 16, 38, 3, 182, 0, 63, 42, 180, 0, 9, 17, 3, 159, 92, 46]
abbrev dktX4_comesBack_5 : List UInt8 := dkwX4_comesBack_5 ++ dktX4_comesBack_6
def dkwX4_comesBack_4 : List UInt8 := [96, 42, 27, 16, 39, 21, 5, 96, 182, 0, 55, 182, 0, 63, 132, 5, 1, 167, 255, 224, 42, 27, 16, 13]
abbrev dktX4_comesBack_4 : List UInt8 := dkwX4_comesBack_4 ++ dktX4_comesBack_5
def dkwX4_comesBack_3 : List UInt8 := [132, 5, 255, 167, 255, 223, 3, 54, 5, 21, 5, 5, 21, 4, 104, 162, 0, 29, 42, 27, 16, 14, 21, 5]
abbrev dktX4_comesBack_3 : List UInt8 := dkwX4_comesBack_3 ++ dktX4_comesBack_4
def dkwX4_comesBack_2 : List UInt8 := [16, 14, 5, 21, 4, 104, 96, 21, 5, 96, 42, 27, 16, 14, 21, 5, 96, 182, 0, 55, 182, 0, 63]
abbrev dktX4_comesBack_2 : List UInt8 := dkwX4_comesBack_2 ++ dktX4_comesBack_3
def dkwX4_comesBack_1 : List UInt8 := [29, 167, 0, 7, 16, 12, 28, 100, 54, 4, 5, 28, 104, 4, 100, 54, 5, 21, 5, 155, 0, 34, 42, 27]
abbrev dktX4_comesBack_1 : List UInt8 := dkwX4_comesBack_1 ++ dktX4_comesBack_2
def dkwX4_comesBack_0 : List UInt8 := [42, 27, 16, 13, 182, 0, 55, 61, 42, 27, 16, 38, 182, 0, 55, 62, 29, 16, 12, 28, 100, 162, 0, 7]
abbrev dktX4_comesBack_0 : List UInt8 := dkwX4_comesBack_0 ++ dktX4_comesBack_1
theorem dksX4_comesBack_0 : cX4_comesBack.data.toList.drop 0 = dktX4_comesBack_0 := by decide +kernel
theorem dksX4_comesBack_1 : cX4_comesBack.data.toList.drop 24 = dktX4_comesBack_1 := dk_seg dksX4_comesBack_0 24 rfl rfl
theorem dksX4_comesBack_2 : cX4_comesBack.data.toList.drop 48 = dktX4_comesBack_2 := dk_seg dksX4_comesBack_1 24 rfl rfl
theorem dksX4_comesBack_3 : cX4_comesBack.data.toList.drop 71 = dktX4_comesBack_3 := dk_seg dksX4_comesBack_2 23 rfl rfl
theorem dksX4_comesBack_4 : cX4_comesBack.data.toList.drop 95 = dktX4_comesBack_4 := dk_seg dksX4_comesBack_3 24 rfl rfl
theorem dksX4_comesBack_5 : cX4_comesBack.data.toList.drop 119 = dktX4_comesBack_5 := dk_seg dksX4_comesBack_4 24 rfl rfl
theorem dksX4_comesBack_6 : cX4_comesBack.data.toList.drop 143 = dktX4_comesBack_6 := dk_seg dksX4_comesBack_5 24 rfl rfl
theorem dX4_comesBack_0 : decode cX4_comesBack 0 = .ok (.aload_n 0, 1) := dk_42 (dk_at dksX4_comesBack_0 0 rfl rfl)
theorem dX4_comesBack_1 : decode cX4_comesBack 1 = .ok (.iload_n 1, 1) := dk_27 (dk_at dksX4_comesBack_0 1 rfl rfl)
theorem dX4_comesBack_2 : decode cX4_comesBack 2 = .ok (.bipush 13, 2) := dk_16 13 (dk_at dksX4_comesBack_0 2 rfl rfl)
theorem dX4_comesBack_4 : decode cX4_comesBack 4 = .ok (.invokevirtual 55, 3) := dk_182 0 55 (dk_at dksX4_comesBack_0 4 rfl rfl)
theorem dX4_comesBack_7 : decode cX4_comesBack 7 = .ok (.istore_n 2, 1) := dk_61 (dk_at dksX4_comesBack_0 7 rfl rfl)
theorem dX4_comesBack_8 : decode cX4_comesBack 8 = .ok (.aload_n 0, 1) := dk_42 (dk_at dksX4_comesBack_0 8 rfl rfl)
theorem dX4_comesBack_9 : decode cX4_comesBack 9 = .ok (.iload_n 1, 1) := dk_27 (dk_at dksX4_comesBack_0 9 rfl rfl)
theorem dX4_comesBack_10 : decode cX4_comesBack 10 = .ok (.bipush 38, 2) := dk_16 38 (dk_at dksX4_comesBack_0 10 rfl rfl)
theorem dX4_comesBack_12 : decode cX4_comesBack 12 = .ok (.invokevirtual 55, 3) := dk_182 0 55 (dk_at dksX4_comesBack_0 12 rfl rfl)
theorem dX4_comesBack_15 : decode cX4_comesBack 15 = .ok (.istore_n 3, 1) := dk_62 (dk_at dksX4_comesBack_0 15 rfl rfl)
theorem dX4_comesBack_16 : decode cX4_comesBack 16 = .ok (.iload_n 3, 1) := dk_29 (dk_at dksX4_comesBack_0 16 rfl rfl)
theorem dX4_comesBack_17 : decode cX4_comesBack 17 = .ok (.bipush 12, 2) := dk_16 12 (dk_at dksX4_comesBack_0 17 rfl rfl)
theorem dX4_comesBack_19 : decode cX4_comesBack 19 = .ok (.iload_n 2, 1) := dk_28 (dk_at dksX4_comesBack_0 19 rfl rfl)
theorem dX4_comesBack_20 : decode cX4_comesBack 20 = .ok (.isub, 1) := dk_100 (dk_at dksX4_comesBack_0 20 rfl rfl)
theorem dX4_comesBack_21 : decode cX4_comesBack 21 = .ok (.if_icmp .ge 7, 3) := dk_162 0 7 (dk_at dksX4_comesBack_0 21 rfl rfl)
theorem dX4_comesBack_24 : decode cX4_comesBack 24 = .ok (.iload_n 3, 1) := dk_29 (dk_at dksX4_comesBack_1 0 rfl rfl)
theorem dX4_comesBack_25 : decode cX4_comesBack 25 = .ok (.goto 7, 3) := dk_167 0 7 (dk_at dksX4_comesBack_1 1 rfl rfl)
theorem dX4_comesBack_28 : decode cX4_comesBack 28 = .ok (.bipush 12, 2) := dk_16 12 (dk_at dksX4_comesBack_1 4 rfl rfl)
theorem dX4_comesBack_30 : decode cX4_comesBack 30 = .ok (.iload_n 2, 1) := dk_28 (dk_at dksX4_comesBack_1 6 rfl rfl)
theorem dX4_comesBack_31 : decode cX4_comesBack 31 = .ok (.isub, 1) := dk_100 (dk_at dksX4_comesBack_1 7 rfl rfl)
theorem dX4_comesBack_32 : decode cX4_comesBack 32 = .ok (.istore 4, 2) := dk_54 4 (dk_at dksX4_comesBack_1 8 rfl rfl)
theorem dX4_comesBack_34 : decode cX4_comesBack 34 = .ok (.iconst 2, 1) := dk_5 (dk_at dksX4_comesBack_1 10 rfl rfl)
theorem dX4_comesBack_35 : decode cX4_comesBack 35 = .ok (.iload_n 2, 1) := dk_28 (dk_at dksX4_comesBack_1 11 rfl rfl)
theorem dX4_comesBack_36 : decode cX4_comesBack 36 = .ok (.imul, 1) := dk_104 (dk_at dksX4_comesBack_1 12 rfl rfl)
theorem dX4_comesBack_37 : decode cX4_comesBack 37 = .ok (.iconst 1, 1) := dk_4 (dk_at dksX4_comesBack_1 13 rfl rfl)
theorem dX4_comesBack_38 : decode cX4_comesBack 38 = .ok (.isub, 1) := dk_100 (dk_at dksX4_comesBack_1 14 rfl rfl)
theorem dX4_comesBack_39 : decode cX4_comesBack 39 = .ok (.istore 5, 2) := dk_54 5 (dk_at dksX4_comesBack_1 15 rfl rfl)
theorem dX4_comesBack_41 : decode cX4_comesBack 41 = .ok (.iload 5, 2) := dk_21 5 (dk_at dksX4_comesBack_1 17 rfl rfl)
theorem dX4_comesBack_43 : decode cX4_comesBack 43 = .ok (.ifCond .lt 34, 3) := dk_155 0 34 (dk_at dksX4_comesBack_1 19 rfl rfl)
theorem dX4_comesBack_46 : decode cX4_comesBack 46 = .ok (.aload_n 0, 1) := dk_42 (dk_at dksX4_comesBack_1 22 rfl rfl)
theorem dX4_comesBack_47 : decode cX4_comesBack 47 = .ok (.iload_n 1, 1) := dk_27 (dk_at dksX4_comesBack_1 23 rfl rfl)
theorem dX4_comesBack_48 : decode cX4_comesBack 48 = .ok (.bipush 14, 2) := dk_16 14 (dk_at dksX4_comesBack_2 0 rfl rfl)
theorem dX4_comesBack_50 : decode cX4_comesBack 50 = .ok (.iconst 2, 1) := dk_5 (dk_at dksX4_comesBack_2 2 rfl rfl)
theorem dX4_comesBack_51 : decode cX4_comesBack 51 = .ok (.iload 4, 2) := dk_21 4 (dk_at dksX4_comesBack_2 3 rfl rfl)
theorem dX4_comesBack_53 : decode cX4_comesBack 53 = .ok (.imul, 1) := dk_104 (dk_at dksX4_comesBack_2 5 rfl rfl)
theorem dX4_comesBack_54 : decode cX4_comesBack 54 = .ok (.iadd, 1) := dk_96 (dk_at dksX4_comesBack_2 6 rfl rfl)
theorem dX4_comesBack_55 : decode cX4_comesBack 55 = .ok (.iload 5, 2) := dk_21 5 (dk_at dksX4_comesBack_2 7 rfl rfl)
theorem dX4_comesBack_57 : decode cX4_comesBack 57 = .ok (.iadd, 1) := dk_96 (dk_at dksX4_comesBack_2 9 rfl rfl)
theorem dX4_comesBack_58 : decode cX4_comesBack 58 = .ok (.aload_n 0, 1) := dk_42 (dk_at dksX4_comesBack_2 10 rfl rfl)
theorem dX4_comesBack_59 : decode cX4_comesBack 59 = .ok (.iload_n 1, 1) := dk_27 (dk_at dksX4_comesBack_2 11 rfl rfl)
theorem dX4_comesBack_60 : decode cX4_comesBack 60 = .ok (.bipush 14, 2) := dk_16 14 (dk_at dksX4_comesBack_2 12 rfl rfl)
theorem dX4_comesBack_62 : decode cX4_comesBack 62 = .ok (.iload 5, 2) := dk_21 5 (dk_at dksX4_comesBack_2 14 rfl rfl)
theorem dX4_comesBack_64 : decode cX4_comesBack 64 = .ok (.iadd, 1) := dk_96 (dk_at dksX4_comesBack_2 16 rfl rfl)
theorem dX4_comesBack_65 : decode cX4_comesBack 65 = .ok (.invokevirtual 55, 3) := dk_182 0 55 (dk_at dksX4_comesBack_2 17 rfl rfl)
theorem dX4_comesBack_68 : decode cX4_comesBack 68 = .ok (.invokevirtual 63, 3) := dk_182 0 63 (dk_at dksX4_comesBack_2 20 rfl rfl)
theorem dX4_comesBack_71 : decode cX4_comesBack 71 = .ok (.iinc 5 (-1), 3) := dk_132 5 255 (dk_at dksX4_comesBack_3 0 rfl rfl)
theorem dX4_comesBack_74 : decode cX4_comesBack 74 = .ok (.goto (-33), 3) := dk_167 255 223 (dk_at dksX4_comesBack_3 3 rfl rfl)
theorem dX4_comesBack_77 : decode cX4_comesBack 77 = .ok (.iconst 0, 1) := dk_3 (dk_at dksX4_comesBack_3 6 rfl rfl)
theorem dX4_comesBack_78 : decode cX4_comesBack 78 = .ok (.istore 5, 2) := dk_54 5 (dk_at dksX4_comesBack_3 7 rfl rfl)
theorem dX4_comesBack_80 : decode cX4_comesBack 80 = .ok (.iload 5, 2) := dk_21 5 (dk_at dksX4_comesBack_3 9 rfl rfl)
theorem dX4_comesBack_82 : decode cX4_comesBack 82 = .ok (.iconst 2, 1) := dk_5 (dk_at dksX4_comesBack_3 11 rfl rfl)
theorem dX4_comesBack_83 : decode cX4_comesBack 83 = .ok (.iload 4, 2) := dk_21 4 (dk_at dksX4_comesBack_3 12 rfl rfl)
theorem dX4_comesBack_85 : decode cX4_comesBack 85 = .ok (.imul, 1) := dk_104 (dk_at dksX4_comesBack_3 14 rfl rfl)
theorem dX4_comesBack_86 : decode cX4_comesBack 86 = .ok (.if_icmp .ge 29, 3) := dk_162 0 29 (dk_at dksX4_comesBack_3 15 rfl rfl)
theorem dX4_comesBack_89 : decode cX4_comesBack 89 = .ok (.aload_n 0, 1) := dk_42 (dk_at dksX4_comesBack_3 18 rfl rfl)
theorem dX4_comesBack_90 : decode cX4_comesBack 90 = .ok (.iload_n 1, 1) := dk_27 (dk_at dksX4_comesBack_3 19 rfl rfl)
theorem dX4_comesBack_91 : decode cX4_comesBack 91 = .ok (.bipush 14, 2) := dk_16 14 (dk_at dksX4_comesBack_3 20 rfl rfl)
theorem dX4_comesBack_93 : decode cX4_comesBack 93 = .ok (.iload 5, 2) := dk_21 5 (dk_at dksX4_comesBack_3 22 rfl rfl)
theorem dX4_comesBack_95 : decode cX4_comesBack 95 = .ok (.iadd, 1) := dk_96 (dk_at dksX4_comesBack_4 0 rfl rfl)
theorem dX4_comesBack_96 : decode cX4_comesBack 96 = .ok (.aload_n 0, 1) := dk_42 (dk_at dksX4_comesBack_4 1 rfl rfl)
theorem dX4_comesBack_97 : decode cX4_comesBack 97 = .ok (.iload_n 1, 1) := dk_27 (dk_at dksX4_comesBack_4 2 rfl rfl)
theorem dX4_comesBack_98 : decode cX4_comesBack 98 = .ok (.bipush 39, 2) := dk_16 39 (dk_at dksX4_comesBack_4 3 rfl rfl)
theorem dX4_comesBack_100 : decode cX4_comesBack 100 = .ok (.iload 5, 2) := dk_21 5 (dk_at dksX4_comesBack_4 5 rfl rfl)
theorem dX4_comesBack_102 : decode cX4_comesBack 102 = .ok (.iadd, 1) := dk_96 (dk_at dksX4_comesBack_4 7 rfl rfl)
theorem dX4_comesBack_103 : decode cX4_comesBack 103 = .ok (.invokevirtual 55, 3) := dk_182 0 55 (dk_at dksX4_comesBack_4 8 rfl rfl)
theorem dX4_comesBack_106 : decode cX4_comesBack 106 = .ok (.invokevirtual 63, 3) := dk_182 0 63 (dk_at dksX4_comesBack_4 11 rfl rfl)
theorem dX4_comesBack_109 : decode cX4_comesBack 109 = .ok (.iinc 5 1, 3) := dk_132 5 1 (dk_at dksX4_comesBack_4 14 rfl rfl)
theorem dX4_comesBack_112 : decode cX4_comesBack 112 = .ok (.goto (-32), 3) := dk_167 255 224 (dk_at dksX4_comesBack_4 17 rfl rfl)
theorem dX4_comesBack_115 : decode cX4_comesBack 115 = .ok (.aload_n 0, 1) := dk_42 (dk_at dksX4_comesBack_4 20 rfl rfl)
theorem dX4_comesBack_116 : decode cX4_comesBack 116 = .ok (.iload_n 1, 1) := dk_27 (dk_at dksX4_comesBack_4 21 rfl rfl)
theorem dX4_comesBack_117 : decode cX4_comesBack 117 = .ok (.bipush 13, 2) := dk_16 13 (dk_at dksX4_comesBack_4 22 rfl rfl)
theorem dX4_comesBack_119 : decode cX4_comesBack 119 = .ok (.iload_n 2, 1) := dk_28 (dk_at dksX4_comesBack_5 0 rfl rfl)
theorem dX4_comesBack_120 : decode cX4_comesBack 120 = .ok (.iload 4, 2) := dk_21 4 (dk_at dksX4_comesBack_5 1 rfl rfl)
theorem dX4_comesBack_122 : decode cX4_comesBack 122 = .ok (.iadd, 1) := dk_96 (dk_at dksX4_comesBack_5 3 rfl rfl)
theorem dX4_comesBack_123 : decode cX4_comesBack 123 = .ok (.invokevirtual 63, 3) := dk_182 0 63 (dk_at dksX4_comesBack_5 4 rfl rfl)
theorem dX4_comesBack_126 : decode cX4_comesBack 126 = .ok (.aload_n 0, 1) := dk_42 (dk_at dksX4_comesBack_5 7 rfl rfl)
theorem dX4_comesBack_127 : decode cX4_comesBack 127 = .ok (.iload_n 1, 1) := dk_27 (dk_at dksX4_comesBack_5 8 rfl rfl)
theorem dX4_comesBack_128 : decode cX4_comesBack 128 = .ok (.bipush 38, 2) := dk_16 38 (dk_at dksX4_comesBack_5 9 rfl rfl)
theorem dX4_comesBack_130 : decode cX4_comesBack 130 = .ok (.iconst 0, 1) := dk_3 (dk_at dksX4_comesBack_5 11 rfl rfl)
theorem dX4_comesBack_131 : decode cX4_comesBack 131 = .ok (.invokevirtual 63, 3) := dk_182 0 63 (dk_at dksX4_comesBack_5 12 rfl rfl)
theorem dX4_comesBack_134 : decode cX4_comesBack 134 = .ok (.aload_n 0, 1) := dk_42 (dk_at dksX4_comesBack_5 15 rfl rfl)
theorem dX4_comesBack_135 : decode cX4_comesBack 135 = .ok (.getfield 9, 3) := dk_180 0 9 (dk_at dksX4_comesBack_5 16 rfl rfl)
theorem dX4_comesBack_138 : decode cX4_comesBack 138 = .ok (.sipush 927, 3) := dk_17 3 159 (dk_at dksX4_comesBack_5 19 rfl rfl)
theorem dX4_comesBack_141 : decode cX4_comesBack 141 = .ok (.dup2, 1) := dk_92 (dk_at dksX4_comesBack_5 22 rfl rfl)
theorem dX4_comesBack_142 : decode cX4_comesBack 142 = .ok (.iaload, 1) := dk_46 (dk_at dksX4_comesBack_5 23 rfl rfl)
theorem dX4_comesBack_143 : decode cX4_comesBack 143 = .ok (.iload_n 3, 1) := dk_29 (dk_at dksX4_comesBack_6 0 rfl rfl)
theorem dX4_comesBack_144 : decode cX4_comesBack 144 = .ok (.iload 4, 2) := dk_21 4 (dk_at dksX4_comesBack_6 1 rfl rfl)
theorem dX4_comesBack_146 : decode cX4_comesBack 146 = .ok (.isub, 1) := dk_100 (dk_at dksX4_comesBack_6 3 rfl rfl)
theorem dX4_comesBack_147 : decode cX4_comesBack 147 = .ok (.iadd, 1) := dk_96 (dk_at dksX4_comesBack_6 4 rfl rfl)
theorem dX4_comesBack_148 : decode cX4_comesBack 148 = .ok (.iastore, 1) := dk_79 (dk_at dksX4_comesBack_6 5 rfl rfl)
theorem dX4_comesBack_149 : decode cX4_comesBack 149 = .ok (.return_, 1) := dk_177 (dk_at dksX4_comesBack_6 6 rfl rfl)
abbrev cX4_pass : ByteArray := prog_23_method_19_code
def yX4_pass : MethodName := ⟨RX4, "pass", "(IIZ)V"⟩
def dkwX4_pass_1 : List UInt8 := [153, 0, 17, 42, 21, 4, 27, 28, 182, 0, 84, 87, 29, 154, 0, 4, 177, 132, 4, 1, 167, 255, 216, 177]
abbrev dktX4_pass_1 : List UInt8 := dkwX4_pass_1 ++ []
def dkwX4_pass_0 : List UInt8 := [3, 54, 4, 21, 4, 42, 180, 0, 9, 17, 3, 156, 46, 162, 0, 33, 42, 21, 4, 27, 182, 0, 67]
abbrev dktX4_pass_0 : List UInt8 := dkwX4_pass_0 ++ dktX4_pass_1
theorem dksX4_pass_0 : cX4_pass.data.toList.drop 0 = dktX4_pass_0 := by decide +kernel
theorem dksX4_pass_1 : cX4_pass.data.toList.drop 23 = dktX4_pass_1 := dk_seg dksX4_pass_0 23 rfl rfl
theorem dX4_pass_0 : decode cX4_pass 0 = .ok (.iconst 0, 1) := dk_3 (dk_at dksX4_pass_0 0 rfl rfl)
theorem dX4_pass_1 : decode cX4_pass 1 = .ok (.istore 4, 2) := dk_54 4 (dk_at dksX4_pass_0 1 rfl rfl)
theorem dX4_pass_3 : decode cX4_pass 3 = .ok (.iload 4, 2) := dk_21 4 (dk_at dksX4_pass_0 3 rfl rfl)
theorem dX4_pass_5 : decode cX4_pass 5 = .ok (.aload_n 0, 1) := dk_42 (dk_at dksX4_pass_0 5 rfl rfl)
theorem dX4_pass_6 : decode cX4_pass 6 = .ok (.getfield 9, 3) := dk_180 0 9 (dk_at dksX4_pass_0 6 rfl rfl)
theorem dX4_pass_9 : decode cX4_pass 9 = .ok (.sipush 924, 3) := dk_17 3 156 (dk_at dksX4_pass_0 9 rfl rfl)
theorem dX4_pass_12 : decode cX4_pass 12 = .ok (.iaload, 1) := dk_46 (dk_at dksX4_pass_0 12 rfl rfl)
theorem dX4_pass_13 : decode cX4_pass 13 = .ok (.if_icmp .ge 33, 3) := dk_162 0 33 (dk_at dksX4_pass_0 13 rfl rfl)
theorem dX4_pass_16 : decode cX4_pass 16 = .ok (.aload_n 0, 1) := dk_42 (dk_at dksX4_pass_0 16 rfl rfl)
theorem dX4_pass_17 : decode cX4_pass 17 = .ok (.iload 4, 2) := dk_21 4 (dk_at dksX4_pass_0 17 rfl rfl)
theorem dX4_pass_19 : decode cX4_pass 19 = .ok (.iload_n 1, 1) := dk_27 (dk_at dksX4_pass_0 19 rfl rfl)
theorem dX4_pass_20 : decode cX4_pass 20 = .ok (.invokevirtual 67, 3) := dk_182 0 67 (dk_at dksX4_pass_0 20 rfl rfl)
theorem dX4_pass_23 : decode cX4_pass 23 = .ok (.ifCond .eq 17, 3) := dk_153 0 17 (dk_at dksX4_pass_1 0 rfl rfl)
theorem dX4_pass_26 : decode cX4_pass 26 = .ok (.aload_n 0, 1) := dk_42 (dk_at dksX4_pass_1 3 rfl rfl)
theorem dX4_pass_27 : decode cX4_pass 27 = .ok (.iload 4, 2) := dk_21 4 (dk_at dksX4_pass_1 4 rfl rfl)
theorem dX4_pass_29 : decode cX4_pass 29 = .ok (.iload_n 1, 1) := dk_27 (dk_at dksX4_pass_1 6 rfl rfl)
theorem dX4_pass_30 : decode cX4_pass 30 = .ok (.iload_n 2, 1) := dk_28 (dk_at dksX4_pass_1 7 rfl rfl)
theorem dX4_pass_31 : decode cX4_pass 31 = .ok (.invokevirtual 84, 3) := dk_182 0 84 (dk_at dksX4_pass_1 8 rfl rfl)
theorem dX4_pass_34 : decode cX4_pass 34 = .ok (.pop, 1) := dk_87 (dk_at dksX4_pass_1 11 rfl rfl)
theorem dX4_pass_35 : decode cX4_pass 35 = .ok (.iload_n 3, 1) := dk_29 (dk_at dksX4_pass_1 12 rfl rfl)
theorem dX4_pass_36 : decode cX4_pass 36 = .ok (.ifCond .ne 4, 3) := dk_154 0 4 (dk_at dksX4_pass_1 13 rfl rfl)
theorem dX4_pass_39 : decode cX4_pass 39 = .ok (.return_, 1) := dk_177 (dk_at dksX4_pass_1 16 rfl rfl)
theorem dX4_pass_40 : decode cX4_pass 40 = .ok (.iinc 4 1, 3) := dk_132 4 1 (dk_at dksX4_pass_1 17 rfl rfl)
theorem dX4_pass_43 : decode cX4_pass 43 = .ok (.goto (-40), 3) := dk_167 255 216 (dk_at dksX4_pass_1 20 rfl rfl)
theorem dX4_pass_46 : decode cX4_pass 46 = .ok (.return_, 1) := dk_177 (dk_at dksX4_pass_1 23 rfl rfl)
abbrev cX4_holds : ByteArray := prog_23_method_20_code
def yX4_holds : MethodName := ⟨RX4, "holds", "(III)V"⟩
def dkwX4_holds_3 : List UInt8 := [182, 0, 63, 42, 27, 16, 38, 21, 4, 4, 96, 182, 0, 63, 177]
abbrev dktX4_holds_3 : List UInt8 := dkwX4_holds_3 ++ []
def dkwX4_holds_2 : List UInt8 := [16, 39, 5, 21, 4, 104, 96, 28, 182, 0, 63, 42, 27, 16, 39, 5, 21, 4, 104, 96, 4, 96, 29]
abbrev dktX4_holds_2 : List UInt8 := dkwX4_holds_2 ++ dktX4_holds_3
def dkwX4_holds_1 : List UInt8 := [160, 0, 12, 42, 27, 6, 182, 0, 111, 167, 0, 51, 42, 27, 16, 38, 182, 0, 55, 54, 4, 42, 27]
abbrev dktX4_holds_1 : List UInt8 := dkwX4_holds_1 ++ dktX4_holds_2
def dkwX4_holds_0 : List UInt8 := [29, 5, 112, 154, 0, 11, 42, 27, 182, 0, 87, 167, 0, 72, 42, 27, 16, 38, 182, 0, 55, 16, 6]
abbrev dktX4_holds_0 : List UInt8 := dkwX4_holds_0 ++ dktX4_holds_1
theorem dksX4_holds_0 : cX4_holds.data.toList.drop 0 = dktX4_holds_0 := by decide +kernel
theorem dksX4_holds_1 : cX4_holds.data.toList.drop 23 = dktX4_holds_1 := dk_seg dksX4_holds_0 23 rfl rfl
theorem dksX4_holds_2 : cX4_holds.data.toList.drop 46 = dktX4_holds_2 := dk_seg dksX4_holds_1 23 rfl rfl
theorem dksX4_holds_3 : cX4_holds.data.toList.drop 69 = dktX4_holds_3 := dk_seg dksX4_holds_2 23 rfl rfl
theorem dX4_holds_0 : decode cX4_holds 0 = .ok (.iload_n 3, 1) := dk_29 (dk_at dksX4_holds_0 0 rfl rfl)
theorem dX4_holds_1 : decode cX4_holds 1 = .ok (.iconst 2, 1) := dk_5 (dk_at dksX4_holds_0 1 rfl rfl)
theorem dX4_holds_2 : decode cX4_holds 2 = .ok (.irem, 1) := dk_112 (dk_at dksX4_holds_0 2 rfl rfl)
theorem dX4_holds_3 : decode cX4_holds 3 = .ok (.ifCond .ne 11, 3) := dk_154 0 11 (dk_at dksX4_holds_0 3 rfl rfl)
theorem dX4_holds_6 : decode cX4_holds 6 = .ok (.aload_n 0, 1) := dk_42 (dk_at dksX4_holds_0 6 rfl rfl)
theorem dX4_holds_7 : decode cX4_holds 7 = .ok (.iload_n 1, 1) := dk_27 (dk_at dksX4_holds_0 7 rfl rfl)
theorem dX4_holds_8 : decode cX4_holds 8 = .ok (.invokevirtual 87, 3) := dk_182 0 87 (dk_at dksX4_holds_0 8 rfl rfl)
theorem dX4_holds_11 : decode cX4_holds 11 = .ok (.goto 72, 3) := dk_167 0 72 (dk_at dksX4_holds_0 11 rfl rfl)
theorem dX4_holds_14 : decode cX4_holds 14 = .ok (.aload_n 0, 1) := dk_42 (dk_at dksX4_holds_0 14 rfl rfl)
theorem dX4_holds_15 : decode cX4_holds 15 = .ok (.iload_n 1, 1) := dk_27 (dk_at dksX4_holds_0 15 rfl rfl)
theorem dX4_holds_16 : decode cX4_holds 16 = .ok (.bipush 38, 2) := dk_16 38 (dk_at dksX4_holds_0 16 rfl rfl)
theorem dX4_holds_18 : decode cX4_holds 18 = .ok (.invokevirtual 55, 3) := dk_182 0 55 (dk_at dksX4_holds_0 18 rfl rfl)
theorem dX4_holds_21 : decode cX4_holds 21 = .ok (.bipush 6, 2) := dk_16 6 (dk_at dksX4_holds_0 21 rfl rfl)
theorem dX4_holds_23 : decode cX4_holds 23 = .ok (.if_icmp .ne 12, 3) := dk_160 0 12 (dk_at dksX4_holds_1 0 rfl rfl)
theorem dX4_holds_26 : decode cX4_holds 26 = .ok (.aload_n 0, 1) := dk_42 (dk_at dksX4_holds_1 3 rfl rfl)
theorem dX4_holds_27 : decode cX4_holds 27 = .ok (.iload_n 1, 1) := dk_27 (dk_at dksX4_holds_1 4 rfl rfl)
theorem dX4_holds_28 : decode cX4_holds 28 = .ok (.iconst 3, 1) := dk_6 (dk_at dksX4_holds_1 5 rfl rfl)
theorem dX4_holds_29 : decode cX4_holds 29 = .ok (.invokevirtual 111, 3) := dk_182 0 111 (dk_at dksX4_holds_1 6 rfl rfl)
theorem dX4_holds_32 : decode cX4_holds 32 = .ok (.goto 51, 3) := dk_167 0 51 (dk_at dksX4_holds_1 9 rfl rfl)
theorem dX4_holds_35 : decode cX4_holds 35 = .ok (.aload_n 0, 1) := dk_42 (dk_at dksX4_holds_1 12 rfl rfl)
theorem dX4_holds_36 : decode cX4_holds 36 = .ok (.iload_n 1, 1) := dk_27 (dk_at dksX4_holds_1 13 rfl rfl)
theorem dX4_holds_37 : decode cX4_holds 37 = .ok (.bipush 38, 2) := dk_16 38 (dk_at dksX4_holds_1 14 rfl rfl)
theorem dX4_holds_39 : decode cX4_holds 39 = .ok (.invokevirtual 55, 3) := dk_182 0 55 (dk_at dksX4_holds_1 16 rfl rfl)
theorem dX4_holds_42 : decode cX4_holds 42 = .ok (.istore 4, 2) := dk_54 4 (dk_at dksX4_holds_1 19 rfl rfl)
theorem dX4_holds_44 : decode cX4_holds 44 = .ok (.aload_n 0, 1) := dk_42 (dk_at dksX4_holds_1 21 rfl rfl)
theorem dX4_holds_45 : decode cX4_holds 45 = .ok (.iload_n 1, 1) := dk_27 (dk_at dksX4_holds_1 22 rfl rfl)
theorem dX4_holds_46 : decode cX4_holds 46 = .ok (.bipush 39, 2) := dk_16 39 (dk_at dksX4_holds_2 0 rfl rfl)
theorem dX4_holds_48 : decode cX4_holds 48 = .ok (.iconst 2, 1) := dk_5 (dk_at dksX4_holds_2 2 rfl rfl)
theorem dX4_holds_49 : decode cX4_holds 49 = .ok (.iload 4, 2) := dk_21 4 (dk_at dksX4_holds_2 3 rfl rfl)
theorem dX4_holds_51 : decode cX4_holds 51 = .ok (.imul, 1) := dk_104 (dk_at dksX4_holds_2 5 rfl rfl)
theorem dX4_holds_52 : decode cX4_holds 52 = .ok (.iadd, 1) := dk_96 (dk_at dksX4_holds_2 6 rfl rfl)
theorem dX4_holds_53 : decode cX4_holds 53 = .ok (.iload_n 2, 1) := dk_28 (dk_at dksX4_holds_2 7 rfl rfl)
theorem dX4_holds_54 : decode cX4_holds 54 = .ok (.invokevirtual 63, 3) := dk_182 0 63 (dk_at dksX4_holds_2 8 rfl rfl)
theorem dX4_holds_57 : decode cX4_holds 57 = .ok (.aload_n 0, 1) := dk_42 (dk_at dksX4_holds_2 11 rfl rfl)
theorem dX4_holds_58 : decode cX4_holds 58 = .ok (.iload_n 1, 1) := dk_27 (dk_at dksX4_holds_2 12 rfl rfl)
theorem dX4_holds_59 : decode cX4_holds 59 = .ok (.bipush 39, 2) := dk_16 39 (dk_at dksX4_holds_2 13 rfl rfl)
theorem dX4_holds_61 : decode cX4_holds 61 = .ok (.iconst 2, 1) := dk_5 (dk_at dksX4_holds_2 15 rfl rfl)
theorem dX4_holds_62 : decode cX4_holds 62 = .ok (.iload 4, 2) := dk_21 4 (dk_at dksX4_holds_2 16 rfl rfl)
theorem dX4_holds_64 : decode cX4_holds 64 = .ok (.imul, 1) := dk_104 (dk_at dksX4_holds_2 18 rfl rfl)
theorem dX4_holds_65 : decode cX4_holds 65 = .ok (.iadd, 1) := dk_96 (dk_at dksX4_holds_2 19 rfl rfl)
theorem dX4_holds_66 : decode cX4_holds 66 = .ok (.iconst 1, 1) := dk_4 (dk_at dksX4_holds_2 20 rfl rfl)
theorem dX4_holds_67 : decode cX4_holds 67 = .ok (.iadd, 1) := dk_96 (dk_at dksX4_holds_2 21 rfl rfl)
theorem dX4_holds_68 : decode cX4_holds 68 = .ok (.iload_n 3, 1) := dk_29 (dk_at dksX4_holds_2 22 rfl rfl)
theorem dX4_holds_69 : decode cX4_holds 69 = .ok (.invokevirtual 63, 3) := dk_182 0 63 (dk_at dksX4_holds_3 0 rfl rfl)
theorem dX4_holds_72 : decode cX4_holds 72 = .ok (.aload_n 0, 1) := dk_42 (dk_at dksX4_holds_3 3 rfl rfl)
theorem dX4_holds_73 : decode cX4_holds 73 = .ok (.iload_n 1, 1) := dk_27 (dk_at dksX4_holds_3 4 rfl rfl)
theorem dX4_holds_74 : decode cX4_holds 74 = .ok (.bipush 38, 2) := dk_16 38 (dk_at dksX4_holds_3 5 rfl rfl)
theorem dX4_holds_76 : decode cX4_holds 76 = .ok (.iload 4, 2) := dk_21 4 (dk_at dksX4_holds_3 7 rfl rfl)
theorem dX4_holds_78 : decode cX4_holds 78 = .ok (.iconst 1, 1) := dk_4 (dk_at dksX4_holds_3 9 rfl rfl)
theorem dX4_holds_79 : decode cX4_holds 79 = .ok (.iadd, 1) := dk_96 (dk_at dksX4_holds_3 10 rfl rfl)
theorem dX4_holds_80 : decode cX4_holds 80 = .ok (.invokevirtual 63, 3) := dk_182 0 63 (dk_at dksX4_holds_3 11 rfl rfl)
theorem dX4_holds_83 : decode cX4_holds 83 = .ok (.return_, 1) := dk_177 (dk_at dksX4_holds_3 14 rfl rfl)
abbrev cX4_switches : ByteArray := prog_23_method_21_code
def yX4_switches : MethodName := ⟨RX4, "switches", "(II)V"⟩
def dkwX4_switches_2 : List UInt8 := [42, 27, 16, 8, 29, 96, 28, 16, 10, 112, 182, 0, 63, 42, 27, 16, 7, 29, 4, 96, 182, 0, 63, 177]
abbrev dktX4_switches_2 : List UInt8 := dkwX4_switches_2 ++ []
def dkwX4_switches_1 : List UInt8 := [167, 0, 4, 4, 182, 0, 63, 167, 0, 40, 29, 8, 160, 0, 12, 42, 27, 7, 182, 0, 111, 167, 0, 26]
abbrev dktX4_switches_1 : List UInt8 := dkwX4_switches_1 ++ dktX4_switches_2
def dkwX4_switches_0 : List UInt8 := [42, 27, 16, 7, 182, 0, 55, 62, 28, 156, 0, 25, 42, 27, 16, 7, 29, 4, 164, 0, 9, 29, 4, 100]
abbrev dktX4_switches_0 : List UInt8 := dkwX4_switches_0 ++ dktX4_switches_1
theorem dksX4_switches_0 : cX4_switches.data.toList.drop 0 = dktX4_switches_0 := by decide +kernel
theorem dksX4_switches_1 : cX4_switches.data.toList.drop 24 = dktX4_switches_1 := dk_seg dksX4_switches_0 24 rfl rfl
theorem dksX4_switches_2 : cX4_switches.data.toList.drop 48 = dktX4_switches_2 := dk_seg dksX4_switches_1 24 rfl rfl
theorem dX4_switches_0 : decode cX4_switches 0 = .ok (.aload_n 0, 1) := dk_42 (dk_at dksX4_switches_0 0 rfl rfl)
theorem dX4_switches_1 : decode cX4_switches 1 = .ok (.iload_n 1, 1) := dk_27 (dk_at dksX4_switches_0 1 rfl rfl)
theorem dX4_switches_2 : decode cX4_switches 2 = .ok (.bipush 7, 2) := dk_16 7 (dk_at dksX4_switches_0 2 rfl rfl)
theorem dX4_switches_4 : decode cX4_switches 4 = .ok (.invokevirtual 55, 3) := dk_182 0 55 (dk_at dksX4_switches_0 4 rfl rfl)
theorem dX4_switches_7 : decode cX4_switches 7 = .ok (.istore_n 3, 1) := dk_62 (dk_at dksX4_switches_0 7 rfl rfl)
theorem dX4_switches_8 : decode cX4_switches 8 = .ok (.iload_n 2, 1) := dk_28 (dk_at dksX4_switches_0 8 rfl rfl)
theorem dX4_switches_9 : decode cX4_switches 9 = .ok (.ifCond .ge 25, 3) := dk_156 0 25 (dk_at dksX4_switches_0 9 rfl rfl)
theorem dX4_switches_12 : decode cX4_switches 12 = .ok (.aload_n 0, 1) := dk_42 (dk_at dksX4_switches_0 12 rfl rfl)
theorem dX4_switches_13 : decode cX4_switches 13 = .ok (.iload_n 1, 1) := dk_27 (dk_at dksX4_switches_0 13 rfl rfl)
theorem dX4_switches_14 : decode cX4_switches 14 = .ok (.bipush 7, 2) := dk_16 7 (dk_at dksX4_switches_0 14 rfl rfl)
theorem dX4_switches_16 : decode cX4_switches 16 = .ok (.iload_n 3, 1) := dk_29 (dk_at dksX4_switches_0 16 rfl rfl)
theorem dX4_switches_17 : decode cX4_switches 17 = .ok (.iconst 1, 1) := dk_4 (dk_at dksX4_switches_0 17 rfl rfl)
theorem dX4_switches_18 : decode cX4_switches 18 = .ok (.if_icmp .le 9, 3) := dk_164 0 9 (dk_at dksX4_switches_0 18 rfl rfl)
theorem dX4_switches_21 : decode cX4_switches 21 = .ok (.iload_n 3, 1) := dk_29 (dk_at dksX4_switches_0 21 rfl rfl)
theorem dX4_switches_22 : decode cX4_switches 22 = .ok (.iconst 1, 1) := dk_4 (dk_at dksX4_switches_0 22 rfl rfl)
theorem dX4_switches_23 : decode cX4_switches 23 = .ok (.isub, 1) := dk_100 (dk_at dksX4_switches_0 23 rfl rfl)
theorem dX4_switches_24 : decode cX4_switches 24 = .ok (.goto 4, 3) := dk_167 0 4 (dk_at dksX4_switches_1 0 rfl rfl)
theorem dX4_switches_27 : decode cX4_switches 27 = .ok (.iconst 1, 1) := dk_4 (dk_at dksX4_switches_1 3 rfl rfl)
theorem dX4_switches_28 : decode cX4_switches 28 = .ok (.invokevirtual 63, 3) := dk_182 0 63 (dk_at dksX4_switches_1 4 rfl rfl)
theorem dX4_switches_31 : decode cX4_switches 31 = .ok (.goto 40, 3) := dk_167 0 40 (dk_at dksX4_switches_1 7 rfl rfl)
theorem dX4_switches_34 : decode cX4_switches 34 = .ok (.iload_n 3, 1) := dk_29 (dk_at dksX4_switches_1 10 rfl rfl)
theorem dX4_switches_35 : decode cX4_switches 35 = .ok (.iconst 5, 1) := dk_8 (dk_at dksX4_switches_1 11 rfl rfl)
theorem dX4_switches_36 : decode cX4_switches 36 = .ok (.if_icmp .ne 12, 3) := dk_160 0 12 (dk_at dksX4_switches_1 12 rfl rfl)
theorem dX4_switches_39 : decode cX4_switches 39 = .ok (.aload_n 0, 1) := dk_42 (dk_at dksX4_switches_1 15 rfl rfl)
theorem dX4_switches_40 : decode cX4_switches 40 = .ok (.iload_n 1, 1) := dk_27 (dk_at dksX4_switches_1 16 rfl rfl)
theorem dX4_switches_41 : decode cX4_switches 41 = .ok (.iconst 4, 1) := dk_7 (dk_at dksX4_switches_1 17 rfl rfl)
theorem dX4_switches_42 : decode cX4_switches 42 = .ok (.invokevirtual 111, 3) := dk_182 0 111 (dk_at dksX4_switches_1 18 rfl rfl)
theorem dX4_switches_45 : decode cX4_switches 45 = .ok (.goto 26, 3) := dk_167 0 26 (dk_at dksX4_switches_1 21 rfl rfl)
theorem dX4_switches_48 : decode cX4_switches 48 = .ok (.aload_n 0, 1) := dk_42 (dk_at dksX4_switches_2 0 rfl rfl)
theorem dX4_switches_49 : decode cX4_switches 49 = .ok (.iload_n 1, 1) := dk_27 (dk_at dksX4_switches_2 1 rfl rfl)
theorem dX4_switches_50 : decode cX4_switches 50 = .ok (.bipush 8, 2) := dk_16 8 (dk_at dksX4_switches_2 2 rfl rfl)
theorem dX4_switches_52 : decode cX4_switches 52 = .ok (.iload_n 3, 1) := dk_29 (dk_at dksX4_switches_2 4 rfl rfl)
theorem dX4_switches_53 : decode cX4_switches 53 = .ok (.iadd, 1) := dk_96 (dk_at dksX4_switches_2 5 rfl rfl)
theorem dX4_switches_54 : decode cX4_switches 54 = .ok (.iload_n 2, 1) := dk_28 (dk_at dksX4_switches_2 6 rfl rfl)
theorem dX4_switches_55 : decode cX4_switches 55 = .ok (.bipush 10, 2) := dk_16 10 (dk_at dksX4_switches_2 7 rfl rfl)
theorem dX4_switches_57 : decode cX4_switches 57 = .ok (.irem, 1) := dk_112 (dk_at dksX4_switches_2 9 rfl rfl)
theorem dX4_switches_58 : decode cX4_switches 58 = .ok (.invokevirtual 63, 3) := dk_182 0 63 (dk_at dksX4_switches_2 10 rfl rfl)
theorem dX4_switches_61 : decode cX4_switches 61 = .ok (.aload_n 0, 1) := dk_42 (dk_at dksX4_switches_2 13 rfl rfl)
theorem dX4_switches_62 : decode cX4_switches 62 = .ok (.iload_n 1, 1) := dk_27 (dk_at dksX4_switches_2 14 rfl rfl)
theorem dX4_switches_63 : decode cX4_switches 63 = .ok (.bipush 7, 2) := dk_16 7 (dk_at dksX4_switches_2 15 rfl rfl)
theorem dX4_switches_65 : decode cX4_switches 65 = .ok (.iload_n 3, 1) := dk_29 (dk_at dksX4_switches_2 17 rfl rfl)
theorem dX4_switches_66 : decode cX4_switches 66 = .ok (.iconst 1, 1) := dk_4 (dk_at dksX4_switches_2 18 rfl rfl)
theorem dX4_switches_67 : decode cX4_switches 67 = .ok (.iadd, 1) := dk_96 (dk_at dksX4_switches_2 19 rfl rfl)
theorem dX4_switches_68 : decode cX4_switches 68 = .ok (.invokevirtual 63, 3) := dk_182 0 63 (dk_at dksX4_switches_2 20 rfl rfl)
theorem dX4_switches_71 : decode cX4_switches 71 = .ok (.return_, 1) := dk_177 (dk_at dksX4_switches_2 23 rfl rfl)
abbrev cX4_delays : ByteArray := prog_23_method_22_code
def yX4_delays : MethodName := ⟨RX4, "delays", "(II)V"⟩
def dkwX4_delays_3 : List UInt8 := [4, 100, 79, 42, 180, 0, 9, 17, 3, 163, 92, 46, 4, 96, 79, 177]
abbrev dktX4_delays_3 : List UInt8 := dkwX4_delays_3 ++ []
def dkwX4_delays_2 : List UInt8 := [42, 180, 0, 9, 17, 3, 157, 46, 4, 96, 28, 16, 8, 112, 96, 79, 42, 180, 0, 9, 29, 5, 96, 28]
abbrev dktX4_delays_2 : List UInt8 := dkwX4_delays_2 ++ dktX4_delays_3
def dkwX4_delays_1 : List UInt8 := [180, 0, 9, 17, 3, 163, 46, 104, 96, 62, 42, 180, 0, 9, 29, 27, 79, 42, 180, 0, 9, 29, 4, 96]
abbrev dktX4_delays_1 : List UInt8 := dkwX4_delays_1 ++ dktX4_delays_2
def dkwX4_delays_0 : List UInt8 := [28, 158, 0, 84, 42, 180, 0, 9, 17, 3, 163, 46, 16, 10, 162, 0, 71, 17, 3, 164, 6, 42]
abbrev dktX4_delays_0 : List UInt8 := dkwX4_delays_0 ++ dktX4_delays_1
theorem dksX4_delays_0 : cX4_delays.data.toList.drop 0 = dktX4_delays_0 := by decide +kernel
theorem dksX4_delays_1 : cX4_delays.data.toList.drop 22 = dktX4_delays_1 := dk_seg dksX4_delays_0 22 rfl rfl
theorem dksX4_delays_2 : cX4_delays.data.toList.drop 46 = dktX4_delays_2 := dk_seg dksX4_delays_1 24 rfl rfl
theorem dksX4_delays_3 : cX4_delays.data.toList.drop 70 = dktX4_delays_3 := dk_seg dksX4_delays_2 24 rfl rfl
theorem dX4_delays_0 : decode cX4_delays 0 = .ok (.iload_n 2, 1) := dk_28 (dk_at dksX4_delays_0 0 rfl rfl)
theorem dX4_delays_1 : decode cX4_delays 1 = .ok (.ifCond .le 84, 3) := dk_158 0 84 (dk_at dksX4_delays_0 1 rfl rfl)
theorem dX4_delays_4 : decode cX4_delays 4 = .ok (.aload_n 0, 1) := dk_42 (dk_at dksX4_delays_0 4 rfl rfl)
theorem dX4_delays_5 : decode cX4_delays 5 = .ok (.getfield 9, 3) := dk_180 0 9 (dk_at dksX4_delays_0 5 rfl rfl)
theorem dX4_delays_8 : decode cX4_delays 8 = .ok (.sipush 931, 3) := dk_17 3 163 (dk_at dksX4_delays_0 8 rfl rfl)
theorem dX4_delays_11 : decode cX4_delays 11 = .ok (.iaload, 1) := dk_46 (dk_at dksX4_delays_0 11 rfl rfl)
theorem dX4_delays_12 : decode cX4_delays 12 = .ok (.bipush 10, 2) := dk_16 10 (dk_at dksX4_delays_0 12 rfl rfl)
theorem dX4_delays_14 : decode cX4_delays 14 = .ok (.if_icmp .ge 71, 3) := dk_162 0 71 (dk_at dksX4_delays_0 14 rfl rfl)
theorem dX4_delays_17 : decode cX4_delays 17 = .ok (.sipush 932, 3) := dk_17 3 164 (dk_at dksX4_delays_0 17 rfl rfl)
theorem dX4_delays_20 : decode cX4_delays 20 = .ok (.iconst 3, 1) := dk_6 (dk_at dksX4_delays_0 20 rfl rfl)
theorem dX4_delays_21 : decode cX4_delays 21 = .ok (.aload_n 0, 1) := dk_42 (dk_at dksX4_delays_0 21 rfl rfl)
theorem dX4_delays_22 : decode cX4_delays 22 = .ok (.getfield 9, 3) := dk_180 0 9 (dk_at dksX4_delays_1 0 rfl rfl)
theorem dX4_delays_25 : decode cX4_delays 25 = .ok (.sipush 931, 3) := dk_17 3 163 (dk_at dksX4_delays_1 3 rfl rfl)
theorem dX4_delays_28 : decode cX4_delays 28 = .ok (.iaload, 1) := dk_46 (dk_at dksX4_delays_1 6 rfl rfl)
theorem dX4_delays_29 : decode cX4_delays 29 = .ok (.imul, 1) := dk_104 (dk_at dksX4_delays_1 7 rfl rfl)
theorem dX4_delays_30 : decode cX4_delays 30 = .ok (.iadd, 1) := dk_96 (dk_at dksX4_delays_1 8 rfl rfl)
theorem dX4_delays_31 : decode cX4_delays 31 = .ok (.istore_n 3, 1) := dk_62 (dk_at dksX4_delays_1 9 rfl rfl)
theorem dX4_delays_32 : decode cX4_delays 32 = .ok (.aload_n 0, 1) := dk_42 (dk_at dksX4_delays_1 10 rfl rfl)
theorem dX4_delays_33 : decode cX4_delays 33 = .ok (.getfield 9, 3) := dk_180 0 9 (dk_at dksX4_delays_1 11 rfl rfl)
theorem dX4_delays_36 : decode cX4_delays 36 = .ok (.iload_n 3, 1) := dk_29 (dk_at dksX4_delays_1 14 rfl rfl)
theorem dX4_delays_37 : decode cX4_delays 37 = .ok (.iload_n 1, 1) := dk_27 (dk_at dksX4_delays_1 15 rfl rfl)
theorem dX4_delays_38 : decode cX4_delays 38 = .ok (.iastore, 1) := dk_79 (dk_at dksX4_delays_1 16 rfl rfl)
theorem dX4_delays_39 : decode cX4_delays 39 = .ok (.aload_n 0, 1) := dk_42 (dk_at dksX4_delays_1 17 rfl rfl)
theorem dX4_delays_40 : decode cX4_delays 40 = .ok (.getfield 9, 3) := dk_180 0 9 (dk_at dksX4_delays_1 18 rfl rfl)
theorem dX4_delays_43 : decode cX4_delays 43 = .ok (.iload_n 3, 1) := dk_29 (dk_at dksX4_delays_1 21 rfl rfl)
theorem dX4_delays_44 : decode cX4_delays 44 = .ok (.iconst 1, 1) := dk_4 (dk_at dksX4_delays_1 22 rfl rfl)
theorem dX4_delays_45 : decode cX4_delays 45 = .ok (.iadd, 1) := dk_96 (dk_at dksX4_delays_1 23 rfl rfl)
theorem dX4_delays_46 : decode cX4_delays 46 = .ok (.aload_n 0, 1) := dk_42 (dk_at dksX4_delays_2 0 rfl rfl)
theorem dX4_delays_47 : decode cX4_delays 47 = .ok (.getfield 9, 3) := dk_180 0 9 (dk_at dksX4_delays_2 1 rfl rfl)
theorem dX4_delays_50 : decode cX4_delays 50 = .ok (.sipush 925, 3) := dk_17 3 157 (dk_at dksX4_delays_2 4 rfl rfl)
theorem dX4_delays_53 : decode cX4_delays 53 = .ok (.iaload, 1) := dk_46 (dk_at dksX4_delays_2 7 rfl rfl)
theorem dX4_delays_54 : decode cX4_delays 54 = .ok (.iconst 1, 1) := dk_4 (dk_at dksX4_delays_2 8 rfl rfl)
theorem dX4_delays_55 : decode cX4_delays 55 = .ok (.iadd, 1) := dk_96 (dk_at dksX4_delays_2 9 rfl rfl)
theorem dX4_delays_56 : decode cX4_delays 56 = .ok (.iload_n 2, 1) := dk_28 (dk_at dksX4_delays_2 10 rfl rfl)
theorem dX4_delays_57 : decode cX4_delays 57 = .ok (.bipush 8, 2) := dk_16 8 (dk_at dksX4_delays_2 11 rfl rfl)
theorem dX4_delays_59 : decode cX4_delays 59 = .ok (.irem, 1) := dk_112 (dk_at dksX4_delays_2 13 rfl rfl)
theorem dX4_delays_60 : decode cX4_delays 60 = .ok (.iadd, 1) := dk_96 (dk_at dksX4_delays_2 14 rfl rfl)
theorem dX4_delays_61 : decode cX4_delays 61 = .ok (.iastore, 1) := dk_79 (dk_at dksX4_delays_2 15 rfl rfl)
theorem dX4_delays_62 : decode cX4_delays 62 = .ok (.aload_n 0, 1) := dk_42 (dk_at dksX4_delays_2 16 rfl rfl)
theorem dX4_delays_63 : decode cX4_delays 63 = .ok (.getfield 9, 3) := dk_180 0 9 (dk_at dksX4_delays_2 17 rfl rfl)
theorem dX4_delays_66 : decode cX4_delays 66 = .ok (.iload_n 3, 1) := dk_29 (dk_at dksX4_delays_2 20 rfl rfl)
theorem dX4_delays_67 : decode cX4_delays 67 = .ok (.iconst 2, 1) := dk_5 (dk_at dksX4_delays_2 21 rfl rfl)
theorem dX4_delays_68 : decode cX4_delays 68 = .ok (.iadd, 1) := dk_96 (dk_at dksX4_delays_2 22 rfl rfl)
theorem dX4_delays_69 : decode cX4_delays 69 = .ok (.iload_n 2, 1) := dk_28 (dk_at dksX4_delays_2 23 rfl rfl)
theorem dX4_delays_70 : decode cX4_delays 70 = .ok (.iconst 1, 1) := dk_4 (dk_at dksX4_delays_3 0 rfl rfl)
theorem dX4_delays_71 : decode cX4_delays 71 = .ok (.isub, 1) := dk_100 (dk_at dksX4_delays_3 1 rfl rfl)
theorem dX4_delays_72 : decode cX4_delays 72 = .ok (.iastore, 1) := dk_79 (dk_at dksX4_delays_3 2 rfl rfl)
theorem dX4_delays_73 : decode cX4_delays 73 = .ok (.aload_n 0, 1) := dk_42 (dk_at dksX4_delays_3 3 rfl rfl)
theorem dX4_delays_74 : decode cX4_delays 74 = .ok (.getfield 9, 3) := dk_180 0 9 (dk_at dksX4_delays_3 4 rfl rfl)
theorem dX4_delays_77 : decode cX4_delays 77 = .ok (.sipush 931, 3) := dk_17 3 163 (dk_at dksX4_delays_3 7 rfl rfl)
theorem dX4_delays_80 : decode cX4_delays 80 = .ok (.dup2, 1) := dk_92 (dk_at dksX4_delays_3 10 rfl rfl)
theorem dX4_delays_81 : decode cX4_delays 81 = .ok (.iaload, 1) := dk_46 (dk_at dksX4_delays_3 11 rfl rfl)
theorem dX4_delays_82 : decode cX4_delays 82 = .ok (.iconst 1, 1) := dk_4 (dk_at dksX4_delays_3 12 rfl rfl)
theorem dX4_delays_83 : decode cX4_delays 83 = .ok (.iadd, 1) := dk_96 (dk_at dksX4_delays_3 13 rfl rfl)
theorem dX4_delays_84 : decode cX4_delays 84 = .ok (.iastore, 1) := dk_79 (dk_at dksX4_delays_3 14 rfl rfl)
theorem dX4_delays_85 : decode cX4_delays 85 = .ok (.return_, 1) := dk_177 (dk_at dksX4_delays_3 15 rfl rfl)
abbrev cX4_watches : ByteArray := prog_23_method_23_code
def yX4_watches : MethodName := ⟨RX4, "watches", "(II)V"⟩
def dkwX4_watches_4 : List UInt8 := [27, 182, 0, 63, 42, 29, 16, 51, 21, 4, 4, 96, 182, 0, 63, 177]
abbrev dktX4_watches_4 : List UInt8 := dkwX4_watches_4 ++ []
def dkwX4_watches_3 : List UInt8 := [21, 5, 96, 182, 0, 55, 27, 160, 0, 4, 177, 132, 5, 1, 167, 255, 231, 42, 29, 16, 52, 21, 4, 96]
abbrev dktX4_watches_3 : List UInt8 := dkwX4_watches_3 ++ dktX4_watches_4
def dkwX4_watches_2 : List UInt8 := [177, 42, 29, 16, 51, 182, 0, 55, 54, 4, 3, 54, 5, 21, 5, 21, 4, 162, 0, 24, 42, 29, 16, 52]
abbrev dktX4_watches_2 : List UInt8 := dkwX4_watches_2 ++ dktX4_watches_3
def dkwX4_watches_1 : List UInt8 := [160, 0, 4, 177, 42, 29, 182, 0, 59, 154, 0, 16, 42, 27, 2, 17, 3, 232, 29, 96, 182, 0, 84, 87]
abbrev dktX4_watches_1 : List UInt8 := dkwX4_watches_1 ++ dktX4_watches_2
def dkwX4_watches_0 : List UInt8 := [28, 156, 0, 10, 28, 16, 99, 96, 167, 0, 4, 28, 42, 180, 0, 9, 17, 3, 156, 46, 112, 62, 29, 27]
abbrev dktX4_watches_0 : List UInt8 := dkwX4_watches_0 ++ dktX4_watches_1
theorem dksX4_watches_0 : cX4_watches.data.toList.drop 0 = dktX4_watches_0 := by decide +kernel
theorem dksX4_watches_1 : cX4_watches.data.toList.drop 24 = dktX4_watches_1 := dk_seg dksX4_watches_0 24 rfl rfl
theorem dksX4_watches_2 : cX4_watches.data.toList.drop 48 = dktX4_watches_2 := dk_seg dksX4_watches_1 24 rfl rfl
theorem dksX4_watches_3 : cX4_watches.data.toList.drop 72 = dktX4_watches_3 := dk_seg dksX4_watches_2 24 rfl rfl
theorem dksX4_watches_4 : cX4_watches.data.toList.drop 96 = dktX4_watches_4 := dk_seg dksX4_watches_3 24 rfl rfl
theorem dX4_watches_0 : decode cX4_watches 0 = .ok (.iload_n 2, 1) := dk_28 (dk_at dksX4_watches_0 0 rfl rfl)
theorem dX4_watches_1 : decode cX4_watches 1 = .ok (.ifCond .ge 10, 3) := dk_156 0 10 (dk_at dksX4_watches_0 1 rfl rfl)
theorem dX4_watches_4 : decode cX4_watches 4 = .ok (.iload_n 2, 1) := dk_28 (dk_at dksX4_watches_0 4 rfl rfl)
theorem dX4_watches_5 : decode cX4_watches 5 = .ok (.bipush 99, 2) := dk_16 99 (dk_at dksX4_watches_0 5 rfl rfl)
theorem dX4_watches_7 : decode cX4_watches 7 = .ok (.iadd, 1) := dk_96 (dk_at dksX4_watches_0 7 rfl rfl)
theorem dX4_watches_8 : decode cX4_watches 8 = .ok (.goto 4, 3) := dk_167 0 4 (dk_at dksX4_watches_0 8 rfl rfl)
theorem dX4_watches_11 : decode cX4_watches 11 = .ok (.iload_n 2, 1) := dk_28 (dk_at dksX4_watches_0 11 rfl rfl)
theorem dX4_watches_12 : decode cX4_watches 12 = .ok (.aload_n 0, 1) := dk_42 (dk_at dksX4_watches_0 12 rfl rfl)
theorem dX4_watches_13 : decode cX4_watches 13 = .ok (.getfield 9, 3) := dk_180 0 9 (dk_at dksX4_watches_0 13 rfl rfl)
theorem dX4_watches_16 : decode cX4_watches 16 = .ok (.sipush 924, 3) := dk_17 3 156 (dk_at dksX4_watches_0 16 rfl rfl)
theorem dX4_watches_19 : decode cX4_watches 19 = .ok (.iaload, 1) := dk_46 (dk_at dksX4_watches_0 19 rfl rfl)
theorem dX4_watches_20 : decode cX4_watches 20 = .ok (.irem, 1) := dk_112 (dk_at dksX4_watches_0 20 rfl rfl)
theorem dX4_watches_21 : decode cX4_watches 21 = .ok (.istore_n 3, 1) := dk_62 (dk_at dksX4_watches_0 21 rfl rfl)
theorem dX4_watches_22 : decode cX4_watches 22 = .ok (.iload_n 3, 1) := dk_29 (dk_at dksX4_watches_0 22 rfl rfl)
theorem dX4_watches_23 : decode cX4_watches 23 = .ok (.iload_n 1, 1) := dk_27 (dk_at dksX4_watches_0 23 rfl rfl)
theorem dX4_watches_24 : decode cX4_watches 24 = .ok (.if_icmp .ne 4, 3) := dk_160 0 4 (dk_at dksX4_watches_1 0 rfl rfl)
theorem dX4_watches_27 : decode cX4_watches 27 = .ok (.return_, 1) := dk_177 (dk_at dksX4_watches_1 3 rfl rfl)
theorem dX4_watches_28 : decode cX4_watches 28 = .ok (.aload_n 0, 1) := dk_42 (dk_at dksX4_watches_1 4 rfl rfl)
theorem dX4_watches_29 : decode cX4_watches 29 = .ok (.iload_n 3, 1) := dk_29 (dk_at dksX4_watches_1 5 rfl rfl)
theorem dX4_watches_30 : decode cX4_watches 30 = .ok (.invokevirtual 59, 3) := dk_182 0 59 (dk_at dksX4_watches_1 6 rfl rfl)
theorem dX4_watches_33 : decode cX4_watches 33 = .ok (.ifCond .ne 16, 3) := dk_154 0 16 (dk_at dksX4_watches_1 9 rfl rfl)
theorem dX4_watches_36 : decode cX4_watches 36 = .ok (.aload_n 0, 1) := dk_42 (dk_at dksX4_watches_1 12 rfl rfl)
theorem dX4_watches_37 : decode cX4_watches 37 = .ok (.iload_n 1, 1) := dk_27 (dk_at dksX4_watches_1 13 rfl rfl)
theorem dX4_watches_38 : decode cX4_watches 38 = .ok (.iconst (-1), 1) := dk_2 (dk_at dksX4_watches_1 14 rfl rfl)
theorem dX4_watches_39 : decode cX4_watches 39 = .ok (.sipush 1000, 3) := dk_17 3 232 (dk_at dksX4_watches_1 15 rfl rfl)
theorem dX4_watches_42 : decode cX4_watches 42 = .ok (.iload_n 3, 1) := dk_29 (dk_at dksX4_watches_1 18 rfl rfl)
theorem dX4_watches_43 : decode cX4_watches 43 = .ok (.iadd, 1) := dk_96 (dk_at dksX4_watches_1 19 rfl rfl)
theorem dX4_watches_44 : decode cX4_watches 44 = .ok (.invokevirtual 84, 3) := dk_182 0 84 (dk_at dksX4_watches_1 20 rfl rfl)
theorem dX4_watches_47 : decode cX4_watches 47 = .ok (.pop, 1) := dk_87 (dk_at dksX4_watches_1 23 rfl rfl)
theorem dX4_watches_48 : decode cX4_watches 48 = .ok (.return_, 1) := dk_177 (dk_at dksX4_watches_2 0 rfl rfl)
theorem dX4_watches_49 : decode cX4_watches 49 = .ok (.aload_n 0, 1) := dk_42 (dk_at dksX4_watches_2 1 rfl rfl)
theorem dX4_watches_50 : decode cX4_watches 50 = .ok (.iload_n 3, 1) := dk_29 (dk_at dksX4_watches_2 2 rfl rfl)
theorem dX4_watches_51 : decode cX4_watches 51 = .ok (.bipush 51, 2) := dk_16 51 (dk_at dksX4_watches_2 3 rfl rfl)
theorem dX4_watches_53 : decode cX4_watches 53 = .ok (.invokevirtual 55, 3) := dk_182 0 55 (dk_at dksX4_watches_2 5 rfl rfl)
theorem dX4_watches_56 : decode cX4_watches 56 = .ok (.istore 4, 2) := dk_54 4 (dk_at dksX4_watches_2 8 rfl rfl)
theorem dX4_watches_58 : decode cX4_watches 58 = .ok (.iconst 0, 1) := dk_3 (dk_at dksX4_watches_2 10 rfl rfl)
theorem dX4_watches_59 : decode cX4_watches 59 = .ok (.istore 5, 2) := dk_54 5 (dk_at dksX4_watches_2 11 rfl rfl)
theorem dX4_watches_61 : decode cX4_watches 61 = .ok (.iload 5, 2) := dk_21 5 (dk_at dksX4_watches_2 13 rfl rfl)
theorem dX4_watches_63 : decode cX4_watches 63 = .ok (.iload 4, 2) := dk_21 4 (dk_at dksX4_watches_2 15 rfl rfl)
theorem dX4_watches_65 : decode cX4_watches 65 = .ok (.if_icmp .ge 24, 3) := dk_162 0 24 (dk_at dksX4_watches_2 17 rfl rfl)
theorem dX4_watches_68 : decode cX4_watches 68 = .ok (.aload_n 0, 1) := dk_42 (dk_at dksX4_watches_2 20 rfl rfl)
theorem dX4_watches_69 : decode cX4_watches 69 = .ok (.iload_n 3, 1) := dk_29 (dk_at dksX4_watches_2 21 rfl rfl)
theorem dX4_watches_70 : decode cX4_watches 70 = .ok (.bipush 52, 2) := dk_16 52 (dk_at dksX4_watches_2 22 rfl rfl)
theorem dX4_watches_72 : decode cX4_watches 72 = .ok (.iload 5, 2) := dk_21 5 (dk_at dksX4_watches_3 0 rfl rfl)
theorem dX4_watches_74 : decode cX4_watches 74 = .ok (.iadd, 1) := dk_96 (dk_at dksX4_watches_3 2 rfl rfl)
theorem dX4_watches_75 : decode cX4_watches 75 = .ok (.invokevirtual 55, 3) := dk_182 0 55 (dk_at dksX4_watches_3 3 rfl rfl)
theorem dX4_watches_78 : decode cX4_watches 78 = .ok (.iload_n 1, 1) := dk_27 (dk_at dksX4_watches_3 6 rfl rfl)
theorem dX4_watches_79 : decode cX4_watches 79 = .ok (.if_icmp .ne 4, 3) := dk_160 0 4 (dk_at dksX4_watches_3 7 rfl rfl)
theorem dX4_watches_82 : decode cX4_watches 82 = .ok (.return_, 1) := dk_177 (dk_at dksX4_watches_3 10 rfl rfl)
theorem dX4_watches_83 : decode cX4_watches 83 = .ok (.iinc 5 1, 3) := dk_132 5 1 (dk_at dksX4_watches_3 11 rfl rfl)
theorem dX4_watches_86 : decode cX4_watches 86 = .ok (.goto (-25), 3) := dk_167 255 231 (dk_at dksX4_watches_3 14 rfl rfl)
theorem dX4_watches_89 : decode cX4_watches 89 = .ok (.aload_n 0, 1) := dk_42 (dk_at dksX4_watches_3 17 rfl rfl)
theorem dX4_watches_90 : decode cX4_watches 90 = .ok (.iload_n 3, 1) := dk_29 (dk_at dksX4_watches_3 18 rfl rfl)
theorem dX4_watches_91 : decode cX4_watches 91 = .ok (.bipush 52, 2) := dk_16 52 (dk_at dksX4_watches_3 19 rfl rfl)
theorem dX4_watches_93 : decode cX4_watches 93 = .ok (.iload 4, 2) := dk_21 4 (dk_at dksX4_watches_3 21 rfl rfl)
theorem dX4_watches_95 : decode cX4_watches 95 = .ok (.iadd, 1) := dk_96 (dk_at dksX4_watches_3 23 rfl rfl)
theorem dX4_watches_96 : decode cX4_watches 96 = .ok (.iload_n 1, 1) := dk_27 (dk_at dksX4_watches_4 0 rfl rfl)
theorem dX4_watches_97 : decode cX4_watches 97 = .ok (.invokevirtual 63, 3) := dk_182 0 63 (dk_at dksX4_watches_4 1 rfl rfl)
theorem dX4_watches_100 : decode cX4_watches 100 = .ok (.aload_n 0, 1) := dk_42 (dk_at dksX4_watches_4 4 rfl rfl)
theorem dX4_watches_101 : decode cX4_watches 101 = .ok (.iload_n 3, 1) := dk_29 (dk_at dksX4_watches_4 5 rfl rfl)
theorem dX4_watches_102 : decode cX4_watches 102 = .ok (.bipush 51, 2) := dk_16 51 (dk_at dksX4_watches_4 6 rfl rfl)
theorem dX4_watches_104 : decode cX4_watches 104 = .ok (.iload 4, 2) := dk_21 4 (dk_at dksX4_watches_4 8 rfl rfl)
theorem dX4_watches_106 : decode cX4_watches 106 = .ok (.iconst 1, 1) := dk_4 (dk_at dksX4_watches_4 10 rfl rfl)
theorem dX4_watches_107 : decode cX4_watches 107 = .ok (.iadd, 1) := dk_96 (dk_at dksX4_watches_4 11 rfl rfl)
theorem dX4_watches_108 : decode cX4_watches 108 = .ok (.invokevirtual 63, 3) := dk_182 0 63 (dk_at dksX4_watches_4 12 rfl rfl)
theorem dX4_watches_111 : decode cX4_watches 111 = .ok (.return_, 1) := dk_177 (dk_at dksX4_watches_4 15 rfl rfl)
abbrev cX4_firstTimer : ByteArray := prog_23_method_27_code
def yX4_firstTimer : MethodName := ⟨RX4, "firstTimer", "()I"⟩
def dkwX4_firstTimer_2 : List UInt8 := [4, 96, 46, 162, 0, 7, 28, 167, 0, 4, 27, 60, 132, 2, 1, 167, 255, 200, 27, 172]
abbrev dktX4_firstTimer_2 : List UInt8 := dkwX4_firstTimer_2 ++ []
def dkwX4_firstTimer_1 : List UInt8 := [180, 0, 9, 17, 3, 164, 6, 28, 104, 96, 4, 96, 46, 42, 180, 0, 9, 17, 3, 164, 6, 27, 104, 96]
abbrev dktX4_firstTimer_1 : List UInt8 := dkwX4_firstTimer_1 ++ dktX4_firstTimer_2
def dkwX4_firstTimer_0 : List UInt8 := [16, 254, 60, 3, 61, 28, 42, 180, 0, 9, 17, 3, 163, 46, 162, 0, 50, 27, 155, 0, 34, 42]
abbrev dktX4_firstTimer_0 : List UInt8 := dkwX4_firstTimer_0 ++ dktX4_firstTimer_1
theorem dksX4_firstTimer_0 : cX4_firstTimer.data.toList.drop 0 = dktX4_firstTimer_0 := by decide +kernel
theorem dksX4_firstTimer_1 : cX4_firstTimer.data.toList.drop 22 = dktX4_firstTimer_1 := dk_seg dksX4_firstTimer_0 22 rfl rfl
theorem dksX4_firstTimer_2 : cX4_firstTimer.data.toList.drop 46 = dktX4_firstTimer_2 := dk_seg dksX4_firstTimer_1 24 rfl rfl
theorem dX4_firstTimer_0 : decode cX4_firstTimer 0 = .ok (.bipush (-2), 2) := dk_16 254 (dk_at dksX4_firstTimer_0 0 rfl rfl)
theorem dX4_firstTimer_2 : decode cX4_firstTimer 2 = .ok (.istore_n 1, 1) := dk_60 (dk_at dksX4_firstTimer_0 2 rfl rfl)
theorem dX4_firstTimer_3 : decode cX4_firstTimer 3 = .ok (.iconst 0, 1) := dk_3 (dk_at dksX4_firstTimer_0 3 rfl rfl)
theorem dX4_firstTimer_4 : decode cX4_firstTimer 4 = .ok (.istore_n 2, 1) := dk_61 (dk_at dksX4_firstTimer_0 4 rfl rfl)
theorem dX4_firstTimer_5 : decode cX4_firstTimer 5 = .ok (.iload_n 2, 1) := dk_28 (dk_at dksX4_firstTimer_0 5 rfl rfl)
theorem dX4_firstTimer_6 : decode cX4_firstTimer 6 = .ok (.aload_n 0, 1) := dk_42 (dk_at dksX4_firstTimer_0 6 rfl rfl)
theorem dX4_firstTimer_7 : decode cX4_firstTimer 7 = .ok (.getfield 9, 3) := dk_180 0 9 (dk_at dksX4_firstTimer_0 7 rfl rfl)
theorem dX4_firstTimer_10 : decode cX4_firstTimer 10 = .ok (.sipush 931, 3) := dk_17 3 163 (dk_at dksX4_firstTimer_0 10 rfl rfl)
theorem dX4_firstTimer_13 : decode cX4_firstTimer 13 = .ok (.iaload, 1) := dk_46 (dk_at dksX4_firstTimer_0 13 rfl rfl)
theorem dX4_firstTimer_14 : decode cX4_firstTimer 14 = .ok (.if_icmp .ge 50, 3) := dk_162 0 50 (dk_at dksX4_firstTimer_0 14 rfl rfl)
theorem dX4_firstTimer_17 : decode cX4_firstTimer 17 = .ok (.iload_n 1, 1) := dk_27 (dk_at dksX4_firstTimer_0 17 rfl rfl)
theorem dX4_firstTimer_18 : decode cX4_firstTimer 18 = .ok (.ifCond .lt 34, 3) := dk_155 0 34 (dk_at dksX4_firstTimer_0 18 rfl rfl)
theorem dX4_firstTimer_21 : decode cX4_firstTimer 21 = .ok (.aload_n 0, 1) := dk_42 (dk_at dksX4_firstTimer_0 21 rfl rfl)
theorem dX4_firstTimer_22 : decode cX4_firstTimer 22 = .ok (.getfield 9, 3) := dk_180 0 9 (dk_at dksX4_firstTimer_1 0 rfl rfl)
theorem dX4_firstTimer_25 : decode cX4_firstTimer 25 = .ok (.sipush 932, 3) := dk_17 3 164 (dk_at dksX4_firstTimer_1 3 rfl rfl)
theorem dX4_firstTimer_28 : decode cX4_firstTimer 28 = .ok (.iconst 3, 1) := dk_6 (dk_at dksX4_firstTimer_1 6 rfl rfl)
theorem dX4_firstTimer_29 : decode cX4_firstTimer 29 = .ok (.iload_n 2, 1) := dk_28 (dk_at dksX4_firstTimer_1 7 rfl rfl)
theorem dX4_firstTimer_30 : decode cX4_firstTimer 30 = .ok (.imul, 1) := dk_104 (dk_at dksX4_firstTimer_1 8 rfl rfl)
theorem dX4_firstTimer_31 : decode cX4_firstTimer 31 = .ok (.iadd, 1) := dk_96 (dk_at dksX4_firstTimer_1 9 rfl rfl)
theorem dX4_firstTimer_32 : decode cX4_firstTimer 32 = .ok (.iconst 1, 1) := dk_4 (dk_at dksX4_firstTimer_1 10 rfl rfl)
theorem dX4_firstTimer_33 : decode cX4_firstTimer 33 = .ok (.iadd, 1) := dk_96 (dk_at dksX4_firstTimer_1 11 rfl rfl)
theorem dX4_firstTimer_34 : decode cX4_firstTimer 34 = .ok (.iaload, 1) := dk_46 (dk_at dksX4_firstTimer_1 12 rfl rfl)
theorem dX4_firstTimer_35 : decode cX4_firstTimer 35 = .ok (.aload_n 0, 1) := dk_42 (dk_at dksX4_firstTimer_1 13 rfl rfl)
theorem dX4_firstTimer_36 : decode cX4_firstTimer 36 = .ok (.getfield 9, 3) := dk_180 0 9 (dk_at dksX4_firstTimer_1 14 rfl rfl)
theorem dX4_firstTimer_39 : decode cX4_firstTimer 39 = .ok (.sipush 932, 3) := dk_17 3 164 (dk_at dksX4_firstTimer_1 17 rfl rfl)
theorem dX4_firstTimer_42 : decode cX4_firstTimer 42 = .ok (.iconst 3, 1) := dk_6 (dk_at dksX4_firstTimer_1 20 rfl rfl)
theorem dX4_firstTimer_43 : decode cX4_firstTimer 43 = .ok (.iload_n 1, 1) := dk_27 (dk_at dksX4_firstTimer_1 21 rfl rfl)
theorem dX4_firstTimer_44 : decode cX4_firstTimer 44 = .ok (.imul, 1) := dk_104 (dk_at dksX4_firstTimer_1 22 rfl rfl)
theorem dX4_firstTimer_45 : decode cX4_firstTimer 45 = .ok (.iadd, 1) := dk_96 (dk_at dksX4_firstTimer_1 23 rfl rfl)
theorem dX4_firstTimer_46 : decode cX4_firstTimer 46 = .ok (.iconst 1, 1) := dk_4 (dk_at dksX4_firstTimer_2 0 rfl rfl)
theorem dX4_firstTimer_47 : decode cX4_firstTimer 47 = .ok (.iadd, 1) := dk_96 (dk_at dksX4_firstTimer_2 1 rfl rfl)
theorem dX4_firstTimer_48 : decode cX4_firstTimer 48 = .ok (.iaload, 1) := dk_46 (dk_at dksX4_firstTimer_2 2 rfl rfl)
theorem dX4_firstTimer_49 : decode cX4_firstTimer 49 = .ok (.if_icmp .ge 7, 3) := dk_162 0 7 (dk_at dksX4_firstTimer_2 3 rfl rfl)
theorem dX4_firstTimer_52 : decode cX4_firstTimer 52 = .ok (.iload_n 2, 1) := dk_28 (dk_at dksX4_firstTimer_2 6 rfl rfl)
theorem dX4_firstTimer_53 : decode cX4_firstTimer 53 = .ok (.goto 4, 3) := dk_167 0 4 (dk_at dksX4_firstTimer_2 7 rfl rfl)
theorem dX4_firstTimer_56 : decode cX4_firstTimer 56 = .ok (.iload_n 1, 1) := dk_27 (dk_at dksX4_firstTimer_2 10 rfl rfl)
theorem dX4_firstTimer_57 : decode cX4_firstTimer 57 = .ok (.istore_n 1, 1) := dk_60 (dk_at dksX4_firstTimer_2 11 rfl rfl)
theorem dX4_firstTimer_58 : decode cX4_firstTimer 58 = .ok (.iinc 2 1, 3) := dk_132 2 1 (dk_at dksX4_firstTimer_2 12 rfl rfl)
theorem dX4_firstTimer_61 : decode cX4_firstTimer 61 = .ok (.goto (-56), 3) := dk_167 255 200 (dk_at dksX4_firstTimer_2 15 rfl rfl)
theorem dX4_firstTimer_64 : decode cX4_firstTimer 64 = .ok (.iload_n 1, 1) := dk_27 (dk_at dksX4_firstTimer_2 18 rfl rfl)
theorem dX4_firstTimer_65 : decode cX4_firstTimer 65 = .ok (.ireturn, 1) := dk_172 (dk_at dksX4_firstTimer_2 19 rfl rfl)
abbrev cX4_ended : ByteArray := prog_23_method_53_code
def yX4_ended : MethodName := ⟨RX4, "ended", "()I"⟩
def dkwX4_ended_0 : List UInt8 := [42, 180, 0, 9, 17, 3, 162, 46, 172]
abbrev dktX4_ended_0 : List UInt8 := dkwX4_ended_0 ++ []
theorem dksX4_ended_0 : cX4_ended.data.toList.drop 0 = dktX4_ended_0 := by decide +kernel
theorem dX4_ended_0 : decode cX4_ended 0 = .ok (.aload_n 0, 1) := dk_42 (dk_at dksX4_ended_0 0 rfl rfl)
theorem dX4_ended_1 : decode cX4_ended 1 = .ok (.getfield 9, 3) := dk_180 0 9 (dk_at dksX4_ended_0 1 rfl rfl)
theorem dX4_ended_4 : decode cX4_ended 4 = .ok (.sipush 930, 3) := dk_17 3 162 (dk_at dksX4_ended_0 4 rfl rfl)
theorem dX4_ended_7 : decode cX4_ended 7 = .ok (.iaload, 1) := dk_46 (dk_at dksX4_ended_0 7 rfl rfl)
theorem dX4_ended_8 : decode cX4_ended 8 = .ok (.ireturn, 1) := dk_172 (dk_at dksX4_ended_0 8 rfl rfl)
abbrev cX4_log : ByteArray := prog_23_method_54_code
def yX4_log : MethodName := ⟨RX4, "log", "(I)I"⟩
def dkwX4_log_1 : List UInt8 := [17, 3, 195, 27, 96, 46, 167, 0, 5, 16, 254, 172]
abbrev dktX4_log_1 : List UInt8 := dkwX4_log_1 ++ []
def dkwX4_log_0 : List UInt8 := [27, 156, 0, 5, 2, 172, 27, 42, 180, 0, 9, 17, 3, 194, 46, 162, 0, 16, 42, 180, 0, 9]
abbrev dktX4_log_0 : List UInt8 := dkwX4_log_0 ++ dktX4_log_1
theorem dksX4_log_0 : cX4_log.data.toList.drop 0 = dktX4_log_0 := by decide +kernel
theorem dksX4_log_1 : cX4_log.data.toList.drop 22 = dktX4_log_1 := dk_seg dksX4_log_0 22 rfl rfl
theorem dX4_log_0 : decode cX4_log 0 = .ok (.iload_n 1, 1) := dk_27 (dk_at dksX4_log_0 0 rfl rfl)
theorem dX4_log_1 : decode cX4_log 1 = .ok (.ifCond .ge 5, 3) := dk_156 0 5 (dk_at dksX4_log_0 1 rfl rfl)
theorem dX4_log_4 : decode cX4_log 4 = .ok (.iconst (-1), 1) := dk_2 (dk_at dksX4_log_0 4 rfl rfl)
theorem dX4_log_5 : decode cX4_log 5 = .ok (.ireturn, 1) := dk_172 (dk_at dksX4_log_0 5 rfl rfl)
theorem dX4_log_6 : decode cX4_log 6 = .ok (.iload_n 1, 1) := dk_27 (dk_at dksX4_log_0 6 rfl rfl)
theorem dX4_log_7 : decode cX4_log 7 = .ok (.aload_n 0, 1) := dk_42 (dk_at dksX4_log_0 7 rfl rfl)
theorem dX4_log_8 : decode cX4_log 8 = .ok (.getfield 9, 3) := dk_180 0 9 (dk_at dksX4_log_0 8 rfl rfl)
theorem dX4_log_11 : decode cX4_log 11 = .ok (.sipush 962, 3) := dk_17 3 194 (dk_at dksX4_log_0 11 rfl rfl)
theorem dX4_log_14 : decode cX4_log 14 = .ok (.iaload, 1) := dk_46 (dk_at dksX4_log_0 14 rfl rfl)
theorem dX4_log_15 : decode cX4_log 15 = .ok (.if_icmp .ge 16, 3) := dk_162 0 16 (dk_at dksX4_log_0 15 rfl rfl)
theorem dX4_log_18 : decode cX4_log 18 = .ok (.aload_n 0, 1) := dk_42 (dk_at dksX4_log_0 18 rfl rfl)
theorem dX4_log_19 : decode cX4_log 19 = .ok (.getfield 9, 3) := dk_180 0 9 (dk_at dksX4_log_0 19 rfl rfl)
theorem dX4_log_22 : decode cX4_log 22 = .ok (.sipush 963, 3) := dk_17 3 195 (dk_at dksX4_log_1 0 rfl rfl)
theorem dX4_log_25 : decode cX4_log 25 = .ok (.iload_n 1, 1) := dk_27 (dk_at dksX4_log_1 3 rfl rfl)
theorem dX4_log_26 : decode cX4_log 26 = .ok (.iadd, 1) := dk_96 (dk_at dksX4_log_1 4 rfl rfl)
theorem dX4_log_27 : decode cX4_log 27 = .ok (.iaload, 1) := dk_46 (dk_at dksX4_log_1 5 rfl rfl)
theorem dX4_log_28 : decode cX4_log 28 = .ok (.goto 5, 3) := dk_167 0 5 (dk_at dksX4_log_1 6 rfl rfl)
theorem dX4_log_31 : decode cX4_log 31 = .ok (.bipush (-2), 2) := dk_16 254 (dk_at dksX4_log_1 9 rfl rfl)
theorem dX4_log_33 : decode cX4_log 33 = .ok (.ireturn, 1) := dk_172 (dk_at dksX4_log_1 11 rfl rfl)
abbrev cX4_cause : ByteArray := prog_23_method_55_code
def yX4_cause : MethodName := ⟨RX4, "cause", "(II)I"⟩
def dkwX4_cause_1 : List UInt8 := [162, 0, 20, 42, 180, 0, 9, 17, 3, 226, 5, 27, 104, 96, 28, 96, 46, 167, 0, 5, 16, 254, 172]
abbrev dktX4_cause_1 : List UInt8 := dkwX4_cause_1 ++ []
def dkwX4_cause_0 : List UInt8 := [27, 155, 0, 12, 28, 3, 4, 184, 0, 51, 154, 0, 5, 2, 172, 27, 42, 180, 0, 9, 17, 3, 225, 46]
abbrev dktX4_cause_0 : List UInt8 := dkwX4_cause_0 ++ dktX4_cause_1
theorem dksX4_cause_0 : cX4_cause.data.toList.drop 0 = dktX4_cause_0 := by decide +kernel
theorem dksX4_cause_1 : cX4_cause.data.toList.drop 24 = dktX4_cause_1 := dk_seg dksX4_cause_0 24 rfl rfl
theorem dX4_cause_0 : decode cX4_cause 0 = .ok (.iload_n 1, 1) := dk_27 (dk_at dksX4_cause_0 0 rfl rfl)
theorem dX4_cause_1 : decode cX4_cause 1 = .ok (.ifCond .lt 12, 3) := dk_155 0 12 (dk_at dksX4_cause_0 1 rfl rfl)
theorem dX4_cause_4 : decode cX4_cause 4 = .ok (.iload_n 2, 1) := dk_28 (dk_at dksX4_cause_0 4 rfl rfl)
theorem dX4_cause_5 : decode cX4_cause 5 = .ok (.iconst 0, 1) := dk_3 (dk_at dksX4_cause_0 5 rfl rfl)
theorem dX4_cause_6 : decode cX4_cause 6 = .ok (.iconst 1, 1) := dk_4 (dk_at dksX4_cause_0 6 rfl rfl)
theorem dX4_cause_7 : decode cX4_cause 7 = .ok (.invokestatic 51, 3) := dk_184 0 51 (dk_at dksX4_cause_0 7 rfl rfl)
theorem dX4_cause_10 : decode cX4_cause 10 = .ok (.ifCond .ne 5, 3) := dk_154 0 5 (dk_at dksX4_cause_0 10 rfl rfl)
theorem dX4_cause_13 : decode cX4_cause 13 = .ok (.iconst (-1), 1) := dk_2 (dk_at dksX4_cause_0 13 rfl rfl)
theorem dX4_cause_14 : decode cX4_cause 14 = .ok (.ireturn, 1) := dk_172 (dk_at dksX4_cause_0 14 rfl rfl)
theorem dX4_cause_15 : decode cX4_cause 15 = .ok (.iload_n 1, 1) := dk_27 (dk_at dksX4_cause_0 15 rfl rfl)
theorem dX4_cause_16 : decode cX4_cause 16 = .ok (.aload_n 0, 1) := dk_42 (dk_at dksX4_cause_0 16 rfl rfl)
theorem dX4_cause_17 : decode cX4_cause 17 = .ok (.getfield 9, 3) := dk_180 0 9 (dk_at dksX4_cause_0 17 rfl rfl)
theorem dX4_cause_20 : decode cX4_cause 20 = .ok (.sipush 993, 3) := dk_17 3 225 (dk_at dksX4_cause_0 20 rfl rfl)
theorem dX4_cause_23 : decode cX4_cause 23 = .ok (.iaload, 1) := dk_46 (dk_at dksX4_cause_0 23 rfl rfl)
theorem dX4_cause_24 : decode cX4_cause 24 = .ok (.if_icmp .ge 20, 3) := dk_162 0 20 (dk_at dksX4_cause_1 0 rfl rfl)
theorem dX4_cause_27 : decode cX4_cause 27 = .ok (.aload_n 0, 1) := dk_42 (dk_at dksX4_cause_1 3 rfl rfl)
theorem dX4_cause_28 : decode cX4_cause 28 = .ok (.getfield 9, 3) := dk_180 0 9 (dk_at dksX4_cause_1 4 rfl rfl)
theorem dX4_cause_31 : decode cX4_cause 31 = .ok (.sipush 994, 3) := dk_17 3 226 (dk_at dksX4_cause_1 7 rfl rfl)
theorem dX4_cause_34 : decode cX4_cause 34 = .ok (.iconst 2, 1) := dk_5 (dk_at dksX4_cause_1 10 rfl rfl)
theorem dX4_cause_35 : decode cX4_cause 35 = .ok (.iload_n 1, 1) := dk_27 (dk_at dksX4_cause_1 11 rfl rfl)
theorem dX4_cause_36 : decode cX4_cause 36 = .ok (.imul, 1) := dk_104 (dk_at dksX4_cause_1 12 rfl rfl)
theorem dX4_cause_37 : decode cX4_cause 37 = .ok (.iadd, 1) := dk_96 (dk_at dksX4_cause_1 13 rfl rfl)
theorem dX4_cause_38 : decode cX4_cause 38 = .ok (.iload_n 2, 1) := dk_28 (dk_at dksX4_cause_1 14 rfl rfl)
theorem dX4_cause_39 : decode cX4_cause 39 = .ok (.iadd, 1) := dk_96 (dk_at dksX4_cause_1 15 rfl rfl)
theorem dX4_cause_40 : decode cX4_cause 40 = .ok (.iaload, 1) := dk_46 (dk_at dksX4_cause_1 16 rfl rfl)
theorem dX4_cause_41 : decode cX4_cause 41 = .ok (.goto 5, 3) := dk_167 0 5 (dk_at dksX4_cause_1 17 rfl rfl)
theorem dX4_cause_44 : decode cX4_cause 44 = .ok (.bipush (-2), 2) := dk_16 254 (dk_at dksX4_cause_1 20 rfl rfl)
theorem dX4_cause_46 : decode cX4_cause 46 = .ok (.ireturn, 1) := dk_172 (dk_at dksX4_cause_1 22 rfl rfl)
abbrev cX4_dry : ByteArray := prog_23_method_56_code
def yX4_dry : MethodName := ⟨RX4, "dry", "(II)I"⟩
def dkwX4_dry_7 : List UInt8 := [182, 0, 55, 54, 4, 42, 180, 0, 13, 42, 180, 0, 9, 184, 0, 200, 21, 4, 172]
abbrev dktX4_dry_7 : List UInt8 := dkwX4_dry_7 ++ []
def dkwX4_dry_6 : List UInt8 := [167, 0, 28, 42, 180, 0, 9, 17, 3, 157, 46, 54, 4, 167, 0, 15, 42, 28, 16, 10, 100, 16, 6]
abbrev dktX4_dry_6 : List UInt8 := dkwX4_dry_6 ++ dktX4_dry_7
def dkwX4_dry_5 : List UInt8 := [42, 180, 0, 9, 17, 3, 159, 46, 54, 4, 167, 0, 41, 42, 180, 0, 9, 17, 3, 158, 46, 54, 4]
abbrev dktX4_dry_5 : List UInt8 := dkwX4_dry_5 ++ dktX4_dry_6
def dkwX4_dry_4 : List UInt8 := [29, 54, 4, 167, 0, 72, 42, 180, 0, 158, 54, 4, 167, 0, 63, 42, 182, 0, 191, 54, 4, 167, 0, 54]
abbrev dktX4_dry_4 : List UInt8 := dkwX4_dry_4 ++ dktX4_dry_5
def dkwX4_dry_3 : List UInt8 := [170, 0, 0, 0, 0, 101, 0, 0, 0, 0, 0, 0, 0, 5, 0, 0, 0, 38, 0, 0, 0, 44, 0, 0, 0, 53, 0, 0, 0, 62, 0, 0, 0, 75, 0, 0, 0, 88]
abbrev dktX4_dry_3 : List UInt8 := dkwX4_dry_3 ++ dktX4_dry_4
def dkwX4_dry_2 : List UInt8 := [180, 0, 13, 184, 0, 200, 42, 27, 182, 0, 197, 62, 28]
abbrev dktX4_dry_2 : List UInt8 := dkwX4_dry_2 ++ dktX4_dry_3
def dkwX4_dry_1 : List UInt8 := [161, 0, 14, 42, 28, 16, 10, 100, 182, 0, 167, 154, 0, 6, 18, 186, 172, 42, 180, 0, 9, 42]
abbrev dktX4_dry_1 : List UInt8 := dkwX4_dry_1 ++ dktX4_dry_2
def dkwX4_dry_0 : List UInt8 := [27, 4, 17, 0, 200, 184, 0, 51, 153, 0, 29, 28, 3, 8, 184, 0, 51, 154, 0, 23, 28, 16, 10]
abbrev dktX4_dry_0 : List UInt8 := dkwX4_dry_0 ++ dktX4_dry_1
theorem dksX4_dry_0 : cX4_dry.data.toList.drop 0 = dktX4_dry_0 := by decide +kernel
theorem dksX4_dry_1 : cX4_dry.data.toList.drop 23 = dktX4_dry_1 := dk_seg dksX4_dry_0 23 rfl rfl
theorem dksX4_dry_2 : cX4_dry.data.toList.drop 45 = dktX4_dry_2 := dk_seg dksX4_dry_1 22 rfl rfl
theorem dksX4_dry_3 : cX4_dry.data.toList.drop 58 = dktX4_dry_3 := dk_seg dksX4_dry_2 13 rfl rfl
theorem dksX4_dry_4 : cX4_dry.data.toList.drop 96 = dktX4_dry_4 := dk_seg dksX4_dry_3 38 rfl rfl
theorem dksX4_dry_5 : cX4_dry.data.toList.drop 120 = dktX4_dry_5 := dk_seg dksX4_dry_4 24 rfl rfl
theorem dksX4_dry_6 : cX4_dry.data.toList.drop 143 = dktX4_dry_6 := dk_seg dksX4_dry_5 23 rfl rfl
theorem dksX4_dry_7 : cX4_dry.data.toList.drop 166 = dktX4_dry_7 := dk_seg dksX4_dry_6 23 rfl rfl
theorem dX4_dry_0 : decode cX4_dry 0 = .ok (.iload_n 1, 1) := dk_27 (dk_at dksX4_dry_0 0 rfl rfl)
theorem dX4_dry_1 : decode cX4_dry 1 = .ok (.iconst 1, 1) := dk_4 (dk_at dksX4_dry_0 1 rfl rfl)
theorem dX4_dry_2 : decode cX4_dry 2 = .ok (.sipush 200, 3) := dk_17 0 200 (dk_at dksX4_dry_0 2 rfl rfl)
theorem dX4_dry_5 : decode cX4_dry 5 = .ok (.invokestatic 51, 3) := dk_184 0 51 (dk_at dksX4_dry_0 5 rfl rfl)
theorem dX4_dry_8 : decode cX4_dry 8 = .ok (.ifCond .eq 29, 3) := dk_153 0 29 (dk_at dksX4_dry_0 8 rfl rfl)
theorem dX4_dry_11 : decode cX4_dry 11 = .ok (.iload_n 2, 1) := dk_28 (dk_at dksX4_dry_0 11 rfl rfl)
theorem dX4_dry_12 : decode cX4_dry 12 = .ok (.iconst 0, 1) := dk_3 (dk_at dksX4_dry_0 12 rfl rfl)
theorem dX4_dry_13 : decode cX4_dry 13 = .ok (.iconst 5, 1) := dk_8 (dk_at dksX4_dry_0 13 rfl rfl)
theorem dX4_dry_14 : decode cX4_dry 14 = .ok (.invokestatic 51, 3) := dk_184 0 51 (dk_at dksX4_dry_0 14 rfl rfl)
theorem dX4_dry_17 : decode cX4_dry 17 = .ok (.ifCond .ne 23, 3) := dk_154 0 23 (dk_at dksX4_dry_0 17 rfl rfl)
theorem dX4_dry_20 : decode cX4_dry 20 = .ok (.iload_n 2, 1) := dk_28 (dk_at dksX4_dry_0 20 rfl rfl)
theorem dX4_dry_21 : decode cX4_dry 21 = .ok (.bipush 10, 2) := dk_16 10 (dk_at dksX4_dry_0 21 rfl rfl)
theorem dX4_dry_23 : decode cX4_dry 23 = .ok (.if_icmp .lt 14, 3) := dk_161 0 14 (dk_at dksX4_dry_1 0 rfl rfl)
theorem dX4_dry_26 : decode cX4_dry 26 = .ok (.aload_n 0, 1) := dk_42 (dk_at dksX4_dry_1 3 rfl rfl)
theorem dX4_dry_27 : decode cX4_dry 27 = .ok (.iload_n 2, 1) := dk_28 (dk_at dksX4_dry_1 4 rfl rfl)
theorem dX4_dry_28 : decode cX4_dry 28 = .ok (.bipush 10, 2) := dk_16 10 (dk_at dksX4_dry_1 5 rfl rfl)
theorem dX4_dry_30 : decode cX4_dry 30 = .ok (.isub, 1) := dk_100 (dk_at dksX4_dry_1 7 rfl rfl)
theorem dX4_dry_31 : decode cX4_dry 31 = .ok (.invokevirtual 167, 3) := dk_182 0 167 (dk_at dksX4_dry_1 8 rfl rfl)
theorem dX4_dry_34 : decode cX4_dry 34 = .ok (.ifCond .ne 6, 3) := dk_154 0 6 (dk_at dksX4_dry_1 11 rfl rfl)
theorem dX4_dry_37 : decode cX4_dry 37 = .ok (.ldc 186, 2) := dk_18 186 (dk_at dksX4_dry_1 14 rfl rfl)
theorem dX4_dry_39 : decode cX4_dry 39 = .ok (.ireturn, 1) := dk_172 (dk_at dksX4_dry_1 16 rfl rfl)
theorem dX4_dry_40 : decode cX4_dry 40 = .ok (.aload_n 0, 1) := dk_42 (dk_at dksX4_dry_1 17 rfl rfl)
theorem dX4_dry_41 : decode cX4_dry 41 = .ok (.getfield 9, 3) := dk_180 0 9 (dk_at dksX4_dry_1 18 rfl rfl)
theorem dX4_dry_44 : decode cX4_dry 44 = .ok (.aload_n 0, 1) := dk_42 (dk_at dksX4_dry_1 21 rfl rfl)
theorem dX4_dry_45 : decode cX4_dry 45 = .ok (.getfield 13, 3) := dk_180 0 13 (dk_at dksX4_dry_2 0 rfl rfl)
theorem dX4_dry_48 : decode cX4_dry 48 = .ok (.invokestatic 200, 3) := dk_184 0 200 (dk_at dksX4_dry_2 3 rfl rfl)
theorem dX4_dry_51 : decode cX4_dry 51 = .ok (.aload_n 0, 1) := dk_42 (dk_at dksX4_dry_2 6 rfl rfl)
theorem dX4_dry_52 : decode cX4_dry 52 = .ok (.iload_n 1, 1) := dk_27 (dk_at dksX4_dry_2 7 rfl rfl)
theorem dX4_dry_53 : decode cX4_dry 53 = .ok (.invokevirtual 197, 3) := dk_182 0 197 (dk_at dksX4_dry_2 8 rfl rfl)
theorem dX4_dry_56 : decode cX4_dry 56 = .ok (.istore_n 3, 1) := dk_62 (dk_at dksX4_dry_2 11 rfl rfl)
theorem dX4_dry_57 : decode cX4_dry 57 = .ok (.iload_n 2, 1) := dk_28 (dk_at dksX4_dry_2 12 rfl rfl)
theorem dX4_dry_58 : decode cX4_dry 58 = .ok (.tableswitch 101 0 5 #[38, 44, 53, 62, 75, 88], 38) := by decide +kernel
theorem dX4_dry_96 : decode cX4_dry 96 = .ok (.iload_n 3, 1) := dk_29 (dk_at dksX4_dry_4 0 rfl rfl)
theorem dX4_dry_97 : decode cX4_dry 97 = .ok (.istore 4, 2) := dk_54 4 (dk_at dksX4_dry_4 1 rfl rfl)
theorem dX4_dry_99 : decode cX4_dry 99 = .ok (.goto 72, 3) := dk_167 0 72 (dk_at dksX4_dry_4 3 rfl rfl)
theorem dX4_dry_102 : decode cX4_dry 102 = .ok (.aload_n 0, 1) := dk_42 (dk_at dksX4_dry_4 6 rfl rfl)
theorem dX4_dry_103 : decode cX4_dry 103 = .ok (.getfield 158, 3) := dk_180 0 158 (dk_at dksX4_dry_4 7 rfl rfl)
theorem dX4_dry_106 : decode cX4_dry 106 = .ok (.istore 4, 2) := dk_54 4 (dk_at dksX4_dry_4 10 rfl rfl)
theorem dX4_dry_108 : decode cX4_dry 108 = .ok (.goto 63, 3) := dk_167 0 63 (dk_at dksX4_dry_4 12 rfl rfl)
theorem dX4_dry_111 : decode cX4_dry 111 = .ok (.aload_n 0, 1) := dk_42 (dk_at dksX4_dry_4 15 rfl rfl)
theorem dX4_dry_112 : decode cX4_dry 112 = .ok (.invokevirtual 191, 3) := dk_182 0 191 (dk_at dksX4_dry_4 16 rfl rfl)
theorem dX4_dry_115 : decode cX4_dry 115 = .ok (.istore 4, 2) := dk_54 4 (dk_at dksX4_dry_4 19 rfl rfl)
theorem dX4_dry_117 : decode cX4_dry 117 = .ok (.goto 54, 3) := dk_167 0 54 (dk_at dksX4_dry_4 21 rfl rfl)
theorem dX4_dry_120 : decode cX4_dry 120 = .ok (.aload_n 0, 1) := dk_42 (dk_at dksX4_dry_5 0 rfl rfl)
theorem dX4_dry_121 : decode cX4_dry 121 = .ok (.getfield 9, 3) := dk_180 0 9 (dk_at dksX4_dry_5 1 rfl rfl)
theorem dX4_dry_124 : decode cX4_dry 124 = .ok (.sipush 927, 3) := dk_17 3 159 (dk_at dksX4_dry_5 4 rfl rfl)
theorem dX4_dry_127 : decode cX4_dry 127 = .ok (.iaload, 1) := dk_46 (dk_at dksX4_dry_5 7 rfl rfl)
theorem dX4_dry_128 : decode cX4_dry 128 = .ok (.istore 4, 2) := dk_54 4 (dk_at dksX4_dry_5 8 rfl rfl)
theorem dX4_dry_130 : decode cX4_dry 130 = .ok (.goto 41, 3) := dk_167 0 41 (dk_at dksX4_dry_5 10 rfl rfl)
theorem dX4_dry_133 : decode cX4_dry 133 = .ok (.aload_n 0, 1) := dk_42 (dk_at dksX4_dry_5 13 rfl rfl)
theorem dX4_dry_134 : decode cX4_dry 134 = .ok (.getfield 9, 3) := dk_180 0 9 (dk_at dksX4_dry_5 14 rfl rfl)
theorem dX4_dry_137 : decode cX4_dry 137 = .ok (.sipush 926, 3) := dk_17 3 158 (dk_at dksX4_dry_5 17 rfl rfl)
theorem dX4_dry_140 : decode cX4_dry 140 = .ok (.iaload, 1) := dk_46 (dk_at dksX4_dry_5 20 rfl rfl)
theorem dX4_dry_141 : decode cX4_dry 141 = .ok (.istore 4, 2) := dk_54 4 (dk_at dksX4_dry_5 21 rfl rfl)
theorem dX4_dry_143 : decode cX4_dry 143 = .ok (.goto 28, 3) := dk_167 0 28 (dk_at dksX4_dry_6 0 rfl rfl)
theorem dX4_dry_146 : decode cX4_dry 146 = .ok (.aload_n 0, 1) := dk_42 (dk_at dksX4_dry_6 3 rfl rfl)
theorem dX4_dry_147 : decode cX4_dry 147 = .ok (.getfield 9, 3) := dk_180 0 9 (dk_at dksX4_dry_6 4 rfl rfl)
theorem dX4_dry_150 : decode cX4_dry 150 = .ok (.sipush 925, 3) := dk_17 3 157 (dk_at dksX4_dry_6 7 rfl rfl)
theorem dX4_dry_153 : decode cX4_dry 153 = .ok (.iaload, 1) := dk_46 (dk_at dksX4_dry_6 10 rfl rfl)
theorem dX4_dry_154 : decode cX4_dry 154 = .ok (.istore 4, 2) := dk_54 4 (dk_at dksX4_dry_6 11 rfl rfl)
theorem dX4_dry_156 : decode cX4_dry 156 = .ok (.goto 15, 3) := dk_167 0 15 (dk_at dksX4_dry_6 13 rfl rfl)
theorem dX4_dry_159 : decode cX4_dry 159 = .ok (.aload_n 0, 1) := dk_42 (dk_at dksX4_dry_6 16 rfl rfl)
theorem dX4_dry_160 : decode cX4_dry 160 = .ok (.iload_n 2, 1) := dk_28 (dk_at dksX4_dry_6 17 rfl rfl)
theorem dX4_dry_161 : decode cX4_dry 161 = .ok (.bipush 10, 2) := dk_16 10 (dk_at dksX4_dry_6 18 rfl rfl)
theorem dX4_dry_163 : decode cX4_dry 163 = .ok (.isub, 1) := dk_100 (dk_at dksX4_dry_6 20 rfl rfl)
theorem dX4_dry_164 : decode cX4_dry 164 = .ok (.bipush 6, 2) := dk_16 6 (dk_at dksX4_dry_6 21 rfl rfl)
theorem dX4_dry_166 : decode cX4_dry 166 = .ok (.invokevirtual 55, 3) := dk_182 0 55 (dk_at dksX4_dry_7 0 rfl rfl)
theorem dX4_dry_169 : decode cX4_dry 169 = .ok (.istore 4, 2) := dk_54 4 (dk_at dksX4_dry_7 3 rfl rfl)
theorem dX4_dry_171 : decode cX4_dry 171 = .ok (.aload_n 0, 1) := dk_42 (dk_at dksX4_dry_7 5 rfl rfl)
theorem dX4_dry_172 : decode cX4_dry 172 = .ok (.getfield 13, 3) := dk_180 0 13 (dk_at dksX4_dry_7 6 rfl rfl)
theorem dX4_dry_175 : decode cX4_dry 175 = .ok (.aload_n 0, 1) := dk_42 (dk_at dksX4_dry_7 9 rfl rfl)
theorem dX4_dry_176 : decode cX4_dry 176 = .ok (.getfield 9, 3) := dk_180 0 9 (dk_at dksX4_dry_7 10 rfl rfl)
theorem dX4_dry_179 : decode cX4_dry 179 = .ok (.invokestatic 200, 3) := dk_184 0 200 (dk_at dksX4_dry_7 13 rfl rfl)
theorem dX4_dry_182 : decode cX4_dry 182 = .ok (.iload 4, 2) := dk_21 4 (dk_at dksX4_dry_7 16 rfl rfl)
theorem dX4_dry_184 : decode cX4_dry 184 = .ok (.ireturn, 1) := dk_172 (dk_at dksX4_dry_7 18 rfl rfl)
abbrev cX4_take : ByteArray := prog_23_method_3_code
def yX4_take : MethodName := ⟨RX4, "take", "([I[I)V"⟩
def dkwX4_take_0 : List UInt8 := [3, 61, 28, 17, 3, 250, 162, 0, 15, 43, 28, 42, 28, 46, 79, 132, 2, 1, 167, 255, 240, 177]
abbrev dktX4_take_0 : List UInt8 := dkwX4_take_0 ++ []
theorem dksX4_take_0 : cX4_take.data.toList.drop 0 = dktX4_take_0 := by decide +kernel
theorem dX4_take_0 : decode cX4_take 0 = .ok (.iconst 0, 1) := dk_3 (dk_at dksX4_take_0 0 rfl rfl)
theorem dX4_take_1 : decode cX4_take 1 = .ok (.istore_n 2, 1) := dk_61 (dk_at dksX4_take_0 1 rfl rfl)
theorem dX4_take_2 : decode cX4_take 2 = .ok (.iload_n 2, 1) := dk_28 (dk_at dksX4_take_0 2 rfl rfl)
theorem dX4_take_3 : decode cX4_take 3 = .ok (.sipush 1018, 3) := dk_17 3 250 (dk_at dksX4_take_0 3 rfl rfl)
theorem dX4_take_6 : decode cX4_take 6 = .ok (.if_icmp .ge 15, 3) := dk_162 0 15 (dk_at dksX4_take_0 6 rfl rfl)
theorem dX4_take_9 : decode cX4_take 9 = .ok (.aload_n 1, 1) := dk_43 (dk_at dksX4_take_0 9 rfl rfl)
theorem dX4_take_10 : decode cX4_take 10 = .ok (.iload_n 2, 1) := dk_28 (dk_at dksX4_take_0 10 rfl rfl)
theorem dX4_take_11 : decode cX4_take 11 = .ok (.aload_n 0, 1) := dk_42 (dk_at dksX4_take_0 11 rfl rfl)
theorem dX4_take_12 : decode cX4_take 12 = .ok (.iload_n 2, 1) := dk_28 (dk_at dksX4_take_0 12 rfl rfl)
theorem dX4_take_13 : decode cX4_take 13 = .ok (.iaload, 1) := dk_46 (dk_at dksX4_take_0 13 rfl rfl)
theorem dX4_take_14 : decode cX4_take 14 = .ok (.iastore, 1) := dk_79 (dk_at dksX4_take_0 14 rfl rfl)
theorem dX4_take_15 : decode cX4_take 15 = .ok (.iinc 2 1, 3) := dk_132 2 1 (dk_at dksX4_take_0 15 rfl rfl)
theorem dX4_take_18 : decode cX4_take 18 = .ok (.goto (-16), 3) := dk_167 255 240 (dk_at dksX4_take_0 18 rfl rfl)
theorem dX4_take_21 : decode cX4_take 21 = .ok (.return_, 1) := dk_177 (dk_at dksX4_take_0 21 rfl rfl)
abbrev cX4_first : ByteArray := prog_23_method_57_code
def yX4_first : MethodName := ⟨RX4, "first", "()I"⟩
def dkwX4_first_3 : List UInt8 := [172]
abbrev dktX4_first_3 : List UInt8 := dkwX4_first_3 ++ []
def dkwX4_first_2 : List UInt8 := [42, 180, 0, 13, 42, 180, 0, 9, 184, 0, 200, 42, 180, 0, 98, 153, 0, 7, 27, 167, 0, 5, 16, 254]
abbrev dktX4_first_2 : List UInt8 := dkwX4_first_2 ++ dktX4_first_3
def dkwX4_first_1 : List UInt8 := [154, 0, 24, 42, 27, 17, 0, 200, 182, 0, 161, 154, 0, 13, 42, 182, 0, 164, 132, 1, 1, 167, 255, 231]
abbrev dktX4_first_1 : List UInt8 := dkwX4_first_1 ++ dktX4_first_2
def dkwX4_first_0 : List UInt8 := [42, 180, 0, 9, 42, 180, 0, 13, 184, 0, 200, 42, 3, 181, 0, 98, 3, 60, 42, 180, 0, 98]
abbrev dktX4_first_0 : List UInt8 := dkwX4_first_0 ++ dktX4_first_1
theorem dksX4_first_0 : cX4_first.data.toList.drop 0 = dktX4_first_0 := by decide +kernel
theorem dksX4_first_1 : cX4_first.data.toList.drop 22 = dktX4_first_1 := dk_seg dksX4_first_0 22 rfl rfl
theorem dksX4_first_2 : cX4_first.data.toList.drop 46 = dktX4_first_2 := dk_seg dksX4_first_1 24 rfl rfl
theorem dksX4_first_3 : cX4_first.data.toList.drop 70 = dktX4_first_3 := dk_seg dksX4_first_2 24 rfl rfl
theorem dX4_first_0 : decode cX4_first 0 = .ok (.aload_n 0, 1) := dk_42 (dk_at dksX4_first_0 0 rfl rfl)
theorem dX4_first_1 : decode cX4_first 1 = .ok (.getfield 9, 3) := dk_180 0 9 (dk_at dksX4_first_0 1 rfl rfl)
theorem dX4_first_4 : decode cX4_first 4 = .ok (.aload_n 0, 1) := dk_42 (dk_at dksX4_first_0 4 rfl rfl)
theorem dX4_first_5 : decode cX4_first 5 = .ok (.getfield 13, 3) := dk_180 0 13 (dk_at dksX4_first_0 5 rfl rfl)
theorem dX4_first_8 : decode cX4_first 8 = .ok (.invokestatic 200, 3) := dk_184 0 200 (dk_at dksX4_first_0 8 rfl rfl)
theorem dX4_first_11 : decode cX4_first 11 = .ok (.aload_n 0, 1) := dk_42 (dk_at dksX4_first_0 11 rfl rfl)
theorem dX4_first_12 : decode cX4_first 12 = .ok (.iconst 0, 1) := dk_3 (dk_at dksX4_first_0 12 rfl rfl)
theorem dX4_first_13 : decode cX4_first 13 = .ok (.putfield 98, 3) := dk_181 0 98 (dk_at dksX4_first_0 13 rfl rfl)
theorem dX4_first_16 : decode cX4_first 16 = .ok (.iconst 0, 1) := dk_3 (dk_at dksX4_first_0 16 rfl rfl)
theorem dX4_first_17 : decode cX4_first 17 = .ok (.istore_n 1, 1) := dk_60 (dk_at dksX4_first_0 17 rfl rfl)
theorem dX4_first_18 : decode cX4_first 18 = .ok (.aload_n 0, 1) := dk_42 (dk_at dksX4_first_0 18 rfl rfl)
theorem dX4_first_19 : decode cX4_first 19 = .ok (.getfield 98, 3) := dk_180 0 98 (dk_at dksX4_first_0 19 rfl rfl)
theorem dX4_first_22 : decode cX4_first 22 = .ok (.ifCond .ne 24, 3) := dk_154 0 24 (dk_at dksX4_first_1 0 rfl rfl)
theorem dX4_first_25 : decode cX4_first 25 = .ok (.aload_n 0, 1) := dk_42 (dk_at dksX4_first_1 3 rfl rfl)
theorem dX4_first_26 : decode cX4_first 26 = .ok (.iload_n 1, 1) := dk_27 (dk_at dksX4_first_1 4 rfl rfl)
theorem dX4_first_27 : decode cX4_first 27 = .ok (.sipush 200, 3) := dk_17 0 200 (dk_at dksX4_first_1 5 rfl rfl)
theorem dX4_first_30 : decode cX4_first 30 = .ok (.invokevirtual 161, 3) := dk_182 0 161 (dk_at dksX4_first_1 8 rfl rfl)
theorem dX4_first_33 : decode cX4_first 33 = .ok (.ifCond .ne 13, 3) := dk_154 0 13 (dk_at dksX4_first_1 11 rfl rfl)
theorem dX4_first_36 : decode cX4_first 36 = .ok (.aload_n 0, 1) := dk_42 (dk_at dksX4_first_1 14 rfl rfl)
theorem dX4_first_37 : decode cX4_first 37 = .ok (.invokevirtual 164, 3) := dk_182 0 164 (dk_at dksX4_first_1 15 rfl rfl)
theorem dX4_first_40 : decode cX4_first 40 = .ok (.iinc 1 1, 3) := dk_132 1 1 (dk_at dksX4_first_1 18 rfl rfl)
theorem dX4_first_43 : decode cX4_first 43 = .ok (.goto (-25), 3) := dk_167 255 231 (dk_at dksX4_first_1 21 rfl rfl)
theorem dX4_first_46 : decode cX4_first 46 = .ok (.aload_n 0, 1) := dk_42 (dk_at dksX4_first_2 0 rfl rfl)
theorem dX4_first_47 : decode cX4_first 47 = .ok (.getfield 13, 3) := dk_180 0 13 (dk_at dksX4_first_2 1 rfl rfl)
theorem dX4_first_50 : decode cX4_first 50 = .ok (.aload_n 0, 1) := dk_42 (dk_at dksX4_first_2 4 rfl rfl)
theorem dX4_first_51 : decode cX4_first 51 = .ok (.getfield 9, 3) := dk_180 0 9 (dk_at dksX4_first_2 5 rfl rfl)
theorem dX4_first_54 : decode cX4_first 54 = .ok (.invokestatic 200, 3) := dk_184 0 200 (dk_at dksX4_first_2 8 rfl rfl)
theorem dX4_first_57 : decode cX4_first 57 = .ok (.aload_n 0, 1) := dk_42 (dk_at dksX4_first_2 11 rfl rfl)
theorem dX4_first_58 : decode cX4_first 58 = .ok (.getfield 98, 3) := dk_180 0 98 (dk_at dksX4_first_2 12 rfl rfl)
theorem dX4_first_61 : decode cX4_first 61 = .ok (.ifCond .eq 7, 3) := dk_153 0 7 (dk_at dksX4_first_2 15 rfl rfl)
theorem dX4_first_64 : decode cX4_first 64 = .ok (.iload_n 1, 1) := dk_27 (dk_at dksX4_first_2 18 rfl rfl)
theorem dX4_first_65 : decode cX4_first 65 = .ok (.goto 5, 3) := dk_167 0 5 (dk_at dksX4_first_2 19 rfl rfl)
theorem dX4_first_68 : decode cX4_first 68 = .ok (.bipush (-2), 2) := dk_16 254 (dk_at dksX4_first_2 22 rfl rfl)
theorem dX4_first_70 : decode cX4_first 70 = .ok (.ireturn, 1) := dk_172 (dk_at dksX4_first_3 0 rfl rfl)
abbrev cX4_quiet : ByteArray := prog_23_method_58_code
def yX4_quiet : MethodName := ⟨RX4, "quiet", "()I"⟩
def dkwX4_quiet_2 : List UInt8 := [3, 61, 42, 180, 0, 13, 42, 180, 0, 9, 184, 0, 200, 28, 153, 0, 7, 27, 167, 0, 5, 16, 254, 172]
abbrev dktX4_quiet_2 : List UInt8 := dkwX4_quiet_2 ++ []
def dkwX4_quiet_1 : List UInt8 := [162, 0, 13, 42, 182, 0, 164, 132, 1, 1, 167, 255, 235, 42, 182, 0, 154, 154, 0, 7, 4, 167, 0, 4]
abbrev dktX4_quiet_1 : List UInt8 := dkwX4_quiet_1 ++ dktX4_quiet_2
def dkwX4_quiet_0 : List UInt8 := [42, 180, 0, 9, 42, 180, 0, 13, 184, 0, 200, 3, 60, 42, 182, 0, 154, 153, 0, 20, 27, 17, 0, 200]
abbrev dktX4_quiet_0 : List UInt8 := dkwX4_quiet_0 ++ dktX4_quiet_1
theorem dksX4_quiet_0 : cX4_quiet.data.toList.drop 0 = dktX4_quiet_0 := by decide +kernel
theorem dksX4_quiet_1 : cX4_quiet.data.toList.drop 24 = dktX4_quiet_1 := dk_seg dksX4_quiet_0 24 rfl rfl
theorem dksX4_quiet_2 : cX4_quiet.data.toList.drop 48 = dktX4_quiet_2 := dk_seg dksX4_quiet_1 24 rfl rfl
theorem dX4_quiet_0 : decode cX4_quiet 0 = .ok (.aload_n 0, 1) := dk_42 (dk_at dksX4_quiet_0 0 rfl rfl)
theorem dX4_quiet_1 : decode cX4_quiet 1 = .ok (.getfield 9, 3) := dk_180 0 9 (dk_at dksX4_quiet_0 1 rfl rfl)
theorem dX4_quiet_4 : decode cX4_quiet 4 = .ok (.aload_n 0, 1) := dk_42 (dk_at dksX4_quiet_0 4 rfl rfl)
theorem dX4_quiet_5 : decode cX4_quiet 5 = .ok (.getfield 13, 3) := dk_180 0 13 (dk_at dksX4_quiet_0 5 rfl rfl)
theorem dX4_quiet_8 : decode cX4_quiet 8 = .ok (.invokestatic 200, 3) := dk_184 0 200 (dk_at dksX4_quiet_0 8 rfl rfl)
theorem dX4_quiet_11 : decode cX4_quiet 11 = .ok (.iconst 0, 1) := dk_3 (dk_at dksX4_quiet_0 11 rfl rfl)
theorem dX4_quiet_12 : decode cX4_quiet 12 = .ok (.istore_n 1, 1) := dk_60 (dk_at dksX4_quiet_0 12 rfl rfl)
theorem dX4_quiet_13 : decode cX4_quiet 13 = .ok (.aload_n 0, 1) := dk_42 (dk_at dksX4_quiet_0 13 rfl rfl)
theorem dX4_quiet_14 : decode cX4_quiet 14 = .ok (.invokevirtual 154, 3) := dk_182 0 154 (dk_at dksX4_quiet_0 14 rfl rfl)
theorem dX4_quiet_17 : decode cX4_quiet 17 = .ok (.ifCond .eq 20, 3) := dk_153 0 20 (dk_at dksX4_quiet_0 17 rfl rfl)
theorem dX4_quiet_20 : decode cX4_quiet 20 = .ok (.iload_n 1, 1) := dk_27 (dk_at dksX4_quiet_0 20 rfl rfl)
theorem dX4_quiet_21 : decode cX4_quiet 21 = .ok (.sipush 200, 3) := dk_17 0 200 (dk_at dksX4_quiet_0 21 rfl rfl)
theorem dX4_quiet_24 : decode cX4_quiet 24 = .ok (.if_icmp .ge 13, 3) := dk_162 0 13 (dk_at dksX4_quiet_1 0 rfl rfl)
theorem dX4_quiet_27 : decode cX4_quiet 27 = .ok (.aload_n 0, 1) := dk_42 (dk_at dksX4_quiet_1 3 rfl rfl)
theorem dX4_quiet_28 : decode cX4_quiet 28 = .ok (.invokevirtual 164, 3) := dk_182 0 164 (dk_at dksX4_quiet_1 4 rfl rfl)
theorem dX4_quiet_31 : decode cX4_quiet 31 = .ok (.iinc 1 1, 3) := dk_132 1 1 (dk_at dksX4_quiet_1 7 rfl rfl)
theorem dX4_quiet_34 : decode cX4_quiet 34 = .ok (.goto (-21), 3) := dk_167 255 235 (dk_at dksX4_quiet_1 10 rfl rfl)
theorem dX4_quiet_37 : decode cX4_quiet 37 = .ok (.aload_n 0, 1) := dk_42 (dk_at dksX4_quiet_1 13 rfl rfl)
theorem dX4_quiet_38 : decode cX4_quiet 38 = .ok (.invokevirtual 154, 3) := dk_182 0 154 (dk_at dksX4_quiet_1 14 rfl rfl)
theorem dX4_quiet_41 : decode cX4_quiet 41 = .ok (.ifCond .ne 7, 3) := dk_154 0 7 (dk_at dksX4_quiet_1 17 rfl rfl)
theorem dX4_quiet_44 : decode cX4_quiet 44 = .ok (.iconst 1, 1) := dk_4 (dk_at dksX4_quiet_1 20 rfl rfl)
theorem dX4_quiet_45 : decode cX4_quiet 45 = .ok (.goto 4, 3) := dk_167 0 4 (dk_at dksX4_quiet_1 21 rfl rfl)
theorem dX4_quiet_48 : decode cX4_quiet 48 = .ok (.iconst 0, 1) := dk_3 (dk_at dksX4_quiet_2 0 rfl rfl)
theorem dX4_quiet_49 : decode cX4_quiet 49 = .ok (.istore_n 2, 1) := dk_61 (dk_at dksX4_quiet_2 1 rfl rfl)
theorem dX4_quiet_50 : decode cX4_quiet 50 = .ok (.aload_n 0, 1) := dk_42 (dk_at dksX4_quiet_2 2 rfl rfl)
theorem dX4_quiet_51 : decode cX4_quiet 51 = .ok (.getfield 13, 3) := dk_180 0 13 (dk_at dksX4_quiet_2 3 rfl rfl)
theorem dX4_quiet_54 : decode cX4_quiet 54 = .ok (.aload_n 0, 1) := dk_42 (dk_at dksX4_quiet_2 6 rfl rfl)
theorem dX4_quiet_55 : decode cX4_quiet 55 = .ok (.getfield 9, 3) := dk_180 0 9 (dk_at dksX4_quiet_2 7 rfl rfl)
theorem dX4_quiet_58 : decode cX4_quiet 58 = .ok (.invokestatic 200, 3) := dk_184 0 200 (dk_at dksX4_quiet_2 10 rfl rfl)
theorem dX4_quiet_61 : decode cX4_quiet 61 = .ok (.iload_n 2, 1) := dk_28 (dk_at dksX4_quiet_2 13 rfl rfl)
theorem dX4_quiet_62 : decode cX4_quiet 62 = .ok (.ifCond .eq 7, 3) := dk_153 0 7 (dk_at dksX4_quiet_2 14 rfl rfl)
theorem dX4_quiet_65 : decode cX4_quiet 65 = .ok (.iload_n 1, 1) := dk_27 (dk_at dksX4_quiet_2 17 rfl rfl)
theorem dX4_quiet_66 : decode cX4_quiet 66 = .ok (.goto 5, 3) := dk_167 0 5 (dk_at dksX4_quiet_2 18 rfl rfl)
theorem dX4_quiet_69 : decode cX4_quiet 69 = .ok (.bipush (-2), 2) := dk_16 254 (dk_at dksX4_quiet_2 21 rfl rfl)
theorem dX4_quiet_71 : decode cX4_quiet 71 = .ok (.ireturn, 1) := dk_172 (dk_at dksX4_quiet_2 23 rfl rfl)
abbrev cX4_would : ByteArray := prog_23_method_59_code
def yX4_would : MethodName := ⟨RX4, "would", "(III)I"⟩
def dkwX4_would_5 : List UInt8 := [172]
abbrev dktX4_would_5 : List UInt8 := dkwX4_would_5 ++ []
def dkwX4_would_4 : List UInt8 := [180, 0, 22, 4, 46, 167, 0, 4, 3, 54, 4, 42, 180, 0, 13, 42, 180, 0, 9, 184, 0, 200, 21, 4]
abbrev dktX4_would_4 : List UInt8 := dkwX4_would_4 ++ dktX4_would_5
def dkwX4_would_3 : List UInt8 := [29, 4, 160, 0, 12, 42, 27, 8, 182, 0, 55, 167, 0, 20, 42, 180, 0, 98, 153, 0, 12, 42]
abbrev dktX4_would_3 : List UInt8 := dkwX4_would_3 ++ dktX4_would_4
def dkwX4_would_2 : List UInt8 := [181, 0, 98, 42, 27, 2, 28, 182, 0, 148, 29, 154, 0, 13, 42, 27, 16, 6, 182, 0, 55, 167, 0, 34]
abbrev dktX4_would_2 : List UInt8 := dkwX4_would_2 ++ dktX4_would_3
def dkwX4_would_1 : List UInt8 := [42, 27, 182, 0, 59, 154, 0, 6, 18, 186, 172, 42, 180, 0, 9, 42, 180, 0, 13, 184, 0, 200, 42, 3]
abbrev dktX4_would_1 : List UInt8 := dkwX4_would_1 ++ dktX4_would_2
def dkwX4_would_0 : List UInt8 := [42, 27, 182, 0, 167, 153, 0, 27, 28, 184, 0, 177, 153, 0, 20, 29, 3, 5, 184, 0, 51, 153, 0, 11]
abbrev dktX4_would_0 : List UInt8 := dkwX4_would_0 ++ dktX4_would_1
theorem dksX4_would_0 : cX4_would.data.toList.drop 0 = dktX4_would_0 := by decide +kernel
theorem dksX4_would_1 : cX4_would.data.toList.drop 24 = dktX4_would_1 := dk_seg dksX4_would_0 24 rfl rfl
theorem dksX4_would_2 : cX4_would.data.toList.drop 48 = dktX4_would_2 := dk_seg dksX4_would_1 24 rfl rfl
theorem dksX4_would_3 : cX4_would.data.toList.drop 72 = dktX4_would_3 := dk_seg dksX4_would_2 24 rfl rfl
theorem dksX4_would_4 : cX4_would.data.toList.drop 94 = dktX4_would_4 := dk_seg dksX4_would_3 22 rfl rfl
theorem dksX4_would_5 : cX4_would.data.toList.drop 118 = dktX4_would_5 := dk_seg dksX4_would_4 24 rfl rfl
theorem dX4_would_0 : decode cX4_would 0 = .ok (.aload_n 0, 1) := dk_42 (dk_at dksX4_would_0 0 rfl rfl)
theorem dX4_would_1 : decode cX4_would 1 = .ok (.iload_n 1, 1) := dk_27 (dk_at dksX4_would_0 1 rfl rfl)
theorem dX4_would_2 : decode cX4_would 2 = .ok (.invokevirtual 167, 3) := dk_182 0 167 (dk_at dksX4_would_0 2 rfl rfl)
theorem dX4_would_5 : decode cX4_would 5 = .ok (.ifCond .eq 27, 3) := dk_153 0 27 (dk_at dksX4_would_0 5 rfl rfl)
theorem dX4_would_8 : decode cX4_would 8 = .ok (.iload_n 2, 1) := dk_28 (dk_at dksX4_would_0 8 rfl rfl)
theorem dX4_would_9 : decode cX4_would 9 = .ok (.invokestatic 177, 3) := dk_184 0 177 (dk_at dksX4_would_0 9 rfl rfl)
theorem dX4_would_12 : decode cX4_would 12 = .ok (.ifCond .eq 20, 3) := dk_153 0 20 (dk_at dksX4_would_0 12 rfl rfl)
theorem dX4_would_15 : decode cX4_would 15 = .ok (.iload_n 3, 1) := dk_29 (dk_at dksX4_would_0 15 rfl rfl)
theorem dX4_would_16 : decode cX4_would 16 = .ok (.iconst 0, 1) := dk_3 (dk_at dksX4_would_0 16 rfl rfl)
theorem dX4_would_17 : decode cX4_would 17 = .ok (.iconst 2, 1) := dk_5 (dk_at dksX4_would_0 17 rfl rfl)
theorem dX4_would_18 : decode cX4_would 18 = .ok (.invokestatic 51, 3) := dk_184 0 51 (dk_at dksX4_would_0 18 rfl rfl)
theorem dX4_would_21 : decode cX4_would 21 = .ok (.ifCond .eq 11, 3) := dk_153 0 11 (dk_at dksX4_would_0 21 rfl rfl)
theorem dX4_would_24 : decode cX4_would 24 = .ok (.aload_n 0, 1) := dk_42 (dk_at dksX4_would_1 0 rfl rfl)
theorem dX4_would_25 : decode cX4_would 25 = .ok (.iload_n 1, 1) := dk_27 (dk_at dksX4_would_1 1 rfl rfl)
theorem dX4_would_26 : decode cX4_would 26 = .ok (.invokevirtual 59, 3) := dk_182 0 59 (dk_at dksX4_would_1 2 rfl rfl)
theorem dX4_would_29 : decode cX4_would 29 = .ok (.ifCond .ne 6, 3) := dk_154 0 6 (dk_at dksX4_would_1 5 rfl rfl)
theorem dX4_would_32 : decode cX4_would 32 = .ok (.ldc 186, 2) := dk_18 186 (dk_at dksX4_would_1 8 rfl rfl)
theorem dX4_would_34 : decode cX4_would 34 = .ok (.ireturn, 1) := dk_172 (dk_at dksX4_would_1 10 rfl rfl)
theorem dX4_would_35 : decode cX4_would 35 = .ok (.aload_n 0, 1) := dk_42 (dk_at dksX4_would_1 11 rfl rfl)
theorem dX4_would_36 : decode cX4_would 36 = .ok (.getfield 9, 3) := dk_180 0 9 (dk_at dksX4_would_1 12 rfl rfl)
theorem dX4_would_39 : decode cX4_would 39 = .ok (.aload_n 0, 1) := dk_42 (dk_at dksX4_would_1 15 rfl rfl)
theorem dX4_would_40 : decode cX4_would 40 = .ok (.getfield 13, 3) := dk_180 0 13 (dk_at dksX4_would_1 16 rfl rfl)
theorem dX4_would_43 : decode cX4_would 43 = .ok (.invokestatic 200, 3) := dk_184 0 200 (dk_at dksX4_would_1 19 rfl rfl)
theorem dX4_would_46 : decode cX4_would 46 = .ok (.aload_n 0, 1) := dk_42 (dk_at dksX4_would_1 22 rfl rfl)
theorem dX4_would_47 : decode cX4_would 47 = .ok (.iconst 0, 1) := dk_3 (dk_at dksX4_would_1 23 rfl rfl)
theorem dX4_would_48 : decode cX4_would 48 = .ok (.putfield 98, 3) := dk_181 0 98 (dk_at dksX4_would_2 0 rfl rfl)
theorem dX4_would_51 : decode cX4_would 51 = .ok (.aload_n 0, 1) := dk_42 (dk_at dksX4_would_2 3 rfl rfl)
theorem dX4_would_52 : decode cX4_would 52 = .ok (.iload_n 1, 1) := dk_27 (dk_at dksX4_would_2 4 rfl rfl)
theorem dX4_would_53 : decode cX4_would 53 = .ok (.iconst (-1), 1) := dk_2 (dk_at dksX4_would_2 5 rfl rfl)
theorem dX4_would_54 : decode cX4_would 54 = .ok (.iload_n 2, 1) := dk_28 (dk_at dksX4_would_2 6 rfl rfl)
theorem dX4_would_55 : decode cX4_would 55 = .ok (.invokevirtual 148, 3) := dk_182 0 148 (dk_at dksX4_would_2 7 rfl rfl)
theorem dX4_would_58 : decode cX4_would 58 = .ok (.iload_n 3, 1) := dk_29 (dk_at dksX4_would_2 10 rfl rfl)
theorem dX4_would_59 : decode cX4_would 59 = .ok (.ifCond .ne 13, 3) := dk_154 0 13 (dk_at dksX4_would_2 11 rfl rfl)
theorem dX4_would_62 : decode cX4_would 62 = .ok (.aload_n 0, 1) := dk_42 (dk_at dksX4_would_2 14 rfl rfl)
theorem dX4_would_63 : decode cX4_would 63 = .ok (.iload_n 1, 1) := dk_27 (dk_at dksX4_would_2 15 rfl rfl)
theorem dX4_would_64 : decode cX4_would 64 = .ok (.bipush 6, 2) := dk_16 6 (dk_at dksX4_would_2 16 rfl rfl)
theorem dX4_would_66 : decode cX4_would 66 = .ok (.invokevirtual 55, 3) := dk_182 0 55 (dk_at dksX4_would_2 18 rfl rfl)
theorem dX4_would_69 : decode cX4_would 69 = .ok (.goto 34, 3) := dk_167 0 34 (dk_at dksX4_would_2 21 rfl rfl)
theorem dX4_would_72 : decode cX4_would 72 = .ok (.iload_n 3, 1) := dk_29 (dk_at dksX4_would_3 0 rfl rfl)
theorem dX4_would_73 : decode cX4_would 73 = .ok (.iconst 1, 1) := dk_4 (dk_at dksX4_would_3 1 rfl rfl)
theorem dX4_would_74 : decode cX4_would 74 = .ok (.if_icmp .ne 12, 3) := dk_160 0 12 (dk_at dksX4_would_3 2 rfl rfl)
theorem dX4_would_77 : decode cX4_would 77 = .ok (.aload_n 0, 1) := dk_42 (dk_at dksX4_would_3 5 rfl rfl)
theorem dX4_would_78 : decode cX4_would 78 = .ok (.iload_n 1, 1) := dk_27 (dk_at dksX4_would_3 6 rfl rfl)
theorem dX4_would_79 : decode cX4_would 79 = .ok (.iconst 5, 1) := dk_8 (dk_at dksX4_would_3 7 rfl rfl)
theorem dX4_would_80 : decode cX4_would 80 = .ok (.invokevirtual 55, 3) := dk_182 0 55 (dk_at dksX4_would_3 8 rfl rfl)
theorem dX4_would_83 : decode cX4_would 83 = .ok (.goto 20, 3) := dk_167 0 20 (dk_at dksX4_would_3 11 rfl rfl)
theorem dX4_would_86 : decode cX4_would 86 = .ok (.aload_n 0, 1) := dk_42 (dk_at dksX4_would_3 14 rfl rfl)
theorem dX4_would_87 : decode cX4_would 87 = .ok (.getfield 98, 3) := dk_180 0 98 (dk_at dksX4_would_3 15 rfl rfl)
theorem dX4_would_90 : decode cX4_would 90 = .ok (.ifCond .eq 12, 3) := dk_153 0 12 (dk_at dksX4_would_3 18 rfl rfl)
theorem dX4_would_93 : decode cX4_would 93 = .ok (.aload_n 0, 1) := dk_42 (dk_at dksX4_would_3 21 rfl rfl)
theorem dX4_would_94 : decode cX4_would 94 = .ok (.getfield 22, 3) := dk_180 0 22 (dk_at dksX4_would_4 0 rfl rfl)
theorem dX4_would_97 : decode cX4_would 97 = .ok (.iconst 1, 1) := dk_4 (dk_at dksX4_would_4 3 rfl rfl)
theorem dX4_would_98 : decode cX4_would 98 = .ok (.iaload, 1) := dk_46 (dk_at dksX4_would_4 4 rfl rfl)
theorem dX4_would_99 : decode cX4_would 99 = .ok (.goto 4, 3) := dk_167 0 4 (dk_at dksX4_would_4 5 rfl rfl)
theorem dX4_would_102 : decode cX4_would 102 = .ok (.iconst 0, 1) := dk_3 (dk_at dksX4_would_4 8 rfl rfl)
theorem dX4_would_103 : decode cX4_would 103 = .ok (.istore 4, 2) := dk_54 4 (dk_at dksX4_would_4 9 rfl rfl)
theorem dX4_would_105 : decode cX4_would 105 = .ok (.aload_n 0, 1) := dk_42 (dk_at dksX4_would_4 11 rfl rfl)
theorem dX4_would_106 : decode cX4_would 106 = .ok (.getfield 13, 3) := dk_180 0 13 (dk_at dksX4_would_4 12 rfl rfl)
theorem dX4_would_109 : decode cX4_would 109 = .ok (.aload_n 0, 1) := dk_42 (dk_at dksX4_would_4 15 rfl rfl)
theorem dX4_would_110 : decode cX4_would 110 = .ok (.getfield 9, 3) := dk_180 0 9 (dk_at dksX4_would_4 16 rfl rfl)
theorem dX4_would_113 : decode cX4_would 113 = .ok (.invokestatic 200, 3) := dk_184 0 200 (dk_at dksX4_would_4 19 rfl rfl)
theorem dX4_would_116 : decode cX4_would 116 = .ok (.iload 4, 2) := dk_21 4 (dk_at dksX4_would_4 22 rfl rfl)
theorem dX4_would_118 : decode cX4_would 118 = .ok (.ireturn, 1) := dk_172 (dk_at dksX4_would_5 0 rfl rfl)
abbrev cX4_brings : ByteArray := prog_23_method_60_code
def yX4_brings : MethodName := ⟨RX4, "brings", "(II)I"⟩
def dkwX4_brings_4 : List UInt8 := [42, 180, 0, 13, 42, 180, 0, 9, 184, 0, 200, 21, 4, 172]
abbrev dktX4_brings_4 : List UInt8 := dkwX4_brings_4 ++ []
def dkwX4_brings_3 : List UInt8 := [160, 0, 14, 29, 42, 182, 0, 191, 2, 130, 126, 167, 0, 11, 42, 180, 0, 9, 17, 3, 226, 46, 54, 4]
abbrev dktX4_brings_3 : List UInt8 := dkwX4_brings_3 ++ dktX4_brings_4
def dkwX4_brings_2 : List UInt8 := [181, 0, 90, 42, 27, 8, 182, 0, 111, 28, 154, 0, 10, 42, 180, 0, 90, 167, 0, 27, 28, 4]
abbrev dktX4_brings_2 : List UInt8 := dkwX4_brings_2 ++ dktX4_brings_3
def dkwX4_brings_1 : List UInt8 := [154, 0, 6, 18, 186, 172, 42, 180, 0, 9, 42, 180, 0, 13, 184, 0, 200, 42, 182, 0, 191, 62, 42, 3]
abbrev dktX4_brings_1 : List UInt8 := dkwX4_brings_1 ++ dktX4_brings_2
def dkwX4_brings_0 : List UInt8 := [42, 27, 182, 0, 167, 153, 0, 20, 28, 3, 5, 184, 0, 51, 153, 0, 11, 42, 27, 182, 0, 59]
abbrev dktX4_brings_0 : List UInt8 := dkwX4_brings_0 ++ dktX4_brings_1
theorem dksX4_brings_0 : cX4_brings.data.toList.drop 0 = dktX4_brings_0 := by decide +kernel
theorem dksX4_brings_1 : cX4_brings.data.toList.drop 22 = dktX4_brings_1 := dk_seg dksX4_brings_0 22 rfl rfl
theorem dksX4_brings_2 : cX4_brings.data.toList.drop 46 = dktX4_brings_2 := dk_seg dksX4_brings_1 24 rfl rfl
theorem dksX4_brings_3 : cX4_brings.data.toList.drop 68 = dktX4_brings_3 := dk_seg dksX4_brings_2 22 rfl rfl
theorem dksX4_brings_4 : cX4_brings.data.toList.drop 92 = dktX4_brings_4 := dk_seg dksX4_brings_3 24 rfl rfl
theorem dX4_brings_0 : decode cX4_brings 0 = .ok (.aload_n 0, 1) := dk_42 (dk_at dksX4_brings_0 0 rfl rfl)
theorem dX4_brings_1 : decode cX4_brings 1 = .ok (.iload_n 1, 1) := dk_27 (dk_at dksX4_brings_0 1 rfl rfl)
theorem dX4_brings_2 : decode cX4_brings 2 = .ok (.invokevirtual 167, 3) := dk_182 0 167 (dk_at dksX4_brings_0 2 rfl rfl)
theorem dX4_brings_5 : decode cX4_brings 5 = .ok (.ifCond .eq 20, 3) := dk_153 0 20 (dk_at dksX4_brings_0 5 rfl rfl)
theorem dX4_brings_8 : decode cX4_brings 8 = .ok (.iload_n 2, 1) := dk_28 (dk_at dksX4_brings_0 8 rfl rfl)
theorem dX4_brings_9 : decode cX4_brings 9 = .ok (.iconst 0, 1) := dk_3 (dk_at dksX4_brings_0 9 rfl rfl)
theorem dX4_brings_10 : decode cX4_brings 10 = .ok (.iconst 2, 1) := dk_5 (dk_at dksX4_brings_0 10 rfl rfl)
theorem dX4_brings_11 : decode cX4_brings 11 = .ok (.invokestatic 51, 3) := dk_184 0 51 (dk_at dksX4_brings_0 11 rfl rfl)
theorem dX4_brings_14 : decode cX4_brings 14 = .ok (.ifCond .eq 11, 3) := dk_153 0 11 (dk_at dksX4_brings_0 14 rfl rfl)
theorem dX4_brings_17 : decode cX4_brings 17 = .ok (.aload_n 0, 1) := dk_42 (dk_at dksX4_brings_0 17 rfl rfl)
theorem dX4_brings_18 : decode cX4_brings 18 = .ok (.iload_n 1, 1) := dk_27 (dk_at dksX4_brings_0 18 rfl rfl)
theorem dX4_brings_19 : decode cX4_brings 19 = .ok (.invokevirtual 59, 3) := dk_182 0 59 (dk_at dksX4_brings_0 19 rfl rfl)
theorem dX4_brings_22 : decode cX4_brings 22 = .ok (.ifCond .ne 6, 3) := dk_154 0 6 (dk_at dksX4_brings_1 0 rfl rfl)
theorem dX4_brings_25 : decode cX4_brings 25 = .ok (.ldc 186, 2) := dk_18 186 (dk_at dksX4_brings_1 3 rfl rfl)
theorem dX4_brings_27 : decode cX4_brings 27 = .ok (.ireturn, 1) := dk_172 (dk_at dksX4_brings_1 5 rfl rfl)
theorem dX4_brings_28 : decode cX4_brings 28 = .ok (.aload_n 0, 1) := dk_42 (dk_at dksX4_brings_1 6 rfl rfl)
theorem dX4_brings_29 : decode cX4_brings 29 = .ok (.getfield 9, 3) := dk_180 0 9 (dk_at dksX4_brings_1 7 rfl rfl)
theorem dX4_brings_32 : decode cX4_brings 32 = .ok (.aload_n 0, 1) := dk_42 (dk_at dksX4_brings_1 10 rfl rfl)
theorem dX4_brings_33 : decode cX4_brings 33 = .ok (.getfield 13, 3) := dk_180 0 13 (dk_at dksX4_brings_1 11 rfl rfl)
theorem dX4_brings_36 : decode cX4_brings 36 = .ok (.invokestatic 200, 3) := dk_184 0 200 (dk_at dksX4_brings_1 14 rfl rfl)
theorem dX4_brings_39 : decode cX4_brings 39 = .ok (.aload_n 0, 1) := dk_42 (dk_at dksX4_brings_1 17 rfl rfl)
theorem dX4_brings_40 : decode cX4_brings 40 = .ok (.invokevirtual 191, 3) := dk_182 0 191 (dk_at dksX4_brings_1 18 rfl rfl)
theorem dX4_brings_43 : decode cX4_brings 43 = .ok (.istore_n 3, 1) := dk_62 (dk_at dksX4_brings_1 21 rfl rfl)
theorem dX4_brings_44 : decode cX4_brings 44 = .ok (.aload_n 0, 1) := dk_42 (dk_at dksX4_brings_1 22 rfl rfl)
theorem dX4_brings_45 : decode cX4_brings 45 = .ok (.iconst 0, 1) := dk_3 (dk_at dksX4_brings_1 23 rfl rfl)
theorem dX4_brings_46 : decode cX4_brings 46 = .ok (.putfield 90, 3) := dk_181 0 90 (dk_at dksX4_brings_2 0 rfl rfl)
theorem dX4_brings_49 : decode cX4_brings 49 = .ok (.aload_n 0, 1) := dk_42 (dk_at dksX4_brings_2 3 rfl rfl)
theorem dX4_brings_50 : decode cX4_brings 50 = .ok (.iload_n 1, 1) := dk_27 (dk_at dksX4_brings_2 4 rfl rfl)
theorem dX4_brings_51 : decode cX4_brings 51 = .ok (.iconst 5, 1) := dk_8 (dk_at dksX4_brings_2 5 rfl rfl)
theorem dX4_brings_52 : decode cX4_brings 52 = .ok (.invokevirtual 111, 3) := dk_182 0 111 (dk_at dksX4_brings_2 6 rfl rfl)
theorem dX4_brings_55 : decode cX4_brings 55 = .ok (.iload_n 2, 1) := dk_28 (dk_at dksX4_brings_2 9 rfl rfl)
theorem dX4_brings_56 : decode cX4_brings 56 = .ok (.ifCond .ne 10, 3) := dk_154 0 10 (dk_at dksX4_brings_2 10 rfl rfl)
theorem dX4_brings_59 : decode cX4_brings 59 = .ok (.aload_n 0, 1) := dk_42 (dk_at dksX4_brings_2 13 rfl rfl)
theorem dX4_brings_60 : decode cX4_brings 60 = .ok (.getfield 90, 3) := dk_180 0 90 (dk_at dksX4_brings_2 14 rfl rfl)
theorem dX4_brings_63 : decode cX4_brings 63 = .ok (.goto 27, 3) := dk_167 0 27 (dk_at dksX4_brings_2 17 rfl rfl)
theorem dX4_brings_66 : decode cX4_brings 66 = .ok (.iload_n 2, 1) := dk_28 (dk_at dksX4_brings_2 20 rfl rfl)
theorem dX4_brings_67 : decode cX4_brings 67 = .ok (.iconst 1, 1) := dk_4 (dk_at dksX4_brings_2 21 rfl rfl)
theorem dX4_brings_68 : decode cX4_brings 68 = .ok (.if_icmp .ne 14, 3) := dk_160 0 14 (dk_at dksX4_brings_3 0 rfl rfl)
theorem dX4_brings_71 : decode cX4_brings 71 = .ok (.iload_n 3, 1) := dk_29 (dk_at dksX4_brings_3 3 rfl rfl)
theorem dX4_brings_72 : decode cX4_brings 72 = .ok (.aload_n 0, 1) := dk_42 (dk_at dksX4_brings_3 4 rfl rfl)
theorem dX4_brings_73 : decode cX4_brings 73 = .ok (.invokevirtual 191, 3) := dk_182 0 191 (dk_at dksX4_brings_3 5 rfl rfl)
theorem dX4_brings_76 : decode cX4_brings 76 = .ok (.iconst (-1), 1) := dk_2 (dk_at dksX4_brings_3 8 rfl rfl)
theorem dX4_brings_77 : decode cX4_brings 77 = .ok (.ixor, 1) := dk_130 (dk_at dksX4_brings_3 9 rfl rfl)
theorem dX4_brings_78 : decode cX4_brings 78 = .ok (.iand, 1) := dk_126 (dk_at dksX4_brings_3 10 rfl rfl)
theorem dX4_brings_79 : decode cX4_brings 79 = .ok (.goto 11, 3) := dk_167 0 11 (dk_at dksX4_brings_3 11 rfl rfl)
theorem dX4_brings_82 : decode cX4_brings 82 = .ok (.aload_n 0, 1) := dk_42 (dk_at dksX4_brings_3 14 rfl rfl)
theorem dX4_brings_83 : decode cX4_brings 83 = .ok (.getfield 9, 3) := dk_180 0 9 (dk_at dksX4_brings_3 15 rfl rfl)
theorem dX4_brings_86 : decode cX4_brings 86 = .ok (.sipush 994, 3) := dk_17 3 226 (dk_at dksX4_brings_3 18 rfl rfl)
theorem dX4_brings_89 : decode cX4_brings 89 = .ok (.iaload, 1) := dk_46 (dk_at dksX4_brings_3 21 rfl rfl)
theorem dX4_brings_90 : decode cX4_brings 90 = .ok (.istore 4, 2) := dk_54 4 (dk_at dksX4_brings_3 22 rfl rfl)
theorem dX4_brings_92 : decode cX4_brings 92 = .ok (.aload_n 0, 1) := dk_42 (dk_at dksX4_brings_4 0 rfl rfl)
theorem dX4_brings_93 : decode cX4_brings 93 = .ok (.getfield 13, 3) := dk_180 0 13 (dk_at dksX4_brings_4 1 rfl rfl)
theorem dX4_brings_96 : decode cX4_brings 96 = .ok (.aload_n 0, 1) := dk_42 (dk_at dksX4_brings_4 4 rfl rfl)
theorem dX4_brings_97 : decode cX4_brings 97 = .ok (.getfield 9, 3) := dk_180 0 9 (dk_at dksX4_brings_4 5 rfl rfl)
theorem dX4_brings_100 : decode cX4_brings 100 = .ok (.invokestatic 200, 3) := dk_184 0 200 (dk_at dksX4_brings_4 8 rfl rfl)
theorem dX4_brings_103 : decode cX4_brings 103 = .ok (.iload 4, 2) := dk_21 4 (dk_at dksX4_brings_4 11 rfl rfl)
theorem dX4_brings_105 : decode cX4_brings 105 = .ok (.ireturn, 1) := dk_172 (dk_at dksX4_brings_4 13 rfl rfl)
abbrev cX4_reach : ByteArray := prog_23_method_62_code
def yX4_reach : MethodName := ⟨RX4, "reach", "(II)I"⟩
def dkwX4_reach_8 : List UInt8 := [172]
abbrev dktX4_reach_8 : List UInt8 := dkwX4_reach_8 ++ []
def dkwX4_reach_7 : List UInt8 := [132, 3, 1, 21, 5, 79, 132, 5, 1, 167, 255, 173, 132, 4, 1, 167, 255, 158, 42, 180, 0, 45, 28, 46]
abbrev dktX4_reach_7 : List UInt8 := dkwX4_reach_7 ++ dktX4_reach_8
def dkwX4_reach_6 : List UInt8 := [21, 5, 42, 180, 0, 45, 42, 180, 0, 42, 21, 4, 46, 46, 4, 96, 79, 42, 180, 0, 42, 29]
abbrev dktX4_reach_6 : List UInt8 := dkwX4_reach_6 ++ dktX4_reach_7
def dkwX4_reach_5 : List UInt8 := [153, 0, 51, 42, 21, 5, 42, 180, 0, 42, 21, 4, 46, 182, 0, 204, 153, 0, 35, 42, 180, 0, 45]
abbrev dktX4_reach_5 : List UInt8 := dkwX4_reach_5 ++ dktX4_reach_6
def dkwX4_reach_4 : List UInt8 := [17, 3, 156, 46, 162, 0, 76, 42, 180, 0, 45, 21, 5, 46, 156, 0, 60, 42, 21, 5, 182, 0, 59]
abbrev dktX4_reach_4 : List UInt8 := dkwX4_reach_4 ++ dktX4_reach_5
def dkwX4_reach_3 : List UInt8 := [3, 27, 79, 4, 62, 3, 54, 4, 21, 4, 29, 162, 0, 98, 3, 54, 5, 21, 5, 42, 180, 0, 9]
abbrev dktX4_reach_3 : List UInt8 := dkwX4_reach_3 ++ dktX4_reach_4
def dkwX4_reach_2 : List UInt8 := [180, 0, 45, 29, 16, 254, 79, 132, 3, 1, 167, 255, 239, 42, 180, 0, 45, 27, 3, 79, 42, 180, 0, 42]
abbrev dktX4_reach_2 : List UInt8 := dkwX4_reach_2 ++ dktX4_reach_3
def dkwX4_reach_1 : List UInt8 := [153, 0, 11, 42, 28, 182, 0, 59, 154, 0, 6, 16, 254, 172, 3, 62, 29, 16, 12, 162, 0, 17, 42]
abbrev dktX4_reach_1 : List UInt8 := dkwX4_reach_1 ++ dktX4_reach_2
def dkwX4_reach_0 : List UInt8 := [42, 27, 182, 0, 167, 153, 0, 11, 42, 28, 182, 0, 167, 154, 0, 5, 2, 172, 42, 27, 182, 0, 59]
abbrev dktX4_reach_0 : List UInt8 := dkwX4_reach_0 ++ dktX4_reach_1
theorem dksX4_reach_0 : cX4_reach.data.toList.drop 0 = dktX4_reach_0 := by decide +kernel
theorem dksX4_reach_1 : cX4_reach.data.toList.drop 23 = dktX4_reach_1 := dk_seg dksX4_reach_0 23 rfl rfl
theorem dksX4_reach_2 : cX4_reach.data.toList.drop 46 = dktX4_reach_2 := dk_seg dksX4_reach_1 23 rfl rfl
theorem dksX4_reach_3 : cX4_reach.data.toList.drop 70 = dktX4_reach_3 := dk_seg dksX4_reach_2 24 rfl rfl
theorem dksX4_reach_4 : cX4_reach.data.toList.drop 93 = dktX4_reach_4 := dk_seg dksX4_reach_3 23 rfl rfl
theorem dksX4_reach_5 : cX4_reach.data.toList.drop 116 = dktX4_reach_5 := dk_seg dksX4_reach_4 23 rfl rfl
theorem dksX4_reach_6 : cX4_reach.data.toList.drop 139 = dktX4_reach_6 := dk_seg dksX4_reach_5 23 rfl rfl
theorem dksX4_reach_7 : cX4_reach.data.toList.drop 161 = dktX4_reach_7 := dk_seg dksX4_reach_6 22 rfl rfl
theorem dksX4_reach_8 : cX4_reach.data.toList.drop 185 = dktX4_reach_8 := dk_seg dksX4_reach_7 24 rfl rfl
theorem dX4_reach_0 : decode cX4_reach 0 = .ok (.aload_n 0, 1) := dk_42 (dk_at dksX4_reach_0 0 rfl rfl)
theorem dX4_reach_1 : decode cX4_reach 1 = .ok (.iload_n 1, 1) := dk_27 (dk_at dksX4_reach_0 1 rfl rfl)
theorem dX4_reach_2 : decode cX4_reach 2 = .ok (.invokevirtual 167, 3) := dk_182 0 167 (dk_at dksX4_reach_0 2 rfl rfl)
theorem dX4_reach_5 : decode cX4_reach 5 = .ok (.ifCond .eq 11, 3) := dk_153 0 11 (dk_at dksX4_reach_0 5 rfl rfl)
theorem dX4_reach_8 : decode cX4_reach 8 = .ok (.aload_n 0, 1) := dk_42 (dk_at dksX4_reach_0 8 rfl rfl)
theorem dX4_reach_9 : decode cX4_reach 9 = .ok (.iload_n 2, 1) := dk_28 (dk_at dksX4_reach_0 9 rfl rfl)
theorem dX4_reach_10 : decode cX4_reach 10 = .ok (.invokevirtual 167, 3) := dk_182 0 167 (dk_at dksX4_reach_0 10 rfl rfl)
theorem dX4_reach_13 : decode cX4_reach 13 = .ok (.ifCond .ne 5, 3) := dk_154 0 5 (dk_at dksX4_reach_0 13 rfl rfl)
theorem dX4_reach_16 : decode cX4_reach 16 = .ok (.iconst (-1), 1) := dk_2 (dk_at dksX4_reach_0 16 rfl rfl)
theorem dX4_reach_17 : decode cX4_reach 17 = .ok (.ireturn, 1) := dk_172 (dk_at dksX4_reach_0 17 rfl rfl)
theorem dX4_reach_18 : decode cX4_reach 18 = .ok (.aload_n 0, 1) := dk_42 (dk_at dksX4_reach_0 18 rfl rfl)
theorem dX4_reach_19 : decode cX4_reach 19 = .ok (.iload_n 1, 1) := dk_27 (dk_at dksX4_reach_0 19 rfl rfl)
theorem dX4_reach_20 : decode cX4_reach 20 = .ok (.invokevirtual 59, 3) := dk_182 0 59 (dk_at dksX4_reach_0 20 rfl rfl)
theorem dX4_reach_23 : decode cX4_reach 23 = .ok (.ifCond .eq 11, 3) := dk_153 0 11 (dk_at dksX4_reach_1 0 rfl rfl)
theorem dX4_reach_26 : decode cX4_reach 26 = .ok (.aload_n 0, 1) := dk_42 (dk_at dksX4_reach_1 3 rfl rfl)
theorem dX4_reach_27 : decode cX4_reach 27 = .ok (.iload_n 2, 1) := dk_28 (dk_at dksX4_reach_1 4 rfl rfl)
theorem dX4_reach_28 : decode cX4_reach 28 = .ok (.invokevirtual 59, 3) := dk_182 0 59 (dk_at dksX4_reach_1 5 rfl rfl)
theorem dX4_reach_31 : decode cX4_reach 31 = .ok (.ifCond .ne 6, 3) := dk_154 0 6 (dk_at dksX4_reach_1 8 rfl rfl)
theorem dX4_reach_34 : decode cX4_reach 34 = .ok (.bipush (-2), 2) := dk_16 254 (dk_at dksX4_reach_1 11 rfl rfl)
theorem dX4_reach_36 : decode cX4_reach 36 = .ok (.ireturn, 1) := dk_172 (dk_at dksX4_reach_1 13 rfl rfl)
theorem dX4_reach_37 : decode cX4_reach 37 = .ok (.iconst 0, 1) := dk_3 (dk_at dksX4_reach_1 14 rfl rfl)
theorem dX4_reach_38 : decode cX4_reach 38 = .ok (.istore_n 3, 1) := dk_62 (dk_at dksX4_reach_1 15 rfl rfl)
theorem dX4_reach_39 : decode cX4_reach 39 = .ok (.iload_n 3, 1) := dk_29 (dk_at dksX4_reach_1 16 rfl rfl)
theorem dX4_reach_40 : decode cX4_reach 40 = .ok (.bipush 12, 2) := dk_16 12 (dk_at dksX4_reach_1 17 rfl rfl)
theorem dX4_reach_42 : decode cX4_reach 42 = .ok (.if_icmp .ge 17, 3) := dk_162 0 17 (dk_at dksX4_reach_1 19 rfl rfl)
theorem dX4_reach_45 : decode cX4_reach 45 = .ok (.aload_n 0, 1) := dk_42 (dk_at dksX4_reach_1 22 rfl rfl)
theorem dX4_reach_46 : decode cX4_reach 46 = .ok (.getfield 45, 3) := dk_180 0 45 (dk_at dksX4_reach_2 0 rfl rfl)
theorem dX4_reach_49 : decode cX4_reach 49 = .ok (.iload_n 3, 1) := dk_29 (dk_at dksX4_reach_2 3 rfl rfl)
theorem dX4_reach_50 : decode cX4_reach 50 = .ok (.bipush (-2), 2) := dk_16 254 (dk_at dksX4_reach_2 4 rfl rfl)
theorem dX4_reach_52 : decode cX4_reach 52 = .ok (.iastore, 1) := dk_79 (dk_at dksX4_reach_2 6 rfl rfl)
theorem dX4_reach_53 : decode cX4_reach 53 = .ok (.iinc 3 1, 3) := dk_132 3 1 (dk_at dksX4_reach_2 7 rfl rfl)
theorem dX4_reach_56 : decode cX4_reach 56 = .ok (.goto (-17), 3) := dk_167 255 239 (dk_at dksX4_reach_2 10 rfl rfl)
theorem dX4_reach_59 : decode cX4_reach 59 = .ok (.aload_n 0, 1) := dk_42 (dk_at dksX4_reach_2 13 rfl rfl)
theorem dX4_reach_60 : decode cX4_reach 60 = .ok (.getfield 45, 3) := dk_180 0 45 (dk_at dksX4_reach_2 14 rfl rfl)
theorem dX4_reach_63 : decode cX4_reach 63 = .ok (.iload_n 1, 1) := dk_27 (dk_at dksX4_reach_2 17 rfl rfl)
theorem dX4_reach_64 : decode cX4_reach 64 = .ok (.iconst 0, 1) := dk_3 (dk_at dksX4_reach_2 18 rfl rfl)
theorem dX4_reach_65 : decode cX4_reach 65 = .ok (.iastore, 1) := dk_79 (dk_at dksX4_reach_2 19 rfl rfl)
theorem dX4_reach_66 : decode cX4_reach 66 = .ok (.aload_n 0, 1) := dk_42 (dk_at dksX4_reach_2 20 rfl rfl)
theorem dX4_reach_67 : decode cX4_reach 67 = .ok (.getfield 42, 3) := dk_180 0 42 (dk_at dksX4_reach_2 21 rfl rfl)
theorem dX4_reach_70 : decode cX4_reach 70 = .ok (.iconst 0, 1) := dk_3 (dk_at dksX4_reach_3 0 rfl rfl)
theorem dX4_reach_71 : decode cX4_reach 71 = .ok (.iload_n 1, 1) := dk_27 (dk_at dksX4_reach_3 1 rfl rfl)
theorem dX4_reach_72 : decode cX4_reach 72 = .ok (.iastore, 1) := dk_79 (dk_at dksX4_reach_3 2 rfl rfl)
theorem dX4_reach_73 : decode cX4_reach 73 = .ok (.iconst 1, 1) := dk_4 (dk_at dksX4_reach_3 3 rfl rfl)
theorem dX4_reach_74 : decode cX4_reach 74 = .ok (.istore_n 3, 1) := dk_62 (dk_at dksX4_reach_3 4 rfl rfl)
theorem dX4_reach_75 : decode cX4_reach 75 = .ok (.iconst 0, 1) := dk_3 (dk_at dksX4_reach_3 5 rfl rfl)
theorem dX4_reach_76 : decode cX4_reach 76 = .ok (.istore 4, 2) := dk_54 4 (dk_at dksX4_reach_3 6 rfl rfl)
theorem dX4_reach_78 : decode cX4_reach 78 = .ok (.iload 4, 2) := dk_21 4 (dk_at dksX4_reach_3 8 rfl rfl)
theorem dX4_reach_80 : decode cX4_reach 80 = .ok (.iload_n 3, 1) := dk_29 (dk_at dksX4_reach_3 10 rfl rfl)
theorem dX4_reach_81 : decode cX4_reach 81 = .ok (.if_icmp .ge 98, 3) := dk_162 0 98 (dk_at dksX4_reach_3 11 rfl rfl)
theorem dX4_reach_84 : decode cX4_reach 84 = .ok (.iconst 0, 1) := dk_3 (dk_at dksX4_reach_3 14 rfl rfl)
theorem dX4_reach_85 : decode cX4_reach 85 = .ok (.istore 5, 2) := dk_54 5 (dk_at dksX4_reach_3 15 rfl rfl)
theorem dX4_reach_87 : decode cX4_reach 87 = .ok (.iload 5, 2) := dk_21 5 (dk_at dksX4_reach_3 17 rfl rfl)
theorem dX4_reach_89 : decode cX4_reach 89 = .ok (.aload_n 0, 1) := dk_42 (dk_at dksX4_reach_3 19 rfl rfl)
theorem dX4_reach_90 : decode cX4_reach 90 = .ok (.getfield 9, 3) := dk_180 0 9 (dk_at dksX4_reach_3 20 rfl rfl)
theorem dX4_reach_93 : decode cX4_reach 93 = .ok (.sipush 924, 3) := dk_17 3 156 (dk_at dksX4_reach_4 0 rfl rfl)
theorem dX4_reach_96 : decode cX4_reach 96 = .ok (.iaload, 1) := dk_46 (dk_at dksX4_reach_4 3 rfl rfl)
theorem dX4_reach_97 : decode cX4_reach 97 = .ok (.if_icmp .ge 76, 3) := dk_162 0 76 (dk_at dksX4_reach_4 4 rfl rfl)
theorem dX4_reach_100 : decode cX4_reach 100 = .ok (.aload_n 0, 1) := dk_42 (dk_at dksX4_reach_4 7 rfl rfl)
theorem dX4_reach_101 : decode cX4_reach 101 = .ok (.getfield 45, 3) := dk_180 0 45 (dk_at dksX4_reach_4 8 rfl rfl)
theorem dX4_reach_104 : decode cX4_reach 104 = .ok (.iload 5, 2) := dk_21 5 (dk_at dksX4_reach_4 11 rfl rfl)
theorem dX4_reach_106 : decode cX4_reach 106 = .ok (.iaload, 1) := dk_46 (dk_at dksX4_reach_4 13 rfl rfl)
theorem dX4_reach_107 : decode cX4_reach 107 = .ok (.ifCond .ge 60, 3) := dk_156 0 60 (dk_at dksX4_reach_4 14 rfl rfl)
theorem dX4_reach_110 : decode cX4_reach 110 = .ok (.aload_n 0, 1) := dk_42 (dk_at dksX4_reach_4 17 rfl rfl)
theorem dX4_reach_111 : decode cX4_reach 111 = .ok (.iload 5, 2) := dk_21 5 (dk_at dksX4_reach_4 18 rfl rfl)
theorem dX4_reach_113 : decode cX4_reach 113 = .ok (.invokevirtual 59, 3) := dk_182 0 59 (dk_at dksX4_reach_4 20 rfl rfl)
theorem dX4_reach_116 : decode cX4_reach 116 = .ok (.ifCond .eq 51, 3) := dk_153 0 51 (dk_at dksX4_reach_5 0 rfl rfl)
theorem dX4_reach_119 : decode cX4_reach 119 = .ok (.aload_n 0, 1) := dk_42 (dk_at dksX4_reach_5 3 rfl rfl)
theorem dX4_reach_120 : decode cX4_reach 120 = .ok (.iload 5, 2) := dk_21 5 (dk_at dksX4_reach_5 4 rfl rfl)
theorem dX4_reach_122 : decode cX4_reach 122 = .ok (.aload_n 0, 1) := dk_42 (dk_at dksX4_reach_5 6 rfl rfl)
theorem dX4_reach_123 : decode cX4_reach 123 = .ok (.getfield 42, 3) := dk_180 0 42 (dk_at dksX4_reach_5 7 rfl rfl)
theorem dX4_reach_126 : decode cX4_reach 126 = .ok (.iload 4, 2) := dk_21 4 (dk_at dksX4_reach_5 10 rfl rfl)
theorem dX4_reach_128 : decode cX4_reach 128 = .ok (.iaload, 1) := dk_46 (dk_at dksX4_reach_5 12 rfl rfl)
theorem dX4_reach_129 : decode cX4_reach 129 = .ok (.invokevirtual 204, 3) := dk_182 0 204 (dk_at dksX4_reach_5 13 rfl rfl)
theorem dX4_reach_132 : decode cX4_reach 132 = .ok (.ifCond .eq 35, 3) := dk_153 0 35 (dk_at dksX4_reach_5 16 rfl rfl)
theorem dX4_reach_135 : decode cX4_reach 135 = .ok (.aload_n 0, 1) := dk_42 (dk_at dksX4_reach_5 19 rfl rfl)
theorem dX4_reach_136 : decode cX4_reach 136 = .ok (.getfield 45, 3) := dk_180 0 45 (dk_at dksX4_reach_5 20 rfl rfl)
theorem dX4_reach_139 : decode cX4_reach 139 = .ok (.iload 5, 2) := dk_21 5 (dk_at dksX4_reach_6 0 rfl rfl)
theorem dX4_reach_141 : decode cX4_reach 141 = .ok (.aload_n 0, 1) := dk_42 (dk_at dksX4_reach_6 2 rfl rfl)
theorem dX4_reach_142 : decode cX4_reach 142 = .ok (.getfield 45, 3) := dk_180 0 45 (dk_at dksX4_reach_6 3 rfl rfl)
theorem dX4_reach_145 : decode cX4_reach 145 = .ok (.aload_n 0, 1) := dk_42 (dk_at dksX4_reach_6 6 rfl rfl)
theorem dX4_reach_146 : decode cX4_reach 146 = .ok (.getfield 42, 3) := dk_180 0 42 (dk_at dksX4_reach_6 7 rfl rfl)
theorem dX4_reach_149 : decode cX4_reach 149 = .ok (.iload 4, 2) := dk_21 4 (dk_at dksX4_reach_6 10 rfl rfl)
theorem dX4_reach_151 : decode cX4_reach 151 = .ok (.iaload, 1) := dk_46 (dk_at dksX4_reach_6 12 rfl rfl)
theorem dX4_reach_152 : decode cX4_reach 152 = .ok (.iaload, 1) := dk_46 (dk_at dksX4_reach_6 13 rfl rfl)
theorem dX4_reach_153 : decode cX4_reach 153 = .ok (.iconst 1, 1) := dk_4 (dk_at dksX4_reach_6 14 rfl rfl)
theorem dX4_reach_154 : decode cX4_reach 154 = .ok (.iadd, 1) := dk_96 (dk_at dksX4_reach_6 15 rfl rfl)
theorem dX4_reach_155 : decode cX4_reach 155 = .ok (.iastore, 1) := dk_79 (dk_at dksX4_reach_6 16 rfl rfl)
theorem dX4_reach_156 : decode cX4_reach 156 = .ok (.aload_n 0, 1) := dk_42 (dk_at dksX4_reach_6 17 rfl rfl)
theorem dX4_reach_157 : decode cX4_reach 157 = .ok (.getfield 42, 3) := dk_180 0 42 (dk_at dksX4_reach_6 18 rfl rfl)
theorem dX4_reach_160 : decode cX4_reach 160 = .ok (.iload_n 3, 1) := dk_29 (dk_at dksX4_reach_6 21 rfl rfl)
theorem dX4_reach_161 : decode cX4_reach 161 = .ok (.iinc 3 1, 3) := dk_132 3 1 (dk_at dksX4_reach_7 0 rfl rfl)
theorem dX4_reach_164 : decode cX4_reach 164 = .ok (.iload 5, 2) := dk_21 5 (dk_at dksX4_reach_7 3 rfl rfl)
theorem dX4_reach_166 : decode cX4_reach 166 = .ok (.iastore, 1) := dk_79 (dk_at dksX4_reach_7 5 rfl rfl)
theorem dX4_reach_167 : decode cX4_reach 167 = .ok (.iinc 5 1, 3) := dk_132 5 1 (dk_at dksX4_reach_7 6 rfl rfl)
theorem dX4_reach_170 : decode cX4_reach 170 = .ok (.goto (-83), 3) := dk_167 255 173 (dk_at dksX4_reach_7 9 rfl rfl)
theorem dX4_reach_173 : decode cX4_reach 173 = .ok (.iinc 4 1, 3) := dk_132 4 1 (dk_at dksX4_reach_7 12 rfl rfl)
theorem dX4_reach_176 : decode cX4_reach 176 = .ok (.goto (-98), 3) := dk_167 255 158 (dk_at dksX4_reach_7 15 rfl rfl)
theorem dX4_reach_179 : decode cX4_reach 179 = .ok (.aload_n 0, 1) := dk_42 (dk_at dksX4_reach_7 18 rfl rfl)
theorem dX4_reach_180 : decode cX4_reach 180 = .ok (.getfield 45, 3) := dk_180 0 45 (dk_at dksX4_reach_7 19 rfl rfl)
theorem dX4_reach_183 : decode cX4_reach 183 = .ok (.iload_n 2, 1) := dk_28 (dk_at dksX4_reach_7 22 rfl rfl)
theorem dX4_reach_184 : decode cX4_reach 184 = .ok (.iaload, 1) := dk_46 (dk_at dksX4_reach_7 23 rfl rfl)
theorem dX4_reach_185 : decode cX4_reach 185 = .ok (.ireturn, 1) := dk_172 (dk_at dksX4_reach_8 0 rfl rfl)
abbrev cX4_isNext : ByteArray := prog_23_method_61_code
def yX4_isNext : MethodName := ⟨RX4, "isNext", "(II)Z"⟩
def dkwX4_isNext_1 : List UInt8 := [3, 172]
abbrev dktX4_isNext_1 : List UInt8 := dkwX4_isNext_1 ++ []
def dkwX4_isNext_0 : List UInt8 := [42, 27, 3, 182, 0, 55, 28, 159, 0, 13, 42, 28, 3, 182, 0, 55, 27, 160, 0, 7, 4, 167, 0, 4]
abbrev dktX4_isNext_0 : List UInt8 := dkwX4_isNext_0 ++ dktX4_isNext_1
theorem dksX4_isNext_0 : cX4_isNext.data.toList.drop 0 = dktX4_isNext_0 := by decide +kernel
theorem dksX4_isNext_1 : cX4_isNext.data.toList.drop 24 = dktX4_isNext_1 := dk_seg dksX4_isNext_0 24 rfl rfl
theorem dX4_isNext_0 : decode cX4_isNext 0 = .ok (.aload_n 0, 1) := dk_42 (dk_at dksX4_isNext_0 0 rfl rfl)
theorem dX4_isNext_1 : decode cX4_isNext 1 = .ok (.iload_n 1, 1) := dk_27 (dk_at dksX4_isNext_0 1 rfl rfl)
theorem dX4_isNext_2 : decode cX4_isNext 2 = .ok (.iconst 0, 1) := dk_3 (dk_at dksX4_isNext_0 2 rfl rfl)
theorem dX4_isNext_3 : decode cX4_isNext 3 = .ok (.invokevirtual 55, 3) := dk_182 0 55 (dk_at dksX4_isNext_0 3 rfl rfl)
theorem dX4_isNext_6 : decode cX4_isNext 6 = .ok (.iload_n 2, 1) := dk_28 (dk_at dksX4_isNext_0 6 rfl rfl)
theorem dX4_isNext_7 : decode cX4_isNext 7 = .ok (.if_icmp .eq 13, 3) := dk_159 0 13 (dk_at dksX4_isNext_0 7 rfl rfl)
theorem dX4_isNext_10 : decode cX4_isNext 10 = .ok (.aload_n 0, 1) := dk_42 (dk_at dksX4_isNext_0 10 rfl rfl)
theorem dX4_isNext_11 : decode cX4_isNext 11 = .ok (.iload_n 2, 1) := dk_28 (dk_at dksX4_isNext_0 11 rfl rfl)
theorem dX4_isNext_12 : decode cX4_isNext 12 = .ok (.iconst 0, 1) := dk_3 (dk_at dksX4_isNext_0 12 rfl rfl)
theorem dX4_isNext_13 : decode cX4_isNext 13 = .ok (.invokevirtual 55, 3) := dk_182 0 55 (dk_at dksX4_isNext_0 13 rfl rfl)
theorem dX4_isNext_16 : decode cX4_isNext 16 = .ok (.iload_n 1, 1) := dk_27 (dk_at dksX4_isNext_0 16 rfl rfl)
theorem dX4_isNext_17 : decode cX4_isNext 17 = .ok (.if_icmp .ne 7, 3) := dk_160 0 7 (dk_at dksX4_isNext_0 17 rfl rfl)
theorem dX4_isNext_20 : decode cX4_isNext 20 = .ok (.iconst 1, 1) := dk_4 (dk_at dksX4_isNext_0 20 rfl rfl)
theorem dX4_isNext_21 : decode cX4_isNext 21 = .ok (.goto 4, 3) := dk_167 0 4 (dk_at dksX4_isNext_0 21 rfl rfl)
theorem dX4_isNext_24 : decode cX4_isNext 24 = .ok (.iconst 0, 1) := dk_3 (dk_at dksX4_isNext_1 0 rfl rfl)
theorem dX4_isNext_25 : decode cX4_isNext 25 = .ok (.ireturn, 1) := dk_172 (dk_at dksX4_isNext_1 1 rfl rfl)
abbrev cX4_feed : ByteArray := prog_23_method_63_code
def yX4_feed : MethodName := ⟨RX4, "feed", "(I)I"⟩
def dkwX4_feed_1 : List UInt8 := [172, 42, 180, 0, 25, 42, 89, 180, 0, 207, 90, 4, 96, 181, 0, 207, 27, 79, 42, 180, 0, 207, 172]
abbrev dktX4_feed_1 : List UInt8 := dkwX4_feed_1 ++ []
def dkwX4_feed_0 : List UInt8 := [27, 3, 17, 0, 255, 184, 0, 51, 154, 0, 5, 2, 172, 42, 180, 0, 207, 16, 120, 160, 0, 6, 16, 253]
abbrev dktX4_feed_0 : List UInt8 := dkwX4_feed_0 ++ dktX4_feed_1
theorem dksX4_feed_0 : cX4_feed.data.toList.drop 0 = dktX4_feed_0 := by decide +kernel
theorem dksX4_feed_1 : cX4_feed.data.toList.drop 24 = dktX4_feed_1 := dk_seg dksX4_feed_0 24 rfl rfl
theorem dX4_feed_0 : decode cX4_feed 0 = .ok (.iload_n 1, 1) := dk_27 (dk_at dksX4_feed_0 0 rfl rfl)
theorem dX4_feed_1 : decode cX4_feed 1 = .ok (.iconst 0, 1) := dk_3 (dk_at dksX4_feed_0 1 rfl rfl)
theorem dX4_feed_2 : decode cX4_feed 2 = .ok (.sipush 255, 3) := dk_17 0 255 (dk_at dksX4_feed_0 2 rfl rfl)
theorem dX4_feed_5 : decode cX4_feed 5 = .ok (.invokestatic 51, 3) := dk_184 0 51 (dk_at dksX4_feed_0 5 rfl rfl)
theorem dX4_feed_8 : decode cX4_feed 8 = .ok (.ifCond .ne 5, 3) := dk_154 0 5 (dk_at dksX4_feed_0 8 rfl rfl)
theorem dX4_feed_11 : decode cX4_feed 11 = .ok (.iconst (-1), 1) := dk_2 (dk_at dksX4_feed_0 11 rfl rfl)
theorem dX4_feed_12 : decode cX4_feed 12 = .ok (.ireturn, 1) := dk_172 (dk_at dksX4_feed_0 12 rfl rfl)
theorem dX4_feed_13 : decode cX4_feed 13 = .ok (.aload_n 0, 1) := dk_42 (dk_at dksX4_feed_0 13 rfl rfl)
theorem dX4_feed_14 : decode cX4_feed 14 = .ok (.getfield 207, 3) := dk_180 0 207 (dk_at dksX4_feed_0 14 rfl rfl)
theorem dX4_feed_17 : decode cX4_feed 17 = .ok (.bipush 120, 2) := dk_16 120 (dk_at dksX4_feed_0 17 rfl rfl)
theorem dX4_feed_19 : decode cX4_feed 19 = .ok (.if_icmp .ne 6, 3) := dk_160 0 6 (dk_at dksX4_feed_0 19 rfl rfl)
theorem dX4_feed_22 : decode cX4_feed 22 = .ok (.bipush (-3), 2) := dk_16 253 (dk_at dksX4_feed_0 22 rfl rfl)
theorem dX4_feed_24 : decode cX4_feed 24 = .ok (.ireturn, 1) := dk_172 (dk_at dksX4_feed_1 0 rfl rfl)
theorem dX4_feed_25 : decode cX4_feed 25 = .ok (.aload_n 0, 1) := dk_42 (dk_at dksX4_feed_1 1 rfl rfl)
theorem dX4_feed_26 : decode cX4_feed 26 = .ok (.getfield 25, 3) := dk_180 0 25 (dk_at dksX4_feed_1 2 rfl rfl)
theorem dX4_feed_29 : decode cX4_feed 29 = .ok (.aload_n 0, 1) := dk_42 (dk_at dksX4_feed_1 5 rfl rfl)
theorem dX4_feed_30 : decode cX4_feed 30 = .ok (.dup, 1) := dk_89 (dk_at dksX4_feed_1 6 rfl rfl)
theorem dX4_feed_31 : decode cX4_feed 31 = .ok (.getfield 207, 3) := dk_180 0 207 (dk_at dksX4_feed_1 7 rfl rfl)
theorem dX4_feed_34 : decode cX4_feed 34 = .ok (.dup_x1, 1) := dk_90 (dk_at dksX4_feed_1 10 rfl rfl)
theorem dX4_feed_35 : decode cX4_feed 35 = .ok (.iconst 1, 1) := dk_4 (dk_at dksX4_feed_1 11 rfl rfl)
theorem dX4_feed_36 : decode cX4_feed 36 = .ok (.iadd, 1) := dk_96 (dk_at dksX4_feed_1 12 rfl rfl)
theorem dX4_feed_37 : decode cX4_feed 37 = .ok (.putfield 207, 3) := dk_181 0 207 (dk_at dksX4_feed_1 13 rfl rfl)
theorem dX4_feed_40 : decode cX4_feed 40 = .ok (.iload_n 1, 1) := dk_27 (dk_at dksX4_feed_1 16 rfl rfl)
theorem dX4_feed_41 : decode cX4_feed 41 = .ok (.iastore, 1) := dk_79 (dk_at dksX4_feed_1 17 rfl rfl)
theorem dX4_feed_42 : decode cX4_feed 42 = .ok (.aload_n 0, 1) := dk_42 (dk_at dksX4_feed_1 18 rfl rfl)
theorem dX4_feed_43 : decode cX4_feed 43 = .ok (.getfield 207, 3) := dk_180 0 207 (dk_at dksX4_feed_1 19 rfl rfl)
theorem dX4_feed_46 : decode cX4_feed 46 = .ok (.ireturn, 1) := dk_172 (dk_at dksX4_feed_1 22 rfl rfl)
abbrev cX4_script : ByteArray := prog_23_method_70_code
def yX4_script : MethodName := ⟨RX4, "script", "()I"⟩
def dkwX4_script_5 : List UInt8 := [172]
abbrev dktX4_script_5 : List UInt8 := dkwX4_script_5 ++ []
def dkwX4_script_4 : List UInt8 := [28, 154, 0, 22, 42, 180, 0, 16, 42, 180, 0, 9, 184, 0, 200, 17, 248, 48, 27, 4, 100, 100, 172, 27]
abbrev dktX4_script_4 : List UInt8 := dkwX4_script_4 ++ dktX4_script_5
def dkwX4_script_3 : List UInt8 := [96, 181, 0, 213, 42, 42, 182, 0, 226, 182, 0, 238, 61, 132, 1, 1, 167, 255, 211, 42, 3, 181, 0, 207]
abbrev dktX4_script_3 : List UInt8 := dkwX4_script_3 ++ dktX4_script_4
def dkwX4_script_2 : List UInt8 := [180, 0, 213, 42, 180, 0, 207, 162, 0, 36, 42, 89, 180, 0, 213, 27, 158, 0, 7, 4, 167, 0, 4, 3]
abbrev dktX4_script_2 : List UInt8 := dkwX4_script_2 ++ dktX4_script_3
def dkwX4_script_1 : List UInt8 := [180, 0, 9, 42, 180, 0, 16, 184, 0, 200, 42, 3, 181, 0, 213, 3, 60, 4, 61, 28, 153, 0, 47, 42]
abbrev dktX4_script_1 : List UInt8 := dkwX4_script_1 ++ dktX4_script_2
def dkwX4_script_0 : List UInt8 := [42, 182, 0, 235, 154, 0, 17, 42, 3, 181, 0, 207, 17, 252, 24, 42, 180, 0, 210, 100, 172, 42]
abbrev dktX4_script_0 : List UInt8 := dkwX4_script_0 ++ dktX4_script_1
theorem dksX4_script_0 : cX4_script.data.toList.drop 0 = dktX4_script_0 := by decide +kernel
theorem dksX4_script_1 : cX4_script.data.toList.drop 22 = dktX4_script_1 := dk_seg dksX4_script_0 22 rfl rfl
theorem dksX4_script_2 : cX4_script.data.toList.drop 46 = dktX4_script_2 := dk_seg dksX4_script_1 24 rfl rfl
theorem dksX4_script_3 : cX4_script.data.toList.drop 70 = dktX4_script_3 := dk_seg dksX4_script_2 24 rfl rfl
theorem dksX4_script_4 : cX4_script.data.toList.drop 94 = dktX4_script_4 := dk_seg dksX4_script_3 24 rfl rfl
theorem dksX4_script_5 : cX4_script.data.toList.drop 118 = dktX4_script_5 := dk_seg dksX4_script_4 24 rfl rfl
theorem dX4_script_0 : decode cX4_script 0 = .ok (.aload_n 0, 1) := dk_42 (dk_at dksX4_script_0 0 rfl rfl)
theorem dX4_script_1 : decode cX4_script 1 = .ok (.invokevirtual 235, 3) := dk_182 0 235 (dk_at dksX4_script_0 1 rfl rfl)
theorem dX4_script_4 : decode cX4_script 4 = .ok (.ifCond .ne 17, 3) := dk_154 0 17 (dk_at dksX4_script_0 4 rfl rfl)
theorem dX4_script_7 : decode cX4_script 7 = .ok (.aload_n 0, 1) := dk_42 (dk_at dksX4_script_0 7 rfl rfl)
theorem dX4_script_8 : decode cX4_script 8 = .ok (.iconst 0, 1) := dk_3 (dk_at dksX4_script_0 8 rfl rfl)
theorem dX4_script_9 : decode cX4_script 9 = .ok (.putfield 207, 3) := dk_181 0 207 (dk_at dksX4_script_0 9 rfl rfl)
theorem dX4_script_12 : decode cX4_script 12 = .ok (.sipush (-1000), 3) := dk_17 252 24 (dk_at dksX4_script_0 12 rfl rfl)
theorem dX4_script_15 : decode cX4_script 15 = .ok (.aload_n 0, 1) := dk_42 (dk_at dksX4_script_0 15 rfl rfl)
theorem dX4_script_16 : decode cX4_script 16 = .ok (.getfield 210, 3) := dk_180 0 210 (dk_at dksX4_script_0 16 rfl rfl)
theorem dX4_script_19 : decode cX4_script 19 = .ok (.isub, 1) := dk_100 (dk_at dksX4_script_0 19 rfl rfl)
theorem dX4_script_20 : decode cX4_script 20 = .ok (.ireturn, 1) := dk_172 (dk_at dksX4_script_0 20 rfl rfl)
theorem dX4_script_21 : decode cX4_script 21 = .ok (.aload_n 0, 1) := dk_42 (dk_at dksX4_script_0 21 rfl rfl)
theorem dX4_script_22 : decode cX4_script 22 = .ok (.getfield 9, 3) := dk_180 0 9 (dk_at dksX4_script_1 0 rfl rfl)
theorem dX4_script_25 : decode cX4_script 25 = .ok (.aload_n 0, 1) := dk_42 (dk_at dksX4_script_1 3 rfl rfl)
theorem dX4_script_26 : decode cX4_script 26 = .ok (.getfield 16, 3) := dk_180 0 16 (dk_at dksX4_script_1 4 rfl rfl)
theorem dX4_script_29 : decode cX4_script 29 = .ok (.invokestatic 200, 3) := dk_184 0 200 (dk_at dksX4_script_1 7 rfl rfl)
theorem dX4_script_32 : decode cX4_script 32 = .ok (.aload_n 0, 1) := dk_42 (dk_at dksX4_script_1 10 rfl rfl)
theorem dX4_script_33 : decode cX4_script 33 = .ok (.iconst 0, 1) := dk_3 (dk_at dksX4_script_1 11 rfl rfl)
theorem dX4_script_34 : decode cX4_script 34 = .ok (.putfield 213, 3) := dk_181 0 213 (dk_at dksX4_script_1 12 rfl rfl)
theorem dX4_script_37 : decode cX4_script 37 = .ok (.iconst 0, 1) := dk_3 (dk_at dksX4_script_1 15 rfl rfl)
theorem dX4_script_38 : decode cX4_script 38 = .ok (.istore_n 1, 1) := dk_60 (dk_at dksX4_script_1 16 rfl rfl)
theorem dX4_script_39 : decode cX4_script 39 = .ok (.iconst 1, 1) := dk_4 (dk_at dksX4_script_1 17 rfl rfl)
theorem dX4_script_40 : decode cX4_script 40 = .ok (.istore_n 2, 1) := dk_61 (dk_at dksX4_script_1 18 rfl rfl)
theorem dX4_script_41 : decode cX4_script 41 = .ok (.iload_n 2, 1) := dk_28 (dk_at dksX4_script_1 19 rfl rfl)
theorem dX4_script_42 : decode cX4_script 42 = .ok (.ifCond .eq 47, 3) := dk_153 0 47 (dk_at dksX4_script_1 20 rfl rfl)
theorem dX4_script_45 : decode cX4_script 45 = .ok (.aload_n 0, 1) := dk_42 (dk_at dksX4_script_1 23 rfl rfl)
theorem dX4_script_46 : decode cX4_script 46 = .ok (.getfield 213, 3) := dk_180 0 213 (dk_at dksX4_script_2 0 rfl rfl)
theorem dX4_script_49 : decode cX4_script 49 = .ok (.aload_n 0, 1) := dk_42 (dk_at dksX4_script_2 3 rfl rfl)
theorem dX4_script_50 : decode cX4_script 50 = .ok (.getfield 207, 3) := dk_180 0 207 (dk_at dksX4_script_2 4 rfl rfl)
theorem dX4_script_53 : decode cX4_script 53 = .ok (.if_icmp .ge 36, 3) := dk_162 0 36 (dk_at dksX4_script_2 7 rfl rfl)
theorem dX4_script_56 : decode cX4_script 56 = .ok (.aload_n 0, 1) := dk_42 (dk_at dksX4_script_2 10 rfl rfl)
theorem dX4_script_57 : decode cX4_script 57 = .ok (.dup, 1) := dk_89 (dk_at dksX4_script_2 11 rfl rfl)
theorem dX4_script_58 : decode cX4_script 58 = .ok (.getfield 213, 3) := dk_180 0 213 (dk_at dksX4_script_2 12 rfl rfl)
theorem dX4_script_61 : decode cX4_script 61 = .ok (.iload_n 1, 1) := dk_27 (dk_at dksX4_script_2 15 rfl rfl)
theorem dX4_script_62 : decode cX4_script 62 = .ok (.ifCond .le 7, 3) := dk_158 0 7 (dk_at dksX4_script_2 16 rfl rfl)
theorem dX4_script_65 : decode cX4_script 65 = .ok (.iconst 1, 1) := dk_4 (dk_at dksX4_script_2 19 rfl rfl)
theorem dX4_script_66 : decode cX4_script 66 = .ok (.goto 4, 3) := dk_167 0 4 (dk_at dksX4_script_2 20 rfl rfl)
theorem dX4_script_69 : decode cX4_script 69 = .ok (.iconst 0, 1) := dk_3 (dk_at dksX4_script_2 23 rfl rfl)
theorem dX4_script_70 : decode cX4_script 70 = .ok (.iadd, 1) := dk_96 (dk_at dksX4_script_3 0 rfl rfl)
theorem dX4_script_71 : decode cX4_script 71 = .ok (.putfield 213, 3) := dk_181 0 213 (dk_at dksX4_script_3 1 rfl rfl)
theorem dX4_script_74 : decode cX4_script 74 = .ok (.aload_n 0, 1) := dk_42 (dk_at dksX4_script_3 4 rfl rfl)
theorem dX4_script_75 : decode cX4_script 75 = .ok (.aload_n 0, 1) := dk_42 (dk_at dksX4_script_3 5 rfl rfl)
theorem dX4_script_76 : decode cX4_script 76 = .ok (.invokevirtual 226, 3) := dk_182 0 226 (dk_at dksX4_script_3 6 rfl rfl)
theorem dX4_script_79 : decode cX4_script 79 = .ok (.invokevirtual 238, 3) := dk_182 0 238 (dk_at dksX4_script_3 9 rfl rfl)
theorem dX4_script_82 : decode cX4_script 82 = .ok (.istore_n 2, 1) := dk_61 (dk_at dksX4_script_3 12 rfl rfl)
theorem dX4_script_83 : decode cX4_script 83 = .ok (.iinc 1 1, 3) := dk_132 1 1 (dk_at dksX4_script_3 13 rfl rfl)
theorem dX4_script_86 : decode cX4_script 86 = .ok (.goto (-45), 3) := dk_167 255 211 (dk_at dksX4_script_3 16 rfl rfl)
theorem dX4_script_89 : decode cX4_script 89 = .ok (.aload_n 0, 1) := dk_42 (dk_at dksX4_script_3 19 rfl rfl)
theorem dX4_script_90 : decode cX4_script 90 = .ok (.iconst 0, 1) := dk_3 (dk_at dksX4_script_3 20 rfl rfl)
theorem dX4_script_91 : decode cX4_script 91 = .ok (.putfield 207, 3) := dk_181 0 207 (dk_at dksX4_script_3 21 rfl rfl)
theorem dX4_script_94 : decode cX4_script 94 = .ok (.iload_n 2, 1) := dk_28 (dk_at dksX4_script_4 0 rfl rfl)
theorem dX4_script_95 : decode cX4_script 95 = .ok (.ifCond .ne 22, 3) := dk_154 0 22 (dk_at dksX4_script_4 1 rfl rfl)
theorem dX4_script_98 : decode cX4_script 98 = .ok (.aload_n 0, 1) := dk_42 (dk_at dksX4_script_4 4 rfl rfl)
theorem dX4_script_99 : decode cX4_script 99 = .ok (.getfield 16, 3) := dk_180 0 16 (dk_at dksX4_script_4 5 rfl rfl)
theorem dX4_script_102 : decode cX4_script 102 = .ok (.aload_n 0, 1) := dk_42 (dk_at dksX4_script_4 8 rfl rfl)
theorem dX4_script_103 : decode cX4_script 103 = .ok (.getfield 9, 3) := dk_180 0 9 (dk_at dksX4_script_4 9 rfl rfl)
theorem dX4_script_106 : decode cX4_script 106 = .ok (.invokestatic 200, 3) := dk_184 0 200 (dk_at dksX4_script_4 12 rfl rfl)
theorem dX4_script_109 : decode cX4_script 109 = .ok (.sipush (-2000), 3) := dk_17 248 48 (dk_at dksX4_script_4 15 rfl rfl)
theorem dX4_script_112 : decode cX4_script 112 = .ok (.iload_n 1, 1) := dk_27 (dk_at dksX4_script_4 18 rfl rfl)
theorem dX4_script_113 : decode cX4_script 113 = .ok (.iconst 1, 1) := dk_4 (dk_at dksX4_script_4 19 rfl rfl)
theorem dX4_script_114 : decode cX4_script 114 = .ok (.isub, 1) := dk_100 (dk_at dksX4_script_4 20 rfl rfl)
theorem dX4_script_115 : decode cX4_script 115 = .ok (.isub, 1) := dk_100 (dk_at dksX4_script_4 21 rfl rfl)
theorem dX4_script_116 : decode cX4_script 116 = .ok (.ireturn, 1) := dk_172 (dk_at dksX4_script_4 22 rfl rfl)
theorem dX4_script_117 : decode cX4_script 117 = .ok (.iload_n 1, 1) := dk_27 (dk_at dksX4_script_4 23 rfl rfl)
theorem dX4_script_118 : decode cX4_script 118 = .ok (.ireturn, 1) := dk_172 (dk_at dksX4_script_5 0 rfl rfl)
abbrev cX4_isForm : ByteArray := prog_23_method_68_code
def yX4_isForm : MethodName := ⟨RX4, "isForm", "()Z"⟩
def dkwX4_isForm_2 : List UInt8 := [167, 255, 224, 42, 180, 0, 210, 156, 0, 7, 4, 167, 0, 4, 3, 172]
abbrev dktX4_isForm_2 : List UInt8 := dkwX4_isForm_2 ++ []
def dkwX4_isForm_1 : List UInt8 := [180, 0, 213, 42, 180, 0, 207, 162, 0, 20, 42, 16, 59, 16, 59, 182, 0, 219, 87, 42, 182, 0, 226, 87]
abbrev dktX4_isForm_1 : List UInt8 := dkwX4_isForm_1 ++ dktX4_isForm_2
def dkwX4_isForm_0 : List UInt8 := [42, 3, 181, 0, 213, 42, 2, 181, 0, 210, 42, 182, 0, 226, 87, 42, 180, 0, 210, 156, 0, 31, 42]
abbrev dktX4_isForm_0 : List UInt8 := dkwX4_isForm_0 ++ dktX4_isForm_1
theorem dksX4_isForm_0 : cX4_isForm.data.toList.drop 0 = dktX4_isForm_0 := by decide +kernel
theorem dksX4_isForm_1 : cX4_isForm.data.toList.drop 23 = dktX4_isForm_1 := dk_seg dksX4_isForm_0 23 rfl rfl
theorem dksX4_isForm_2 : cX4_isForm.data.toList.drop 47 = dktX4_isForm_2 := dk_seg dksX4_isForm_1 24 rfl rfl
theorem dX4_isForm_0 : decode cX4_isForm 0 = .ok (.aload_n 0, 1) := dk_42 (dk_at dksX4_isForm_0 0 rfl rfl)
theorem dX4_isForm_1 : decode cX4_isForm 1 = .ok (.iconst 0, 1) := dk_3 (dk_at dksX4_isForm_0 1 rfl rfl)
theorem dX4_isForm_2 : decode cX4_isForm 2 = .ok (.putfield 213, 3) := dk_181 0 213 (dk_at dksX4_isForm_0 2 rfl rfl)
theorem dX4_isForm_5 : decode cX4_isForm 5 = .ok (.aload_n 0, 1) := dk_42 (dk_at dksX4_isForm_0 5 rfl rfl)
theorem dX4_isForm_6 : decode cX4_isForm 6 = .ok (.iconst (-1), 1) := dk_2 (dk_at dksX4_isForm_0 6 rfl rfl)
theorem dX4_isForm_7 : decode cX4_isForm 7 = .ok (.putfield 210, 3) := dk_181 0 210 (dk_at dksX4_isForm_0 7 rfl rfl)
theorem dX4_isForm_10 : decode cX4_isForm 10 = .ok (.aload_n 0, 1) := dk_42 (dk_at dksX4_isForm_0 10 rfl rfl)
theorem dX4_isForm_11 : decode cX4_isForm 11 = .ok (.invokevirtual 226, 3) := dk_182 0 226 (dk_at dksX4_isForm_0 11 rfl rfl)
theorem dX4_isForm_14 : decode cX4_isForm 14 = .ok (.pop, 1) := dk_87 (dk_at dksX4_isForm_0 14 rfl rfl)
theorem dX4_isForm_15 : decode cX4_isForm 15 = .ok (.aload_n 0, 1) := dk_42 (dk_at dksX4_isForm_0 15 rfl rfl)
theorem dX4_isForm_16 : decode cX4_isForm 16 = .ok (.getfield 210, 3) := dk_180 0 210 (dk_at dksX4_isForm_0 16 rfl rfl)
theorem dX4_isForm_19 : decode cX4_isForm 19 = .ok (.ifCond .ge 31, 3) := dk_156 0 31 (dk_at dksX4_isForm_0 19 rfl rfl)
theorem dX4_isForm_22 : decode cX4_isForm 22 = .ok (.aload_n 0, 1) := dk_42 (dk_at dksX4_isForm_0 22 rfl rfl)
theorem dX4_isForm_23 : decode cX4_isForm 23 = .ok (.getfield 213, 3) := dk_180 0 213 (dk_at dksX4_isForm_1 0 rfl rfl)
theorem dX4_isForm_26 : decode cX4_isForm 26 = .ok (.aload_n 0, 1) := dk_42 (dk_at dksX4_isForm_1 3 rfl rfl)
theorem dX4_isForm_27 : decode cX4_isForm 27 = .ok (.getfield 207, 3) := dk_180 0 207 (dk_at dksX4_isForm_1 4 rfl rfl)
theorem dX4_isForm_30 : decode cX4_isForm 30 = .ok (.if_icmp .ge 20, 3) := dk_162 0 20 (dk_at dksX4_isForm_1 7 rfl rfl)
theorem dX4_isForm_33 : decode cX4_isForm 33 = .ok (.aload_n 0, 1) := dk_42 (dk_at dksX4_isForm_1 10 rfl rfl)
theorem dX4_isForm_34 : decode cX4_isForm 34 = .ok (.bipush 59, 2) := dk_16 59 (dk_at dksX4_isForm_1 11 rfl rfl)
theorem dX4_isForm_36 : decode cX4_isForm 36 = .ok (.bipush 59, 2) := dk_16 59 (dk_at dksX4_isForm_1 13 rfl rfl)
theorem dX4_isForm_38 : decode cX4_isForm 38 = .ok (.invokevirtual 219, 3) := dk_182 0 219 (dk_at dksX4_isForm_1 15 rfl rfl)
theorem dX4_isForm_41 : decode cX4_isForm 41 = .ok (.pop, 1) := dk_87 (dk_at dksX4_isForm_1 18 rfl rfl)
theorem dX4_isForm_42 : decode cX4_isForm 42 = .ok (.aload_n 0, 1) := dk_42 (dk_at dksX4_isForm_1 19 rfl rfl)
theorem dX4_isForm_43 : decode cX4_isForm 43 = .ok (.invokevirtual 226, 3) := dk_182 0 226 (dk_at dksX4_isForm_1 20 rfl rfl)
theorem dX4_isForm_46 : decode cX4_isForm 46 = .ok (.pop, 1) := dk_87 (dk_at dksX4_isForm_1 23 rfl rfl)
theorem dX4_isForm_47 : decode cX4_isForm 47 = .ok (.goto (-32), 3) := dk_167 255 224 (dk_at dksX4_isForm_2 0 rfl rfl)
theorem dX4_isForm_50 : decode cX4_isForm 50 = .ok (.aload_n 0, 1) := dk_42 (dk_at dksX4_isForm_2 3 rfl rfl)
theorem dX4_isForm_51 : decode cX4_isForm 51 = .ok (.getfield 210, 3) := dk_180 0 210 (dk_at dksX4_isForm_2 4 rfl rfl)
theorem dX4_isForm_54 : decode cX4_isForm 54 = .ok (.ifCond .ge 7, 3) := dk_156 0 7 (dk_at dksX4_isForm_2 7 rfl rfl)
theorem dX4_isForm_57 : decode cX4_isForm 57 = .ok (.iconst 1, 1) := dk_4 (dk_at dksX4_isForm_2 10 rfl rfl)
theorem dX4_isForm_58 : decode cX4_isForm 58 = .ok (.goto 4, 3) := dk_167 0 4 (dk_at dksX4_isForm_2 11 rfl rfl)
theorem dX4_isForm_61 : decode cX4_isForm 61 = .ok (.iconst 0, 1) := dk_3 (dk_at dksX4_isForm_2 14 rfl rfl)
theorem dX4_isForm_62 : decode cX4_isForm 62 = .ok (.ireturn, 1) := dk_172 (dk_at dksX4_isForm_2 15 rfl rfl)
abbrev cX4_line : ByteArray := prog_23_method_67_code
def yX4_line : MethodName := ⟨RX4, "line", "()I"⟩
def dkwX4_line_4 : List UInt8 := [160, 0, 7, 4, 167, 0, 4, 3, 182, 0, 222, 79, 132, 3, 1, 167, 255, 222, 27, 172]
abbrev dktX4_line_4 : List UInt8 := dkwX4_line_4 ++ []
def dkwX4_line_3 : List UInt8 := [4, 61, 3, 62, 29, 28, 162, 0, 35, 42, 180, 0, 48, 29, 42, 27, 16, 109, 160, 0, 12, 29, 4]
abbrev dktX4_line_3 : List UInt8 := dkwX4_line_3 ++ dktX4_line_4
def dkwX4_line_2 : List UInt8 := [182, 0, 219, 60, 27, 16, 97, 160, 0, 7, 8, 167, 0, 14, 27, 16, 109, 160, 0, 7, 5, 167, 0, 4]
abbrev dktX4_line_2 : List UInt8 := dkwX4_line_2 ++ dktX4_line_3
def dkwX4_line_1 : List UInt8 := [180, 0, 25, 42, 89, 180, 0, 213, 90, 4, 96, 181, 0, 213, 46, 167, 0, 11, 42, 16, 97, 16, 97]
abbrev dktX4_line_1 : List UInt8 := dkwX4_line_1 ++ dktX4_line_2
def dkwX4_line_0 : List UInt8 := [42, 16, 109, 16, 109, 182, 0, 216, 154, 0, 14, 42, 16, 115, 16, 115, 182, 0, 216, 153, 0, 22, 42]
abbrev dktX4_line_0 : List UInt8 := dkwX4_line_0 ++ dktX4_line_1
theorem dksX4_line_0 : cX4_line.data.toList.drop 0 = dktX4_line_0 := by decide +kernel
theorem dksX4_line_1 : cX4_line.data.toList.drop 23 = dktX4_line_1 := dk_seg dksX4_line_0 23 rfl rfl
theorem dksX4_line_2 : cX4_line.data.toList.drop 46 = dktX4_line_2 := dk_seg dksX4_line_1 23 rfl rfl
theorem dksX4_line_3 : cX4_line.data.toList.drop 70 = dktX4_line_3 := dk_seg dksX4_line_2 24 rfl rfl
theorem dksX4_line_4 : cX4_line.data.toList.drop 93 = dktX4_line_4 := dk_seg dksX4_line_3 23 rfl rfl
theorem dX4_line_0 : decode cX4_line 0 = .ok (.aload_n 0, 1) := dk_42 (dk_at dksX4_line_0 0 rfl rfl)
theorem dX4_line_1 : decode cX4_line 1 = .ok (.bipush 109, 2) := dk_16 109 (dk_at dksX4_line_0 1 rfl rfl)
theorem dX4_line_3 : decode cX4_line 3 = .ok (.bipush 109, 2) := dk_16 109 (dk_at dksX4_line_0 3 rfl rfl)
theorem dX4_line_5 : decode cX4_line 5 = .ok (.invokevirtual 216, 3) := dk_182 0 216 (dk_at dksX4_line_0 5 rfl rfl)
theorem dX4_line_8 : decode cX4_line 8 = .ok (.ifCond .ne 14, 3) := dk_154 0 14 (dk_at dksX4_line_0 8 rfl rfl)
theorem dX4_line_11 : decode cX4_line 11 = .ok (.aload_n 0, 1) := dk_42 (dk_at dksX4_line_0 11 rfl rfl)
theorem dX4_line_12 : decode cX4_line 12 = .ok (.bipush 115, 2) := dk_16 115 (dk_at dksX4_line_0 12 rfl rfl)
theorem dX4_line_14 : decode cX4_line 14 = .ok (.bipush 115, 2) := dk_16 115 (dk_at dksX4_line_0 14 rfl rfl)
theorem dX4_line_16 : decode cX4_line 16 = .ok (.invokevirtual 216, 3) := dk_182 0 216 (dk_at dksX4_line_0 16 rfl rfl)
theorem dX4_line_19 : decode cX4_line 19 = .ok (.ifCond .eq 22, 3) := dk_153 0 22 (dk_at dksX4_line_0 19 rfl rfl)
theorem dX4_line_22 : decode cX4_line 22 = .ok (.aload_n 0, 1) := dk_42 (dk_at dksX4_line_0 22 rfl rfl)
theorem dX4_line_23 : decode cX4_line 23 = .ok (.getfield 25, 3) := dk_180 0 25 (dk_at dksX4_line_1 0 rfl rfl)
theorem dX4_line_26 : decode cX4_line 26 = .ok (.aload_n 0, 1) := dk_42 (dk_at dksX4_line_1 3 rfl rfl)
theorem dX4_line_27 : decode cX4_line 27 = .ok (.dup, 1) := dk_89 (dk_at dksX4_line_1 4 rfl rfl)
theorem dX4_line_28 : decode cX4_line 28 = .ok (.getfield 213, 3) := dk_180 0 213 (dk_at dksX4_line_1 5 rfl rfl)
theorem dX4_line_31 : decode cX4_line 31 = .ok (.dup_x1, 1) := dk_90 (dk_at dksX4_line_1 8 rfl rfl)
theorem dX4_line_32 : decode cX4_line 32 = .ok (.iconst 1, 1) := dk_4 (dk_at dksX4_line_1 9 rfl rfl)
theorem dX4_line_33 : decode cX4_line 33 = .ok (.iadd, 1) := dk_96 (dk_at dksX4_line_1 10 rfl rfl)
theorem dX4_line_34 : decode cX4_line 34 = .ok (.putfield 213, 3) := dk_181 0 213 (dk_at dksX4_line_1 11 rfl rfl)
theorem dX4_line_37 : decode cX4_line 37 = .ok (.iaload, 1) := dk_46 (dk_at dksX4_line_1 14 rfl rfl)
theorem dX4_line_38 : decode cX4_line 38 = .ok (.goto 11, 3) := dk_167 0 11 (dk_at dksX4_line_1 15 rfl rfl)
theorem dX4_line_41 : decode cX4_line 41 = .ok (.aload_n 0, 1) := dk_42 (dk_at dksX4_line_1 18 rfl rfl)
theorem dX4_line_42 : decode cX4_line 42 = .ok (.bipush 97, 2) := dk_16 97 (dk_at dksX4_line_1 19 rfl rfl)
theorem dX4_line_44 : decode cX4_line 44 = .ok (.bipush 97, 2) := dk_16 97 (dk_at dksX4_line_1 21 rfl rfl)
theorem dX4_line_46 : decode cX4_line 46 = .ok (.invokevirtual 219, 3) := dk_182 0 219 (dk_at dksX4_line_2 0 rfl rfl)
theorem dX4_line_49 : decode cX4_line 49 = .ok (.istore_n 1, 1) := dk_60 (dk_at dksX4_line_2 3 rfl rfl)
theorem dX4_line_50 : decode cX4_line 50 = .ok (.iload_n 1, 1) := dk_27 (dk_at dksX4_line_2 4 rfl rfl)
theorem dX4_line_51 : decode cX4_line 51 = .ok (.bipush 97, 2) := dk_16 97 (dk_at dksX4_line_2 5 rfl rfl)
theorem dX4_line_53 : decode cX4_line 53 = .ok (.if_icmp .ne 7, 3) := dk_160 0 7 (dk_at dksX4_line_2 7 rfl rfl)
theorem dX4_line_56 : decode cX4_line 56 = .ok (.iconst 5, 1) := dk_8 (dk_at dksX4_line_2 10 rfl rfl)
theorem dX4_line_57 : decode cX4_line 57 = .ok (.goto 14, 3) := dk_167 0 14 (dk_at dksX4_line_2 11 rfl rfl)
theorem dX4_line_60 : decode cX4_line 60 = .ok (.iload_n 1, 1) := dk_27 (dk_at dksX4_line_2 14 rfl rfl)
theorem dX4_line_61 : decode cX4_line 61 = .ok (.bipush 109, 2) := dk_16 109 (dk_at dksX4_line_2 15 rfl rfl)
theorem dX4_line_63 : decode cX4_line 63 = .ok (.if_icmp .ne 7, 3) := dk_160 0 7 (dk_at dksX4_line_2 17 rfl rfl)
theorem dX4_line_66 : decode cX4_line 66 = .ok (.iconst 2, 1) := dk_5 (dk_at dksX4_line_2 20 rfl rfl)
theorem dX4_line_67 : decode cX4_line 67 = .ok (.goto 4, 3) := dk_167 0 4 (dk_at dksX4_line_2 21 rfl rfl)
theorem dX4_line_70 : decode cX4_line 70 = .ok (.iconst 1, 1) := dk_4 (dk_at dksX4_line_3 0 rfl rfl)
theorem dX4_line_71 : decode cX4_line 71 = .ok (.istore_n 2, 1) := dk_61 (dk_at dksX4_line_3 1 rfl rfl)
theorem dX4_line_72 : decode cX4_line 72 = .ok (.iconst 0, 1) := dk_3 (dk_at dksX4_line_3 2 rfl rfl)
theorem dX4_line_73 : decode cX4_line 73 = .ok (.istore_n 3, 1) := dk_62 (dk_at dksX4_line_3 3 rfl rfl)
theorem dX4_line_74 : decode cX4_line 74 = .ok (.iload_n 3, 1) := dk_29 (dk_at dksX4_line_3 4 rfl rfl)
theorem dX4_line_75 : decode cX4_line 75 = .ok (.iload_n 2, 1) := dk_28 (dk_at dksX4_line_3 5 rfl rfl)
theorem dX4_line_76 : decode cX4_line 76 = .ok (.if_icmp .ge 35, 3) := dk_162 0 35 (dk_at dksX4_line_3 6 rfl rfl)
theorem dX4_line_79 : decode cX4_line 79 = .ok (.aload_n 0, 1) := dk_42 (dk_at dksX4_line_3 9 rfl rfl)
theorem dX4_line_80 : decode cX4_line 80 = .ok (.getfield 48, 3) := dk_180 0 48 (dk_at dksX4_line_3 10 rfl rfl)
theorem dX4_line_83 : decode cX4_line 83 = .ok (.iload_n 3, 1) := dk_29 (dk_at dksX4_line_3 13 rfl rfl)
theorem dX4_line_84 : decode cX4_line 84 = .ok (.aload_n 0, 1) := dk_42 (dk_at dksX4_line_3 14 rfl rfl)
theorem dX4_line_85 : decode cX4_line 85 = .ok (.iload_n 1, 1) := dk_27 (dk_at dksX4_line_3 15 rfl rfl)
theorem dX4_line_86 : decode cX4_line 86 = .ok (.bipush 109, 2) := dk_16 109 (dk_at dksX4_line_3 16 rfl rfl)
theorem dX4_line_88 : decode cX4_line 88 = .ok (.if_icmp .ne 12, 3) := dk_160 0 12 (dk_at dksX4_line_3 18 rfl rfl)
theorem dX4_line_91 : decode cX4_line 91 = .ok (.iload_n 3, 1) := dk_29 (dk_at dksX4_line_3 21 rfl rfl)
theorem dX4_line_92 : decode cX4_line 92 = .ok (.iconst 1, 1) := dk_4 (dk_at dksX4_line_3 22 rfl rfl)
theorem dX4_line_93 : decode cX4_line 93 = .ok (.if_icmp .ne 7, 3) := dk_160 0 7 (dk_at dksX4_line_4 0 rfl rfl)
theorem dX4_line_96 : decode cX4_line 96 = .ok (.iconst 1, 1) := dk_4 (dk_at dksX4_line_4 3 rfl rfl)
theorem dX4_line_97 : decode cX4_line 97 = .ok (.goto 4, 3) := dk_167 0 4 (dk_at dksX4_line_4 4 rfl rfl)
theorem dX4_line_100 : decode cX4_line 100 = .ok (.iconst 0, 1) := dk_3 (dk_at dksX4_line_4 7 rfl rfl)
theorem dX4_line_101 : decode cX4_line 101 = .ok (.invokevirtual 222, 3) := dk_182 0 222 (dk_at dksX4_line_4 8 rfl rfl)
theorem dX4_line_104 : decode cX4_line 104 = .ok (.iastore, 1) := dk_79 (dk_at dksX4_line_4 11 rfl rfl)
theorem dX4_line_105 : decode cX4_line 105 = .ok (.iinc 3 1, 3) := dk_132 3 1 (dk_at dksX4_line_4 12 rfl rfl)
theorem dX4_line_108 : decode cX4_line 108 = .ok (.goto (-34), 3) := dk_167 255 222 (dk_at dksX4_line_4 15 rfl rfl)
theorem dX4_line_111 : decode cX4_line 111 = .ok (.iload_n 1, 1) := dk_27 (dk_at dksX4_line_4 18 rfl rfl)
theorem dX4_line_112 : decode cX4_line 112 = .ok (.ireturn, 1) := dk_172 (dk_at dksX4_line_4 19 rfl rfl)
abbrev cX4_sees : ByteArray := prog_23_method_64_code
def yX4_sees : MethodName := ⟨RX4, "sees", "(II)Z"⟩
def dkwX4_sees_1 : List UInt8 := [180, 0, 213, 46, 27, 28, 184, 0, 51, 153, 0, 7, 4, 167, 0, 4, 3, 172]
abbrev dktX4_sees_1 : List UInt8 := dkwX4_sees_1 ++ []
def dkwX4_sees_0 : List UInt8 := [42, 180, 0, 210, 156, 0, 35, 42, 180, 0, 213, 42, 180, 0, 207, 162, 0, 24, 42, 180, 0, 25, 42]
abbrev dktX4_sees_0 : List UInt8 := dkwX4_sees_0 ++ dktX4_sees_1
theorem dksX4_sees_0 : cX4_sees.data.toList.drop 0 = dktX4_sees_0 := by decide +kernel
theorem dksX4_sees_1 : cX4_sees.data.toList.drop 23 = dktX4_sees_1 := dk_seg dksX4_sees_0 23 rfl rfl
theorem dX4_sees_0 : decode cX4_sees 0 = .ok (.aload_n 0, 1) := dk_42 (dk_at dksX4_sees_0 0 rfl rfl)
theorem dX4_sees_1 : decode cX4_sees 1 = .ok (.getfield 210, 3) := dk_180 0 210 (dk_at dksX4_sees_0 1 rfl rfl)
theorem dX4_sees_4 : decode cX4_sees 4 = .ok (.ifCond .ge 35, 3) := dk_156 0 35 (dk_at dksX4_sees_0 4 rfl rfl)
theorem dX4_sees_7 : decode cX4_sees 7 = .ok (.aload_n 0, 1) := dk_42 (dk_at dksX4_sees_0 7 rfl rfl)
theorem dX4_sees_8 : decode cX4_sees 8 = .ok (.getfield 213, 3) := dk_180 0 213 (dk_at dksX4_sees_0 8 rfl rfl)
theorem dX4_sees_11 : decode cX4_sees 11 = .ok (.aload_n 0, 1) := dk_42 (dk_at dksX4_sees_0 11 rfl rfl)
theorem dX4_sees_12 : decode cX4_sees 12 = .ok (.getfield 207, 3) := dk_180 0 207 (dk_at dksX4_sees_0 12 rfl rfl)
theorem dX4_sees_15 : decode cX4_sees 15 = .ok (.if_icmp .ge 24, 3) := dk_162 0 24 (dk_at dksX4_sees_0 15 rfl rfl)
theorem dX4_sees_18 : decode cX4_sees 18 = .ok (.aload_n 0, 1) := dk_42 (dk_at dksX4_sees_0 18 rfl rfl)
theorem dX4_sees_19 : decode cX4_sees 19 = .ok (.getfield 25, 3) := dk_180 0 25 (dk_at dksX4_sees_0 19 rfl rfl)
theorem dX4_sees_22 : decode cX4_sees 22 = .ok (.aload_n 0, 1) := dk_42 (dk_at dksX4_sees_0 22 rfl rfl)
theorem dX4_sees_23 : decode cX4_sees 23 = .ok (.getfield 213, 3) := dk_180 0 213 (dk_at dksX4_sees_1 0 rfl rfl)
theorem dX4_sees_26 : decode cX4_sees 26 = .ok (.iaload, 1) := dk_46 (dk_at dksX4_sees_1 3 rfl rfl)
theorem dX4_sees_27 : decode cX4_sees 27 = .ok (.iload_n 1, 1) := dk_27 (dk_at dksX4_sees_1 4 rfl rfl)
theorem dX4_sees_28 : decode cX4_sees 28 = .ok (.iload_n 2, 1) := dk_28 (dk_at dksX4_sees_1 5 rfl rfl)
theorem dX4_sees_29 : decode cX4_sees 29 = .ok (.invokestatic 51, 3) := dk_184 0 51 (dk_at dksX4_sees_1 6 rfl rfl)
theorem dX4_sees_32 : decode cX4_sees 32 = .ok (.ifCond .eq 7, 3) := dk_153 0 7 (dk_at dksX4_sees_1 9 rfl rfl)
theorem dX4_sees_35 : decode cX4_sees 35 = .ok (.iconst 1, 1) := dk_4 (dk_at dksX4_sees_1 12 rfl rfl)
theorem dX4_sees_36 : decode cX4_sees 36 = .ok (.goto 4, 3) := dk_167 0 4 (dk_at dksX4_sees_1 13 rfl rfl)
theorem dX4_sees_39 : decode cX4_sees 39 = .ok (.iconst 0, 1) := dk_3 (dk_at dksX4_sees_1 16 rfl rfl)
theorem dX4_sees_40 : decode cX4_sees 40 = .ok (.ireturn, 1) := dk_172 (dk_at dksX4_sees_1 17 rfl rfl)
abbrev cX4_must : ByteArray := prog_23_method_65_code
def yX4_must : MethodName := ⟨RX4, "must", "(II)I"⟩
def dkwX4_must_2 : List UInt8 := [46, 172]
abbrev dktX4_must_2 : List UInt8 := dkwX4_must_2 ++ []
def dkwX4_must_1 : List UInt8 := [42, 180, 0, 210, 181, 0, 210, 27, 172, 42, 180, 0, 25, 42, 89, 180, 0, 213, 90, 4, 96, 181, 0, 213]
abbrev dktX4_must_1 : List UInt8 := dkwX4_must_1 ++ dktX4_must_2
def dkwX4_must_0 : List UInt8 := [42, 27, 28, 182, 0, 216, 154, 0, 27, 42, 42, 180, 0, 210, 156, 0, 10, 42, 180, 0, 213, 167, 0, 7]
abbrev dktX4_must_0 : List UInt8 := dkwX4_must_0 ++ dktX4_must_1
theorem dksX4_must_0 : cX4_must.data.toList.drop 0 = dktX4_must_0 := by decide +kernel
theorem dksX4_must_1 : cX4_must.data.toList.drop 24 = dktX4_must_1 := dk_seg dksX4_must_0 24 rfl rfl
theorem dksX4_must_2 : cX4_must.data.toList.drop 48 = dktX4_must_2 := dk_seg dksX4_must_1 24 rfl rfl
theorem dX4_must_0 : decode cX4_must 0 = .ok (.aload_n 0, 1) := dk_42 (dk_at dksX4_must_0 0 rfl rfl)
theorem dX4_must_1 : decode cX4_must 1 = .ok (.iload_n 1, 1) := dk_27 (dk_at dksX4_must_0 1 rfl rfl)
theorem dX4_must_2 : decode cX4_must 2 = .ok (.iload_n 2, 1) := dk_28 (dk_at dksX4_must_0 2 rfl rfl)
theorem dX4_must_3 : decode cX4_must 3 = .ok (.invokevirtual 216, 3) := dk_182 0 216 (dk_at dksX4_must_0 3 rfl rfl)
theorem dX4_must_6 : decode cX4_must 6 = .ok (.ifCond .ne 27, 3) := dk_154 0 27 (dk_at dksX4_must_0 6 rfl rfl)
theorem dX4_must_9 : decode cX4_must 9 = .ok (.aload_n 0, 1) := dk_42 (dk_at dksX4_must_0 9 rfl rfl)
theorem dX4_must_10 : decode cX4_must 10 = .ok (.aload_n 0, 1) := dk_42 (dk_at dksX4_must_0 10 rfl rfl)
theorem dX4_must_11 : decode cX4_must 11 = .ok (.getfield 210, 3) := dk_180 0 210 (dk_at dksX4_must_0 11 rfl rfl)
theorem dX4_must_14 : decode cX4_must 14 = .ok (.ifCond .ge 10, 3) := dk_156 0 10 (dk_at dksX4_must_0 14 rfl rfl)
theorem dX4_must_17 : decode cX4_must 17 = .ok (.aload_n 0, 1) := dk_42 (dk_at dksX4_must_0 17 rfl rfl)
theorem dX4_must_18 : decode cX4_must 18 = .ok (.getfield 213, 3) := dk_180 0 213 (dk_at dksX4_must_0 18 rfl rfl)
theorem dX4_must_21 : decode cX4_must 21 = .ok (.goto 7, 3) := dk_167 0 7 (dk_at dksX4_must_0 21 rfl rfl)
theorem dX4_must_24 : decode cX4_must 24 = .ok (.aload_n 0, 1) := dk_42 (dk_at dksX4_must_1 0 rfl rfl)
theorem dX4_must_25 : decode cX4_must 25 = .ok (.getfield 210, 3) := dk_180 0 210 (dk_at dksX4_must_1 1 rfl rfl)
theorem dX4_must_28 : decode cX4_must 28 = .ok (.putfield 210, 3) := dk_181 0 210 (dk_at dksX4_must_1 4 rfl rfl)
theorem dX4_must_31 : decode cX4_must 31 = .ok (.iload_n 1, 1) := dk_27 (dk_at dksX4_must_1 7 rfl rfl)
theorem dX4_must_32 : decode cX4_must 32 = .ok (.ireturn, 1) := dk_172 (dk_at dksX4_must_1 8 rfl rfl)
theorem dX4_must_33 : decode cX4_must 33 = .ok (.aload_n 0, 1) := dk_42 (dk_at dksX4_must_1 9 rfl rfl)
theorem dX4_must_34 : decode cX4_must 34 = .ok (.getfield 25, 3) := dk_180 0 25 (dk_at dksX4_must_1 10 rfl rfl)
theorem dX4_must_37 : decode cX4_must 37 = .ok (.aload_n 0, 1) := dk_42 (dk_at dksX4_must_1 13 rfl rfl)
theorem dX4_must_38 : decode cX4_must 38 = .ok (.dup, 1) := dk_89 (dk_at dksX4_must_1 14 rfl rfl)
theorem dX4_must_39 : decode cX4_must 39 = .ok (.getfield 213, 3) := dk_180 0 213 (dk_at dksX4_must_1 15 rfl rfl)
theorem dX4_must_42 : decode cX4_must 42 = .ok (.dup_x1, 1) := dk_90 (dk_at dksX4_must_1 18 rfl rfl)
theorem dX4_must_43 : decode cX4_must 43 = .ok (.iconst 1, 1) := dk_4 (dk_at dksX4_must_1 19 rfl rfl)
theorem dX4_must_44 : decode cX4_must 44 = .ok (.iadd, 1) := dk_96 (dk_at dksX4_must_1 20 rfl rfl)
theorem dX4_must_45 : decode cX4_must 45 = .ok (.putfield 213, 3) := dk_181 0 213 (dk_at dksX4_must_1 21 rfl rfl)
theorem dX4_must_48 : decode cX4_must 48 = .ok (.iaload, 1) := dk_46 (dk_at dksX4_must_2 0 rfl rfl)
theorem dX4_must_49 : decode cX4_must 49 = .ok (.ireturn, 1) := dk_172 (dk_at dksX4_must_2 1 rfl rfl)
abbrev cX4_number : ByteArray := prog_23_method_66_code
def yX4_number : MethodName := ⟨RX4, "number", "(Z)I"⟩
def dkwX4_number_4 : List UInt8 := [153, 0, 8, 29, 116, 167, 0, 4, 29, 172]
abbrev dktX4_number_4 : List UInt8 := dkwX4_number_4 ++ []
def dkwX4_number_3 : List UInt8 := [16, 10, 29, 104, 42, 16, 48, 16, 57, 182, 0, 219, 96, 16, 48, 100, 167, 0, 4, 29, 62, 28]
abbrev dktX4_number_3 : List UInt8 := dkwX4_number_3 ++ dktX4_number_4
def dkwX4_number_2 : List UInt8 := [42, 16, 48, 16, 57, 182, 0, 219, 16, 48, 100, 62, 42, 16, 48, 16, 57, 182, 0, 216, 153, 0, 22]
abbrev dktX4_number_2 : List UInt8 := dkwX4_number_2 ++ dktX4_number_3
def dkwX4_number_1 : List UInt8 := [4, 167, 0, 4, 3, 61, 42, 89, 180, 0, 213, 28, 153, 0, 7, 4, 167, 0, 4, 3, 96, 181, 0, 213]
abbrev dktX4_number_1 : List UInt8 := dkwX4_number_1 ++ dktX4_number_2
def dkwX4_number_0 : List UInt8 := [42, 16, 32, 16, 32, 182, 0, 219, 87, 27, 153, 0, 18, 42, 16, 45, 16, 45, 182, 0, 216, 153, 0, 7]
abbrev dktX4_number_0 : List UInt8 := dkwX4_number_0 ++ dktX4_number_1
theorem dksX4_number_0 : cX4_number.data.toList.drop 0 = dktX4_number_0 := by decide +kernel
theorem dksX4_number_1 : cX4_number.data.toList.drop 24 = dktX4_number_1 := dk_seg dksX4_number_0 24 rfl rfl
theorem dksX4_number_2 : cX4_number.data.toList.drop 48 = dktX4_number_2 := dk_seg dksX4_number_1 24 rfl rfl
theorem dksX4_number_3 : cX4_number.data.toList.drop 71 = dktX4_number_3 := dk_seg dksX4_number_2 23 rfl rfl
theorem dksX4_number_4 : cX4_number.data.toList.drop 93 = dktX4_number_4 := dk_seg dksX4_number_3 22 rfl rfl
theorem dX4_number_0 : decode cX4_number 0 = .ok (.aload_n 0, 1) := dk_42 (dk_at dksX4_number_0 0 rfl rfl)
theorem dX4_number_1 : decode cX4_number 1 = .ok (.bipush 32, 2) := dk_16 32 (dk_at dksX4_number_0 1 rfl rfl)
theorem dX4_number_3 : decode cX4_number 3 = .ok (.bipush 32, 2) := dk_16 32 (dk_at dksX4_number_0 3 rfl rfl)
theorem dX4_number_5 : decode cX4_number 5 = .ok (.invokevirtual 219, 3) := dk_182 0 219 (dk_at dksX4_number_0 5 rfl rfl)
theorem dX4_number_8 : decode cX4_number 8 = .ok (.pop, 1) := dk_87 (dk_at dksX4_number_0 8 rfl rfl)
theorem dX4_number_9 : decode cX4_number 9 = .ok (.iload_n 1, 1) := dk_27 (dk_at dksX4_number_0 9 rfl rfl)
theorem dX4_number_10 : decode cX4_number 10 = .ok (.ifCond .eq 18, 3) := dk_153 0 18 (dk_at dksX4_number_0 10 rfl rfl)
theorem dX4_number_13 : decode cX4_number 13 = .ok (.aload_n 0, 1) := dk_42 (dk_at dksX4_number_0 13 rfl rfl)
theorem dX4_number_14 : decode cX4_number 14 = .ok (.bipush 45, 2) := dk_16 45 (dk_at dksX4_number_0 14 rfl rfl)
theorem dX4_number_16 : decode cX4_number 16 = .ok (.bipush 45, 2) := dk_16 45 (dk_at dksX4_number_0 16 rfl rfl)
theorem dX4_number_18 : decode cX4_number 18 = .ok (.invokevirtual 216, 3) := dk_182 0 216 (dk_at dksX4_number_0 18 rfl rfl)
theorem dX4_number_21 : decode cX4_number 21 = .ok (.ifCond .eq 7, 3) := dk_153 0 7 (dk_at dksX4_number_0 21 rfl rfl)
theorem dX4_number_24 : decode cX4_number 24 = .ok (.iconst 1, 1) := dk_4 (dk_at dksX4_number_1 0 rfl rfl)
theorem dX4_number_25 : decode cX4_number 25 = .ok (.goto 4, 3) := dk_167 0 4 (dk_at dksX4_number_1 1 rfl rfl)
theorem dX4_number_28 : decode cX4_number 28 = .ok (.iconst 0, 1) := dk_3 (dk_at dksX4_number_1 4 rfl rfl)
theorem dX4_number_29 : decode cX4_number 29 = .ok (.istore_n 2, 1) := dk_61 (dk_at dksX4_number_1 5 rfl rfl)
theorem dX4_number_30 : decode cX4_number 30 = .ok (.aload_n 0, 1) := dk_42 (dk_at dksX4_number_1 6 rfl rfl)
theorem dX4_number_31 : decode cX4_number 31 = .ok (.dup, 1) := dk_89 (dk_at dksX4_number_1 7 rfl rfl)
theorem dX4_number_32 : decode cX4_number 32 = .ok (.getfield 213, 3) := dk_180 0 213 (dk_at dksX4_number_1 8 rfl rfl)
theorem dX4_number_35 : decode cX4_number 35 = .ok (.iload_n 2, 1) := dk_28 (dk_at dksX4_number_1 11 rfl rfl)
theorem dX4_number_36 : decode cX4_number 36 = .ok (.ifCond .eq 7, 3) := dk_153 0 7 (dk_at dksX4_number_1 12 rfl rfl)
theorem dX4_number_39 : decode cX4_number 39 = .ok (.iconst 1, 1) := dk_4 (dk_at dksX4_number_1 15 rfl rfl)
theorem dX4_number_40 : decode cX4_number 40 = .ok (.goto 4, 3) := dk_167 0 4 (dk_at dksX4_number_1 16 rfl rfl)
theorem dX4_number_43 : decode cX4_number 43 = .ok (.iconst 0, 1) := dk_3 (dk_at dksX4_number_1 19 rfl rfl)
theorem dX4_number_44 : decode cX4_number 44 = .ok (.iadd, 1) := dk_96 (dk_at dksX4_number_1 20 rfl rfl)
theorem dX4_number_45 : decode cX4_number 45 = .ok (.putfield 213, 3) := dk_181 0 213 (dk_at dksX4_number_1 21 rfl rfl)
theorem dX4_number_48 : decode cX4_number 48 = .ok (.aload_n 0, 1) := dk_42 (dk_at dksX4_number_2 0 rfl rfl)
theorem dX4_number_49 : decode cX4_number 49 = .ok (.bipush 48, 2) := dk_16 48 (dk_at dksX4_number_2 1 rfl rfl)
theorem dX4_number_51 : decode cX4_number 51 = .ok (.bipush 57, 2) := dk_16 57 (dk_at dksX4_number_2 3 rfl rfl)
theorem dX4_number_53 : decode cX4_number 53 = .ok (.invokevirtual 219, 3) := dk_182 0 219 (dk_at dksX4_number_2 5 rfl rfl)
theorem dX4_number_56 : decode cX4_number 56 = .ok (.bipush 48, 2) := dk_16 48 (dk_at dksX4_number_2 8 rfl rfl)
theorem dX4_number_58 : decode cX4_number 58 = .ok (.isub, 1) := dk_100 (dk_at dksX4_number_2 10 rfl rfl)
theorem dX4_number_59 : decode cX4_number 59 = .ok (.istore_n 3, 1) := dk_62 (dk_at dksX4_number_2 11 rfl rfl)
theorem dX4_number_60 : decode cX4_number 60 = .ok (.aload_n 0, 1) := dk_42 (dk_at dksX4_number_2 12 rfl rfl)
theorem dX4_number_61 : decode cX4_number 61 = .ok (.bipush 48, 2) := dk_16 48 (dk_at dksX4_number_2 13 rfl rfl)
theorem dX4_number_63 : decode cX4_number 63 = .ok (.bipush 57, 2) := dk_16 57 (dk_at dksX4_number_2 15 rfl rfl)
theorem dX4_number_65 : decode cX4_number 65 = .ok (.invokevirtual 216, 3) := dk_182 0 216 (dk_at dksX4_number_2 17 rfl rfl)
theorem dX4_number_68 : decode cX4_number 68 = .ok (.ifCond .eq 22, 3) := dk_153 0 22 (dk_at dksX4_number_2 20 rfl rfl)
theorem dX4_number_71 : decode cX4_number 71 = .ok (.bipush 10, 2) := dk_16 10 (dk_at dksX4_number_3 0 rfl rfl)
theorem dX4_number_73 : decode cX4_number 73 = .ok (.iload_n 3, 1) := dk_29 (dk_at dksX4_number_3 2 rfl rfl)
theorem dX4_number_74 : decode cX4_number 74 = .ok (.imul, 1) := dk_104 (dk_at dksX4_number_3 3 rfl rfl)
theorem dX4_number_75 : decode cX4_number 75 = .ok (.aload_n 0, 1) := dk_42 (dk_at dksX4_number_3 4 rfl rfl)
theorem dX4_number_76 : decode cX4_number 76 = .ok (.bipush 48, 2) := dk_16 48 (dk_at dksX4_number_3 5 rfl rfl)
theorem dX4_number_78 : decode cX4_number 78 = .ok (.bipush 57, 2) := dk_16 57 (dk_at dksX4_number_3 7 rfl rfl)
theorem dX4_number_80 : decode cX4_number 80 = .ok (.invokevirtual 219, 3) := dk_182 0 219 (dk_at dksX4_number_3 9 rfl rfl)
theorem dX4_number_83 : decode cX4_number 83 = .ok (.iadd, 1) := dk_96 (dk_at dksX4_number_3 12 rfl rfl)
theorem dX4_number_84 : decode cX4_number 84 = .ok (.bipush 48, 2) := dk_16 48 (dk_at dksX4_number_3 13 rfl rfl)
theorem dX4_number_86 : decode cX4_number 86 = .ok (.isub, 1) := dk_100 (dk_at dksX4_number_3 15 rfl rfl)
theorem dX4_number_87 : decode cX4_number 87 = .ok (.goto 4, 3) := dk_167 0 4 (dk_at dksX4_number_3 16 rfl rfl)
theorem dX4_number_90 : decode cX4_number 90 = .ok (.iload_n 3, 1) := dk_29 (dk_at dksX4_number_3 19 rfl rfl)
theorem dX4_number_91 : decode cX4_number 91 = .ok (.istore_n 3, 1) := dk_62 (dk_at dksX4_number_3 20 rfl rfl)
theorem dX4_number_92 : decode cX4_number 92 = .ok (.iload_n 2, 1) := dk_28 (dk_at dksX4_number_3 21 rfl rfl)
theorem dX4_number_93 : decode cX4_number 93 = .ok (.ifCond .eq 8, 3) := dk_153 0 8 (dk_at dksX4_number_4 0 rfl rfl)
theorem dX4_number_96 : decode cX4_number 96 = .ok (.iload_n 3, 1) := dk_29 (dk_at dksX4_number_4 3 rfl rfl)
theorem dX4_number_97 : decode cX4_number 97 = .ok (.ineg, 1) := dk_116 (dk_at dksX4_number_4 4 rfl rfl)
theorem dX4_number_98 : decode cX4_number 98 = .ok (.goto 4, 3) := dk_167 0 4 (dk_at dksX4_number_4 5 rfl rfl)
theorem dX4_number_101 : decode cX4_number 101 = .ok (.iload_n 3, 1) := dk_29 (dk_at dksX4_number_4 8 rfl rfl)
theorem dX4_number_102 : decode cX4_number 102 = .ok (.ireturn, 1) := dk_172 (dk_at dksX4_number_4 9 rfl rfl)
abbrev cX4_does : ByteArray := prog_23_method_69_code
def yX4_does : MethodName := ⟨RX4, "does", "(I)Z"⟩
def dkwX4_does_8 : List UInt8 := [182, 0, 232, 155, 0, 7, 4, 167, 0, 4, 3, 172]
abbrev dktX4_does_8 : List UInt8 := dkwX4_does_8 ++ []
def dkwX4_does_7 : List UInt8 := [182, 0, 84, 87, 28, 172, 42, 180, 0, 48, 3, 46, 158, 0, 20, 42, 42, 180, 0, 48, 3, 46]
abbrev dktX4_does_7 : List UInt8 := dkwX4_does_7 ++ dktX4_does_8
def dkwX4_does_6 : List UInt8 := [46, 182, 0, 167, 61, 28, 153, 0, 21, 42, 42, 180, 0, 48, 3, 46, 2, 42, 180, 0, 48, 4, 46]
abbrev dktX4_does_6 : List UInt8 := dkwX4_does_6 ++ dktX4_does_7
def dkwX4_does_5 : List UInt8 := [182, 0, 229, 155, 0, 7, 4, 167, 0, 4, 3, 172, 27, 16, 109, 160, 0, 38, 42, 42, 180, 0, 48, 3]
abbrev dktX4_does_5 : List UInt8 := dkwX4_does_5 ++ dktX4_does_6
def dkwX4_does_4 : List UInt8 := [42, 180, 0, 48, 5, 46, 104, 16, 100, 42, 180, 0, 48, 6, 46, 104, 96, 42, 180, 0, 48, 7, 46, 96]
abbrev dktX4_does_4 : List UInt8 := dkwX4_does_4 ++ dktX4_does_5
def dkwX4_does_3 : List UInt8 := [153, 0, 7, 4, 167, 0, 4, 3, 62, 29, 153, 0, 48, 42, 28, 42, 180, 0, 48, 4, 46, 17, 3, 232]
abbrev dktX4_does_3 : List UInt8 := dkwX4_does_3 ++ dktX4_does_4
def dkwX4_does_2 : List UInt8 := [6, 46, 3, 16, 9, 184, 0, 51, 153, 0, 22, 42, 180, 0, 48, 7, 46, 4, 16, 50, 184, 0, 51]
abbrev dktX4_does_2 : List UInt8 := dkwX4_does_2 ++ dktX4_does_3
def dkwX4_does_1 : List UInt8 := [180, 0, 48, 3, 46, 61, 42, 180, 0, 48, 5, 46, 3, 5, 184, 0, 51, 153, 0, 37, 42, 180, 0, 48]
abbrev dktX4_does_1 : List UInt8 := dkwX4_does_1 ++ dktX4_does_2
def dkwX4_does_0 : List UInt8 := [27, 16, 97, 160, 0, 126, 42, 180, 0, 48, 3, 46, 16, 99, 160, 0, 7, 2, 167, 0, 9, 42]
abbrev dktX4_does_0 : List UInt8 := dkwX4_does_0 ++ dktX4_does_1
theorem dksX4_does_0 : cX4_does.data.toList.drop 0 = dktX4_does_0 := by decide +kernel
theorem dksX4_does_1 : cX4_does.data.toList.drop 22 = dktX4_does_1 := dk_seg dksX4_does_0 22 rfl rfl
theorem dksX4_does_2 : cX4_does.data.toList.drop 46 = dktX4_does_2 := dk_seg dksX4_does_1 24 rfl rfl
theorem dksX4_does_3 : cX4_does.data.toList.drop 69 = dktX4_does_3 := dk_seg dksX4_does_2 23 rfl rfl
theorem dksX4_does_4 : cX4_does.data.toList.drop 93 = dktX4_does_4 := dk_seg dksX4_does_3 24 rfl rfl
theorem dksX4_does_5 : cX4_does.data.toList.drop 117 = dktX4_does_5 := dk_seg dksX4_does_4 24 rfl rfl
theorem dksX4_does_6 : cX4_does.data.toList.drop 141 = dktX4_does_6 := dk_seg dksX4_does_5 24 rfl rfl
theorem dksX4_does_7 : cX4_does.data.toList.drop 164 = dktX4_does_7 := dk_seg dksX4_does_6 23 rfl rfl
theorem dksX4_does_8 : cX4_does.data.toList.drop 186 = dktX4_does_8 := dk_seg dksX4_does_7 22 rfl rfl
theorem dX4_does_0 : decode cX4_does 0 = .ok (.iload_n 1, 1) := dk_27 (dk_at dksX4_does_0 0 rfl rfl)
theorem dX4_does_1 : decode cX4_does 1 = .ok (.bipush 97, 2) := dk_16 97 (dk_at dksX4_does_0 1 rfl rfl)
theorem dX4_does_3 : decode cX4_does 3 = .ok (.if_icmp .ne 126, 3) := dk_160 0 126 (dk_at dksX4_does_0 3 rfl rfl)
theorem dX4_does_6 : decode cX4_does 6 = .ok (.aload_n 0, 1) := dk_42 (dk_at dksX4_does_0 6 rfl rfl)
theorem dX4_does_7 : decode cX4_does 7 = .ok (.getfield 48, 3) := dk_180 0 48 (dk_at dksX4_does_0 7 rfl rfl)
theorem dX4_does_10 : decode cX4_does 10 = .ok (.iconst 0, 1) := dk_3 (dk_at dksX4_does_0 10 rfl rfl)
theorem dX4_does_11 : decode cX4_does 11 = .ok (.iaload, 1) := dk_46 (dk_at dksX4_does_0 11 rfl rfl)
theorem dX4_does_12 : decode cX4_does 12 = .ok (.bipush 99, 2) := dk_16 99 (dk_at dksX4_does_0 12 rfl rfl)
theorem dX4_does_14 : decode cX4_does 14 = .ok (.if_icmp .ne 7, 3) := dk_160 0 7 (dk_at dksX4_does_0 14 rfl rfl)
theorem dX4_does_17 : decode cX4_does 17 = .ok (.iconst (-1), 1) := dk_2 (dk_at dksX4_does_0 17 rfl rfl)
theorem dX4_does_18 : decode cX4_does 18 = .ok (.goto 9, 3) := dk_167 0 9 (dk_at dksX4_does_0 18 rfl rfl)
theorem dX4_does_21 : decode cX4_does 21 = .ok (.aload_n 0, 1) := dk_42 (dk_at dksX4_does_0 21 rfl rfl)
theorem dX4_does_22 : decode cX4_does 22 = .ok (.getfield 48, 3) := dk_180 0 48 (dk_at dksX4_does_1 0 rfl rfl)
theorem dX4_does_25 : decode cX4_does 25 = .ok (.iconst 0, 1) := dk_3 (dk_at dksX4_does_1 3 rfl rfl)
theorem dX4_does_26 : decode cX4_does 26 = .ok (.iaload, 1) := dk_46 (dk_at dksX4_does_1 4 rfl rfl)
theorem dX4_does_27 : decode cX4_does 27 = .ok (.istore_n 2, 1) := dk_61 (dk_at dksX4_does_1 5 rfl rfl)
theorem dX4_does_28 : decode cX4_does 28 = .ok (.aload_n 0, 1) := dk_42 (dk_at dksX4_does_1 6 rfl rfl)
theorem dX4_does_29 : decode cX4_does 29 = .ok (.getfield 48, 3) := dk_180 0 48 (dk_at dksX4_does_1 7 rfl rfl)
theorem dX4_does_32 : decode cX4_does 32 = .ok (.iconst 2, 1) := dk_5 (dk_at dksX4_does_1 10 rfl rfl)
theorem dX4_does_33 : decode cX4_does 33 = .ok (.iaload, 1) := dk_46 (dk_at dksX4_does_1 11 rfl rfl)
theorem dX4_does_34 : decode cX4_does 34 = .ok (.iconst 0, 1) := dk_3 (dk_at dksX4_does_1 12 rfl rfl)
theorem dX4_does_35 : decode cX4_does 35 = .ok (.iconst 2, 1) := dk_5 (dk_at dksX4_does_1 13 rfl rfl)
theorem dX4_does_36 : decode cX4_does 36 = .ok (.invokestatic 51, 3) := dk_184 0 51 (dk_at dksX4_does_1 14 rfl rfl)
theorem dX4_does_39 : decode cX4_does 39 = .ok (.ifCond .eq 37, 3) := dk_153 0 37 (dk_at dksX4_does_1 17 rfl rfl)
theorem dX4_does_42 : decode cX4_does 42 = .ok (.aload_n 0, 1) := dk_42 (dk_at dksX4_does_1 20 rfl rfl)
theorem dX4_does_43 : decode cX4_does 43 = .ok (.getfield 48, 3) := dk_180 0 48 (dk_at dksX4_does_1 21 rfl rfl)
theorem dX4_does_46 : decode cX4_does 46 = .ok (.iconst 3, 1) := dk_6 (dk_at dksX4_does_2 0 rfl rfl)
theorem dX4_does_47 : decode cX4_does 47 = .ok (.iaload, 1) := dk_46 (dk_at dksX4_does_2 1 rfl rfl)
theorem dX4_does_48 : decode cX4_does 48 = .ok (.iconst 0, 1) := dk_3 (dk_at dksX4_does_2 2 rfl rfl)
theorem dX4_does_49 : decode cX4_does 49 = .ok (.bipush 9, 2) := dk_16 9 (dk_at dksX4_does_2 3 rfl rfl)
theorem dX4_does_51 : decode cX4_does 51 = .ok (.invokestatic 51, 3) := dk_184 0 51 (dk_at dksX4_does_2 5 rfl rfl)
theorem dX4_does_54 : decode cX4_does 54 = .ok (.ifCond .eq 22, 3) := dk_153 0 22 (dk_at dksX4_does_2 8 rfl rfl)
theorem dX4_does_57 : decode cX4_does 57 = .ok (.aload_n 0, 1) := dk_42 (dk_at dksX4_does_2 11 rfl rfl)
theorem dX4_does_58 : decode cX4_does 58 = .ok (.getfield 48, 3) := dk_180 0 48 (dk_at dksX4_does_2 12 rfl rfl)
theorem dX4_does_61 : decode cX4_does 61 = .ok (.iconst 4, 1) := dk_7 (dk_at dksX4_does_2 15 rfl rfl)
theorem dX4_does_62 : decode cX4_does 62 = .ok (.iaload, 1) := dk_46 (dk_at dksX4_does_2 16 rfl rfl)
theorem dX4_does_63 : decode cX4_does 63 = .ok (.iconst 1, 1) := dk_4 (dk_at dksX4_does_2 17 rfl rfl)
theorem dX4_does_64 : decode cX4_does 64 = .ok (.bipush 50, 2) := dk_16 50 (dk_at dksX4_does_2 18 rfl rfl)
theorem dX4_does_66 : decode cX4_does 66 = .ok (.invokestatic 51, 3) := dk_184 0 51 (dk_at dksX4_does_2 20 rfl rfl)
theorem dX4_does_69 : decode cX4_does 69 = .ok (.ifCond .eq 7, 3) := dk_153 0 7 (dk_at dksX4_does_3 0 rfl rfl)
theorem dX4_does_72 : decode cX4_does 72 = .ok (.iconst 1, 1) := dk_4 (dk_at dksX4_does_3 3 rfl rfl)
theorem dX4_does_73 : decode cX4_does 73 = .ok (.goto 4, 3) := dk_167 0 4 (dk_at dksX4_does_3 4 rfl rfl)
theorem dX4_does_76 : decode cX4_does 76 = .ok (.iconst 0, 1) := dk_3 (dk_at dksX4_does_3 7 rfl rfl)
theorem dX4_does_77 : decode cX4_does 77 = .ok (.istore_n 3, 1) := dk_62 (dk_at dksX4_does_3 8 rfl rfl)
theorem dX4_does_78 : decode cX4_does 78 = .ok (.iload_n 3, 1) := dk_29 (dk_at dksX4_does_3 9 rfl rfl)
theorem dX4_does_79 : decode cX4_does 79 = .ok (.ifCond .eq 48, 3) := dk_153 0 48 (dk_at dksX4_does_3 10 rfl rfl)
theorem dX4_does_82 : decode cX4_does 82 = .ok (.aload_n 0, 1) := dk_42 (dk_at dksX4_does_3 13 rfl rfl)
theorem dX4_does_83 : decode cX4_does 83 = .ok (.iload_n 2, 1) := dk_28 (dk_at dksX4_does_3 14 rfl rfl)
theorem dX4_does_84 : decode cX4_does 84 = .ok (.aload_n 0, 1) := dk_42 (dk_at dksX4_does_3 15 rfl rfl)
theorem dX4_does_85 : decode cX4_does 85 = .ok (.getfield 48, 3) := dk_180 0 48 (dk_at dksX4_does_3 16 rfl rfl)
theorem dX4_does_88 : decode cX4_does 88 = .ok (.iconst 1, 1) := dk_4 (dk_at dksX4_does_3 19 rfl rfl)
theorem dX4_does_89 : decode cX4_does 89 = .ok (.iaload, 1) := dk_46 (dk_at dksX4_does_3 20 rfl rfl)
theorem dX4_does_90 : decode cX4_does 90 = .ok (.sipush 1000, 3) := dk_17 3 232 (dk_at dksX4_does_3 21 rfl rfl)
theorem dX4_does_93 : decode cX4_does 93 = .ok (.aload_n 0, 1) := dk_42 (dk_at dksX4_does_4 0 rfl rfl)
theorem dX4_does_94 : decode cX4_does 94 = .ok (.getfield 48, 3) := dk_180 0 48 (dk_at dksX4_does_4 1 rfl rfl)
theorem dX4_does_97 : decode cX4_does 97 = .ok (.iconst 2, 1) := dk_5 (dk_at dksX4_does_4 4 rfl rfl)
theorem dX4_does_98 : decode cX4_does 98 = .ok (.iaload, 1) := dk_46 (dk_at dksX4_does_4 5 rfl rfl)
theorem dX4_does_99 : decode cX4_does 99 = .ok (.imul, 1) := dk_104 (dk_at dksX4_does_4 6 rfl rfl)
theorem dX4_does_100 : decode cX4_does 100 = .ok (.bipush 100, 2) := dk_16 100 (dk_at dksX4_does_4 7 rfl rfl)
theorem dX4_does_102 : decode cX4_does 102 = .ok (.aload_n 0, 1) := dk_42 (dk_at dksX4_does_4 9 rfl rfl)
theorem dX4_does_103 : decode cX4_does 103 = .ok (.getfield 48, 3) := dk_180 0 48 (dk_at dksX4_does_4 10 rfl rfl)
theorem dX4_does_106 : decode cX4_does 106 = .ok (.iconst 3, 1) := dk_6 (dk_at dksX4_does_4 13 rfl rfl)
theorem dX4_does_107 : decode cX4_does 107 = .ok (.iaload, 1) := dk_46 (dk_at dksX4_does_4 14 rfl rfl)
theorem dX4_does_108 : decode cX4_does 108 = .ok (.imul, 1) := dk_104 (dk_at dksX4_does_4 15 rfl rfl)
theorem dX4_does_109 : decode cX4_does 109 = .ok (.iadd, 1) := dk_96 (dk_at dksX4_does_4 16 rfl rfl)
theorem dX4_does_110 : decode cX4_does 110 = .ok (.aload_n 0, 1) := dk_42 (dk_at dksX4_does_4 17 rfl rfl)
theorem dX4_does_111 : decode cX4_does 111 = .ok (.getfield 48, 3) := dk_180 0 48 (dk_at dksX4_does_4 18 rfl rfl)
theorem dX4_does_114 : decode cX4_does 114 = .ok (.iconst 4, 1) := dk_7 (dk_at dksX4_does_4 21 rfl rfl)
theorem dX4_does_115 : decode cX4_does 115 = .ok (.iaload, 1) := dk_46 (dk_at dksX4_does_4 22 rfl rfl)
theorem dX4_does_116 : decode cX4_does 116 = .ok (.iadd, 1) := dk_96 (dk_at dksX4_does_4 23 rfl rfl)
theorem dX4_does_117 : decode cX4_does 117 = .ok (.invokevirtual 229, 3) := dk_182 0 229 (dk_at dksX4_does_5 0 rfl rfl)
theorem dX4_does_120 : decode cX4_does 120 = .ok (.ifCond .lt 7, 3) := dk_155 0 7 (dk_at dksX4_does_5 3 rfl rfl)
theorem dX4_does_123 : decode cX4_does 123 = .ok (.iconst 1, 1) := dk_4 (dk_at dksX4_does_5 6 rfl rfl)
theorem dX4_does_124 : decode cX4_does 124 = .ok (.goto 4, 3) := dk_167 0 4 (dk_at dksX4_does_5 7 rfl rfl)
theorem dX4_does_127 : decode cX4_does 127 = .ok (.iconst 0, 1) := dk_3 (dk_at dksX4_does_5 10 rfl rfl)
theorem dX4_does_128 : decode cX4_does 128 = .ok (.ireturn, 1) := dk_172 (dk_at dksX4_does_5 11 rfl rfl)
theorem dX4_does_129 : decode cX4_does 129 = .ok (.iload_n 1, 1) := dk_27 (dk_at dksX4_does_5 12 rfl rfl)
theorem dX4_does_130 : decode cX4_does 130 = .ok (.bipush 109, 2) := dk_16 109 (dk_at dksX4_does_5 13 rfl rfl)
theorem dX4_does_132 : decode cX4_does 132 = .ok (.if_icmp .ne 38, 3) := dk_160 0 38 (dk_at dksX4_does_5 15 rfl rfl)
theorem dX4_does_135 : decode cX4_does 135 = .ok (.aload_n 0, 1) := dk_42 (dk_at dksX4_does_5 18 rfl rfl)
theorem dX4_does_136 : decode cX4_does 136 = .ok (.aload_n 0, 1) := dk_42 (dk_at dksX4_does_5 19 rfl rfl)
theorem dX4_does_137 : decode cX4_does 137 = .ok (.getfield 48, 3) := dk_180 0 48 (dk_at dksX4_does_5 20 rfl rfl)
theorem dX4_does_140 : decode cX4_does 140 = .ok (.iconst 0, 1) := dk_3 (dk_at dksX4_does_5 23 rfl rfl)
theorem dX4_does_141 : decode cX4_does 141 = .ok (.iaload, 1) := dk_46 (dk_at dksX4_does_6 0 rfl rfl)
theorem dX4_does_142 : decode cX4_does 142 = .ok (.invokevirtual 167, 3) := dk_182 0 167 (dk_at dksX4_does_6 1 rfl rfl)
theorem dX4_does_145 : decode cX4_does 145 = .ok (.istore_n 2, 1) := dk_61 (dk_at dksX4_does_6 4 rfl rfl)
theorem dX4_does_146 : decode cX4_does 146 = .ok (.iload_n 2, 1) := dk_28 (dk_at dksX4_does_6 5 rfl rfl)
theorem dX4_does_147 : decode cX4_does 147 = .ok (.ifCond .eq 21, 3) := dk_153 0 21 (dk_at dksX4_does_6 6 rfl rfl)
theorem dX4_does_150 : decode cX4_does 150 = .ok (.aload_n 0, 1) := dk_42 (dk_at dksX4_does_6 9 rfl rfl)
theorem dX4_does_151 : decode cX4_does 151 = .ok (.aload_n 0, 1) := dk_42 (dk_at dksX4_does_6 10 rfl rfl)
theorem dX4_does_152 : decode cX4_does 152 = .ok (.getfield 48, 3) := dk_180 0 48 (dk_at dksX4_does_6 11 rfl rfl)
theorem dX4_does_155 : decode cX4_does 155 = .ok (.iconst 0, 1) := dk_3 (dk_at dksX4_does_6 14 rfl rfl)
theorem dX4_does_156 : decode cX4_does 156 = .ok (.iaload, 1) := dk_46 (dk_at dksX4_does_6 15 rfl rfl)
theorem dX4_does_157 : decode cX4_does 157 = .ok (.iconst (-1), 1) := dk_2 (dk_at dksX4_does_6 16 rfl rfl)
theorem dX4_does_158 : decode cX4_does 158 = .ok (.aload_n 0, 1) := dk_42 (dk_at dksX4_does_6 17 rfl rfl)
theorem dX4_does_159 : decode cX4_does 159 = .ok (.getfield 48, 3) := dk_180 0 48 (dk_at dksX4_does_6 18 rfl rfl)
theorem dX4_does_162 : decode cX4_does 162 = .ok (.iconst 1, 1) := dk_4 (dk_at dksX4_does_6 21 rfl rfl)
theorem dX4_does_163 : decode cX4_does 163 = .ok (.iaload, 1) := dk_46 (dk_at dksX4_does_6 22 rfl rfl)
theorem dX4_does_164 : decode cX4_does 164 = .ok (.invokevirtual 84, 3) := dk_182 0 84 (dk_at dksX4_does_7 0 rfl rfl)
theorem dX4_does_167 : decode cX4_does 167 = .ok (.pop, 1) := dk_87 (dk_at dksX4_does_7 3 rfl rfl)
theorem dX4_does_168 : decode cX4_does 168 = .ok (.iload_n 2, 1) := dk_28 (dk_at dksX4_does_7 4 rfl rfl)
theorem dX4_does_169 : decode cX4_does 169 = .ok (.ireturn, 1) := dk_172 (dk_at dksX4_does_7 5 rfl rfl)
theorem dX4_does_170 : decode cX4_does 170 = .ok (.aload_n 0, 1) := dk_42 (dk_at dksX4_does_7 6 rfl rfl)
theorem dX4_does_171 : decode cX4_does 171 = .ok (.getfield 48, 3) := dk_180 0 48 (dk_at dksX4_does_7 7 rfl rfl)
theorem dX4_does_174 : decode cX4_does 174 = .ok (.iconst 0, 1) := dk_3 (dk_at dksX4_does_7 10 rfl rfl)
theorem dX4_does_175 : decode cX4_does 175 = .ok (.iaload, 1) := dk_46 (dk_at dksX4_does_7 11 rfl rfl)
theorem dX4_does_176 : decode cX4_does 176 = .ok (.ifCond .le 20, 3) := dk_158 0 20 (dk_at dksX4_does_7 12 rfl rfl)
theorem dX4_does_179 : decode cX4_does 179 = .ok (.aload_n 0, 1) := dk_42 (dk_at dksX4_does_7 15 rfl rfl)
theorem dX4_does_180 : decode cX4_does 180 = .ok (.aload_n 0, 1) := dk_42 (dk_at dksX4_does_7 16 rfl rfl)
theorem dX4_does_181 : decode cX4_does 181 = .ok (.getfield 48, 3) := dk_180 0 48 (dk_at dksX4_does_7 17 rfl rfl)
theorem dX4_does_184 : decode cX4_does 184 = .ok (.iconst 0, 1) := dk_3 (dk_at dksX4_does_7 20 rfl rfl)
theorem dX4_does_185 : decode cX4_does 185 = .ok (.iaload, 1) := dk_46 (dk_at dksX4_does_7 21 rfl rfl)
theorem dX4_does_186 : decode cX4_does 186 = .ok (.invokevirtual 232, 3) := dk_182 0 232 (dk_at dksX4_does_8 0 rfl rfl)
theorem dX4_does_189 : decode cX4_does 189 = .ok (.ifCond .lt 7, 3) := dk_155 0 7 (dk_at dksX4_does_8 3 rfl rfl)
theorem dX4_does_192 : decode cX4_does 192 = .ok (.iconst 1, 1) := dk_4 (dk_at dksX4_does_8 6 rfl rfl)
theorem dX4_does_193 : decode cX4_does 193 = .ok (.goto 4, 3) := dk_167 0 4 (dk_at dksX4_does_8 7 rfl rfl)
theorem dX4_does_196 : decode cX4_does 196 = .ok (.iconst 0, 1) := dk_3 (dk_at dksX4_does_8 10 rfl rfl)
theorem dX4_does_197 : decode cX4_does 197 = .ok (.ireturn, 1) := dk_172 (dk_at dksX4_does_8 11 rfl rfl)
abbrev cX4_drawn : ByteArray := prog_23_method_71_code
def yX4_drawn : MethodName := ⟨RX4, "drawn", "(I)I"⟩
def dkwX4_drawn_5 : List UInt8 := [42, 180, 0, 9, 17, 3, 159, 46, 28, 100, 172]
abbrev dktX4_drawn_5 : List UInt8 := dkwX4_drawn_5 ++ []
def dkwX4_drawn_4 : List UInt8 := [112, 2, 21, 4, 16, 12, 108, 17, 0, 199, 112, 16, 99, 100, 182, 0, 84, 87, 132, 3, 1, 167, 255, 179]
abbrev dktX4_drawn_4 : List UInt8 := dkwX4_drawn_4 ++ dktX4_drawn_5
def dkwX4_drawn_3 : List UInt8 := [17, 3, 161, 46, 16, 16, 124, 17, 127, 255, 126, 54, 4, 42, 21, 4, 42, 180, 0, 9, 17, 3, 156, 46]
abbrev dktX4_drawn_3 : List UInt8 := dkwX4_drawn_3 ++ dktX4_drawn_4
def dkwX4_drawn_2 : List UInt8 := [17, 3, 161, 42, 180, 0, 9, 17, 3, 161, 46, 18, 241, 104, 17, 48, 57, 96, 79, 42, 180, 0, 9]
abbrev dktX4_drawn_2 : List UInt8 := dkwX4_drawn_2 ++ dktX4_drawn_3
def dkwX4_drawn_1 : List UInt8 := [16, 251, 172, 42, 180, 0, 9, 17, 3, 159, 46, 61, 3, 62, 29, 27, 162, 0, 78, 42, 180, 0, 9]
abbrev dktX4_drawn_1 : List UInt8 := dkwX4_drawn_1 ++ dktX4_drawn_2
def dkwX4_drawn_0 : List UInt8 := [27, 4, 16, 40, 184, 0, 51, 154, 0, 5, 2, 172, 42, 180, 0, 9, 17, 3, 156, 46, 154, 0, 6]
abbrev dktX4_drawn_0 : List UInt8 := dkwX4_drawn_0 ++ dktX4_drawn_1
theorem dksX4_drawn_0 : cX4_drawn.data.toList.drop 0 = dktX4_drawn_0 := by decide +kernel
theorem dksX4_drawn_1 : cX4_drawn.data.toList.drop 23 = dktX4_drawn_1 := dk_seg dksX4_drawn_0 23 rfl rfl
theorem dksX4_drawn_2 : cX4_drawn.data.toList.drop 46 = dktX4_drawn_2 := dk_seg dksX4_drawn_1 23 rfl rfl
theorem dksX4_drawn_3 : cX4_drawn.data.toList.drop 69 = dktX4_drawn_3 := dk_seg dksX4_drawn_2 23 rfl rfl
theorem dksX4_drawn_4 : cX4_drawn.data.toList.drop 93 = dktX4_drawn_4 := dk_seg dksX4_drawn_3 24 rfl rfl
theorem dksX4_drawn_5 : cX4_drawn.data.toList.drop 117 = dktX4_drawn_5 := dk_seg dksX4_drawn_4 24 rfl rfl
theorem dX4_drawn_0 : decode cX4_drawn 0 = .ok (.iload_n 1, 1) := dk_27 (dk_at dksX4_drawn_0 0 rfl rfl)
theorem dX4_drawn_1 : decode cX4_drawn 1 = .ok (.iconst 1, 1) := dk_4 (dk_at dksX4_drawn_0 1 rfl rfl)
theorem dX4_drawn_2 : decode cX4_drawn 2 = .ok (.bipush 40, 2) := dk_16 40 (dk_at dksX4_drawn_0 2 rfl rfl)
theorem dX4_drawn_4 : decode cX4_drawn 4 = .ok (.invokestatic 51, 3) := dk_184 0 51 (dk_at dksX4_drawn_0 4 rfl rfl)
theorem dX4_drawn_7 : decode cX4_drawn 7 = .ok (.ifCond .ne 5, 3) := dk_154 0 5 (dk_at dksX4_drawn_0 7 rfl rfl)
theorem dX4_drawn_10 : decode cX4_drawn 10 = .ok (.iconst (-1), 1) := dk_2 (dk_at dksX4_drawn_0 10 rfl rfl)
theorem dX4_drawn_11 : decode cX4_drawn 11 = .ok (.ireturn, 1) := dk_172 (dk_at dksX4_drawn_0 11 rfl rfl)
theorem dX4_drawn_12 : decode cX4_drawn 12 = .ok (.aload_n 0, 1) := dk_42 (dk_at dksX4_drawn_0 12 rfl rfl)
theorem dX4_drawn_13 : decode cX4_drawn 13 = .ok (.getfield 9, 3) := dk_180 0 9 (dk_at dksX4_drawn_0 13 rfl rfl)
theorem dX4_drawn_16 : decode cX4_drawn 16 = .ok (.sipush 924, 3) := dk_17 3 156 (dk_at dksX4_drawn_0 16 rfl rfl)
theorem dX4_drawn_19 : decode cX4_drawn 19 = .ok (.iaload, 1) := dk_46 (dk_at dksX4_drawn_0 19 rfl rfl)
theorem dX4_drawn_20 : decode cX4_drawn 20 = .ok (.ifCond .ne 6, 3) := dk_154 0 6 (dk_at dksX4_drawn_0 20 rfl rfl)
theorem dX4_drawn_23 : decode cX4_drawn 23 = .ok (.bipush (-5), 2) := dk_16 251 (dk_at dksX4_drawn_1 0 rfl rfl)
theorem dX4_drawn_25 : decode cX4_drawn 25 = .ok (.ireturn, 1) := dk_172 (dk_at dksX4_drawn_1 2 rfl rfl)
theorem dX4_drawn_26 : decode cX4_drawn 26 = .ok (.aload_n 0, 1) := dk_42 (dk_at dksX4_drawn_1 3 rfl rfl)
theorem dX4_drawn_27 : decode cX4_drawn 27 = .ok (.getfield 9, 3) := dk_180 0 9 (dk_at dksX4_drawn_1 4 rfl rfl)
theorem dX4_drawn_30 : decode cX4_drawn 30 = .ok (.sipush 927, 3) := dk_17 3 159 (dk_at dksX4_drawn_1 7 rfl rfl)
theorem dX4_drawn_33 : decode cX4_drawn 33 = .ok (.iaload, 1) := dk_46 (dk_at dksX4_drawn_1 10 rfl rfl)
theorem dX4_drawn_34 : decode cX4_drawn 34 = .ok (.istore_n 2, 1) := dk_61 (dk_at dksX4_drawn_1 11 rfl rfl)
theorem dX4_drawn_35 : decode cX4_drawn 35 = .ok (.iconst 0, 1) := dk_3 (dk_at dksX4_drawn_1 12 rfl rfl)
theorem dX4_drawn_36 : decode cX4_drawn 36 = .ok (.istore_n 3, 1) := dk_62 (dk_at dksX4_drawn_1 13 rfl rfl)
theorem dX4_drawn_37 : decode cX4_drawn 37 = .ok (.iload_n 3, 1) := dk_29 (dk_at dksX4_drawn_1 14 rfl rfl)
theorem dX4_drawn_38 : decode cX4_drawn 38 = .ok (.iload_n 1, 1) := dk_27 (dk_at dksX4_drawn_1 15 rfl rfl)
theorem dX4_drawn_39 : decode cX4_drawn 39 = .ok (.if_icmp .ge 78, 3) := dk_162 0 78 (dk_at dksX4_drawn_1 16 rfl rfl)
theorem dX4_drawn_42 : decode cX4_drawn 42 = .ok (.aload_n 0, 1) := dk_42 (dk_at dksX4_drawn_1 19 rfl rfl)
theorem dX4_drawn_43 : decode cX4_drawn 43 = .ok (.getfield 9, 3) := dk_180 0 9 (dk_at dksX4_drawn_1 20 rfl rfl)
theorem dX4_drawn_46 : decode cX4_drawn 46 = .ok (.sipush 929, 3) := dk_17 3 161 (dk_at dksX4_drawn_2 0 rfl rfl)
theorem dX4_drawn_49 : decode cX4_drawn 49 = .ok (.aload_n 0, 1) := dk_42 (dk_at dksX4_drawn_2 3 rfl rfl)
theorem dX4_drawn_50 : decode cX4_drawn 50 = .ok (.getfield 9, 3) := dk_180 0 9 (dk_at dksX4_drawn_2 4 rfl rfl)
theorem dX4_drawn_53 : decode cX4_drawn 53 = .ok (.sipush 929, 3) := dk_17 3 161 (dk_at dksX4_drawn_2 7 rfl rfl)
theorem dX4_drawn_56 : decode cX4_drawn 56 = .ok (.iaload, 1) := dk_46 (dk_at dksX4_drawn_2 10 rfl rfl)
theorem dX4_drawn_57 : decode cX4_drawn 57 = .ok (.ldc 241, 2) := dk_18 241 (dk_at dksX4_drawn_2 11 rfl rfl)
theorem dX4_drawn_59 : decode cX4_drawn 59 = .ok (.imul, 1) := dk_104 (dk_at dksX4_drawn_2 13 rfl rfl)
theorem dX4_drawn_60 : decode cX4_drawn 60 = .ok (.sipush 12345, 3) := dk_17 48 57 (dk_at dksX4_drawn_2 14 rfl rfl)
theorem dX4_drawn_63 : decode cX4_drawn 63 = .ok (.iadd, 1) := dk_96 (dk_at dksX4_drawn_2 17 rfl rfl)
theorem dX4_drawn_64 : decode cX4_drawn 64 = .ok (.iastore, 1) := dk_79 (dk_at dksX4_drawn_2 18 rfl rfl)
theorem dX4_drawn_65 : decode cX4_drawn 65 = .ok (.aload_n 0, 1) := dk_42 (dk_at dksX4_drawn_2 19 rfl rfl)
theorem dX4_drawn_66 : decode cX4_drawn 66 = .ok (.getfield 9, 3) := dk_180 0 9 (dk_at dksX4_drawn_2 20 rfl rfl)
theorem dX4_drawn_69 : decode cX4_drawn 69 = .ok (.sipush 929, 3) := dk_17 3 161 (dk_at dksX4_drawn_3 0 rfl rfl)
theorem dX4_drawn_72 : decode cX4_drawn 72 = .ok (.iaload, 1) := dk_46 (dk_at dksX4_drawn_3 3 rfl rfl)
theorem dX4_drawn_73 : decode cX4_drawn 73 = .ok (.bipush 16, 2) := dk_16 16 (dk_at dksX4_drawn_3 4 rfl rfl)
theorem dX4_drawn_75 : decode cX4_drawn 75 = .ok (.iushr, 1) := dk_124 (dk_at dksX4_drawn_3 6 rfl rfl)
theorem dX4_drawn_76 : decode cX4_drawn 76 = .ok (.sipush 32767, 3) := dk_17 127 255 (dk_at dksX4_drawn_3 7 rfl rfl)
theorem dX4_drawn_79 : decode cX4_drawn 79 = .ok (.iand, 1) := dk_126 (dk_at dksX4_drawn_3 10 rfl rfl)
theorem dX4_drawn_80 : decode cX4_drawn 80 = .ok (.istore 4, 2) := dk_54 4 (dk_at dksX4_drawn_3 11 rfl rfl)
theorem dX4_drawn_82 : decode cX4_drawn 82 = .ok (.aload_n 0, 1) := dk_42 (dk_at dksX4_drawn_3 13 rfl rfl)
theorem dX4_drawn_83 : decode cX4_drawn 83 = .ok (.iload 4, 2) := dk_21 4 (dk_at dksX4_drawn_3 14 rfl rfl)
theorem dX4_drawn_85 : decode cX4_drawn 85 = .ok (.aload_n 0, 1) := dk_42 (dk_at dksX4_drawn_3 16 rfl rfl)
theorem dX4_drawn_86 : decode cX4_drawn 86 = .ok (.getfield 9, 3) := dk_180 0 9 (dk_at dksX4_drawn_3 17 rfl rfl)
theorem dX4_drawn_89 : decode cX4_drawn 89 = .ok (.sipush 924, 3) := dk_17 3 156 (dk_at dksX4_drawn_3 20 rfl rfl)
theorem dX4_drawn_92 : decode cX4_drawn 92 = .ok (.iaload, 1) := dk_46 (dk_at dksX4_drawn_3 23 rfl rfl)
theorem dX4_drawn_93 : decode cX4_drawn 93 = .ok (.irem, 1) := dk_112 (dk_at dksX4_drawn_4 0 rfl rfl)
theorem dX4_drawn_94 : decode cX4_drawn 94 = .ok (.iconst (-1), 1) := dk_2 (dk_at dksX4_drawn_4 1 rfl rfl)
theorem dX4_drawn_95 : decode cX4_drawn 95 = .ok (.iload 4, 2) := dk_21 4 (dk_at dksX4_drawn_4 2 rfl rfl)
theorem dX4_drawn_97 : decode cX4_drawn 97 = .ok (.bipush 12, 2) := dk_16 12 (dk_at dksX4_drawn_4 4 rfl rfl)
theorem dX4_drawn_99 : decode cX4_drawn 99 = .ok (.idiv, 1) := dk_108 (dk_at dksX4_drawn_4 6 rfl rfl)
theorem dX4_drawn_100 : decode cX4_drawn 100 = .ok (.sipush 199, 3) := dk_17 0 199 (dk_at dksX4_drawn_4 7 rfl rfl)
theorem dX4_drawn_103 : decode cX4_drawn 103 = .ok (.irem, 1) := dk_112 (dk_at dksX4_drawn_4 10 rfl rfl)
theorem dX4_drawn_104 : decode cX4_drawn 104 = .ok (.bipush 99, 2) := dk_16 99 (dk_at dksX4_drawn_4 11 rfl rfl)
theorem dX4_drawn_106 : decode cX4_drawn 106 = .ok (.isub, 1) := dk_100 (dk_at dksX4_drawn_4 13 rfl rfl)
theorem dX4_drawn_107 : decode cX4_drawn 107 = .ok (.invokevirtual 84, 3) := dk_182 0 84 (dk_at dksX4_drawn_4 14 rfl rfl)
theorem dX4_drawn_110 : decode cX4_drawn 110 = .ok (.pop, 1) := dk_87 (dk_at dksX4_drawn_4 17 rfl rfl)
theorem dX4_drawn_111 : decode cX4_drawn 111 = .ok (.iinc 3 1, 3) := dk_132 3 1 (dk_at dksX4_drawn_4 18 rfl rfl)
theorem dX4_drawn_114 : decode cX4_drawn 114 = .ok (.goto (-77), 3) := dk_167 255 179 (dk_at dksX4_drawn_4 21 rfl rfl)
theorem dX4_drawn_117 : decode cX4_drawn 117 = .ok (.aload_n 0, 1) := dk_42 (dk_at dksX4_drawn_5 0 rfl rfl)
theorem dX4_drawn_118 : decode cX4_drawn 118 = .ok (.getfield 9, 3) := dk_180 0 9 (dk_at dksX4_drawn_5 1 rfl rfl)
theorem dX4_drawn_121 : decode cX4_drawn 121 = .ok (.sipush 927, 3) := dk_17 3 159 (dk_at dksX4_drawn_5 4 rfl rfl)
theorem dX4_drawn_124 : decode cX4_drawn 124 = .ok (.iaload, 1) := dk_46 (dk_at dksX4_drawn_5 7 rfl rfl)
theorem dX4_drawn_125 : decode cX4_drawn 125 = .ok (.iload_n 2, 1) := dk_28 (dk_at dksX4_drawn_5 8 rfl rfl)
theorem dX4_drawn_126 : decode cX4_drawn 126 = .ok (.isub, 1) := dk_100 (dk_at dksX4_drawn_5 9 rfl rfl)
theorem dX4_drawn_127 : decode cX4_drawn 127 = .ok (.ireturn, 1) := dk_172 (dk_at dksX4_drawn_5 10 rfl rfl)
abbrev cX4_seed : ByteArray := prog_23_method_72_code
def yX4_seed : MethodName := ⟨RX4, "seed", "(I)I"⟩
def dkwX4_seed_0 : List UInt8 := [42, 180, 0, 9, 17, 3, 161, 46, 61, 42, 180, 0, 9, 17, 3, 161, 27, 79, 28, 172]
abbrev dktX4_seed_0 : List UInt8 := dkwX4_seed_0 ++ []
theorem dksX4_seed_0 : cX4_seed.data.toList.drop 0 = dktX4_seed_0 := by decide +kernel
theorem dX4_seed_0 : decode cX4_seed 0 = .ok (.aload_n 0, 1) := dk_42 (dk_at dksX4_seed_0 0 rfl rfl)
theorem dX4_seed_1 : decode cX4_seed 1 = .ok (.getfield 9, 3) := dk_180 0 9 (dk_at dksX4_seed_0 1 rfl rfl)
theorem dX4_seed_4 : decode cX4_seed 4 = .ok (.sipush 929, 3) := dk_17 3 161 (dk_at dksX4_seed_0 4 rfl rfl)
theorem dX4_seed_7 : decode cX4_seed 7 = .ok (.iaload, 1) := dk_46 (dk_at dksX4_seed_0 7 rfl rfl)
theorem dX4_seed_8 : decode cX4_seed 8 = .ok (.istore_n 2, 1) := dk_61 (dk_at dksX4_seed_0 8 rfl rfl)
theorem dX4_seed_9 : decode cX4_seed 9 = .ok (.aload_n 0, 1) := dk_42 (dk_at dksX4_seed_0 9 rfl rfl)
theorem dX4_seed_10 : decode cX4_seed 10 = .ok (.getfield 9, 3) := dk_180 0 9 (dk_at dksX4_seed_0 10 rfl rfl)
theorem dX4_seed_13 : decode cX4_seed 13 = .ok (.sipush 929, 3) := dk_17 3 161 (dk_at dksX4_seed_0 13 rfl rfl)
theorem dX4_seed_16 : decode cX4_seed 16 = .ok (.iload_n 1, 1) := dk_27 (dk_at dksX4_seed_0 16 rfl rfl)
theorem dX4_seed_17 : decode cX4_seed 17 = .ok (.iastore, 1) := dk_79 (dk_at dksX4_seed_0 17 rfl rfl)
theorem dX4_seed_18 : decode cX4_seed 18 = .ok (.iload_n 2, 1) := dk_28 (dk_at dksX4_seed_0 18 rfl rfl)
theorem dX4_seed_19 : decode cX4_seed 19 = .ok (.ireturn, 1) := dk_172 (dk_at dksX4_seed_0 19 rfl rfl)
abbrev cX4_order : ByteArray := prog_23_method_75_code
def yX4_order : MethodName := ⟨RX4, "order", "(II)I"⟩
def dkwX4_order_3 : List UInt8 := [42, 27, 28, 182, 0, 245, 62, 42, 180, 0, 13, 42, 180, 0, 9, 184, 0, 200, 29, 172]
abbrev dktX4_order_3 : List UInt8 := dkwX4_order_3 ++ []
def dkwX4_order_2 : List UInt8 := [180, 0, 34, 27, 46, 5, 108, 164, 0, 6, 16, 243, 172, 42, 180, 0, 9, 42, 180, 0, 13, 184, 0, 200]
abbrev dktX4_order_2 : List UInt8 := dkwX4_order_2 ++ dktX4_order_3
def dkwX4_order_1 : List UInt8 := [27, 46, 154, 0, 8, 16, 245, 167, 0, 5, 16, 244, 172, 28, 156, 0, 6, 16, 242, 172, 28, 42]
abbrev dktX4_order_1 : List UInt8 := dkwX4_order_1 ++ dktX4_order_2
def dkwX4_order_0 : List UInt8 := [42, 27, 182, 0, 242, 154, 0, 5, 2, 172, 42, 180, 0, 28, 27, 46, 5, 159, 0, 20, 42, 180, 0, 28]
abbrev dktX4_order_0 : List UInt8 := dkwX4_order_0 ++ dktX4_order_1
theorem dksX4_order_0 : cX4_order.data.toList.drop 0 = dktX4_order_0 := by decide +kernel
theorem dksX4_order_1 : cX4_order.data.toList.drop 24 = dktX4_order_1 := dk_seg dksX4_order_0 24 rfl rfl
theorem dksX4_order_2 : cX4_order.data.toList.drop 46 = dktX4_order_2 := dk_seg dksX4_order_1 22 rfl rfl
theorem dksX4_order_3 : cX4_order.data.toList.drop 70 = dktX4_order_3 := dk_seg dksX4_order_2 24 rfl rfl
theorem dX4_order_0 : decode cX4_order 0 = .ok (.aload_n 0, 1) := dk_42 (dk_at dksX4_order_0 0 rfl rfl)
theorem dX4_order_1 : decode cX4_order 1 = .ok (.iload_n 1, 1) := dk_27 (dk_at dksX4_order_0 1 rfl rfl)
theorem dX4_order_2 : decode cX4_order 2 = .ok (.invokevirtual 242, 3) := dk_182 0 242 (dk_at dksX4_order_0 2 rfl rfl)
theorem dX4_order_5 : decode cX4_order 5 = .ok (.ifCond .ne 5, 3) := dk_154 0 5 (dk_at dksX4_order_0 5 rfl rfl)
theorem dX4_order_8 : decode cX4_order 8 = .ok (.iconst (-1), 1) := dk_2 (dk_at dksX4_order_0 8 rfl rfl)
theorem dX4_order_9 : decode cX4_order 9 = .ok (.ireturn, 1) := dk_172 (dk_at dksX4_order_0 9 rfl rfl)
theorem dX4_order_10 : decode cX4_order 10 = .ok (.aload_n 0, 1) := dk_42 (dk_at dksX4_order_0 10 rfl rfl)
theorem dX4_order_11 : decode cX4_order 11 = .ok (.getfield 28, 3) := dk_180 0 28 (dk_at dksX4_order_0 11 rfl rfl)
theorem dX4_order_14 : decode cX4_order 14 = .ok (.iload_n 1, 1) := dk_27 (dk_at dksX4_order_0 14 rfl rfl)
theorem dX4_order_15 : decode cX4_order 15 = .ok (.iaload, 1) := dk_46 (dk_at dksX4_order_0 15 rfl rfl)
theorem dX4_order_16 : decode cX4_order 16 = .ok (.iconst 2, 1) := dk_5 (dk_at dksX4_order_0 16 rfl rfl)
theorem dX4_order_17 : decode cX4_order 17 = .ok (.if_icmp .eq 20, 3) := dk_159 0 20 (dk_at dksX4_order_0 17 rfl rfl)
theorem dX4_order_20 : decode cX4_order 20 = .ok (.aload_n 0, 1) := dk_42 (dk_at dksX4_order_0 20 rfl rfl)
theorem dX4_order_21 : decode cX4_order 21 = .ok (.getfield 28, 3) := dk_180 0 28 (dk_at dksX4_order_0 21 rfl rfl)
theorem dX4_order_24 : decode cX4_order 24 = .ok (.iload_n 1, 1) := dk_27 (dk_at dksX4_order_1 0 rfl rfl)
theorem dX4_order_25 : decode cX4_order 25 = .ok (.iaload, 1) := dk_46 (dk_at dksX4_order_1 1 rfl rfl)
theorem dX4_order_26 : decode cX4_order 26 = .ok (.ifCond .ne 8, 3) := dk_154 0 8 (dk_at dksX4_order_1 2 rfl rfl)
theorem dX4_order_29 : decode cX4_order 29 = .ok (.bipush (-11), 2) := dk_16 245 (dk_at dksX4_order_1 5 rfl rfl)
theorem dX4_order_31 : decode cX4_order 31 = .ok (.goto 5, 3) := dk_167 0 5 (dk_at dksX4_order_1 7 rfl rfl)
theorem dX4_order_34 : decode cX4_order 34 = .ok (.bipush (-12), 2) := dk_16 244 (dk_at dksX4_order_1 10 rfl rfl)
theorem dX4_order_36 : decode cX4_order 36 = .ok (.ireturn, 1) := dk_172 (dk_at dksX4_order_1 12 rfl rfl)
theorem dX4_order_37 : decode cX4_order 37 = .ok (.iload_n 2, 1) := dk_28 (dk_at dksX4_order_1 13 rfl rfl)
theorem dX4_order_38 : decode cX4_order 38 = .ok (.ifCond .ge 6, 3) := dk_156 0 6 (dk_at dksX4_order_1 14 rfl rfl)
theorem dX4_order_41 : decode cX4_order 41 = .ok (.bipush (-14), 2) := dk_16 242 (dk_at dksX4_order_1 17 rfl rfl)
theorem dX4_order_43 : decode cX4_order 43 = .ok (.ireturn, 1) := dk_172 (dk_at dksX4_order_1 19 rfl rfl)
theorem dX4_order_44 : decode cX4_order 44 = .ok (.iload_n 2, 1) := dk_28 (dk_at dksX4_order_1 20 rfl rfl)
theorem dX4_order_45 : decode cX4_order 45 = .ok (.aload_n 0, 1) := dk_42 (dk_at dksX4_order_1 21 rfl rfl)
theorem dX4_order_46 : decode cX4_order 46 = .ok (.getfield 34, 3) := dk_180 0 34 (dk_at dksX4_order_2 0 rfl rfl)
theorem dX4_order_49 : decode cX4_order 49 = .ok (.iload_n 1, 1) := dk_27 (dk_at dksX4_order_2 3 rfl rfl)
theorem dX4_order_50 : decode cX4_order 50 = .ok (.iaload, 1) := dk_46 (dk_at dksX4_order_2 4 rfl rfl)
theorem dX4_order_51 : decode cX4_order 51 = .ok (.iconst 2, 1) := dk_5 (dk_at dksX4_order_2 5 rfl rfl)
theorem dX4_order_52 : decode cX4_order 52 = .ok (.idiv, 1) := dk_108 (dk_at dksX4_order_2 6 rfl rfl)
theorem dX4_order_53 : decode cX4_order 53 = .ok (.if_icmp .le 6, 3) := dk_164 0 6 (dk_at dksX4_order_2 7 rfl rfl)
theorem dX4_order_56 : decode cX4_order 56 = .ok (.bipush (-13), 2) := dk_16 243 (dk_at dksX4_order_2 10 rfl rfl)
theorem dX4_order_58 : decode cX4_order 58 = .ok (.ireturn, 1) := dk_172 (dk_at dksX4_order_2 12 rfl rfl)
theorem dX4_order_59 : decode cX4_order 59 = .ok (.aload_n 0, 1) := dk_42 (dk_at dksX4_order_2 13 rfl rfl)
theorem dX4_order_60 : decode cX4_order 60 = .ok (.getfield 9, 3) := dk_180 0 9 (dk_at dksX4_order_2 14 rfl rfl)
theorem dX4_order_63 : decode cX4_order 63 = .ok (.aload_n 0, 1) := dk_42 (dk_at dksX4_order_2 17 rfl rfl)
theorem dX4_order_64 : decode cX4_order 64 = .ok (.getfield 13, 3) := dk_180 0 13 (dk_at dksX4_order_2 18 rfl rfl)
theorem dX4_order_67 : decode cX4_order 67 = .ok (.invokestatic 200, 3) := dk_184 0 200 (dk_at dksX4_order_2 21 rfl rfl)
theorem dX4_order_70 : decode cX4_order 70 = .ok (.aload_n 0, 1) := dk_42 (dk_at dksX4_order_3 0 rfl rfl)
theorem dX4_order_71 : decode cX4_order 71 = .ok (.iload_n 1, 1) := dk_27 (dk_at dksX4_order_3 1 rfl rfl)
theorem dX4_order_72 : decode cX4_order 72 = .ok (.iload_n 2, 1) := dk_28 (dk_at dksX4_order_3 2 rfl rfl)
theorem dX4_order_73 : decode cX4_order 73 = .ok (.invokevirtual 245, 3) := dk_182 0 245 (dk_at dksX4_order_3 3 rfl rfl)
theorem dX4_order_76 : decode cX4_order 76 = .ok (.istore_n 3, 1) := dk_62 (dk_at dksX4_order_3 6 rfl rfl)
theorem dX4_order_77 : decode cX4_order 77 = .ok (.aload_n 0, 1) := dk_42 (dk_at dksX4_order_3 7 rfl rfl)
theorem dX4_order_78 : decode cX4_order 78 = .ok (.getfield 13, 3) := dk_180 0 13 (dk_at dksX4_order_3 8 rfl rfl)
theorem dX4_order_81 : decode cX4_order 81 = .ok (.aload_n 0, 1) := dk_42 (dk_at dksX4_order_3 11 rfl rfl)
theorem dX4_order_82 : decode cX4_order 82 = .ok (.getfield 9, 3) := dk_180 0 9 (dk_at dksX4_order_3 12 rfl rfl)
theorem dX4_order_85 : decode cX4_order 85 = .ok (.invokestatic 200, 3) := dk_184 0 200 (dk_at dksX4_order_3 15 rfl rfl)
theorem dX4_order_88 : decode cX4_order 88 = .ok (.iload_n 3, 1) := dk_29 (dk_at dksX4_order_3 18 rfl rfl)
theorem dX4_order_89 : decode cX4_order 89 = .ok (.ireturn, 1) := dk_172 (dk_at dksX4_order_3 19 rfl rfl)
abbrev cX4_isHandle : ByteArray := prog_23_method_74_code
def yX4_isHandle : MethodName := ⟨RX4, "isHandle", "(I)Z"⟩
def dkwX4_isHandle_0 : List UInt8 := [27, 3, 8, 184, 0, 51, 172]
abbrev dktX4_isHandle_0 : List UInt8 := dkwX4_isHandle_0 ++ []
theorem dksX4_isHandle_0 : cX4_isHandle.data.toList.drop 0 = dktX4_isHandle_0 := by decide +kernel
theorem dX4_isHandle_0 : decode cX4_isHandle 0 = .ok (.iload_n 1, 1) := dk_27 (dk_at dksX4_isHandle_0 0 rfl rfl)
theorem dX4_isHandle_1 : decode cX4_isHandle 1 = .ok (.iconst 0, 1) := dk_3 (dk_at dksX4_isHandle_0 1 rfl rfl)
theorem dX4_isHandle_2 : decode cX4_isHandle 2 = .ok (.iconst 5, 1) := dk_8 (dk_at dksX4_isHandle_0 2 rfl rfl)
theorem dX4_isHandle_3 : decode cX4_isHandle 3 = .ok (.invokestatic 51, 3) := dk_184 0 51 (dk_at dksX4_isHandle_0 3 rfl rfl)
theorem dX4_isHandle_6 : decode cX4_isHandle 6 = .ok (.ireturn, 1) := dk_172 (dk_at dksX4_isHandle_0 6 rfl rfl)
abbrev cX4_ordered : ByteArray := prog_23_method_73_code
def yX4_ordered : MethodName := ⟨RX4, "ordered", "(II)I"⟩
def dkwX4_ordered_5 : List UInt8 := [16, 254, 172]
abbrev dktX4_ordered_5 : List UInt8 := dkwX4_ordered_5 ++ []
def dkwX4_ordered_4 : List UInt8 := [180, 0, 142, 17, 3, 232, 112, 17, 1, 44, 100, 159, 0, 6, 21, 4, 172, 132, 4, 1, 167, 255, 146]
abbrev dktX4_ordered_4 : List UInt8 := dkwX4_ordered_4 ++ dktX4_ordered_5
def dkwX4_ordered_3 : List UInt8 := [180, 0, 142, 17, 3, 232, 108, 160, 0, 31, 42, 180, 0, 39, 27, 50, 5, 21, 4, 104, 4, 96, 46, 42]
abbrev dktX4_ordered_3 : List UInt8 := dkwX4_ordered_3 ++ dktX4_ordered_4
def dkwX4_ordered_2 : List UInt8 := [167, 255, 226, 42, 180, 0, 142, 16, 254, 159, 0, 53, 42, 180, 0, 39, 27, 50, 5, 21, 4, 104, 46, 42]
abbrev dktX4_ordered_2 : List UInt8 := dkwX4_ordered_2 ++ dktX4_ordered_3
def dkwX4_ordered_1 : List UInt8 := [160, 0, 27, 29, 17, 0, 200, 162, 0, 20, 42, 182, 0, 154, 153, 0, 13, 42, 182, 0, 164, 132, 3, 1]
abbrev dktX4_ordered_1 : List UInt8 := dkwX4_ordered_1 ++ dktX4_ordered_2
def dkwX4_ordered_0 : List UInt8 := [3, 62, 3, 54, 4, 21, 4, 28, 162, 0, 110, 42, 16, 254, 181, 0, 142, 42, 180, 0, 142, 16, 254]
abbrev dktX4_ordered_0 : List UInt8 := dkwX4_ordered_0 ++ dktX4_ordered_1
theorem dksX4_ordered_0 : cX4_ordered.data.toList.drop 0 = dktX4_ordered_0 := by decide +kernel
theorem dksX4_ordered_1 : cX4_ordered.data.toList.drop 23 = dktX4_ordered_1 := dk_seg dksX4_ordered_0 23 rfl rfl
theorem dksX4_ordered_2 : cX4_ordered.data.toList.drop 47 = dktX4_ordered_2 := dk_seg dksX4_ordered_1 24 rfl rfl
theorem dksX4_ordered_3 : cX4_ordered.data.toList.drop 71 = dktX4_ordered_3 := dk_seg dksX4_ordered_2 24 rfl rfl
theorem dksX4_ordered_4 : cX4_ordered.data.toList.drop 95 = dktX4_ordered_4 := dk_seg dksX4_ordered_3 24 rfl rfl
theorem dksX4_ordered_5 : cX4_ordered.data.toList.drop 118 = dktX4_ordered_5 := dk_seg dksX4_ordered_4 23 rfl rfl
theorem dX4_ordered_0 : decode cX4_ordered 0 = .ok (.iconst 0, 1) := dk_3 (dk_at dksX4_ordered_0 0 rfl rfl)
theorem dX4_ordered_1 : decode cX4_ordered 1 = .ok (.istore_n 3, 1) := dk_62 (dk_at dksX4_ordered_0 1 rfl rfl)
theorem dX4_ordered_2 : decode cX4_ordered 2 = .ok (.iconst 0, 1) := dk_3 (dk_at dksX4_ordered_0 2 rfl rfl)
theorem dX4_ordered_3 : decode cX4_ordered 3 = .ok (.istore 4, 2) := dk_54 4 (dk_at dksX4_ordered_0 3 rfl rfl)
theorem dX4_ordered_5 : decode cX4_ordered 5 = .ok (.iload 4, 2) := dk_21 4 (dk_at dksX4_ordered_0 5 rfl rfl)
theorem dX4_ordered_7 : decode cX4_ordered 7 = .ok (.iload_n 2, 1) := dk_28 (dk_at dksX4_ordered_0 7 rfl rfl)
theorem dX4_ordered_8 : decode cX4_ordered 8 = .ok (.if_icmp .ge 110, 3) := dk_162 0 110 (dk_at dksX4_ordered_0 8 rfl rfl)
theorem dX4_ordered_11 : decode cX4_ordered 11 = .ok (.aload_n 0, 1) := dk_42 (dk_at dksX4_ordered_0 11 rfl rfl)
theorem dX4_ordered_12 : decode cX4_ordered 12 = .ok (.bipush (-2), 2) := dk_16 254 (dk_at dksX4_ordered_0 12 rfl rfl)
theorem dX4_ordered_14 : decode cX4_ordered 14 = .ok (.putfield 142, 3) := dk_181 0 142 (dk_at dksX4_ordered_0 14 rfl rfl)
theorem dX4_ordered_17 : decode cX4_ordered 17 = .ok (.aload_n 0, 1) := dk_42 (dk_at dksX4_ordered_0 17 rfl rfl)
theorem dX4_ordered_18 : decode cX4_ordered 18 = .ok (.getfield 142, 3) := dk_180 0 142 (dk_at dksX4_ordered_0 18 rfl rfl)
theorem dX4_ordered_21 : decode cX4_ordered 21 = .ok (.bipush (-2), 2) := dk_16 254 (dk_at dksX4_ordered_0 21 rfl rfl)
theorem dX4_ordered_23 : decode cX4_ordered 23 = .ok (.if_icmp .ne 27, 3) := dk_160 0 27 (dk_at dksX4_ordered_1 0 rfl rfl)
theorem dX4_ordered_26 : decode cX4_ordered 26 = .ok (.iload_n 3, 1) := dk_29 (dk_at dksX4_ordered_1 3 rfl rfl)
theorem dX4_ordered_27 : decode cX4_ordered 27 = .ok (.sipush 200, 3) := dk_17 0 200 (dk_at dksX4_ordered_1 4 rfl rfl)
theorem dX4_ordered_30 : decode cX4_ordered 30 = .ok (.if_icmp .ge 20, 3) := dk_162 0 20 (dk_at dksX4_ordered_1 7 rfl rfl)
theorem dX4_ordered_33 : decode cX4_ordered 33 = .ok (.aload_n 0, 1) := dk_42 (dk_at dksX4_ordered_1 10 rfl rfl)
theorem dX4_ordered_34 : decode cX4_ordered 34 = .ok (.invokevirtual 154, 3) := dk_182 0 154 (dk_at dksX4_ordered_1 11 rfl rfl)
theorem dX4_ordered_37 : decode cX4_ordered 37 = .ok (.ifCond .eq 13, 3) := dk_153 0 13 (dk_at dksX4_ordered_1 14 rfl rfl)
theorem dX4_ordered_40 : decode cX4_ordered 40 = .ok (.aload_n 0, 1) := dk_42 (dk_at dksX4_ordered_1 17 rfl rfl)
theorem dX4_ordered_41 : decode cX4_ordered 41 = .ok (.invokevirtual 164, 3) := dk_182 0 164 (dk_at dksX4_ordered_1 18 rfl rfl)
theorem dX4_ordered_44 : decode cX4_ordered 44 = .ok (.iinc 3 1, 3) := dk_132 3 1 (dk_at dksX4_ordered_1 21 rfl rfl)
theorem dX4_ordered_47 : decode cX4_ordered 47 = .ok (.goto (-30), 3) := dk_167 255 226 (dk_at dksX4_ordered_2 0 rfl rfl)
theorem dX4_ordered_50 : decode cX4_ordered 50 = .ok (.aload_n 0, 1) := dk_42 (dk_at dksX4_ordered_2 3 rfl rfl)
theorem dX4_ordered_51 : decode cX4_ordered 51 = .ok (.getfield 142, 3) := dk_180 0 142 (dk_at dksX4_ordered_2 4 rfl rfl)
theorem dX4_ordered_54 : decode cX4_ordered 54 = .ok (.bipush (-2), 2) := dk_16 254 (dk_at dksX4_ordered_2 7 rfl rfl)
theorem dX4_ordered_56 : decode cX4_ordered 56 = .ok (.if_icmp .eq 53, 3) := dk_159 0 53 (dk_at dksX4_ordered_2 9 rfl rfl)
theorem dX4_ordered_59 : decode cX4_ordered 59 = .ok (.aload_n 0, 1) := dk_42 (dk_at dksX4_ordered_2 12 rfl rfl)
theorem dX4_ordered_60 : decode cX4_ordered 60 = .ok (.getfield 39, 3) := dk_180 0 39 (dk_at dksX4_ordered_2 13 rfl rfl)
theorem dX4_ordered_63 : decode cX4_ordered 63 = .ok (.iload_n 1, 1) := dk_27 (dk_at dksX4_ordered_2 16 rfl rfl)
theorem dX4_ordered_64 : decode cX4_ordered 64 = .ok (.aaload, 1) := dk_50 (dk_at dksX4_ordered_2 17 rfl rfl)
theorem dX4_ordered_65 : decode cX4_ordered 65 = .ok (.iconst 2, 1) := dk_5 (dk_at dksX4_ordered_2 18 rfl rfl)
theorem dX4_ordered_66 : decode cX4_ordered 66 = .ok (.iload 4, 2) := dk_21 4 (dk_at dksX4_ordered_2 19 rfl rfl)
theorem dX4_ordered_68 : decode cX4_ordered 68 = .ok (.imul, 1) := dk_104 (dk_at dksX4_ordered_2 21 rfl rfl)
theorem dX4_ordered_69 : decode cX4_ordered 69 = .ok (.iaload, 1) := dk_46 (dk_at dksX4_ordered_2 22 rfl rfl)
theorem dX4_ordered_70 : decode cX4_ordered 70 = .ok (.aload_n 0, 1) := dk_42 (dk_at dksX4_ordered_2 23 rfl rfl)
theorem dX4_ordered_71 : decode cX4_ordered 71 = .ok (.getfield 142, 3) := dk_180 0 142 (dk_at dksX4_ordered_3 0 rfl rfl)
theorem dX4_ordered_74 : decode cX4_ordered 74 = .ok (.sipush 1000, 3) := dk_17 3 232 (dk_at dksX4_ordered_3 3 rfl rfl)
theorem dX4_ordered_77 : decode cX4_ordered 77 = .ok (.idiv, 1) := dk_108 (dk_at dksX4_ordered_3 6 rfl rfl)
theorem dX4_ordered_78 : decode cX4_ordered 78 = .ok (.if_icmp .ne 31, 3) := dk_160 0 31 (dk_at dksX4_ordered_3 7 rfl rfl)
theorem dX4_ordered_81 : decode cX4_ordered 81 = .ok (.aload_n 0, 1) := dk_42 (dk_at dksX4_ordered_3 10 rfl rfl)
theorem dX4_ordered_82 : decode cX4_ordered 82 = .ok (.getfield 39, 3) := dk_180 0 39 (dk_at dksX4_ordered_3 11 rfl rfl)
theorem dX4_ordered_85 : decode cX4_ordered 85 = .ok (.iload_n 1, 1) := dk_27 (dk_at dksX4_ordered_3 14 rfl rfl)
theorem dX4_ordered_86 : decode cX4_ordered 86 = .ok (.aaload, 1) := dk_50 (dk_at dksX4_ordered_3 15 rfl rfl)
theorem dX4_ordered_87 : decode cX4_ordered 87 = .ok (.iconst 2, 1) := dk_5 (dk_at dksX4_ordered_3 16 rfl rfl)
theorem dX4_ordered_88 : decode cX4_ordered 88 = .ok (.iload 4, 2) := dk_21 4 (dk_at dksX4_ordered_3 17 rfl rfl)
theorem dX4_ordered_90 : decode cX4_ordered 90 = .ok (.imul, 1) := dk_104 (dk_at dksX4_ordered_3 19 rfl rfl)
theorem dX4_ordered_91 : decode cX4_ordered 91 = .ok (.iconst 1, 1) := dk_4 (dk_at dksX4_ordered_3 20 rfl rfl)
theorem dX4_ordered_92 : decode cX4_ordered 92 = .ok (.iadd, 1) := dk_96 (dk_at dksX4_ordered_3 21 rfl rfl)
theorem dX4_ordered_93 : decode cX4_ordered 93 = .ok (.iaload, 1) := dk_46 (dk_at dksX4_ordered_3 22 rfl rfl)
theorem dX4_ordered_94 : decode cX4_ordered 94 = .ok (.aload_n 0, 1) := dk_42 (dk_at dksX4_ordered_3 23 rfl rfl)
theorem dX4_ordered_95 : decode cX4_ordered 95 = .ok (.getfield 142, 3) := dk_180 0 142 (dk_at dksX4_ordered_4 0 rfl rfl)
theorem dX4_ordered_98 : decode cX4_ordered 98 = .ok (.sipush 1000, 3) := dk_17 3 232 (dk_at dksX4_ordered_4 3 rfl rfl)
theorem dX4_ordered_101 : decode cX4_ordered 101 = .ok (.irem, 1) := dk_112 (dk_at dksX4_ordered_4 6 rfl rfl)
theorem dX4_ordered_102 : decode cX4_ordered 102 = .ok (.sipush 300, 3) := dk_17 1 44 (dk_at dksX4_ordered_4 7 rfl rfl)
theorem dX4_ordered_105 : decode cX4_ordered 105 = .ok (.isub, 1) := dk_100 (dk_at dksX4_ordered_4 10 rfl rfl)
theorem dX4_ordered_106 : decode cX4_ordered 106 = .ok (.if_icmp .eq 6, 3) := dk_159 0 6 (dk_at dksX4_ordered_4 11 rfl rfl)
theorem dX4_ordered_109 : decode cX4_ordered 109 = .ok (.iload 4, 2) := dk_21 4 (dk_at dksX4_ordered_4 14 rfl rfl)
theorem dX4_ordered_111 : decode cX4_ordered 111 = .ok (.ireturn, 1) := dk_172 (dk_at dksX4_ordered_4 16 rfl rfl)
theorem dX4_ordered_112 : decode cX4_ordered 112 = .ok (.iinc 4 1, 3) := dk_132 4 1 (dk_at dksX4_ordered_4 17 rfl rfl)
theorem dX4_ordered_115 : decode cX4_ordered 115 = .ok (.goto (-110), 3) := dk_167 255 146 (dk_at dksX4_ordered_4 20 rfl rfl)
theorem dX4_ordered_118 : decode cX4_ordered 118 = .ok (.bipush (-2), 2) := dk_16 254 (dk_at dksX4_ordered_5 0 rfl rfl)
theorem dX4_ordered_120 : decode cX4_ordered 120 = .ok (.ireturn, 1) := dk_172 (dk_at dksX4_ordered_5 2 rfl rfl)
abbrev cX4_image : ByteArray := prog_23_method_76_code
def yX4_image : MethodName := ⟨RX4, "image", "()I"⟩
def dkwX4_image_1 : List UInt8 := [172]
abbrev dktX4_image_1 : List UInt8 := dkwX4_image_1 ++ []
def dkwX4_image_0 : List UInt8 := [42, 180, 0, 9, 42, 180, 0, 19, 184, 0, 200, 42, 4, 181, 0, 248, 42, 180, 0, 9, 17, 3, 156, 46]
abbrev dktX4_image_0 : List UInt8 := dkwX4_image_0 ++ dktX4_image_1
theorem dksX4_image_0 : cX4_image.data.toList.drop 0 = dktX4_image_0 := by decide +kernel
theorem dksX4_image_1 : cX4_image.data.toList.drop 24 = dktX4_image_1 := dk_seg dksX4_image_0 24 rfl rfl
theorem dX4_image_0 : decode cX4_image 0 = .ok (.aload_n 0, 1) := dk_42 (dk_at dksX4_image_0 0 rfl rfl)
theorem dX4_image_1 : decode cX4_image 1 = .ok (.getfield 9, 3) := dk_180 0 9 (dk_at dksX4_image_0 1 rfl rfl)
theorem dX4_image_4 : decode cX4_image 4 = .ok (.aload_n 0, 1) := dk_42 (dk_at dksX4_image_0 4 rfl rfl)
theorem dX4_image_5 : decode cX4_image 5 = .ok (.getfield 19, 3) := dk_180 0 19 (dk_at dksX4_image_0 5 rfl rfl)
theorem dX4_image_8 : decode cX4_image 8 = .ok (.invokestatic 200, 3) := dk_184 0 200 (dk_at dksX4_image_0 8 rfl rfl)
theorem dX4_image_11 : decode cX4_image 11 = .ok (.aload_n 0, 1) := dk_42 (dk_at dksX4_image_0 11 rfl rfl)
theorem dX4_image_12 : decode cX4_image 12 = .ok (.iconst 1, 1) := dk_4 (dk_at dksX4_image_0 12 rfl rfl)
theorem dX4_image_13 : decode cX4_image 13 = .ok (.putfield 248, 3) := dk_181 0 248 (dk_at dksX4_image_0 13 rfl rfl)
theorem dX4_image_16 : decode cX4_image 16 = .ok (.aload_n 0, 1) := dk_42 (dk_at dksX4_image_0 16 rfl rfl)
theorem dX4_image_17 : decode cX4_image 17 = .ok (.getfield 9, 3) := dk_180 0 9 (dk_at dksX4_image_0 17 rfl rfl)
theorem dX4_image_20 : decode cX4_image 20 = .ok (.sipush 924, 3) := dk_17 3 156 (dk_at dksX4_image_0 20 rfl rfl)
theorem dX4_image_23 : decode cX4_image 23 = .ok (.iaload, 1) := dk_46 (dk_at dksX4_image_0 23 rfl rfl)
theorem dX4_image_24 : decode cX4_image 24 = .ok (.ireturn, 1) := dk_172 (dk_at dksX4_image_1 0 rfl rfl)
abbrev cX4_back : ByteArray := prog_23_method_77_code
def yX4_back : MethodName := ⟨RX4, "back", "()I"⟩
def dkwX4_back_3 : List UInt8 := [132, 1, 1, 167, 255, 204, 42, 180, 0, 9, 17, 3, 156, 46, 172]
abbrev dktX4_back_3 : List UInt8 := dkwX4_back_3 ++ []
def dkwX4_back_2 : List UInt8 := [27, 46, 42, 180, 0, 9, 17, 3, 156, 46, 161, 0, 7, 3, 167, 0, 9, 42, 180, 0, 28, 27, 46, 79]
abbrev dktX4_back_2 : List UInt8 := dkwX4_back_2 ++ dktX4_back_3
def dkwX4_back_1 : List UInt8 := [16, 6, 162, 0, 52, 42, 180, 0, 28, 27, 42, 180, 0, 28, 27, 46, 4, 160, 0, 24, 42, 180, 0, 31]
abbrev dktX4_back_1 : List UInt8 := dkwX4_back_1 ++ dktX4_back_2
def dkwX4_back_0 : List UInt8 := [42, 180, 0, 248, 154, 0, 6, 16, 251, 172, 42, 180, 0, 19, 42, 180, 0, 9, 184, 0, 200, 3, 60, 27]
abbrev dktX4_back_0 : List UInt8 := dkwX4_back_0 ++ dktX4_back_1
theorem dksX4_back_0 : cX4_back.data.toList.drop 0 = dktX4_back_0 := by decide +kernel
theorem dksX4_back_1 : cX4_back.data.toList.drop 24 = dktX4_back_1 := dk_seg dksX4_back_0 24 rfl rfl
theorem dksX4_back_2 : cX4_back.data.toList.drop 48 = dktX4_back_2 := dk_seg dksX4_back_1 24 rfl rfl
theorem dksX4_back_3 : cX4_back.data.toList.drop 72 = dktX4_back_3 := dk_seg dksX4_back_2 24 rfl rfl
theorem dX4_back_0 : decode cX4_back 0 = .ok (.aload_n 0, 1) := dk_42 (dk_at dksX4_back_0 0 rfl rfl)
theorem dX4_back_1 : decode cX4_back 1 = .ok (.getfield 248, 3) := dk_180 0 248 (dk_at dksX4_back_0 1 rfl rfl)
theorem dX4_back_4 : decode cX4_back 4 = .ok (.ifCond .ne 6, 3) := dk_154 0 6 (dk_at dksX4_back_0 4 rfl rfl)
theorem dX4_back_7 : decode cX4_back 7 = .ok (.bipush (-5), 2) := dk_16 251 (dk_at dksX4_back_0 7 rfl rfl)
theorem dX4_back_9 : decode cX4_back 9 = .ok (.ireturn, 1) := dk_172 (dk_at dksX4_back_0 9 rfl rfl)
theorem dX4_back_10 : decode cX4_back 10 = .ok (.aload_n 0, 1) := dk_42 (dk_at dksX4_back_0 10 rfl rfl)
theorem dX4_back_11 : decode cX4_back 11 = .ok (.getfield 19, 3) := dk_180 0 19 (dk_at dksX4_back_0 11 rfl rfl)
theorem dX4_back_14 : decode cX4_back 14 = .ok (.aload_n 0, 1) := dk_42 (dk_at dksX4_back_0 14 rfl rfl)
theorem dX4_back_15 : decode cX4_back 15 = .ok (.getfield 9, 3) := dk_180 0 9 (dk_at dksX4_back_0 15 rfl rfl)
theorem dX4_back_18 : decode cX4_back 18 = .ok (.invokestatic 200, 3) := dk_184 0 200 (dk_at dksX4_back_0 18 rfl rfl)
theorem dX4_back_21 : decode cX4_back 21 = .ok (.iconst 0, 1) := dk_3 (dk_at dksX4_back_0 21 rfl rfl)
theorem dX4_back_22 : decode cX4_back 22 = .ok (.istore_n 1, 1) := dk_60 (dk_at dksX4_back_0 22 rfl rfl)
theorem dX4_back_23 : decode cX4_back 23 = .ok (.iload_n 1, 1) := dk_27 (dk_at dksX4_back_0 23 rfl rfl)
theorem dX4_back_24 : decode cX4_back 24 = .ok (.bipush 6, 2) := dk_16 6 (dk_at dksX4_back_1 0 rfl rfl)
theorem dX4_back_26 : decode cX4_back 26 = .ok (.if_icmp .ge 52, 3) := dk_162 0 52 (dk_at dksX4_back_1 2 rfl rfl)
theorem dX4_back_29 : decode cX4_back 29 = .ok (.aload_n 0, 1) := dk_42 (dk_at dksX4_back_1 5 rfl rfl)
theorem dX4_back_30 : decode cX4_back 30 = .ok (.getfield 28, 3) := dk_180 0 28 (dk_at dksX4_back_1 6 rfl rfl)
theorem dX4_back_33 : decode cX4_back 33 = .ok (.iload_n 1, 1) := dk_27 (dk_at dksX4_back_1 9 rfl rfl)
theorem dX4_back_34 : decode cX4_back 34 = .ok (.aload_n 0, 1) := dk_42 (dk_at dksX4_back_1 10 rfl rfl)
theorem dX4_back_35 : decode cX4_back 35 = .ok (.getfield 28, 3) := dk_180 0 28 (dk_at dksX4_back_1 11 rfl rfl)
theorem dX4_back_38 : decode cX4_back 38 = .ok (.iload_n 1, 1) := dk_27 (dk_at dksX4_back_1 14 rfl rfl)
theorem dX4_back_39 : decode cX4_back 39 = .ok (.iaload, 1) := dk_46 (dk_at dksX4_back_1 15 rfl rfl)
theorem dX4_back_40 : decode cX4_back 40 = .ok (.iconst 1, 1) := dk_4 (dk_at dksX4_back_1 16 rfl rfl)
theorem dX4_back_41 : decode cX4_back 41 = .ok (.if_icmp .ne 24, 3) := dk_160 0 24 (dk_at dksX4_back_1 17 rfl rfl)
theorem dX4_back_44 : decode cX4_back 44 = .ok (.aload_n 0, 1) := dk_42 (dk_at dksX4_back_1 20 rfl rfl)
theorem dX4_back_45 : decode cX4_back 45 = .ok (.getfield 31, 3) := dk_180 0 31 (dk_at dksX4_back_1 21 rfl rfl)
theorem dX4_back_48 : decode cX4_back 48 = .ok (.iload_n 1, 1) := dk_27 (dk_at dksX4_back_2 0 rfl rfl)
theorem dX4_back_49 : decode cX4_back 49 = .ok (.iaload, 1) := dk_46 (dk_at dksX4_back_2 1 rfl rfl)
theorem dX4_back_50 : decode cX4_back 50 = .ok (.aload_n 0, 1) := dk_42 (dk_at dksX4_back_2 2 rfl rfl)
theorem dX4_back_51 : decode cX4_back 51 = .ok (.getfield 9, 3) := dk_180 0 9 (dk_at dksX4_back_2 3 rfl rfl)
theorem dX4_back_54 : decode cX4_back 54 = .ok (.sipush 924, 3) := dk_17 3 156 (dk_at dksX4_back_2 6 rfl rfl)
theorem dX4_back_57 : decode cX4_back 57 = .ok (.iaload, 1) := dk_46 (dk_at dksX4_back_2 9 rfl rfl)
theorem dX4_back_58 : decode cX4_back 58 = .ok (.if_icmp .lt 7, 3) := dk_161 0 7 (dk_at dksX4_back_2 10 rfl rfl)
theorem dX4_back_61 : decode cX4_back 61 = .ok (.iconst 0, 1) := dk_3 (dk_at dksX4_back_2 13 rfl rfl)
theorem dX4_back_62 : decode cX4_back 62 = .ok (.goto 9, 3) := dk_167 0 9 (dk_at dksX4_back_2 14 rfl rfl)
theorem dX4_back_65 : decode cX4_back 65 = .ok (.aload_n 0, 1) := dk_42 (dk_at dksX4_back_2 17 rfl rfl)
theorem dX4_back_66 : decode cX4_back 66 = .ok (.getfield 28, 3) := dk_180 0 28 (dk_at dksX4_back_2 18 rfl rfl)
theorem dX4_back_69 : decode cX4_back 69 = .ok (.iload_n 1, 1) := dk_27 (dk_at dksX4_back_2 21 rfl rfl)
theorem dX4_back_70 : decode cX4_back 70 = .ok (.iaload, 1) := dk_46 (dk_at dksX4_back_2 22 rfl rfl)
theorem dX4_back_71 : decode cX4_back 71 = .ok (.iastore, 1) := dk_79 (dk_at dksX4_back_2 23 rfl rfl)
theorem dX4_back_72 : decode cX4_back 72 = .ok (.iinc 1 1, 3) := dk_132 1 1 (dk_at dksX4_back_3 0 rfl rfl)
theorem dX4_back_75 : decode cX4_back 75 = .ok (.goto (-52), 3) := dk_167 255 204 (dk_at dksX4_back_3 3 rfl rfl)
theorem dX4_back_78 : decode cX4_back 78 = .ok (.aload_n 0, 1) := dk_42 (dk_at dksX4_back_3 6 rfl rfl)
theorem dX4_back_79 : decode cX4_back 79 = .ok (.getfield 9, 3) := dk_180 0 9 (dk_at dksX4_back_3 7 rfl rfl)
theorem dX4_back_82 : decode cX4_back 82 = .ok (.sipush 924, 3) := dk_17 3 156 (dk_at dksX4_back_3 10 rfl rfl)
theorem dX4_back_85 : decode cX4_back 85 = .ok (.iaload, 1) := dk_46 (dk_at dksX4_back_3 13 rfl rfl)
theorem dX4_back_86 : decode cX4_back 86 = .ok (.ireturn, 1) := dk_172 (dk_at dksX4_back_3 14 rfl rfl)
abbrev cX4_hold : ByteArray := prog_23_method_78_code
def yX4_hold : MethodName := ⟨RX4, "hold", "(II)I"⟩
def dkwX4_hold_1 : List UInt8 := [180, 0, 28, 27, 28, 2, 160, 0, 7, 3, 167, 0, 4, 4, 79, 42, 180, 0, 31, 27, 28, 79, 4, 172]
abbrev dktX4_hold_1 : List UInt8 := dkwX4_hold_1 ++ []
def dkwX4_hold_0 : List UInt8 := [42, 27, 182, 0, 242, 153, 0, 16, 28, 2, 159, 0, 13, 42, 28, 182, 0, 167, 154, 0, 5, 2, 172, 42]
abbrev dktX4_hold_0 : List UInt8 := dkwX4_hold_0 ++ dktX4_hold_1
theorem dksX4_hold_0 : cX4_hold.data.toList.drop 0 = dktX4_hold_0 := by decide +kernel
theorem dksX4_hold_1 : cX4_hold.data.toList.drop 24 = dktX4_hold_1 := dk_seg dksX4_hold_0 24 rfl rfl
theorem dX4_hold_0 : decode cX4_hold 0 = .ok (.aload_n 0, 1) := dk_42 (dk_at dksX4_hold_0 0 rfl rfl)
theorem dX4_hold_1 : decode cX4_hold 1 = .ok (.iload_n 1, 1) := dk_27 (dk_at dksX4_hold_0 1 rfl rfl)
theorem dX4_hold_2 : decode cX4_hold 2 = .ok (.invokevirtual 242, 3) := dk_182 0 242 (dk_at dksX4_hold_0 2 rfl rfl)
theorem dX4_hold_5 : decode cX4_hold 5 = .ok (.ifCond .eq 16, 3) := dk_153 0 16 (dk_at dksX4_hold_0 5 rfl rfl)
theorem dX4_hold_8 : decode cX4_hold 8 = .ok (.iload_n 2, 1) := dk_28 (dk_at dksX4_hold_0 8 rfl rfl)
theorem dX4_hold_9 : decode cX4_hold 9 = .ok (.iconst (-1), 1) := dk_2 (dk_at dksX4_hold_0 9 rfl rfl)
theorem dX4_hold_10 : decode cX4_hold 10 = .ok (.if_icmp .eq 13, 3) := dk_159 0 13 (dk_at dksX4_hold_0 10 rfl rfl)
theorem dX4_hold_13 : decode cX4_hold 13 = .ok (.aload_n 0, 1) := dk_42 (dk_at dksX4_hold_0 13 rfl rfl)
theorem dX4_hold_14 : decode cX4_hold 14 = .ok (.iload_n 2, 1) := dk_28 (dk_at dksX4_hold_0 14 rfl rfl)
theorem dX4_hold_15 : decode cX4_hold 15 = .ok (.invokevirtual 167, 3) := dk_182 0 167 (dk_at dksX4_hold_0 15 rfl rfl)
theorem dX4_hold_18 : decode cX4_hold 18 = .ok (.ifCond .ne 5, 3) := dk_154 0 5 (dk_at dksX4_hold_0 18 rfl rfl)
theorem dX4_hold_21 : decode cX4_hold 21 = .ok (.iconst (-1), 1) := dk_2 (dk_at dksX4_hold_0 21 rfl rfl)
theorem dX4_hold_22 : decode cX4_hold 22 = .ok (.ireturn, 1) := dk_172 (dk_at dksX4_hold_0 22 rfl rfl)
theorem dX4_hold_23 : decode cX4_hold 23 = .ok (.aload_n 0, 1) := dk_42 (dk_at dksX4_hold_0 23 rfl rfl)
theorem dX4_hold_24 : decode cX4_hold 24 = .ok (.getfield 28, 3) := dk_180 0 28 (dk_at dksX4_hold_1 0 rfl rfl)
theorem dX4_hold_27 : decode cX4_hold 27 = .ok (.iload_n 1, 1) := dk_27 (dk_at dksX4_hold_1 3 rfl rfl)
theorem dX4_hold_28 : decode cX4_hold 28 = .ok (.iload_n 2, 1) := dk_28 (dk_at dksX4_hold_1 4 rfl rfl)
theorem dX4_hold_29 : decode cX4_hold 29 = .ok (.iconst (-1), 1) := dk_2 (dk_at dksX4_hold_1 5 rfl rfl)
theorem dX4_hold_30 : decode cX4_hold 30 = .ok (.if_icmp .ne 7, 3) := dk_160 0 7 (dk_at dksX4_hold_1 6 rfl rfl)
theorem dX4_hold_33 : decode cX4_hold 33 = .ok (.iconst 0, 1) := dk_3 (dk_at dksX4_hold_1 9 rfl rfl)
theorem dX4_hold_34 : decode cX4_hold 34 = .ok (.goto 4, 3) := dk_167 0 4 (dk_at dksX4_hold_1 10 rfl rfl)
theorem dX4_hold_37 : decode cX4_hold 37 = .ok (.iconst 1, 1) := dk_4 (dk_at dksX4_hold_1 13 rfl rfl)
theorem dX4_hold_38 : decode cX4_hold 38 = .ok (.iastore, 1) := dk_79 (dk_at dksX4_hold_1 14 rfl rfl)
theorem dX4_hold_39 : decode cX4_hold 39 = .ok (.aload_n 0, 1) := dk_42 (dk_at dksX4_hold_1 15 rfl rfl)
theorem dX4_hold_40 : decode cX4_hold 40 = .ok (.getfield 31, 3) := dk_180 0 31 (dk_at dksX4_hold_1 16 rfl rfl)
theorem dX4_hold_43 : decode cX4_hold 43 = .ok (.iload_n 1, 1) := dk_27 (dk_at dksX4_hold_1 19 rfl rfl)
theorem dX4_hold_44 : decode cX4_hold 44 = .ok (.iload_n 2, 1) := dk_28 (dk_at dksX4_hold_1 20 rfl rfl)
theorem dX4_hold_45 : decode cX4_hold 45 = .ok (.iastore, 1) := dk_79 (dk_at dksX4_hold_1 21 rfl rfl)
theorem dX4_hold_46 : decode cX4_hold 46 = .ok (.iconst 1, 1) := dk_4 (dk_at dksX4_hold_1 22 rfl rfl)
theorem dX4_hold_47 : decode cX4_hold 47 = .ok (.ireturn, 1) := dk_172 (dk_at dksX4_hold_1 23 rfl rfl)
abbrev cX4_row : ByteArray := prog_23_method_79_code
def yX4_row : MethodName := ⟨RX4, "row", "(II)I"⟩
def dkwX4_row_2 : List UInt8 := [180, 0, 39, 27, 50, 29, 3, 79, 132, 3, 1, 167, 255, 238, 4, 172]
abbrev dktX4_row_2 : List UInt8 := dkwX4_row_2 ++ []
def dkwX4_row_1 : List UInt8 := [180, 0, 28, 27, 5, 79, 42, 180, 0, 34, 27, 28, 79, 3, 62, 29, 16, 60, 162, 0, 18, 42]
abbrev dktX4_row_1 : List UInt8 := dkwX4_row_1 ++ dktX4_row_2
def dkwX4_row_0 : List UInt8 := [42, 27, 182, 0, 242, 153, 0, 9, 28, 16, 60, 164, 0, 5, 2, 172, 28, 156, 0, 6, 16, 242, 172, 42]
abbrev dktX4_row_0 : List UInt8 := dkwX4_row_0 ++ dktX4_row_1
theorem dksX4_row_0 : cX4_row.data.toList.drop 0 = dktX4_row_0 := by decide +kernel
theorem dksX4_row_1 : cX4_row.data.toList.drop 24 = dktX4_row_1 := dk_seg dksX4_row_0 24 rfl rfl
theorem dksX4_row_2 : cX4_row.data.toList.drop 46 = dktX4_row_2 := dk_seg dksX4_row_1 22 rfl rfl
theorem dX4_row_0 : decode cX4_row 0 = .ok (.aload_n 0, 1) := dk_42 (dk_at dksX4_row_0 0 rfl rfl)
theorem dX4_row_1 : decode cX4_row 1 = .ok (.iload_n 1, 1) := dk_27 (dk_at dksX4_row_0 1 rfl rfl)
theorem dX4_row_2 : decode cX4_row 2 = .ok (.invokevirtual 242, 3) := dk_182 0 242 (dk_at dksX4_row_0 2 rfl rfl)
theorem dX4_row_5 : decode cX4_row 5 = .ok (.ifCond .eq 9, 3) := dk_153 0 9 (dk_at dksX4_row_0 5 rfl rfl)
theorem dX4_row_8 : decode cX4_row 8 = .ok (.iload_n 2, 1) := dk_28 (dk_at dksX4_row_0 8 rfl rfl)
theorem dX4_row_9 : decode cX4_row 9 = .ok (.bipush 60, 2) := dk_16 60 (dk_at dksX4_row_0 9 rfl rfl)
theorem dX4_row_11 : decode cX4_row 11 = .ok (.if_icmp .le 5, 3) := dk_164 0 5 (dk_at dksX4_row_0 11 rfl rfl)
theorem dX4_row_14 : decode cX4_row 14 = .ok (.iconst (-1), 1) := dk_2 (dk_at dksX4_row_0 14 rfl rfl)
theorem dX4_row_15 : decode cX4_row 15 = .ok (.ireturn, 1) := dk_172 (dk_at dksX4_row_0 15 rfl rfl)
theorem dX4_row_16 : decode cX4_row 16 = .ok (.iload_n 2, 1) := dk_28 (dk_at dksX4_row_0 16 rfl rfl)
theorem dX4_row_17 : decode cX4_row 17 = .ok (.ifCond .ge 6, 3) := dk_156 0 6 (dk_at dksX4_row_0 17 rfl rfl)
theorem dX4_row_20 : decode cX4_row 20 = .ok (.bipush (-14), 2) := dk_16 242 (dk_at dksX4_row_0 20 rfl rfl)
theorem dX4_row_22 : decode cX4_row 22 = .ok (.ireturn, 1) := dk_172 (dk_at dksX4_row_0 22 rfl rfl)
theorem dX4_row_23 : decode cX4_row 23 = .ok (.aload_n 0, 1) := dk_42 (dk_at dksX4_row_0 23 rfl rfl)
theorem dX4_row_24 : decode cX4_row 24 = .ok (.getfield 28, 3) := dk_180 0 28 (dk_at dksX4_row_1 0 rfl rfl)
theorem dX4_row_27 : decode cX4_row 27 = .ok (.iload_n 1, 1) := dk_27 (dk_at dksX4_row_1 3 rfl rfl)
theorem dX4_row_28 : decode cX4_row 28 = .ok (.iconst 2, 1) := dk_5 (dk_at dksX4_row_1 4 rfl rfl)
theorem dX4_row_29 : decode cX4_row 29 = .ok (.iastore, 1) := dk_79 (dk_at dksX4_row_1 5 rfl rfl)
theorem dX4_row_30 : decode cX4_row 30 = .ok (.aload_n 0, 1) := dk_42 (dk_at dksX4_row_1 6 rfl rfl)
theorem dX4_row_31 : decode cX4_row 31 = .ok (.getfield 34, 3) := dk_180 0 34 (dk_at dksX4_row_1 7 rfl rfl)
theorem dX4_row_34 : decode cX4_row 34 = .ok (.iload_n 1, 1) := dk_27 (dk_at dksX4_row_1 10 rfl rfl)
theorem dX4_row_35 : decode cX4_row 35 = .ok (.iload_n 2, 1) := dk_28 (dk_at dksX4_row_1 11 rfl rfl)
theorem dX4_row_36 : decode cX4_row 36 = .ok (.iastore, 1) := dk_79 (dk_at dksX4_row_1 12 rfl rfl)
theorem dX4_row_37 : decode cX4_row 37 = .ok (.iconst 0, 1) := dk_3 (dk_at dksX4_row_1 13 rfl rfl)
theorem dX4_row_38 : decode cX4_row 38 = .ok (.istore_n 3, 1) := dk_62 (dk_at dksX4_row_1 14 rfl rfl)
theorem dX4_row_39 : decode cX4_row 39 = .ok (.iload_n 3, 1) := dk_29 (dk_at dksX4_row_1 15 rfl rfl)
theorem dX4_row_40 : decode cX4_row 40 = .ok (.bipush 60, 2) := dk_16 60 (dk_at dksX4_row_1 16 rfl rfl)
theorem dX4_row_42 : decode cX4_row 42 = .ok (.if_icmp .ge 18, 3) := dk_162 0 18 (dk_at dksX4_row_1 18 rfl rfl)
theorem dX4_row_45 : decode cX4_row 45 = .ok (.aload_n 0, 1) := dk_42 (dk_at dksX4_row_1 21 rfl rfl)
theorem dX4_row_46 : decode cX4_row 46 = .ok (.getfield 39, 3) := dk_180 0 39 (dk_at dksX4_row_2 0 rfl rfl)
theorem dX4_row_49 : decode cX4_row 49 = .ok (.iload_n 1, 1) := dk_27 (dk_at dksX4_row_2 3 rfl rfl)
theorem dX4_row_50 : decode cX4_row 50 = .ok (.aaload, 1) := dk_50 (dk_at dksX4_row_2 4 rfl rfl)
theorem dX4_row_51 : decode cX4_row 51 = .ok (.iload_n 3, 1) := dk_29 (dk_at dksX4_row_2 5 rfl rfl)
theorem dX4_row_52 : decode cX4_row 52 = .ok (.iconst 0, 1) := dk_3 (dk_at dksX4_row_2 6 rfl rfl)
theorem dX4_row_53 : decode cX4_row 53 = .ok (.iastore, 1) := dk_79 (dk_at dksX4_row_2 7 rfl rfl)
theorem dX4_row_54 : decode cX4_row 54 = .ok (.iinc 3 1, 3) := dk_132 3 1 (dk_at dksX4_row_2 8 rfl rfl)
theorem dX4_row_57 : decode cX4_row 57 = .ok (.goto (-18), 3) := dk_167 255 238 (dk_at dksX4_row_2 11 rfl rfl)
theorem dX4_row_60 : decode cX4_row 60 = .ok (.iconst 1, 1) := dk_4 (dk_at dksX4_row_2 14 rfl rfl)
theorem dX4_row_61 : decode cX4_row 61 = .ok (.ireturn, 1) := dk_172 (dk_at dksX4_row_2 15 rfl rfl)
abbrev cX4_put : ByteArray := prog_23_method_80_code
def yX4_put : MethodName := ⟨RX4, "put", "(III)I"⟩
def dkwX4_put_2 : List UInt8 := [180, 0, 39, 27, 50, 28, 29, 79, 21, 4, 172]
abbrev dktX4_put_2 : List UInt8 := dkwX4_put_2 ++ []
def dkwX4_put_1 : List UInt8 := [27, 46, 4, 100, 184, 0, 51, 154, 0, 6, 18, 186, 172, 42, 180, 0, 39, 27, 50, 28, 46, 54, 4, 42]
abbrev dktX4_put_1 : List UInt8 := dkwX4_put_1 ++ dktX4_put_2
def dkwX4_put_0 : List UInt8 := [42, 27, 182, 0, 242, 153, 0, 29, 42, 180, 0, 28, 27, 46, 5, 160, 0, 19, 28, 3, 42, 180, 0, 34]
abbrev dktX4_put_0 : List UInt8 := dkwX4_put_0 ++ dktX4_put_1
theorem dksX4_put_0 : cX4_put.data.toList.drop 0 = dktX4_put_0 := by decide +kernel
theorem dksX4_put_1 : cX4_put.data.toList.drop 24 = dktX4_put_1 := dk_seg dksX4_put_0 24 rfl rfl
theorem dksX4_put_2 : cX4_put.data.toList.drop 48 = dktX4_put_2 := dk_seg dksX4_put_1 24 rfl rfl
theorem dX4_put_0 : decode cX4_put 0 = .ok (.aload_n 0, 1) := dk_42 (dk_at dksX4_put_0 0 rfl rfl)
theorem dX4_put_1 : decode cX4_put 1 = .ok (.iload_n 1, 1) := dk_27 (dk_at dksX4_put_0 1 rfl rfl)
theorem dX4_put_2 : decode cX4_put 2 = .ok (.invokevirtual 242, 3) := dk_182 0 242 (dk_at dksX4_put_0 2 rfl rfl)
theorem dX4_put_5 : decode cX4_put 5 = .ok (.ifCond .eq 29, 3) := dk_153 0 29 (dk_at dksX4_put_0 5 rfl rfl)
theorem dX4_put_8 : decode cX4_put 8 = .ok (.aload_n 0, 1) := dk_42 (dk_at dksX4_put_0 8 rfl rfl)
theorem dX4_put_9 : decode cX4_put 9 = .ok (.getfield 28, 3) := dk_180 0 28 (dk_at dksX4_put_0 9 rfl rfl)
theorem dX4_put_12 : decode cX4_put 12 = .ok (.iload_n 1, 1) := dk_27 (dk_at dksX4_put_0 12 rfl rfl)
theorem dX4_put_13 : decode cX4_put 13 = .ok (.iaload, 1) := dk_46 (dk_at dksX4_put_0 13 rfl rfl)
theorem dX4_put_14 : decode cX4_put 14 = .ok (.iconst 2, 1) := dk_5 (dk_at dksX4_put_0 14 rfl rfl)
theorem dX4_put_15 : decode cX4_put 15 = .ok (.if_icmp .ne 19, 3) := dk_160 0 19 (dk_at dksX4_put_0 15 rfl rfl)
theorem dX4_put_18 : decode cX4_put 18 = .ok (.iload_n 2, 1) := dk_28 (dk_at dksX4_put_0 18 rfl rfl)
theorem dX4_put_19 : decode cX4_put 19 = .ok (.iconst 0, 1) := dk_3 (dk_at dksX4_put_0 19 rfl rfl)
theorem dX4_put_20 : decode cX4_put 20 = .ok (.aload_n 0, 1) := dk_42 (dk_at dksX4_put_0 20 rfl rfl)
theorem dX4_put_21 : decode cX4_put 21 = .ok (.getfield 34, 3) := dk_180 0 34 (dk_at dksX4_put_0 21 rfl rfl)
theorem dX4_put_24 : decode cX4_put 24 = .ok (.iload_n 1, 1) := dk_27 (dk_at dksX4_put_1 0 rfl rfl)
theorem dX4_put_25 : decode cX4_put 25 = .ok (.iaload, 1) := dk_46 (dk_at dksX4_put_1 1 rfl rfl)
theorem dX4_put_26 : decode cX4_put 26 = .ok (.iconst 1, 1) := dk_4 (dk_at dksX4_put_1 2 rfl rfl)
theorem dX4_put_27 : decode cX4_put 27 = .ok (.isub, 1) := dk_100 (dk_at dksX4_put_1 3 rfl rfl)
theorem dX4_put_28 : decode cX4_put 28 = .ok (.invokestatic 51, 3) := dk_184 0 51 (dk_at dksX4_put_1 4 rfl rfl)
theorem dX4_put_31 : decode cX4_put 31 = .ok (.ifCond .ne 6, 3) := dk_154 0 6 (dk_at dksX4_put_1 7 rfl rfl)
theorem dX4_put_34 : decode cX4_put 34 = .ok (.ldc 186, 2) := dk_18 186 (dk_at dksX4_put_1 10 rfl rfl)
theorem dX4_put_36 : decode cX4_put 36 = .ok (.ireturn, 1) := dk_172 (dk_at dksX4_put_1 12 rfl rfl)
theorem dX4_put_37 : decode cX4_put 37 = .ok (.aload_n 0, 1) := dk_42 (dk_at dksX4_put_1 13 rfl rfl)
theorem dX4_put_38 : decode cX4_put 38 = .ok (.getfield 39, 3) := dk_180 0 39 (dk_at dksX4_put_1 14 rfl rfl)
theorem dX4_put_41 : decode cX4_put 41 = .ok (.iload_n 1, 1) := dk_27 (dk_at dksX4_put_1 17 rfl rfl)
theorem dX4_put_42 : decode cX4_put 42 = .ok (.aaload, 1) := dk_50 (dk_at dksX4_put_1 18 rfl rfl)
theorem dX4_put_43 : decode cX4_put 43 = .ok (.iload_n 2, 1) := dk_28 (dk_at dksX4_put_1 19 rfl rfl)
theorem dX4_put_44 : decode cX4_put 44 = .ok (.iaload, 1) := dk_46 (dk_at dksX4_put_1 20 rfl rfl)
theorem dX4_put_45 : decode cX4_put 45 = .ok (.istore 4, 2) := dk_54 4 (dk_at dksX4_put_1 21 rfl rfl)
theorem dX4_put_47 : decode cX4_put 47 = .ok (.aload_n 0, 1) := dk_42 (dk_at dksX4_put_1 23 rfl rfl)
theorem dX4_put_48 : decode cX4_put 48 = .ok (.getfield 39, 3) := dk_180 0 39 (dk_at dksX4_put_2 0 rfl rfl)
theorem dX4_put_51 : decode cX4_put 51 = .ok (.iload_n 1, 1) := dk_27 (dk_at dksX4_put_2 3 rfl rfl)
theorem dX4_put_52 : decode cX4_put 52 = .ok (.aaload, 1) := dk_50 (dk_at dksX4_put_2 4 rfl rfl)
theorem dX4_put_53 : decode cX4_put 53 = .ok (.iload_n 2, 1) := dk_28 (dk_at dksX4_put_2 5 rfl rfl)
theorem dX4_put_54 : decode cX4_put 54 = .ok (.iload_n 3, 1) := dk_29 (dk_at dksX4_put_2 6 rfl rfl)
theorem dX4_put_55 : decode cX4_put 55 = .ok (.iastore, 1) := dk_79 (dk_at dksX4_put_2 7 rfl rfl)
theorem dX4_put_56 : decode cX4_put 56 = .ok (.iload 4, 2) := dk_21 4 (dk_at dksX4_put_2 8 rfl rfl)
theorem dX4_put_58 : decode cX4_put 58 = .ok (.ireturn, 1) := dk_172 (dk_at dksX4_put_2 10 rfl rfl)
abbrev cX4_tells : ByteArray := prog_23_method_81_code
def yX4_tells : MethodName := ⟨RX4, "tells", "(II)I"⟩
def dkwX4_tells_7 : List UInt8 := [42, 182, 0, 191, 126, 184, 0, 194, 167, 0, 10, 42, 29, 16, 38, 182, 0, 55, 172]
abbrev dktX4_tells_7 : List UInt8 := dkwX4_tells_7 ++ []
def dkwX4_tells_6 : List UInt8 := [4, 160, 0, 13, 42, 29, 16, 6, 182, 0, 55, 167, 0, 31, 28, 5, 160, 0, 19, 42, 29, 182, 0, 183]
abbrev dktX4_tells_6 : List UInt8 := dkwX4_tells_6 ++ dktX4_tells_7
def dkwX4_tells_5 : List UInt8 := [167, 0, 4, 3, 126, 54, 4, 21, 4, 154, 0, 6, 18, 251, 172, 28, 154, 0, 7, 29, 167, 0, 46, 28]
abbrev dktX4_tells_5 : List UInt8 := dkwX4_tells_5 ++ dktX4_tells_6
def dkwX4_tells_4 : List UInt8 := [4, 167, 0, 4, 3, 42, 29, 182, 0, 183, 154, 0, 7, 4, 167, 0, 4, 3, 160, 0, 7, 4]
abbrev dktX4_tells_4 : List UInt8 := dkwX4_tells_4 ++ dktX4_tells_5
def dkwX4_tells_3 : List UInt8 := [182, 0, 59, 153, 0, 46, 42, 29, 16, 13, 182, 0, 55, 154, 0, 36, 167, 0, 29, 28, 4, 160, 0, 7]
abbrev dktX4_tells_3 : List UInt8 := dkwX4_tells_3 ++ dktX4_tells_4
def dkwX4_tells_2 : List UInt8 := [167, 0, 4, 3, 54, 4, 21, 4, 28, 153, 0, 60, 21, 4, 153, 0, 59, 28, 6, 160, 0, 24, 42, 29]
abbrev dktX4_tells_2 : List UInt8 := dkwX4_tells_2 ++ dktX4_tells_3
def dkwX4_tells_1 : List UInt8 := [154, 0, 6, 18, 186, 172, 42, 180, 0, 31, 27, 46, 62, 42, 180, 0, 28, 27, 46, 4, 160, 0, 7, 4]
abbrev dktX4_tells_1 : List UInt8 := dkwX4_tells_1 ++ dktX4_tells_2
def dkwX4_tells_0 : List UInt8 := [42, 27, 182, 0, 242, 153, 0, 21, 28, 3, 6, 184, 0, 51, 153, 0, 12, 42, 180, 0, 28, 27, 46]
abbrev dktX4_tells_0 : List UInt8 := dkwX4_tells_0 ++ dktX4_tells_1
theorem dksX4_tells_0 : cX4_tells.data.toList.drop 0 = dktX4_tells_0 := by decide +kernel
theorem dksX4_tells_1 : cX4_tells.data.toList.drop 23 = dktX4_tells_1 := dk_seg dksX4_tells_0 23 rfl rfl
theorem dksX4_tells_2 : cX4_tells.data.toList.drop 47 = dktX4_tells_2 := dk_seg dksX4_tells_1 24 rfl rfl
theorem dksX4_tells_3 : cX4_tells.data.toList.drop 71 = dktX4_tells_3 := dk_seg dksX4_tells_2 24 rfl rfl
theorem dksX4_tells_4 : cX4_tells.data.toList.drop 95 = dktX4_tells_4 := dk_seg dksX4_tells_3 24 rfl rfl
theorem dksX4_tells_5 : cX4_tells.data.toList.drop 117 = dktX4_tells_5 := dk_seg dksX4_tells_4 22 rfl rfl
theorem dksX4_tells_6 : cX4_tells.data.toList.drop 141 = dktX4_tells_6 := dk_seg dksX4_tells_5 24 rfl rfl
theorem dksX4_tells_7 : cX4_tells.data.toList.drop 165 = dktX4_tells_7 := dk_seg dksX4_tells_6 24 rfl rfl
theorem dX4_tells_0 : decode cX4_tells 0 = .ok (.aload_n 0, 1) := dk_42 (dk_at dksX4_tells_0 0 rfl rfl)
theorem dX4_tells_1 : decode cX4_tells 1 = .ok (.iload_n 1, 1) := dk_27 (dk_at dksX4_tells_0 1 rfl rfl)
theorem dX4_tells_2 : decode cX4_tells 2 = .ok (.invokevirtual 242, 3) := dk_182 0 242 (dk_at dksX4_tells_0 2 rfl rfl)
theorem dX4_tells_5 : decode cX4_tells 5 = .ok (.ifCond .eq 21, 3) := dk_153 0 21 (dk_at dksX4_tells_0 5 rfl rfl)
theorem dX4_tells_8 : decode cX4_tells 8 = .ok (.iload_n 2, 1) := dk_28 (dk_at dksX4_tells_0 8 rfl rfl)
theorem dX4_tells_9 : decode cX4_tells 9 = .ok (.iconst 0, 1) := dk_3 (dk_at dksX4_tells_0 9 rfl rfl)
theorem dX4_tells_10 : decode cX4_tells 10 = .ok (.iconst 3, 1) := dk_6 (dk_at dksX4_tells_0 10 rfl rfl)
theorem dX4_tells_11 : decode cX4_tells 11 = .ok (.invokestatic 51, 3) := dk_184 0 51 (dk_at dksX4_tells_0 11 rfl rfl)
theorem dX4_tells_14 : decode cX4_tells 14 = .ok (.ifCond .eq 12, 3) := dk_153 0 12 (dk_at dksX4_tells_0 14 rfl rfl)
theorem dX4_tells_17 : decode cX4_tells 17 = .ok (.aload_n 0, 1) := dk_42 (dk_at dksX4_tells_0 17 rfl rfl)
theorem dX4_tells_18 : decode cX4_tells 18 = .ok (.getfield 28, 3) := dk_180 0 28 (dk_at dksX4_tells_0 18 rfl rfl)
theorem dX4_tells_21 : decode cX4_tells 21 = .ok (.iload_n 1, 1) := dk_27 (dk_at dksX4_tells_0 21 rfl rfl)
theorem dX4_tells_22 : decode cX4_tells 22 = .ok (.iaload, 1) := dk_46 (dk_at dksX4_tells_0 22 rfl rfl)
theorem dX4_tells_23 : decode cX4_tells 23 = .ok (.ifCond .ne 6, 3) := dk_154 0 6 (dk_at dksX4_tells_1 0 rfl rfl)
theorem dX4_tells_26 : decode cX4_tells 26 = .ok (.ldc 186, 2) := dk_18 186 (dk_at dksX4_tells_1 3 rfl rfl)
theorem dX4_tells_28 : decode cX4_tells 28 = .ok (.ireturn, 1) := dk_172 (dk_at dksX4_tells_1 5 rfl rfl)
theorem dX4_tells_29 : decode cX4_tells 29 = .ok (.aload_n 0, 1) := dk_42 (dk_at dksX4_tells_1 6 rfl rfl)
theorem dX4_tells_30 : decode cX4_tells 30 = .ok (.getfield 31, 3) := dk_180 0 31 (dk_at dksX4_tells_1 7 rfl rfl)
theorem dX4_tells_33 : decode cX4_tells 33 = .ok (.iload_n 1, 1) := dk_27 (dk_at dksX4_tells_1 10 rfl rfl)
theorem dX4_tells_34 : decode cX4_tells 34 = .ok (.iaload, 1) := dk_46 (dk_at dksX4_tells_1 11 rfl rfl)
theorem dX4_tells_35 : decode cX4_tells 35 = .ok (.istore_n 3, 1) := dk_62 (dk_at dksX4_tells_1 12 rfl rfl)
theorem dX4_tells_36 : decode cX4_tells 36 = .ok (.aload_n 0, 1) := dk_42 (dk_at dksX4_tells_1 13 rfl rfl)
theorem dX4_tells_37 : decode cX4_tells 37 = .ok (.getfield 28, 3) := dk_180 0 28 (dk_at dksX4_tells_1 14 rfl rfl)
theorem dX4_tells_40 : decode cX4_tells 40 = .ok (.iload_n 1, 1) := dk_27 (dk_at dksX4_tells_1 17 rfl rfl)
theorem dX4_tells_41 : decode cX4_tells 41 = .ok (.iaload, 1) := dk_46 (dk_at dksX4_tells_1 18 rfl rfl)
theorem dX4_tells_42 : decode cX4_tells 42 = .ok (.iconst 1, 1) := dk_4 (dk_at dksX4_tells_1 19 rfl rfl)
theorem dX4_tells_43 : decode cX4_tells 43 = .ok (.if_icmp .ne 7, 3) := dk_160 0 7 (dk_at dksX4_tells_1 20 rfl rfl)
theorem dX4_tells_46 : decode cX4_tells 46 = .ok (.iconst 1, 1) := dk_4 (dk_at dksX4_tells_1 23 rfl rfl)
theorem dX4_tells_47 : decode cX4_tells 47 = .ok (.goto 4, 3) := dk_167 0 4 (dk_at dksX4_tells_2 0 rfl rfl)
theorem dX4_tells_50 : decode cX4_tells 50 = .ok (.iconst 0, 1) := dk_3 (dk_at dksX4_tells_2 3 rfl rfl)
theorem dX4_tells_51 : decode cX4_tells 51 = .ok (.istore 4, 2) := dk_54 4 (dk_at dksX4_tells_2 4 rfl rfl)
theorem dX4_tells_53 : decode cX4_tells 53 = .ok (.iload 4, 2) := dk_21 4 (dk_at dksX4_tells_2 6 rfl rfl)
theorem dX4_tells_55 : decode cX4_tells 55 = .ok (.iload_n 2, 1) := dk_28 (dk_at dksX4_tells_2 8 rfl rfl)
theorem dX4_tells_56 : decode cX4_tells 56 = .ok (.ifCond .eq 60, 3) := dk_153 0 60 (dk_at dksX4_tells_2 9 rfl rfl)
theorem dX4_tells_59 : decode cX4_tells 59 = .ok (.iload 4, 2) := dk_21 4 (dk_at dksX4_tells_2 12 rfl rfl)
theorem dX4_tells_61 : decode cX4_tells 61 = .ok (.ifCond .eq 59, 3) := dk_153 0 59 (dk_at dksX4_tells_2 14 rfl rfl)
theorem dX4_tells_64 : decode cX4_tells 64 = .ok (.iload_n 2, 1) := dk_28 (dk_at dksX4_tells_2 17 rfl rfl)
theorem dX4_tells_65 : decode cX4_tells 65 = .ok (.iconst 3, 1) := dk_6 (dk_at dksX4_tells_2 18 rfl rfl)
theorem dX4_tells_66 : decode cX4_tells 66 = .ok (.if_icmp .ne 24, 3) := dk_160 0 24 (dk_at dksX4_tells_2 19 rfl rfl)
theorem dX4_tells_69 : decode cX4_tells 69 = .ok (.aload_n 0, 1) := dk_42 (dk_at dksX4_tells_2 22 rfl rfl)
theorem dX4_tells_70 : decode cX4_tells 70 = .ok (.iload_n 3, 1) := dk_29 (dk_at dksX4_tells_2 23 rfl rfl)
theorem dX4_tells_71 : decode cX4_tells 71 = .ok (.invokevirtual 59, 3) := dk_182 0 59 (dk_at dksX4_tells_3 0 rfl rfl)
theorem dX4_tells_74 : decode cX4_tells 74 = .ok (.ifCond .eq 46, 3) := dk_153 0 46 (dk_at dksX4_tells_3 3 rfl rfl)
theorem dX4_tells_77 : decode cX4_tells 77 = .ok (.aload_n 0, 1) := dk_42 (dk_at dksX4_tells_3 6 rfl rfl)
theorem dX4_tells_78 : decode cX4_tells 78 = .ok (.iload_n 3, 1) := dk_29 (dk_at dksX4_tells_3 7 rfl rfl)
theorem dX4_tells_79 : decode cX4_tells 79 = .ok (.bipush 13, 2) := dk_16 13 (dk_at dksX4_tells_3 8 rfl rfl)
theorem dX4_tells_81 : decode cX4_tells 81 = .ok (.invokevirtual 55, 3) := dk_182 0 55 (dk_at dksX4_tells_3 10 rfl rfl)
theorem dX4_tells_84 : decode cX4_tells 84 = .ok (.ifCond .ne 36, 3) := dk_154 0 36 (dk_at dksX4_tells_3 13 rfl rfl)
theorem dX4_tells_87 : decode cX4_tells 87 = .ok (.goto 29, 3) := dk_167 0 29 (dk_at dksX4_tells_3 16 rfl rfl)
theorem dX4_tells_90 : decode cX4_tells 90 = .ok (.iload_n 2, 1) := dk_28 (dk_at dksX4_tells_3 19 rfl rfl)
theorem dX4_tells_91 : decode cX4_tells 91 = .ok (.iconst 1, 1) := dk_4 (dk_at dksX4_tells_3 20 rfl rfl)
theorem dX4_tells_92 : decode cX4_tells 92 = .ok (.if_icmp .ne 7, 3) := dk_160 0 7 (dk_at dksX4_tells_3 21 rfl rfl)
theorem dX4_tells_95 : decode cX4_tells 95 = .ok (.iconst 1, 1) := dk_4 (dk_at dksX4_tells_4 0 rfl rfl)
theorem dX4_tells_96 : decode cX4_tells 96 = .ok (.goto 4, 3) := dk_167 0 4 (dk_at dksX4_tells_4 1 rfl rfl)
theorem dX4_tells_99 : decode cX4_tells 99 = .ok (.iconst 0, 1) := dk_3 (dk_at dksX4_tells_4 4 rfl rfl)
theorem dX4_tells_100 : decode cX4_tells 100 = .ok (.aload_n 0, 1) := dk_42 (dk_at dksX4_tells_4 5 rfl rfl)
theorem dX4_tells_101 : decode cX4_tells 101 = .ok (.iload_n 3, 1) := dk_29 (dk_at dksX4_tells_4 6 rfl rfl)
theorem dX4_tells_102 : decode cX4_tells 102 = .ok (.invokevirtual 183, 3) := dk_182 0 183 (dk_at dksX4_tells_4 7 rfl rfl)
theorem dX4_tells_105 : decode cX4_tells 105 = .ok (.ifCond .ne 7, 3) := dk_154 0 7 (dk_at dksX4_tells_4 10 rfl rfl)
theorem dX4_tells_108 : decode cX4_tells 108 = .ok (.iconst 1, 1) := dk_4 (dk_at dksX4_tells_4 13 rfl rfl)
theorem dX4_tells_109 : decode cX4_tells 109 = .ok (.goto 4, 3) := dk_167 0 4 (dk_at dksX4_tells_4 14 rfl rfl)
theorem dX4_tells_112 : decode cX4_tells 112 = .ok (.iconst 0, 1) := dk_3 (dk_at dksX4_tells_4 17 rfl rfl)
theorem dX4_tells_113 : decode cX4_tells 113 = .ok (.if_icmp .ne 7, 3) := dk_160 0 7 (dk_at dksX4_tells_4 18 rfl rfl)
theorem dX4_tells_116 : decode cX4_tells 116 = .ok (.iconst 1, 1) := dk_4 (dk_at dksX4_tells_4 21 rfl rfl)
theorem dX4_tells_117 : decode cX4_tells 117 = .ok (.goto 4, 3) := dk_167 0 4 (dk_at dksX4_tells_5 0 rfl rfl)
theorem dX4_tells_120 : decode cX4_tells 120 = .ok (.iconst 0, 1) := dk_3 (dk_at dksX4_tells_5 3 rfl rfl)
theorem dX4_tells_121 : decode cX4_tells 121 = .ok (.iand, 1) := dk_126 (dk_at dksX4_tells_5 4 rfl rfl)
theorem dX4_tells_122 : decode cX4_tells 122 = .ok (.istore 4, 2) := dk_54 4 (dk_at dksX4_tells_5 5 rfl rfl)
theorem dX4_tells_124 : decode cX4_tells 124 = .ok (.iload 4, 2) := dk_21 4 (dk_at dksX4_tells_5 7 rfl rfl)
theorem dX4_tells_126 : decode cX4_tells 126 = .ok (.ifCond .ne 6, 3) := dk_154 0 6 (dk_at dksX4_tells_5 9 rfl rfl)
theorem dX4_tells_129 : decode cX4_tells 129 = .ok (.ldc 251, 2) := dk_18 251 (dk_at dksX4_tells_5 12 rfl rfl)
theorem dX4_tells_131 : decode cX4_tells 131 = .ok (.ireturn, 1) := dk_172 (dk_at dksX4_tells_5 14 rfl rfl)
theorem dX4_tells_132 : decode cX4_tells 132 = .ok (.iload_n 2, 1) := dk_28 (dk_at dksX4_tells_5 15 rfl rfl)
theorem dX4_tells_133 : decode cX4_tells 133 = .ok (.ifCond .ne 7, 3) := dk_154 0 7 (dk_at dksX4_tells_5 16 rfl rfl)
theorem dX4_tells_136 : decode cX4_tells 136 = .ok (.iload_n 3, 1) := dk_29 (dk_at dksX4_tells_5 19 rfl rfl)
theorem dX4_tells_137 : decode cX4_tells 137 = .ok (.goto 46, 3) := dk_167 0 46 (dk_at dksX4_tells_5 20 rfl rfl)
theorem dX4_tells_140 : decode cX4_tells 140 = .ok (.iload_n 2, 1) := dk_28 (dk_at dksX4_tells_5 23 rfl rfl)
theorem dX4_tells_141 : decode cX4_tells 141 = .ok (.iconst 1, 1) := dk_4 (dk_at dksX4_tells_6 0 rfl rfl)
theorem dX4_tells_142 : decode cX4_tells 142 = .ok (.if_icmp .ne 13, 3) := dk_160 0 13 (dk_at dksX4_tells_6 1 rfl rfl)
theorem dX4_tells_145 : decode cX4_tells 145 = .ok (.aload_n 0, 1) := dk_42 (dk_at dksX4_tells_6 4 rfl rfl)
theorem dX4_tells_146 : decode cX4_tells 146 = .ok (.iload_n 3, 1) := dk_29 (dk_at dksX4_tells_6 5 rfl rfl)
theorem dX4_tells_147 : decode cX4_tells 147 = .ok (.bipush 6, 2) := dk_16 6 (dk_at dksX4_tells_6 6 rfl rfl)
theorem dX4_tells_149 : decode cX4_tells 149 = .ok (.invokevirtual 55, 3) := dk_182 0 55 (dk_at dksX4_tells_6 8 rfl rfl)
theorem dX4_tells_152 : decode cX4_tells 152 = .ok (.goto 31, 3) := dk_167 0 31 (dk_at dksX4_tells_6 11 rfl rfl)
theorem dX4_tells_155 : decode cX4_tells 155 = .ok (.iload_n 2, 1) := dk_28 (dk_at dksX4_tells_6 14 rfl rfl)
theorem dX4_tells_156 : decode cX4_tells 156 = .ok (.iconst 2, 1) := dk_5 (dk_at dksX4_tells_6 15 rfl rfl)
theorem dX4_tells_157 : decode cX4_tells 157 = .ok (.if_icmp .ne 19, 3) := dk_160 0 19 (dk_at dksX4_tells_6 16 rfl rfl)
theorem dX4_tells_160 : decode cX4_tells 160 = .ok (.aload_n 0, 1) := dk_42 (dk_at dksX4_tells_6 19 rfl rfl)
theorem dX4_tells_161 : decode cX4_tells 161 = .ok (.iload_n 3, 1) := dk_29 (dk_at dksX4_tells_6 20 rfl rfl)
theorem dX4_tells_162 : decode cX4_tells 162 = .ok (.invokevirtual 183, 3) := dk_182 0 183 (dk_at dksX4_tells_6 21 rfl rfl)
theorem dX4_tells_165 : decode cX4_tells 165 = .ok (.aload_n 0, 1) := dk_42 (dk_at dksX4_tells_7 0 rfl rfl)
theorem dX4_tells_166 : decode cX4_tells 166 = .ok (.invokevirtual 191, 3) := dk_182 0 191 (dk_at dksX4_tells_7 1 rfl rfl)
theorem dX4_tells_169 : decode cX4_tells 169 = .ok (.iand, 1) := dk_126 (dk_at dksX4_tells_7 4 rfl rfl)
theorem dX4_tells_170 : decode cX4_tells 170 = .ok (.invokestatic 194, 3) := dk_184 0 194 (dk_at dksX4_tells_7 5 rfl rfl)
theorem dX4_tells_173 : decode cX4_tells 173 = .ok (.goto 10, 3) := dk_167 0 10 (dk_at dksX4_tells_7 8 rfl rfl)
theorem dX4_tells_176 : decode cX4_tells 176 = .ok (.aload_n 0, 1) := dk_42 (dk_at dksX4_tells_7 11 rfl rfl)
theorem dX4_tells_177 : decode cX4_tells 177 = .ok (.iload_n 3, 1) := dk_29 (dk_at dksX4_tells_7 12 rfl rfl)
theorem dX4_tells_178 : decode cX4_tells 178 = .ok (.bipush 38, 2) := dk_16 38 (dk_at dksX4_tells_7 13 rfl rfl)
theorem dX4_tells_180 : decode cX4_tells 180 = .ok (.invokevirtual 55, 3) := dk_182 0 55 (dk_at dksX4_tells_7 15 rfl rfl)
theorem dX4_tells_183 : decode cX4_tells 183 = .ok (.ireturn, 1) := dk_172 (dk_at dksX4_tells_7 18 rfl rfl)
abbrev cX4_count : ByteArray := prog_23_method_82_code
def yX4_count : MethodName := ⟨RX4, "count", "(I)I"⟩
def dkwX4_count_6 : List UInt8 := [180, 0, 9, 17, 3, 194, 46, 172, 42, 180, 0, 207, 172, 2, 172]
abbrev dktX4_count_6 : List UInt8 := dkwX4_count_6 ++ []
def dkwX4_count_5 : List UInt8 := [17, 3, 158, 46, 172, 42, 180, 0, 9, 17, 3, 157, 46, 172, 42, 180, 0, 9, 17, 3, 225, 46, 172, 42]
abbrev dktX4_count_5 : List UInt8 := dkwX4_count_5 ++ dktX4_count_6
def dkwX4_count_4 : List UInt8 := [172, 42, 180, 0, 9, 17, 3, 163, 46, 172, 42, 180, 0, 9, 17, 3, 159, 46, 172, 42, 180, 0, 9]
abbrev dktX4_count_4 : List UInt8 := dkwX4_count_4 ++ dktX4_count_5
def dkwX4_count_3 : List UInt8 := [17, 3, 156, 46, 162, 0, 19, 28, 42, 29, 16, 13, 182, 0, 55, 96, 61, 132, 3, 1, 167, 255, 231, 28]
abbrev dktX4_count_3 : List UInt8 := dkwX4_count_3 ++ dktX4_count_4
def dkwX4_count_2 : List UInt8 := [42, 180, 0, 9, 17, 3, 156, 46, 172, 42, 182, 0, 191, 184, 0, 194, 172, 3, 62, 29, 42, 180, 0, 9]
abbrev dktX4_count_2 : List UInt8 := dkwX4_count_2 ++ dktX4_count_3
def dkwX4_count_1 : List UInt8 := [170, 0, 0, 0, 161, 0, 0, 0, 0, 0, 0, 0, 9, 0, 0, 0, 53, 0, 0, 0, 62, 0, 0, 0, 70, 0, 0, 0, 102, 0, 0, 0, 111, 0, 0, 0, 120, 0, 0, 0, 129, 0, 0, 0, 138, 0, 0, 0, 147, 0, 0, 0, 156]
abbrev dktX4_count_1 : List UInt8 := dkwX4_count_1 ++ dktX4_count_2
def dkwX4_count_0 : List UInt8 := [3, 61, 27]
abbrev dktX4_count_0 : List UInt8 := dkwX4_count_0 ++ dktX4_count_1
theorem dksX4_count_0 : cX4_count.data.toList.drop 0 = dktX4_count_0 := by decide +kernel
theorem dksX4_count_1 : cX4_count.data.toList.drop 3 = dktX4_count_1 := dk_seg dksX4_count_0 3 rfl rfl
theorem dksX4_count_2 : cX4_count.data.toList.drop 56 = dktX4_count_2 := dk_seg dksX4_count_1 53 rfl rfl
theorem dksX4_count_3 : cX4_count.data.toList.drop 80 = dktX4_count_3 := dk_seg dksX4_count_2 24 rfl rfl
theorem dksX4_count_4 : cX4_count.data.toList.drop 104 = dktX4_count_4 := dk_seg dksX4_count_3 24 rfl rfl
theorem dksX4_count_5 : cX4_count.data.toList.drop 127 = dktX4_count_5 := dk_seg dksX4_count_4 23 rfl rfl
theorem dksX4_count_6 : cX4_count.data.toList.drop 151 = dktX4_count_6 := dk_seg dksX4_count_5 24 rfl rfl
theorem dX4_count_0 : decode cX4_count 0 = .ok (.iconst 0, 1) := dk_3 (dk_at dksX4_count_0 0 rfl rfl)
theorem dX4_count_1 : decode cX4_count 1 = .ok (.istore_n 2, 1) := dk_61 (dk_at dksX4_count_0 1 rfl rfl)
theorem dX4_count_2 : decode cX4_count 2 = .ok (.iload_n 1, 1) := dk_27 (dk_at dksX4_count_0 2 rfl rfl)
theorem dX4_count_3 : decode cX4_count 3 = .ok (.tableswitch 161 0 9 #[53, 62, 70, 102, 111, 120, 129, 138, 147, 156], 53) := by decide +kernel
theorem dX4_count_56 : decode cX4_count 56 = .ok (.aload_n 0, 1) := dk_42 (dk_at dksX4_count_2 0 rfl rfl)
theorem dX4_count_57 : decode cX4_count 57 = .ok (.getfield 9, 3) := dk_180 0 9 (dk_at dksX4_count_2 1 rfl rfl)
theorem dX4_count_60 : decode cX4_count 60 = .ok (.sipush 924, 3) := dk_17 3 156 (dk_at dksX4_count_2 4 rfl rfl)
theorem dX4_count_63 : decode cX4_count 63 = .ok (.iaload, 1) := dk_46 (dk_at dksX4_count_2 7 rfl rfl)
theorem dX4_count_64 : decode cX4_count 64 = .ok (.ireturn, 1) := dk_172 (dk_at dksX4_count_2 8 rfl rfl)
theorem dX4_count_65 : decode cX4_count 65 = .ok (.aload_n 0, 1) := dk_42 (dk_at dksX4_count_2 9 rfl rfl)
theorem dX4_count_66 : decode cX4_count 66 = .ok (.invokevirtual 191, 3) := dk_182 0 191 (dk_at dksX4_count_2 10 rfl rfl)
theorem dX4_count_69 : decode cX4_count 69 = .ok (.invokestatic 194, 3) := dk_184 0 194 (dk_at dksX4_count_2 13 rfl rfl)
theorem dX4_count_72 : decode cX4_count 72 = .ok (.ireturn, 1) := dk_172 (dk_at dksX4_count_2 16 rfl rfl)
theorem dX4_count_73 : decode cX4_count 73 = .ok (.iconst 0, 1) := dk_3 (dk_at dksX4_count_2 17 rfl rfl)
theorem dX4_count_74 : decode cX4_count 74 = .ok (.istore_n 3, 1) := dk_62 (dk_at dksX4_count_2 18 rfl rfl)
theorem dX4_count_75 : decode cX4_count 75 = .ok (.iload_n 3, 1) := dk_29 (dk_at dksX4_count_2 19 rfl rfl)
theorem dX4_count_76 : decode cX4_count 76 = .ok (.aload_n 0, 1) := dk_42 (dk_at dksX4_count_2 20 rfl rfl)
theorem dX4_count_77 : decode cX4_count 77 = .ok (.getfield 9, 3) := dk_180 0 9 (dk_at dksX4_count_2 21 rfl rfl)
theorem dX4_count_80 : decode cX4_count 80 = .ok (.sipush 924, 3) := dk_17 3 156 (dk_at dksX4_count_3 0 rfl rfl)
theorem dX4_count_83 : decode cX4_count 83 = .ok (.iaload, 1) := dk_46 (dk_at dksX4_count_3 3 rfl rfl)
theorem dX4_count_84 : decode cX4_count 84 = .ok (.if_icmp .ge 19, 3) := dk_162 0 19 (dk_at dksX4_count_3 4 rfl rfl)
theorem dX4_count_87 : decode cX4_count 87 = .ok (.iload_n 2, 1) := dk_28 (dk_at dksX4_count_3 7 rfl rfl)
theorem dX4_count_88 : decode cX4_count 88 = .ok (.aload_n 0, 1) := dk_42 (dk_at dksX4_count_3 8 rfl rfl)
theorem dX4_count_89 : decode cX4_count 89 = .ok (.iload_n 3, 1) := dk_29 (dk_at dksX4_count_3 9 rfl rfl)
theorem dX4_count_90 : decode cX4_count 90 = .ok (.bipush 13, 2) := dk_16 13 (dk_at dksX4_count_3 10 rfl rfl)
theorem dX4_count_92 : decode cX4_count 92 = .ok (.invokevirtual 55, 3) := dk_182 0 55 (dk_at dksX4_count_3 12 rfl rfl)
theorem dX4_count_95 : decode cX4_count 95 = .ok (.iadd, 1) := dk_96 (dk_at dksX4_count_3 15 rfl rfl)
theorem dX4_count_96 : decode cX4_count 96 = .ok (.istore_n 2, 1) := dk_61 (dk_at dksX4_count_3 16 rfl rfl)
theorem dX4_count_97 : decode cX4_count 97 = .ok (.iinc 3 1, 3) := dk_132 3 1 (dk_at dksX4_count_3 17 rfl rfl)
theorem dX4_count_100 : decode cX4_count 100 = .ok (.goto (-25), 3) := dk_167 255 231 (dk_at dksX4_count_3 20 rfl rfl)
theorem dX4_count_103 : decode cX4_count 103 = .ok (.iload_n 2, 1) := dk_28 (dk_at dksX4_count_3 23 rfl rfl)
theorem dX4_count_104 : decode cX4_count 104 = .ok (.ireturn, 1) := dk_172 (dk_at dksX4_count_4 0 rfl rfl)
theorem dX4_count_105 : decode cX4_count 105 = .ok (.aload_n 0, 1) := dk_42 (dk_at dksX4_count_4 1 rfl rfl)
theorem dX4_count_106 : decode cX4_count 106 = .ok (.getfield 9, 3) := dk_180 0 9 (dk_at dksX4_count_4 2 rfl rfl)
theorem dX4_count_109 : decode cX4_count 109 = .ok (.sipush 931, 3) := dk_17 3 163 (dk_at dksX4_count_4 5 rfl rfl)
theorem dX4_count_112 : decode cX4_count 112 = .ok (.iaload, 1) := dk_46 (dk_at dksX4_count_4 8 rfl rfl)
theorem dX4_count_113 : decode cX4_count 113 = .ok (.ireturn, 1) := dk_172 (dk_at dksX4_count_4 9 rfl rfl)
theorem dX4_count_114 : decode cX4_count 114 = .ok (.aload_n 0, 1) := dk_42 (dk_at dksX4_count_4 10 rfl rfl)
theorem dX4_count_115 : decode cX4_count 115 = .ok (.getfield 9, 3) := dk_180 0 9 (dk_at dksX4_count_4 11 rfl rfl)
theorem dX4_count_118 : decode cX4_count 118 = .ok (.sipush 927, 3) := dk_17 3 159 (dk_at dksX4_count_4 14 rfl rfl)
theorem dX4_count_121 : decode cX4_count 121 = .ok (.iaload, 1) := dk_46 (dk_at dksX4_count_4 17 rfl rfl)
theorem dX4_count_122 : decode cX4_count 122 = .ok (.ireturn, 1) := dk_172 (dk_at dksX4_count_4 18 rfl rfl)
theorem dX4_count_123 : decode cX4_count 123 = .ok (.aload_n 0, 1) := dk_42 (dk_at dksX4_count_4 19 rfl rfl)
theorem dX4_count_124 : decode cX4_count 124 = .ok (.getfield 9, 3) := dk_180 0 9 (dk_at dksX4_count_4 20 rfl rfl)
theorem dX4_count_127 : decode cX4_count 127 = .ok (.sipush 926, 3) := dk_17 3 158 (dk_at dksX4_count_5 0 rfl rfl)
theorem dX4_count_130 : decode cX4_count 130 = .ok (.iaload, 1) := dk_46 (dk_at dksX4_count_5 3 rfl rfl)
theorem dX4_count_131 : decode cX4_count 131 = .ok (.ireturn, 1) := dk_172 (dk_at dksX4_count_5 4 rfl rfl)
theorem dX4_count_132 : decode cX4_count 132 = .ok (.aload_n 0, 1) := dk_42 (dk_at dksX4_count_5 5 rfl rfl)
theorem dX4_count_133 : decode cX4_count 133 = .ok (.getfield 9, 3) := dk_180 0 9 (dk_at dksX4_count_5 6 rfl rfl)
theorem dX4_count_136 : decode cX4_count 136 = .ok (.sipush 925, 3) := dk_17 3 157 (dk_at dksX4_count_5 9 rfl rfl)
theorem dX4_count_139 : decode cX4_count 139 = .ok (.iaload, 1) := dk_46 (dk_at dksX4_count_5 12 rfl rfl)
theorem dX4_count_140 : decode cX4_count 140 = .ok (.ireturn, 1) := dk_172 (dk_at dksX4_count_5 13 rfl rfl)
theorem dX4_count_141 : decode cX4_count 141 = .ok (.aload_n 0, 1) := dk_42 (dk_at dksX4_count_5 14 rfl rfl)
theorem dX4_count_142 : decode cX4_count 142 = .ok (.getfield 9, 3) := dk_180 0 9 (dk_at dksX4_count_5 15 rfl rfl)
theorem dX4_count_145 : decode cX4_count 145 = .ok (.sipush 993, 3) := dk_17 3 225 (dk_at dksX4_count_5 18 rfl rfl)
theorem dX4_count_148 : decode cX4_count 148 = .ok (.iaload, 1) := dk_46 (dk_at dksX4_count_5 21 rfl rfl)
theorem dX4_count_149 : decode cX4_count 149 = .ok (.ireturn, 1) := dk_172 (dk_at dksX4_count_5 22 rfl rfl)
theorem dX4_count_150 : decode cX4_count 150 = .ok (.aload_n 0, 1) := dk_42 (dk_at dksX4_count_5 23 rfl rfl)
theorem dX4_count_151 : decode cX4_count 151 = .ok (.getfield 9, 3) := dk_180 0 9 (dk_at dksX4_count_6 0 rfl rfl)
theorem dX4_count_154 : decode cX4_count 154 = .ok (.sipush 962, 3) := dk_17 3 194 (dk_at dksX4_count_6 3 rfl rfl)
theorem dX4_count_157 : decode cX4_count 157 = .ok (.iaload, 1) := dk_46 (dk_at dksX4_count_6 6 rfl rfl)
theorem dX4_count_158 : decode cX4_count 158 = .ok (.ireturn, 1) := dk_172 (dk_at dksX4_count_6 7 rfl rfl)
theorem dX4_count_159 : decode cX4_count 159 = .ok (.aload_n 0, 1) := dk_42 (dk_at dksX4_count_6 8 rfl rfl)
theorem dX4_count_160 : decode cX4_count 160 = .ok (.getfield 207, 3) := dk_180 0 207 (dk_at dksX4_count_6 9 rfl rfl)
theorem dX4_count_163 : decode cX4_count 163 = .ok (.ireturn, 1) := dk_172 (dk_at dksX4_count_6 12 rfl rfl)
theorem dX4_count_164 : decode cX4_count 164 = .ok (.iconst (-1), 1) := dk_2 (dk_at dksX4_count_6 13 rfl rfl)
theorem dX4_count_165 : decode cX4_count 165 = .ok (.ireturn, 1) := dk_172 (dk_at dksX4_count_6 14 rfl rfl)
theorem q78 : (Jvm.Cond.initialized "ActorTreesModel") ∈ lw_all := lw_g (lw_at lw_m1 5 rfl) rfl
theorem q1280 : (Jvm.Cond.instantiable "ActorTreesModel" (22 : Nat)) ∈ lw_all := lw_g (lw_at lw_m6 7 rfl) rfl
theorem q1282 : (Jvm.Cond.instanceMethod ({ cls := "ActorTreesModel", name := "<init>", desc := "()V" } : Jvm.MethodName)) ∈ lw_all := lw_g (lw_at lw_m6 9 rfl) rfl
theorem q1283 : (Jvm.Cond.code ({ cls := "ActorTreesModel", name := "<init>", desc := "()V" } : Jvm.MethodName) prog_23_method_1_code (1 : Nat) (Option.none : Option Jvm.ClassFile.FieldType)) ∈ lw_all := lw_g (lw_at lw_m6 10 rfl) rfl
theorem q1284 : (Jvm.Cond.methodLink "ActorTreesModel" (3 : Nat) ({ cls := "java/lang/Object", name := "<init>", desc := "()V" } : Jvm.MethodName)) ∈ lw_all := lw_g (lw_at lw_m6 11 rfl) rfl
theorem q1285 : (Jvm.Cond.classLink "ActorTreesModel" (37 : Nat) "[[I") ∈ lw_all := lw_g (lw_at lw_m6 12 rfl) rfl
theorem q1287 : (Jvm.Cond.fieldLink "ActorTreesModel" (9 : Nat) "ActorTreesModel" "g" "[I") ∈ lw_all := lw_g (lw_at lw_m6 14 rfl) rfl
theorem q1288 : (Jvm.Cond.fieldLink "ActorTreesModel" (13 : Nat) "ActorTreesModel" "saved" "[I") ∈ lw_all := lw_g (lw_at lw_m6 15 rfl) rfl
theorem q1289 : (Jvm.Cond.fieldLink "ActorTreesModel" (16 : Nat) "ActorTreesModel" "whole" "[I") ∈ lw_all := lw_g (lw_at lw_m6 16 rfl) rfl
theorem q1290 : (Jvm.Cond.fieldLink "ActorTreesModel" (19 : Nat) "ActorTreesModel" "kept" "[I") ∈ lw_all := lw_g (lw_at lw_m6 17 rfl) rfl
theorem q1291 : (Jvm.Cond.fieldLink "ActorTreesModel" (248 : Nat) "ActorTreesModel" "isKept" "Z") ∈ lw_all := lw_g (lw_at lw_m6 18 rfl) rfl
theorem q1292 : (Jvm.Cond.fieldLink "ActorTreesModel" (98 : Nat) "ActorTreesModel" "hasFailed" "Z") ∈ lw_all := lw_g (lw_at lw_m6 19 rfl) rfl
theorem q1293 : (Jvm.Cond.fieldLink "ActorTreesModel" (90 : Nat) "ActorTreesModel" "restarted" "I") ∈ lw_all := lw_g (lw_at lw_m6 20 rfl) rfl
theorem q1294 : (Jvm.Cond.fieldLink "ActorTreesModel" (142 : Nat) "ActorTreesModel" "dealt" "I") ∈ lw_all := lw_g (lw_at lw_m6 21 rfl) rfl
theorem q1295 : (Jvm.Cond.fieldLink "ActorTreesModel" (22 : Nat) "ActorTreesModel" "chain" "[I") ∈ lw_all := lw_g (lw_at lw_m6 22 rfl) rfl
theorem q1296 : (Jvm.Cond.fieldLink "ActorTreesModel" (102 : Nat) "ActorTreesModel" "chained" "I") ∈ lw_all := lw_g (lw_at lw_m6 23 rfl) rfl
theorem q1297 : (Jvm.Cond.fieldLink "ActorTreesModel" (25 : Nat) "ActorTreesModel" "tape" "[I") ∈ lw_all := lw_g (lw_at lw_m6 24 rfl) rfl
theorem q1298 : (Jvm.Cond.fieldLink "ActorTreesModel" (207 : Nat) "ActorTreesModel" "tapeMany" "I") ∈ lw_all := lw_g (lw_at lw_m6 25 rfl) rfl
theorem q1299 : (Jvm.Cond.fieldLink "ActorTreesModel" (28 : Nat) "ActorTreesModel" "held" "[I") ∈ lw_all := lw_g (lw_at lw_m6 26 rfl) rfl
theorem q1300 : (Jvm.Cond.fieldLink "ActorTreesModel" (31 : Nat) "ActorTreesModel" "heldActor" "[I") ∈ lw_all := lw_g (lw_at lw_m6 27 rfl) rfl
theorem q1301 : (Jvm.Cond.fieldLink "ActorTreesModel" (34 : Nat) "ActorTreesModel" "rowSize" "[I") ∈ lw_all := lw_g (lw_at lw_m6 28 rfl) rfl
theorem q1302 : (Jvm.Cond.fieldLink "ActorTreesModel" (39 : Nat) "ActorTreesModel" "rows" "[[I") ∈ lw_all := lw_g (lw_at lw_m6 29 rfl) rfl
theorem q1303 : (Jvm.Cond.fieldLink "ActorTreesModel" (42 : Nat) "ActorTreesModel" "queue" "[I") ∈ lw_all := lw_g (lw_at lw_m6 30 rfl) rfl
theorem q1304 : (Jvm.Cond.fieldLink "ActorTreesModel" (45 : Nat) "ActorTreesModel" "ways" "[I") ∈ lw_all := lw_g (lw_at lw_m6 31 rfl) rfl
theorem q1305 : (Jvm.Cond.fieldLink "ActorTreesModel" (158 : Nat) "ActorTreesModel" "how" "I") ∈ lw_all := lw_g (lw_at lw_m6 32 rfl) rfl
theorem q1306 : (Jvm.Cond.fieldLink "ActorTreesModel" (213 : Nat) "ActorTreesModel" "spot" "I") ∈ lw_all := lw_g (lw_at lw_m6 33 rfl) rfl
theorem q1307 : (Jvm.Cond.fieldLink "ActorTreesModel" (210 : Nat) "ActorTreesModel" "fault" "I") ∈ lw_all := lw_g (lw_at lw_m6 34 rfl) rfl
theorem q1308 : (Jvm.Cond.fieldLink "ActorTreesModel" (48 : Nat) "ActorTreesModel" "told" "[I") ∈ lw_all := lw_g (lw_at lw_m6 35 rfl) rfl
theorem q1309 : (Jvm.Cond.laysFinal "ActorTreesModel" "ActorTreesModel" "g" "[I") ∈ lw_all := lw_g (lw_at lw_m6 36 rfl) rfl
theorem q1310 : (Jvm.Cond.soleField "ActorTreesModel" "g") ∈ lw_all := lw_g (lw_at lw_m6 37 rfl) rfl
theorem q1311 : (Jvm.Cond.laysFinal "ActorTreesModel" "ActorTreesModel" "saved" "[I") ∈ lw_all := lw_g (lw_at lw_m6 38 rfl) rfl
theorem q1312 : (Jvm.Cond.soleField "ActorTreesModel" "saved") ∈ lw_all := lw_g (lw_at lw_m6 39 rfl) rfl
theorem q1313 : (Jvm.Cond.laysFinal "ActorTreesModel" "ActorTreesModel" "whole" "[I") ∈ lw_all := lw_g (lw_at lw_m6 40 rfl) rfl
theorem q1314 : (Jvm.Cond.soleField "ActorTreesModel" "whole") ∈ lw_all := lw_g (lw_at lw_m6 41 rfl) rfl
theorem q1315 : (Jvm.Cond.laysFinal "ActorTreesModel" "ActorTreesModel" "kept" "[I") ∈ lw_all := lw_g (lw_at lw_m6 42 rfl) rfl
theorem q1316 : (Jvm.Cond.soleField "ActorTreesModel" "kept") ∈ lw_all := lw_g (lw_at lw_m6 43 rfl) rfl
theorem q1317 : (Jvm.Cond.lays "ActorTreesModel" "ActorTreesModel" "isKept" "Z") ∈ lw_all := lw_g (lw_at lw_m6 44 rfl) rfl
theorem q1318 : (Jvm.Cond.soleField "ActorTreesModel" "isKept") ∈ lw_all := lw_g (lw_at lw_m6 45 rfl) rfl
theorem q1319 : (Jvm.Cond.lays "ActorTreesModel" "ActorTreesModel" "hasFailed" "Z") ∈ lw_all := lw_g (lw_at lw_m6 46 rfl) rfl
theorem q1320 : (Jvm.Cond.soleField "ActorTreesModel" "hasFailed") ∈ lw_all := lw_g (lw_at lw_m6 47 rfl) rfl
theorem q1321 : (Jvm.Cond.lays "ActorTreesModel" "ActorTreesModel" "restarted" "I") ∈ lw_all := lw_g (lw_at lw_m6 48 rfl) rfl
theorem q1322 : (Jvm.Cond.soleField "ActorTreesModel" "restarted") ∈ lw_all := lw_g (lw_at lw_m6 49 rfl) rfl
theorem q1323 : (Jvm.Cond.lays "ActorTreesModel" "ActorTreesModel" "dealt" "I") ∈ lw_all := lw_g (lw_at lw_m6 50 rfl) rfl
theorem q1324 : (Jvm.Cond.soleField "ActorTreesModel" "dealt") ∈ lw_all := lw_g (lw_at lw_m6 51 rfl) rfl
theorem q1325 : (Jvm.Cond.laysFinal "ActorTreesModel" "ActorTreesModel" "chain" "[I") ∈ lw_all := lw_g (lw_at lw_m6 52 rfl) rfl
theorem q1326 : (Jvm.Cond.soleField "ActorTreesModel" "chain") ∈ lw_all := lw_g (lw_at lw_m6 53 rfl) rfl
theorem q1327 : (Jvm.Cond.lays "ActorTreesModel" "ActorTreesModel" "chained" "I") ∈ lw_all := lw_g (lw_at lw_m6 54 rfl) rfl
theorem q1328 : (Jvm.Cond.soleField "ActorTreesModel" "chained") ∈ lw_all := lw_g (lw_at lw_m6 55 rfl) rfl
theorem q1329 : (Jvm.Cond.laysFinal "ActorTreesModel" "ActorTreesModel" "tape" "[I") ∈ lw_all := lw_g (lw_at lw_m6 56 rfl) rfl
theorem q1330 : (Jvm.Cond.soleField "ActorTreesModel" "tape") ∈ lw_all := lw_g (lw_at lw_m6 57 rfl) rfl
theorem q1331 : (Jvm.Cond.lays "ActorTreesModel" "ActorTreesModel" "tapeMany" "I") ∈ lw_all := lw_g (lw_at lw_m6 58 rfl) rfl
theorem q1332 : (Jvm.Cond.soleField "ActorTreesModel" "tapeMany") ∈ lw_all := lw_g (lw_at lw_m6 59 rfl) rfl
theorem q1333 : (Jvm.Cond.laysFinal "ActorTreesModel" "ActorTreesModel" "held" "[I") ∈ lw_all := lw_g (lw_at lw_m6 60 rfl) rfl
theorem q1334 : (Jvm.Cond.soleField "ActorTreesModel" "held") ∈ lw_all := lw_g (lw_at lw_m6 61 rfl) rfl
theorem q1335 : (Jvm.Cond.laysFinal "ActorTreesModel" "ActorTreesModel" "heldActor" "[I") ∈ lw_all := lw_g (lw_at lw_m6 62 rfl) rfl
theorem q1336 : (Jvm.Cond.soleField "ActorTreesModel" "heldActor") ∈ lw_all := lw_g (lw_at lw_m6 63 rfl) rfl
theorem q1337 : (Jvm.Cond.laysFinal "ActorTreesModel" "ActorTreesModel" "rowSize" "[I") ∈ lw_all := lw_g (lw_at lw_m6 64 rfl) rfl
theorem q1338 : (Jvm.Cond.soleField "ActorTreesModel" "rowSize") ∈ lw_all := lw_g (lw_at lw_m6 65 rfl) rfl
theorem q1339 : (Jvm.Cond.laysFinal "ActorTreesModel" "ActorTreesModel" "rows" "[[I") ∈ lw_all := lw_g (lw_at lw_m6 66 rfl) rfl
theorem q1340 : (Jvm.Cond.soleField "ActorTreesModel" "rows") ∈ lw_all := lw_g (lw_at lw_m6 67 rfl) rfl
theorem q1341 : (Jvm.Cond.laysFinal "ActorTreesModel" "ActorTreesModel" "queue" "[I") ∈ lw_all := lw_g (lw_at lw_m6 68 rfl) rfl
theorem q1342 : (Jvm.Cond.soleField "ActorTreesModel" "queue") ∈ lw_all := lw_g (lw_at lw_m6 69 rfl) rfl
theorem q1343 : (Jvm.Cond.laysFinal "ActorTreesModel" "ActorTreesModel" "ways" "[I") ∈ lw_all := lw_g (lw_at lw_m6 70 rfl) rfl
theorem q1344 : (Jvm.Cond.soleField "ActorTreesModel" "ways") ∈ lw_all := lw_g (lw_at lw_m6 71 rfl) rfl
theorem q1345 : (Jvm.Cond.lays "ActorTreesModel" "ActorTreesModel" "how" "I") ∈ lw_all := lw_g (lw_at lw_m6 72 rfl) rfl
theorem q1346 : (Jvm.Cond.soleField "ActorTreesModel" "how") ∈ lw_all := lw_g (lw_at lw_m6 73 rfl) rfl
theorem q1347 : (Jvm.Cond.lays "ActorTreesModel" "ActorTreesModel" "spot" "I") ∈ lw_all := lw_g (lw_at lw_m6 74 rfl) rfl
theorem q1348 : (Jvm.Cond.soleField "ActorTreesModel" "spot") ∈ lw_all := lw_g (lw_at lw_m6 75 rfl) rfl
theorem q1349 : (Jvm.Cond.lays "ActorTreesModel" "ActorTreesModel" "fault" "I") ∈ lw_all := lw_g (lw_at lw_m6 76 rfl) rfl
theorem q1350 : (Jvm.Cond.soleField "ActorTreesModel" "fault") ∈ lw_all := lw_g (lw_at lw_m6 77 rfl) rfl
theorem q1351 : (Jvm.Cond.laysFinal "ActorTreesModel" "ActorTreesModel" "told" "[I") ∈ lw_all := lw_g (lw_at lw_m6 78 rfl) rfl
theorem q1352 : (Jvm.Cond.soleField "ActorTreesModel" "told") ∈ lw_all := lw_g (lw_at lw_m6 79 rfl) rfl
theorem q1353 : (Jvm.Cond.superclass "ActorTreesModel" "java/lang/Object") ∈ lw_all := lw_g (lw_at lw_m6 80 rfl) rfl
theorem q1355 : (Jvm.Cond.instanceMethod ({ cls := "ActorTreesModel", name := "actor", desc := "(III)I" } : Jvm.MethodName)) ∈ lw_all := lw_g (lw_at lw_m6 82 rfl) rfl
theorem q1356 : (Jvm.Cond.selects "ActorTreesModel" ({ cls := "ActorTreesModel", name := "actor", desc := "(III)I" } : Jvm.MethodName) ({ cls := "ActorTreesModel", name := "actor", desc := "(III)I" } : Jvm.MethodName)) ∈ lw_all := lw_g (lw_at lw_m6 83 rfl) rfl
theorem q1357 : (Jvm.Cond.code ({ cls := "ActorTreesModel", name := "actor", desc := "(III)I" } : Jvm.MethodName) prog_23_method_36_code (7 : Nat) (Option.some Jvm.ClassFile.FieldType.int)) ∈ lw_all := lw_g (lw_at lw_m6 84 rfl) rfl
theorem q1358 : (Jvm.Cond.methodLink "ActorTreesModel" (173 : Nat) ({ cls := "ActorTreesModel", name := "canBe", desc := "(III)I" } : Jvm.MethodName)) ∈ lw_all := lw_g (lw_at lw_m6 85 rfl) rfl
theorem q1359 : (Jvm.Cond.privateMethod ({ cls := "ActorTreesModel", name := "canBe", desc := "(III)I" } : Jvm.MethodName)) ∈ lw_tbl := lw_at lw_m6 86 rfl
theorem q1360 : (Jvm.Cond.instanceMethod ({ cls := "ActorTreesModel", name := "canBe", desc := "(III)I" } : Jvm.MethodName)) ∈ lw_all := lw_g (lw_at lw_m6 87 rfl) rfl
theorem q1361 : (Jvm.Cond.code ({ cls := "ActorTreesModel", name := "canBe", desc := "(III)I" } : Jvm.MethodName) prog_23_method_35_code (4 : Nat) (Option.some Jvm.ClassFile.FieldType.int)) ∈ lw_all := lw_g (lw_at lw_m6 88 rfl) rfl
theorem q1362 : (Jvm.Cond.methodLink "ActorTreesModel" (167 : Nat) ({ cls := "ActorTreesModel", name := "isActor", desc := "(I)Z" } : Jvm.MethodName)) ∈ lw_all := lw_g (lw_at lw_m6 89 rfl) rfl
theorem q1363 : (Jvm.Cond.privateMethod ({ cls := "ActorTreesModel", name := "isActor", desc := "(I)Z" } : Jvm.MethodName)) ∈ lw_tbl := lw_at lw_m6 90 rfl
theorem q1364 : (Jvm.Cond.instanceMethod ({ cls := "ActorTreesModel", name := "isActor", desc := "(I)Z" } : Jvm.MethodName)) ∈ lw_all := lw_g (lw_at lw_m6 91 rfl) rfl
theorem q1365 : (Jvm.Cond.code ({ cls := "ActorTreesModel", name := "isActor", desc := "(I)Z" } : Jvm.MethodName) prog_23_method_6_code (2 : Nat) (Option.some Jvm.ClassFile.FieldType.boolean)) ∈ lw_all := lw_g (lw_at lw_m6 92 rfl) rfl
theorem q1366 : (Jvm.Cond.methodLink "ActorTreesModel" (51 : Nat) ({ cls := "ActorTreesModel", name := "in", desc := "(III)Z" } : Jvm.MethodName)) ∈ lw_all := lw_g (lw_at lw_m6 93 rfl) rfl
theorem q1367 : (Jvm.Cond.static ({ cls := "ActorTreesModel", name := "in", desc := "(III)Z" } : Jvm.MethodName)) ∈ lw_all := lw_g (lw_at lw_m6 94 rfl) rfl
theorem q1368 : (Jvm.Cond.code ({ cls := "ActorTreesModel", name := "in", desc := "(III)Z" } : Jvm.MethodName) prog_23_method_2_code (3 : Nat) (Option.some Jvm.ClassFile.FieldType.boolean)) ∈ lw_all := lw_g (lw_at lw_m6 95 rfl) rfl
theorem q1369 : (Jvm.Cond.methodLink "ActorTreesModel" (170 : Nat) ({ cls := "ActorTreesModel", name := "isRule", desc := "(I)Z" } : Jvm.MethodName)) ∈ lw_all := lw_g (lw_at lw_m6 96 rfl) rfl
theorem q1370 : (Jvm.Cond.static ({ cls := "ActorTreesModel", name := "isRule", desc := "(I)Z" } : Jvm.MethodName)) ∈ lw_all := lw_g (lw_at lw_m6 97 rfl) rfl
theorem q1371 : (Jvm.Cond.code ({ cls := "ActorTreesModel", name := "isRule", desc := "(I)Z" } : Jvm.MethodName) prog_23_method_34_code (1 : Nat) (Option.some Jvm.ClassFile.FieldType.boolean)) ∈ lw_all := lw_g (lw_at lw_m6 98 rfl) rfl
theorem q1372 : (Jvm.Cond.methodLink "ActorTreesModel" (59 : Nat) ({ cls := "ActorTreesModel", name := "isLive", desc := "(I)Z" } : Jvm.MethodName)) ∈ lw_all := lw_g (lw_at lw_m6 99 rfl) rfl
theorem q1373 : (Jvm.Cond.privateMethod ({ cls := "ActorTreesModel", name := "isLive", desc := "(I)Z" } : Jvm.MethodName)) ∈ lw_tbl := lw_at lw_m6 100 rfl
theorem q1374 : (Jvm.Cond.instanceMethod ({ cls := "ActorTreesModel", name := "isLive", desc := "(I)Z" } : Jvm.MethodName)) ∈ lw_all := lw_g (lw_at lw_m6 101 rfl) rfl
theorem q1375 : (Jvm.Cond.code ({ cls := "ActorTreesModel", name := "isLive", desc := "(I)Z" } : Jvm.MethodName) prog_23_method_7_code (2 : Nat) (Option.some Jvm.ClassFile.FieldType.boolean)) ∈ lw_all := lw_g (lw_at lw_m6 102 rfl) rfl
theorem q1376 : (Jvm.Cond.methodLink "ActorTreesModel" (55 : Nat) ({ cls := "ActorTreesModel", name := "at", desc := "(II)I" } : Jvm.MethodName)) ∈ lw_all := lw_g (lw_at lw_m6 103 rfl) rfl
theorem q1377 : (Jvm.Cond.privateMethod ({ cls := "ActorTreesModel", name := "at", desc := "(II)I" } : Jvm.MethodName)) ∈ lw_tbl := lw_at lw_m6 104 rfl
theorem q1378 : (Jvm.Cond.instanceMethod ({ cls := "ActorTreesModel", name := "at", desc := "(II)I" } : Jvm.MethodName)) ∈ lw_all := lw_g (lw_at lw_m6 105 rfl) rfl
theorem q1379 : (Jvm.Cond.code ({ cls := "ActorTreesModel", name := "at", desc := "(II)I" } : Jvm.MethodName) prog_23_method_4_code (3 : Nat) (Option.some Jvm.ClassFile.FieldType.int)) ∈ lw_all := lw_g (lw_at lw_m6 106 rfl) rfl
theorem q1380 : (Jvm.Cond.methodLink "ActorTreesModel" (63 : Nat) ({ cls := "ActorTreesModel", name := "sets", desc := "(III)V" } : Jvm.MethodName)) ∈ lw_all := lw_g (lw_at lw_m6 107 rfl) rfl
theorem q1381 : (Jvm.Cond.privateMethod ({ cls := "ActorTreesModel", name := "sets", desc := "(III)V" } : Jvm.MethodName)) ∈ lw_tbl := lw_at lw_m6 108 rfl
theorem q1382 : (Jvm.Cond.instanceMethod ({ cls := "ActorTreesModel", name := "sets", desc := "(III)V" } : Jvm.MethodName)) ∈ lw_all := lw_g (lw_at lw_m6 109 rfl) rfl
theorem q1383 : (Jvm.Cond.code ({ cls := "ActorTreesModel", name := "sets", desc := "(III)V" } : Jvm.MethodName) prog_23_method_5_code (4 : Nat) (Option.none : Option Jvm.ClassFile.FieldType)) ∈ lw_all := lw_g (lw_at lw_m6 110 rfl) rfl
theorem q1385 : (Jvm.Cond.instanceMethod ({ cls := "ActorTreesModel", name := "tell", desc := "(III)I" } : Jvm.MethodName)) ∈ lw_all := lw_g (lw_at lw_m6 112 rfl) rfl
theorem q1386 : (Jvm.Cond.selects "ActorTreesModel" ({ cls := "ActorTreesModel", name := "tell", desc := "(III)I" } : Jvm.MethodName) ({ cls := "ActorTreesModel", name := "tell", desc := "(III)I" } : Jvm.MethodName)) ∈ lw_all := lw_g (lw_at lw_m6 113 rfl) rfl
theorem q1387 : (Jvm.Cond.code ({ cls := "ActorTreesModel", name := "tell", desc := "(III)I" } : Jvm.MethodName) prog_23_method_38_code (4 : Nat) (Option.some Jvm.ClassFile.FieldType.int)) ∈ lw_all := lw_g (lw_at lw_m6 114 rfl) rfl
theorem q1388 : (Jvm.Cond.methodLink "ActorTreesModel" (177 : Nat) ({ cls := "ActorTreesModel", name := "isNumber", desc := "(I)Z" } : Jvm.MethodName)) ∈ lw_all := lw_g (lw_at lw_m6 115 rfl) rfl
theorem q1389 : (Jvm.Cond.static ({ cls := "ActorTreesModel", name := "isNumber", desc := "(I)Z" } : Jvm.MethodName)) ∈ lw_all := lw_g (lw_at lw_m6 116 rfl) rfl
theorem q1390 : (Jvm.Cond.code ({ cls := "ActorTreesModel", name := "isNumber", desc := "(I)Z" } : Jvm.MethodName) prog_23_method_37_code (1 : Nat) (Option.some Jvm.ClassFile.FieldType.boolean)) ∈ lw_all := lw_g (lw_at lw_m6 117 rfl) rfl
theorem q1391 : (Jvm.Cond.methodLink "ActorTreesModel" (84 : Nat) ({ cls := "ActorTreesModel", name := "sends", desc := "(III)Z" } : Jvm.MethodName)) ∈ lw_all := lw_g (lw_at lw_m6 118 rfl) rfl
theorem q1392 : (Jvm.Cond.privateMethod ({ cls := "ActorTreesModel", name := "sends", desc := "(III)Z" } : Jvm.MethodName)) ∈ lw_tbl := lw_at lw_m6 119 rfl
theorem q1393 : (Jvm.Cond.instanceMethod ({ cls := "ActorTreesModel", name := "sends", desc := "(III)Z" } : Jvm.MethodName)) ∈ lw_all := lw_g (lw_at lw_m6 120 rfl) rfl
theorem q1394 : (Jvm.Cond.code ({ cls := "ActorTreesModel", name := "sends", desc := "(III)Z" } : Jvm.MethodName) prog_23_method_9_code (5 : Nat) (Option.some Jvm.ClassFile.FieldType.boolean)) ∈ lw_all := lw_g (lw_at lw_m6 121 rfl) rfl
theorem q1396 : (Jvm.Cond.instanceMethod ({ cls := "ActorTreesModel", name := "of", desc := "(II)I" } : Jvm.MethodName)) ∈ lw_all := lw_g (lw_at lw_m6 123 rfl) rfl
theorem q1397 : (Jvm.Cond.selects "ActorTreesModel" ({ cls := "ActorTreesModel", name := "of", desc := "(II)I" } : Jvm.MethodName) ({ cls := "ActorTreesModel", name := "of", desc := "(II)I" } : Jvm.MethodName)) ∈ lw_all := lw_g (lw_at lw_m6 124 rfl) rfl
theorem q1398 : (Jvm.Cond.code ({ cls := "ActorTreesModel", name := "of", desc := "(II)I" } : Jvm.MethodName) prog_23_method_41_code (3 : Nat) (Option.some Jvm.ClassFile.FieldType.int)) ∈ lw_all := lw_g (lw_at lw_m6 125 rfl) rfl
theorem q1399 : (Jvm.Cond.methodLink "ActorTreesModel" (115 : Nat) ({ cls := "ActorTreesModel", name := "doing", desc := "(I)I" } : Jvm.MethodName)) ∈ lw_all := lw_g (lw_at lw_m6 126 rfl) rfl
theorem q1400 : (Jvm.Cond.privateMethod ({ cls := "ActorTreesModel", name := "doing", desc := "(I)I" } : Jvm.MethodName)) ∈ lw_tbl := lw_at lw_m6 127 rfl
theorem q1401 : (Jvm.Cond.instanceMethod ({ cls := "ActorTreesModel", name := "doing", desc := "(I)I" } : Jvm.MethodName)) ∈ lw_all := lw_g (lw_at lw_m6 128 rfl) rfl
theorem q1402 : (Jvm.Cond.code ({ cls := "ActorTreesModel", name := "doing", desc := "(I)I" } : Jvm.MethodName) prog_23_method_24_code (2 : Nat) (Option.some Jvm.ClassFile.FieldType.int)) ∈ lw_all := lw_g (lw_at lw_m6 129 rfl) rfl
theorem q1403 : (Jvm.Cond.methodLink "ActorTreesModel" (180 : Nat) ({ cls := "ActorTreesModel", name := "timersOf", desc := "(I)I" } : Jvm.MethodName)) ∈ lw_all := lw_g (lw_at lw_m6 130 rfl) rfl
theorem q1404 : (Jvm.Cond.privateMethod ({ cls := "ActorTreesModel", name := "timersOf", desc := "(I)I" } : Jvm.MethodName)) ∈ lw_tbl := lw_at lw_m6 131 rfl
theorem q1405 : (Jvm.Cond.instanceMethod ({ cls := "ActorTreesModel", name := "timersOf", desc := "(I)I" } : Jvm.MethodName)) ∈ lw_all := lw_g (lw_at lw_m6 132 rfl) rfl
theorem q1406 : (Jvm.Cond.code ({ cls := "ActorTreesModel", name := "timersOf", desc := "(I)I" } : Jvm.MethodName) prog_23_method_39_code (4 : Nat) (Option.some Jvm.ClassFile.FieldType.int)) ∈ lw_all := lw_g (lw_at lw_m6 133 rfl) rfl
theorem q1407 : (Jvm.Cond.methodLink "ActorTreesModel" (94 : Nat) ({ cls := "ActorTreesModel", name := "noted", desc := "(IZ)I" } : Jvm.MethodName)) ∈ lw_all := lw_g (lw_at lw_m6 134 rfl) rfl
theorem q1408 : (Jvm.Cond.privateMethod ({ cls := "ActorTreesModel", name := "noted", desc := "(IZ)I" } : Jvm.MethodName)) ∈ lw_tbl := lw_at lw_m6 135 rfl
theorem q1409 : (Jvm.Cond.instanceMethod ({ cls := "ActorTreesModel", name := "noted", desc := "(IZ)I" } : Jvm.MethodName)) ∈ lw_all := lw_g (lw_at lw_m6 136 rfl) rfl
theorem q1410 : (Jvm.Cond.code ({ cls := "ActorTreesModel", name := "noted", desc := "(IZ)I" } : Jvm.MethodName) prog_23_method_16_code (7 : Nat) (Option.some Jvm.ClassFile.FieldType.int)) ∈ lw_all := lw_g (lw_at lw_m6 137 rfl) rfl
theorem q1411 : (Jvm.Cond.methodLink "ActorTreesModel" (183 : Nat) ({ cls := "ActorTreesModel", name := "childrenOf", desc := "(I)I" } : Jvm.MethodName)) ∈ lw_all := lw_g (lw_at lw_m6 138 rfl) rfl
theorem q1412 : (Jvm.Cond.privateMethod ({ cls := "ActorTreesModel", name := "childrenOf", desc := "(I)I" } : Jvm.MethodName)) ∈ lw_tbl := lw_at lw_m6 139 rfl
theorem q1413 : (Jvm.Cond.instanceMethod ({ cls := "ActorTreesModel", name := "childrenOf", desc := "(I)I" } : Jvm.MethodName)) ∈ lw_all := lw_g (lw_at lw_m6 140 rfl) rfl
theorem q1414 : (Jvm.Cond.code ({ cls := "ActorTreesModel", name := "childrenOf", desc := "(I)I" } : Jvm.MethodName) prog_23_method_40_code (4 : Nat) (Option.some Jvm.ClassFile.FieldType.int)) ∈ lw_all := lw_g (lw_at lw_m6 141 rfl) rfl
theorem q1416 : (Jvm.Cond.instanceMethod ({ cls := "ActorTreesModel", name := "counted", desc := "(I)I" } : Jvm.MethodName)) ∈ lw_all := lw_g (lw_at lw_m6 143 rfl) rfl
theorem q1417 : (Jvm.Cond.selects "ActorTreesModel" ({ cls := "ActorTreesModel", name := "counted", desc := "(I)I" } : Jvm.MethodName) ({ cls := "ActorTreesModel", name := "counted", desc := "(I)I" } : Jvm.MethodName)) ∈ lw_all := lw_g (lw_at lw_m6 144 rfl) rfl
theorem q1418 : (Jvm.Cond.code ({ cls := "ActorTreesModel", name := "counted", desc := "(I)I" } : Jvm.MethodName) prog_23_method_42_code (2 : Nat) (Option.some Jvm.ClassFile.FieldType.int)) ∈ lw_all := lw_g (lw_at lw_m6 145 rfl) rfl
theorem q1419 : (Jvm.Cond.constant "ActorTreesModel" (186 : Nat) (-2000000000 : Int32)) ∈ lw_all := lw_g (lw_at lw_m6 146 rfl) rfl
theorem q1421 : (Jvm.Cond.instanceMethod ({ cls := "ActorTreesModel", name := "message", desc := "(IIZ)I" } : Jvm.MethodName)) ∈ lw_all := lw_g (lw_at lw_m6 148 rfl) rfl
theorem q1422 : (Jvm.Cond.selects "ActorTreesModel" ({ cls := "ActorTreesModel", name := "message", desc := "(IIZ)I" } : Jvm.MethodName) ({ cls := "ActorTreesModel", name := "message", desc := "(IIZ)I" } : Jvm.MethodName)) ∈ lw_all := lw_g (lw_at lw_m6 149 rfl) rfl
theorem q1423 : (Jvm.Cond.code ({ cls := "ActorTreesModel", name := "message", desc := "(IIZ)I" } : Jvm.MethodName) prog_23_method_44_code (6 : Nat) (Option.some Jvm.ClassFile.FieldType.int)) ∈ lw_all := lw_g (lw_at lw_m6 150 rfl) rfl
theorem q1424 : (Jvm.Cond.methodLink "ActorTreesModel" (187 : Nat) ({ cls := "ActorTreesModel", name := "messageAt", desc := "(IIZ)I" } : Jvm.MethodName)) ∈ lw_all := lw_g (lw_at lw_m6 151 rfl) rfl
theorem q1425 : (Jvm.Cond.privateMethod ({ cls := "ActorTreesModel", name := "messageAt", desc := "(IIZ)I" } : Jvm.MethodName)) ∈ lw_tbl := lw_at lw_m6 152 rfl
theorem q1426 : (Jvm.Cond.instanceMethod ({ cls := "ActorTreesModel", name := "messageAt", desc := "(IIZ)I" } : Jvm.MethodName)) ∈ lw_all := lw_g (lw_at lw_m6 153 rfl) rfl
theorem q1427 : (Jvm.Cond.code ({ cls := "ActorTreesModel", name := "messageAt", desc := "(IIZ)I" } : Jvm.MethodName) prog_23_method_43_code (4 : Nat) (Option.some Jvm.ClassFile.FieldType.int)) ∈ lw_all := lw_g (lw_at lw_m6 154 rfl) rfl
theorem q1429 : (Jvm.Cond.instanceMethod ({ cls := "ActorTreesModel", name := "sender", desc := "(IIZ)I" } : Jvm.MethodName)) ∈ lw_all := lw_g (lw_at lw_m6 156 rfl) rfl
theorem q1430 : (Jvm.Cond.selects "ActorTreesModel" ({ cls := "ActorTreesModel", name := "sender", desc := "(IIZ)I" } : Jvm.MethodName) ({ cls := "ActorTreesModel", name := "sender", desc := "(IIZ)I" } : Jvm.MethodName)) ∈ lw_all := lw_g (lw_at lw_m6 157 rfl) rfl
theorem q1431 : (Jvm.Cond.code ({ cls := "ActorTreesModel", name := "sender", desc := "(IIZ)I" } : Jvm.MethodName) prog_23_method_45_code (5 : Nat) (Option.some Jvm.ClassFile.FieldType.int)) ∈ lw_all := lw_g (lw_at lw_m6 158 rfl) rfl
theorem q1433 : (Jvm.Cond.instanceMethod ({ cls := "ActorTreesModel", name := "stack", desc := "(II)I" } : Jvm.MethodName)) ∈ lw_all := lw_g (lw_at lw_m6 160 rfl) rfl
theorem q1434 : (Jvm.Cond.selects "ActorTreesModel" ({ cls := "ActorTreesModel", name := "stack", desc := "(II)I" } : Jvm.MethodName) ({ cls := "ActorTreesModel", name := "stack", desc := "(II)I" } : Jvm.MethodName)) ∈ lw_all := lw_g (lw_at lw_m6 161 rfl) rfl
theorem q1435 : (Jvm.Cond.code ({ cls := "ActorTreesModel", name := "stack", desc := "(II)I" } : Jvm.MethodName) prog_23_method_46_code (3 : Nat) (Option.some Jvm.ClassFile.FieldType.int)) ∈ lw_all := lw_g (lw_at lw_m6 162 rfl) rfl
theorem q1437 : (Jvm.Cond.instanceMethod ({ cls := "ActorTreesModel", name := "watcher", desc := "(II)I" } : Jvm.MethodName)) ∈ lw_all := lw_g (lw_at lw_m6 164 rfl) rfl
theorem q1438 : (Jvm.Cond.selects "ActorTreesModel" ({ cls := "ActorTreesModel", name := "watcher", desc := "(II)I" } : Jvm.MethodName) ({ cls := "ActorTreesModel", name := "watcher", desc := "(II)I" } : Jvm.MethodName)) ∈ lw_all := lw_g (lw_at lw_m6 165 rfl) rfl
theorem q1439 : (Jvm.Cond.code ({ cls := "ActorTreesModel", name := "watcher", desc := "(II)I" } : Jvm.MethodName) prog_23_method_47_code (3 : Nat) (Option.some Jvm.ClassFile.FieldType.int)) ∈ lw_all := lw_g (lw_at lw_m6 166 rfl) rfl
theorem q1441 : (Jvm.Cond.instanceMethod ({ cls := "ActorTreesModel", name := "timer", desc := "(II)I" } : Jvm.MethodName)) ∈ lw_all := lw_g (lw_at lw_m6 168 rfl) rfl
theorem q1442 : (Jvm.Cond.selects "ActorTreesModel" ({ cls := "ActorTreesModel", name := "timer", desc := "(II)I" } : Jvm.MethodName) ({ cls := "ActorTreesModel", name := "timer", desc := "(II)I" } : Jvm.MethodName)) ∈ lw_all := lw_g (lw_at lw_m6 169 rfl) rfl
theorem q1443 : (Jvm.Cond.code ({ cls := "ActorTreesModel", name := "timer", desc := "(II)I" } : Jvm.MethodName) prog_23_method_48_code (8 : Nat) (Option.some Jvm.ClassFile.FieldType.int)) ∈ lw_all := lw_g (lw_at lw_m6 170 rfl) rfl
theorem q1445 : (Jvm.Cond.instanceMethod ({ cls := "ActorTreesModel", name := "stop", desc := "(I)I" } : Jvm.MethodName)) ∈ lw_all := lw_g (lw_at lw_m6 172 rfl) rfl
theorem q1446 : (Jvm.Cond.selects "ActorTreesModel" ({ cls := "ActorTreesModel", name := "stop", desc := "(I)I" } : Jvm.MethodName) ({ cls := "ActorTreesModel", name := "stop", desc := "(I)I" } : Jvm.MethodName)) ∈ lw_all := lw_g (lw_at lw_m6 173 rfl) rfl
theorem q1447 : (Jvm.Cond.code ({ cls := "ActorTreesModel", name := "stop", desc := "(I)I" } : Jvm.MethodName) prog_23_method_51_code (3 : Nat) (Option.some Jvm.ClassFile.FieldType.int)) ∈ lw_all := lw_g (lw_at lw_m6 174 rfl) rfl
theorem q1448 : (Jvm.Cond.methodLink "ActorTreesModel" (191 : Nat) ({ cls := "ActorTreesModel", name := "liveOnes", desc := "()I" } : Jvm.MethodName)) ∈ lw_all := lw_g (lw_at lw_m6 175 rfl) rfl
theorem q1449 : (Jvm.Cond.privateMethod ({ cls := "ActorTreesModel", name := "liveOnes", desc := "()I" } : Jvm.MethodName)) ∈ lw_tbl := lw_at lw_m6 176 rfl
theorem q1450 : (Jvm.Cond.instanceMethod ({ cls := "ActorTreesModel", name := "liveOnes", desc := "()I" } : Jvm.MethodName)) ∈ lw_all := lw_g (lw_at lw_m6 177 rfl) rfl
theorem q1451 : (Jvm.Cond.code ({ cls := "ActorTreesModel", name := "liveOnes", desc := "()I" } : Jvm.MethodName) prog_23_method_49_code (3 : Nat) (Option.some Jvm.ClassFile.FieldType.int)) ∈ lw_all := lw_g (lw_at lw_m6 178 rfl) rfl
theorem q1452 : (Jvm.Cond.methodLink "ActorTreesModel" (194 : Nat) ({ cls := "ActorTreesModel", name := "bits", desc := "(I)I" } : Jvm.MethodName)) ∈ lw_all := lw_g (lw_at lw_m6 179 rfl) rfl
theorem q1453 : (Jvm.Cond.static ({ cls := "ActorTreesModel", name := "bits", desc := "(I)I" } : Jvm.MethodName)) ∈ lw_all := lw_g (lw_at lw_m6 180 rfl) rfl
theorem q1454 : (Jvm.Cond.code ({ cls := "ActorTreesModel", name := "bits", desc := "(I)I" } : Jvm.MethodName) prog_23_method_50_code (3 : Nat) (Option.some Jvm.ClassFile.FieldType.int)) ∈ lw_all := lw_g (lw_at lw_m6 181 rfl) rfl
theorem q1455 : (Jvm.Cond.methodLink "ActorTreesModel" (71 : Nat) ({ cls := "ActorTreesModel", name := "stops", desc := "(I)V" } : Jvm.MethodName)) ∈ lw_all := lw_g (lw_at lw_m6 182 rfl) rfl
theorem q1456 : (Jvm.Cond.privateMethod ({ cls := "ActorTreesModel", name := "stops", desc := "(I)V" } : Jvm.MethodName)) ∈ lw_tbl := lw_at lw_m6 183 rfl
theorem q1457 : (Jvm.Cond.instanceMethod ({ cls := "ActorTreesModel", name := "stops", desc := "(I)V" } : Jvm.MethodName)) ∈ lw_all := lw_g (lw_at lw_m6 184 rfl) rfl
theorem q1458 : (Jvm.Cond.code ({ cls := "ActorTreesModel", name := "stops", desc := "(I)V" } : Jvm.MethodName) prog_23_method_14_code (4 : Nat) (Option.none : Option Jvm.ClassFile.FieldType)) ∈ lw_all := lw_g (lw_at lw_m6 185 rfl) rfl
theorem q1459 : (Jvm.Cond.methodLink "ActorTreesModel" (75 : Nat) ({ cls := "ActorTreesModel", name := "stopsChildren", desc := "(I)V" } : Jvm.MethodName)) ∈ lw_all := lw_g (lw_at lw_m6 186 rfl) rfl
theorem q1460 : (Jvm.Cond.privateMethod ({ cls := "ActorTreesModel", name := "stopsChildren", desc := "(I)V" } : Jvm.MethodName)) ∈ lw_tbl := lw_at lw_m6 187 rfl
theorem q1461 : (Jvm.Cond.instanceMethod ({ cls := "ActorTreesModel", name := "stopsChildren", desc := "(I)V" } : Jvm.MethodName)) ∈ lw_all := lw_g (lw_at lw_m6 188 rfl) rfl
theorem q1462 : (Jvm.Cond.code ({ cls := "ActorTreesModel", name := "stopsChildren", desc := "(I)V" } : Jvm.MethodName) prog_23_method_13_code (3 : Nat) (Option.none : Option Jvm.ClassFile.FieldType)) ∈ lw_all := lw_g (lw_at lw_m6 189 rfl) rfl
theorem q1463 : (Jvm.Cond.methodLink "ActorTreesModel" (67 : Nat) ({ cls := "ActorTreesModel", name := "isLiveChild", desc := "(II)Z" } : Jvm.MethodName)) ∈ lw_all := lw_g (lw_at lw_m6 190 rfl) rfl
theorem q1464 : (Jvm.Cond.privateMethod ({ cls := "ActorTreesModel", name := "isLiveChild", desc := "(II)Z" } : Jvm.MethodName)) ∈ lw_tbl := lw_at lw_m6 191 rfl
theorem q1465 : (Jvm.Cond.instanceMethod ({ cls := "ActorTreesModel", name := "isLiveChild", desc := "(II)Z" } : Jvm.MethodName)) ∈ lw_all := lw_g (lw_at lw_m6 192 rfl) rfl
theorem q1466 : (Jvm.Cond.code ({ cls := "ActorTreesModel", name := "isLiveChild", desc := "(II)Z" } : Jvm.MethodName) prog_23_method_8_code (3 : Nat) (Option.some Jvm.ClassFile.FieldType.boolean)) ∈ lw_all := lw_g (lw_at lw_m6 193 rfl) rfl
theorem q1467 : (Jvm.Cond.methodLink "ActorTreesModel" (78 : Nat) ({ cls := "ActorTreesModel", name := "forgets", desc := "(I)V" } : Jvm.MethodName)) ∈ lw_all := lw_g (lw_at lw_m6 194 rfl) rfl
theorem q1468 : (Jvm.Cond.privateMethod ({ cls := "ActorTreesModel", name := "forgets", desc := "(I)V" } : Jvm.MethodName)) ∈ lw_tbl := lw_at lw_m6 195 rfl
theorem q1469 : (Jvm.Cond.instanceMethod ({ cls := "ActorTreesModel", name := "forgets", desc := "(I)V" } : Jvm.MethodName)) ∈ lw_all := lw_g (lw_at lw_m6 196 rfl) rfl
theorem q1470 : (Jvm.Cond.code ({ cls := "ActorTreesModel", name := "forgets", desc := "(I)V" } : Jvm.MethodName) prog_23_method_11_code (5 : Nat) (Option.none : Option Jvm.ClassFile.FieldType)) ∈ lw_all := lw_g (lw_at lw_m6 197 rfl) rfl
theorem q1471 : (Jvm.Cond.methodLink "ActorTreesModel" (81 : Nat) ({ cls := "ActorTreesModel", name := "unwatches", desc := "(I)V" } : Jvm.MethodName)) ∈ lw_all := lw_g (lw_at lw_m6 198 rfl) rfl
theorem q1472 : (Jvm.Cond.privateMethod ({ cls := "ActorTreesModel", name := "unwatches", desc := "(I)V" } : Jvm.MethodName)) ∈ lw_tbl := lw_at lw_m6 199 rfl
theorem q1473 : (Jvm.Cond.instanceMethod ({ cls := "ActorTreesModel", name := "unwatches", desc := "(I)V" } : Jvm.MethodName)) ∈ lw_all := lw_g (lw_at lw_m6 200 rfl) rfl
theorem q1474 : (Jvm.Cond.code ({ cls := "ActorTreesModel", name := "unwatches", desc := "(I)V" } : Jvm.MethodName) prog_23_method_12_code (6 : Nat) (Option.none : Option Jvm.ClassFile.FieldType)) ∈ lw_all := lw_g (lw_at lw_m6 201 rfl) rfl
theorem q1476 : (Jvm.Cond.instanceMethod ({ cls := "ActorTreesModel", name := "run", desc := "(I)I" } : Jvm.MethodName)) ∈ lw_all := lw_g (lw_at lw_m6 203 rfl) rfl
theorem q1477 : (Jvm.Cond.selects "ActorTreesModel" ({ cls := "ActorTreesModel", name := "run", desc := "(I)I" } : Jvm.MethodName) ({ cls := "ActorTreesModel", name := "run", desc := "(I)I" } : Jvm.MethodName)) ∈ lw_all := lw_g (lw_at lw_m6 204 rfl) rfl
theorem q1478 : (Jvm.Cond.code ({ cls := "ActorTreesModel", name := "run", desc := "(I)I" } : Jvm.MethodName) prog_23_method_52_code (3 : Nat) (Option.some Jvm.ClassFile.FieldType.int)) ∈ lw_all := lw_g (lw_at lw_m6 205 rfl) rfl
theorem q1479 : (Jvm.Cond.methodLink "ActorTreesModel" (197 : Nat) ({ cls := "ActorTreesModel", name := "runs", desc := "(I)I" } : Jvm.MethodName)) ∈ lw_all := lw_g (lw_at lw_m6 206 rfl) rfl
theorem q1480 : (Jvm.Cond.privateMethod ({ cls := "ActorTreesModel", name := "runs", desc := "(I)I" } : Jvm.MethodName)) ∈ lw_tbl := lw_at lw_m6 207 rfl
theorem q1481 : (Jvm.Cond.instanceMethod ({ cls := "ActorTreesModel", name := "runs", desc := "(I)I" } : Jvm.MethodName)) ∈ lw_all := lw_g (lw_at lw_m6 208 rfl) rfl
theorem q1482 : (Jvm.Cond.code ({ cls := "ActorTreesModel", name := "runs", desc := "(I)I" } : Jvm.MethodName) prog_23_method_33_code (3 : Nat) (Option.some Jvm.ClassFile.FieldType.int)) ∈ lw_all := lw_g (lw_at lw_m6 209 rfl) rfl
theorem q1483 : (Jvm.Cond.methodLink "ActorTreesModel" (161 : Nat) ({ cls := "ActorTreesModel", name := "isEnd", desc := "(II)Z" } : Jvm.MethodName)) ∈ lw_all := lw_g (lw_at lw_m6 210 rfl) rfl
theorem q1484 : (Jvm.Cond.privateMethod ({ cls := "ActorTreesModel", name := "isEnd", desc := "(II)Z" } : Jvm.MethodName)) ∈ lw_tbl := lw_at lw_m6 211 rfl
theorem q1485 : (Jvm.Cond.instanceMethod ({ cls := "ActorTreesModel", name := "isEnd", desc := "(II)Z" } : Jvm.MethodName)) ∈ lw_all := lw_g (lw_at lw_m6 212 rfl) rfl
theorem q1486 : (Jvm.Cond.code ({ cls := "ActorTreesModel", name := "isEnd", desc := "(II)Z" } : Jvm.MethodName) prog_23_method_32_code (3 : Nat) (Option.some Jvm.ClassFile.FieldType.boolean)) ∈ lw_all := lw_g (lw_at lw_m6 213 rfl) rfl
theorem q1487 : (Jvm.Cond.methodLink "ActorTreesModel" (154 : Nat) ({ cls := "ActorTreesModel", name := "hasStep", desc := "()Z" } : Jvm.MethodName)) ∈ lw_all := lw_g (lw_at lw_m6 214 rfl) rfl
theorem q1488 : (Jvm.Cond.privateMethod ({ cls := "ActorTreesModel", name := "hasStep", desc := "()Z" } : Jvm.MethodName)) ∈ lw_tbl := lw_at lw_m6 215 rfl
theorem q1489 : (Jvm.Cond.instanceMethod ({ cls := "ActorTreesModel", name := "hasStep", desc := "()Z" } : Jvm.MethodName)) ∈ lw_all := lw_g (lw_at lw_m6 216 rfl) rfl
theorem q1490 : (Jvm.Cond.code ({ cls := "ActorTreesModel", name := "hasStep", desc := "()Z" } : Jvm.MethodName) prog_23_method_28_code (1 : Nat) (Option.some Jvm.ClassFile.FieldType.boolean)) ∈ lw_all := lw_g (lw_at lw_m6 217 rfl) rfl
theorem q1491 : (Jvm.Cond.methodLink "ActorTreesModel" (135 : Nat) ({ cls := "ActorTreesModel", name := "nextActor", desc := "()I" } : Jvm.MethodName)) ∈ lw_all := lw_g (lw_at lw_m6 218 rfl) rfl
theorem q1492 : (Jvm.Cond.privateMethod ({ cls := "ActorTreesModel", name := "nextActor", desc := "()I" } : Jvm.MethodName)) ∈ lw_tbl := lw_at lw_m6 219 rfl
theorem q1493 : (Jvm.Cond.instanceMethod ({ cls := "ActorTreesModel", name := "nextActor", desc := "()I" } : Jvm.MethodName)) ∈ lw_all := lw_g (lw_at lw_m6 220 rfl) rfl
theorem q1494 : (Jvm.Cond.code ({ cls := "ActorTreesModel", name := "nextActor", desc := "()I" } : Jvm.MethodName) prog_23_method_26_code (3 : Nat) (Option.some Jvm.ClassFile.FieldType.int)) ∈ lw_all := lw_g (lw_at lw_m6 221 rfl) rfl
theorem q1495 : (Jvm.Cond.methodLink "ActorTreesModel" (164 : Nat) ({ cls := "ActorTreesModel", name := "step", desc := "()V" } : Jvm.MethodName)) ∈ lw_all := lw_g (lw_at lw_m6 222 rfl) rfl
theorem q1496 : (Jvm.Cond.privateMethod ({ cls := "ActorTreesModel", name := "step", desc := "()V" } : Jvm.MethodName)) ∈ lw_tbl := lw_at lw_m6 223 rfl
theorem q1497 : (Jvm.Cond.instanceMethod ({ cls := "ActorTreesModel", name := "step", desc := "()V" } : Jvm.MethodName)) ∈ lw_all := lw_g (lw_at lw_m6 224 rfl) rfl
theorem q1498 : (Jvm.Cond.code ({ cls := "ActorTreesModel", name := "step", desc := "()V" } : Jvm.MethodName) prog_23_method_31_code (6 : Nat) (Option.none : Option Jvm.ClassFile.FieldType)) ∈ lw_all := lw_g (lw_at lw_m6 225 rfl) rfl
theorem q1499 : (Jvm.Cond.methodLink "ActorTreesModel" (145 : Nat) ({ cls := "ActorTreesModel", name := "logs", desc := "(II)V" } : Jvm.MethodName)) ∈ lw_all := lw_g (lw_at lw_m6 226 rfl) rfl
theorem q1500 : (Jvm.Cond.privateMethod ({ cls := "ActorTreesModel", name := "logs", desc := "(II)V" } : Jvm.MethodName)) ∈ lw_tbl := lw_at lw_m6 227 rfl
theorem q1501 : (Jvm.Cond.instanceMethod ({ cls := "ActorTreesModel", name := "logs", desc := "(II)V" } : Jvm.MethodName)) ∈ lw_all := lw_g (lw_at lw_m6 228 rfl) rfl
theorem q1502 : (Jvm.Cond.code ({ cls := "ActorTreesModel", name := "logs", desc := "(II)V" } : Jvm.MethodName) prog_23_method_30_code (4 : Nat) (Option.none : Option Jvm.ClassFile.FieldType)) ∈ lw_all := lw_g (lw_at lw_m6 229 rfl) rfl
theorem q1503 : (Jvm.Cond.methodLink "ActorTreesModel" (139 : Nat) ({ cls := "ActorTreesModel", name := "toldAs", desc := "(I)I" } : Jvm.MethodName)) ∈ lw_all := lw_g (lw_at lw_m6 230 rfl) rfl
theorem q1504 : (Jvm.Cond.static ({ cls := "ActorTreesModel", name := "toldAs", desc := "(I)I" } : Jvm.MethodName)) ∈ lw_all := lw_g (lw_at lw_m6 231 rfl) rfl
theorem q1505 : (Jvm.Cond.code ({ cls := "ActorTreesModel", name := "toldAs", desc := "(I)I" } : Jvm.MethodName) prog_23_method_29_code (1 : Nat) (Option.some Jvm.ClassFile.FieldType.int)) ∈ lw_all := lw_g (lw_at lw_m6 232 rfl) rfl
theorem q1506 : (Jvm.Cond.methodLink "ActorTreesModel" (148 : Nat) ({ cls := "ActorTreesModel", name := "deals", desc := "(III)V" } : Jvm.MethodName)) ∈ lw_all := lw_g (lw_at lw_m6 233 rfl) rfl
theorem q1507 : (Jvm.Cond.privateMethod ({ cls := "ActorTreesModel", name := "deals", desc := "(III)V" } : Jvm.MethodName)) ∈ lw_tbl := lw_at lw_m6 234 rfl
theorem q1508 : (Jvm.Cond.instanceMethod ({ cls := "ActorTreesModel", name := "deals", desc := "(III)V" } : Jvm.MethodName)) ∈ lw_all := lw_g (lw_at lw_m6 235 rfl) rfl
theorem q1509 : (Jvm.Cond.code ({ cls := "ActorTreesModel", name := "deals", desc := "(III)V" } : Jvm.MethodName) prog_23_method_25_code (5 : Nat) (Option.none : Option Jvm.ClassFile.FieldType)) ∈ lw_all := lw_g (lw_at lw_m6 236 rfl) rfl
theorem q1510 : (Jvm.Cond.methodLink "ActorTreesModel" (111 : Nat) ({ cls := "ActorTreesModel", name := "fails", desc := "(II)V" } : Jvm.MethodName)) ∈ lw_all := lw_g (lw_at lw_m6 237 rfl) rfl
theorem q1511 : (Jvm.Cond.privateMethod ({ cls := "ActorTreesModel", name := "fails", desc := "(II)V" } : Jvm.MethodName)) ∈ lw_tbl := lw_at lw_m6 238 rfl
theorem q1512 : (Jvm.Cond.instanceMethod ({ cls := "ActorTreesModel", name := "fails", desc := "(II)V" } : Jvm.MethodName)) ∈ lw_all := lw_g (lw_at lw_m6 239 rfl) rfl
theorem q1513 : (Jvm.Cond.code ({ cls := "ActorTreesModel", name := "fails", desc := "(II)V" } : Jvm.MethodName) prog_23_method_18_code (9 : Nat) (Option.none : Option Jvm.ClassFile.FieldType)) ∈ lw_all := lw_g (lw_at lw_m7 0 rfl) rfl
theorem q1514 : (Jvm.Cond.methodLink "ActorTreesModel" (105 : Nat) ({ cls := "ActorTreesModel", name := "isOverBudget", desc := "(I)Z" } : Jvm.MethodName)) ∈ lw_all := lw_g (lw_at lw_m7 1 rfl) rfl
theorem q1515 : (Jvm.Cond.privateMethod ({ cls := "ActorTreesModel", name := "isOverBudget", desc := "(I)Z" } : Jvm.MethodName)) ∈ lw_tbl := lw_at lw_m7 2 rfl
theorem q1516 : (Jvm.Cond.instanceMethod ({ cls := "ActorTreesModel", name := "isOverBudget", desc := "(I)Z" } : Jvm.MethodName)) ∈ lw_all := lw_g (lw_at lw_m7 3 rfl) rfl
theorem q1517 : (Jvm.Cond.code ({ cls := "ActorTreesModel", name := "isOverBudget", desc := "(I)Z" } : Jvm.MethodName) prog_23_method_17_code (3 : Nat) (Option.some Jvm.ClassFile.FieldType.boolean)) ∈ lw_all := lw_g (lw_at lw_m7 4 rfl) rfl
theorem q1518 : (Jvm.Cond.methodLink "ActorTreesModel" (108 : Nat) ({ cls := "ActorTreesModel", name := "restarts", desc := "(I)V" } : Jvm.MethodName)) ∈ lw_all := lw_g (lw_at lw_m7 5 rfl) rfl
theorem q1519 : (Jvm.Cond.privateMethod ({ cls := "ActorTreesModel", name := "restarts", desc := "(I)V" } : Jvm.MethodName)) ∈ lw_tbl := lw_at lw_m7 6 rfl
theorem q1520 : (Jvm.Cond.instanceMethod ({ cls := "ActorTreesModel", name := "restarts", desc := "(I)V" } : Jvm.MethodName)) ∈ lw_all := lw_g (lw_at lw_m7 7 rfl) rfl
theorem q1521 : (Jvm.Cond.code ({ cls := "ActorTreesModel", name := "restarts", desc := "(I)V" } : Jvm.MethodName) prog_23_method_15_code (2 : Nat) (Option.none : Option Jvm.ClassFile.FieldType)) ∈ lw_all := lw_g (lw_at lw_m7 8 rfl) rfl
theorem q1522 : (Jvm.Cond.methodLink "ActorTreesModel" (87 : Nat) ({ cls := "ActorTreesModel", name := "comesBack", desc := "(I)V" } : Jvm.MethodName)) ∈ lw_all := lw_g (lw_at lw_m7 9 rfl) rfl
theorem q1523 : (Jvm.Cond.privateMethod ({ cls := "ActorTreesModel", name := "comesBack", desc := "(I)V" } : Jvm.MethodName)) ∈ lw_tbl := lw_at lw_m7 10 rfl
theorem q1524 : (Jvm.Cond.instanceMethod ({ cls := "ActorTreesModel", name := "comesBack", desc := "(I)V" } : Jvm.MethodName)) ∈ lw_all := lw_g (lw_at lw_m7 11 rfl) rfl
theorem q1525 : (Jvm.Cond.code ({ cls := "ActorTreesModel", name := "comesBack", desc := "(I)V" } : Jvm.MethodName) prog_23_method_10_code (6 : Nat) (Option.none : Option Jvm.ClassFile.FieldType)) ∈ lw_all := lw_g (lw_at lw_m7 12 rfl) rfl
theorem q1526 : (Jvm.Cond.methodLink "ActorTreesModel" (119 : Nat) ({ cls := "ActorTreesModel", name := "pass", desc := "(IIZ)V" } : Jvm.MethodName)) ∈ lw_all := lw_g (lw_at lw_m7 13 rfl) rfl
theorem q1527 : (Jvm.Cond.privateMethod ({ cls := "ActorTreesModel", name := "pass", desc := "(IIZ)V" } : Jvm.MethodName)) ∈ lw_tbl := lw_at lw_m7 14 rfl
theorem q1528 : (Jvm.Cond.instanceMethod ({ cls := "ActorTreesModel", name := "pass", desc := "(IIZ)V" } : Jvm.MethodName)) ∈ lw_all := lw_g (lw_at lw_m7 15 rfl) rfl
theorem q1529 : (Jvm.Cond.code ({ cls := "ActorTreesModel", name := "pass", desc := "(IIZ)V" } : Jvm.MethodName) prog_23_method_19_code (5 : Nat) (Option.none : Option Jvm.ClassFile.FieldType)) ∈ lw_all := lw_g (lw_at lw_m7 16 rfl) rfl
theorem q1530 : (Jvm.Cond.methodLink "ActorTreesModel" (123 : Nat) ({ cls := "ActorTreesModel", name := "holds", desc := "(III)V" } : Jvm.MethodName)) ∈ lw_all := lw_g (lw_at lw_m7 17 rfl) rfl
theorem q1531 : (Jvm.Cond.privateMethod ({ cls := "ActorTreesModel", name := "holds", desc := "(III)V" } : Jvm.MethodName)) ∈ lw_tbl := lw_at lw_m7 18 rfl
theorem q1532 : (Jvm.Cond.instanceMethod ({ cls := "ActorTreesModel", name := "holds", desc := "(III)V" } : Jvm.MethodName)) ∈ lw_all := lw_g (lw_at lw_m7 19 rfl) rfl
theorem q1533 : (Jvm.Cond.code ({ cls := "ActorTreesModel", name := "holds", desc := "(III)V" } : Jvm.MethodName) prog_23_method_20_code (5 : Nat) (Option.none : Option Jvm.ClassFile.FieldType)) ∈ lw_all := lw_g (lw_at lw_m7 20 rfl) rfl
theorem q1534 : (Jvm.Cond.methodLink "ActorTreesModel" (126 : Nat) ({ cls := "ActorTreesModel", name := "switches", desc := "(II)V" } : Jvm.MethodName)) ∈ lw_all := lw_g (lw_at lw_m7 21 rfl) rfl
theorem q1535 : (Jvm.Cond.privateMethod ({ cls := "ActorTreesModel", name := "switches", desc := "(II)V" } : Jvm.MethodName)) ∈ lw_tbl := lw_at lw_m7 22 rfl
theorem q1536 : (Jvm.Cond.instanceMethod ({ cls := "ActorTreesModel", name := "switches", desc := "(II)V" } : Jvm.MethodName)) ∈ lw_all := lw_g (lw_at lw_m7 23 rfl) rfl
theorem q1537 : (Jvm.Cond.code ({ cls := "ActorTreesModel", name := "switches", desc := "(II)V" } : Jvm.MethodName) prog_23_method_21_code (4 : Nat) (Option.none : Option Jvm.ClassFile.FieldType)) ∈ lw_all := lw_g (lw_at lw_m7 24 rfl) rfl
theorem q1538 : (Jvm.Cond.methodLink "ActorTreesModel" (129 : Nat) ({ cls := "ActorTreesModel", name := "delays", desc := "(II)V" } : Jvm.MethodName)) ∈ lw_all := lw_g (lw_at lw_m7 25 rfl) rfl
theorem q1539 : (Jvm.Cond.privateMethod ({ cls := "ActorTreesModel", name := "delays", desc := "(II)V" } : Jvm.MethodName)) ∈ lw_tbl := lw_at lw_m7 26 rfl
theorem q1540 : (Jvm.Cond.instanceMethod ({ cls := "ActorTreesModel", name := "delays", desc := "(II)V" } : Jvm.MethodName)) ∈ lw_all := lw_g (lw_at lw_m7 27 rfl) rfl
theorem q1541 : (Jvm.Cond.code ({ cls := "ActorTreesModel", name := "delays", desc := "(II)V" } : Jvm.MethodName) prog_23_method_22_code (4 : Nat) (Option.none : Option Jvm.ClassFile.FieldType)) ∈ lw_all := lw_g (lw_at lw_m7 28 rfl) rfl
theorem q1542 : (Jvm.Cond.methodLink "ActorTreesModel" (132 : Nat) ({ cls := "ActorTreesModel", name := "watches", desc := "(II)V" } : Jvm.MethodName)) ∈ lw_all := lw_g (lw_at lw_m7 29 rfl) rfl
theorem q1543 : (Jvm.Cond.privateMethod ({ cls := "ActorTreesModel", name := "watches", desc := "(II)V" } : Jvm.MethodName)) ∈ lw_tbl := lw_at lw_m7 30 rfl
theorem q1544 : (Jvm.Cond.instanceMethod ({ cls := "ActorTreesModel", name := "watches", desc := "(II)V" } : Jvm.MethodName)) ∈ lw_all := lw_g (lw_at lw_m7 31 rfl) rfl
theorem q1545 : (Jvm.Cond.code ({ cls := "ActorTreesModel", name := "watches", desc := "(II)V" } : Jvm.MethodName) prog_23_method_23_code (6 : Nat) (Option.none : Option Jvm.ClassFile.FieldType)) ∈ lw_all := lw_g (lw_at lw_m7 32 rfl) rfl
theorem q1546 : (Jvm.Cond.methodLink "ActorTreesModel" (151 : Nat) ({ cls := "ActorTreesModel", name := "firstTimer", desc := "()I" } : Jvm.MethodName)) ∈ lw_all := lw_g (lw_at lw_m7 33 rfl) rfl
theorem q1547 : (Jvm.Cond.privateMethod ({ cls := "ActorTreesModel", name := "firstTimer", desc := "()I" } : Jvm.MethodName)) ∈ lw_tbl := lw_at lw_m7 34 rfl
theorem q1548 : (Jvm.Cond.instanceMethod ({ cls := "ActorTreesModel", name := "firstTimer", desc := "()I" } : Jvm.MethodName)) ∈ lw_all := lw_g (lw_at lw_m7 35 rfl) rfl
theorem q1549 : (Jvm.Cond.code ({ cls := "ActorTreesModel", name := "firstTimer", desc := "()I" } : Jvm.MethodName) prog_23_method_27_code (3 : Nat) (Option.some Jvm.ClassFile.FieldType.int)) ∈ lw_all := lw_g (lw_at lw_m7 36 rfl) rfl
theorem q1551 : (Jvm.Cond.instanceMethod ({ cls := "ActorTreesModel", name := "ended", desc := "()I" } : Jvm.MethodName)) ∈ lw_all := lw_g (lw_at lw_m7 38 rfl) rfl
theorem q1552 : (Jvm.Cond.selects "ActorTreesModel" ({ cls := "ActorTreesModel", name := "ended", desc := "()I" } : Jvm.MethodName) ({ cls := "ActorTreesModel", name := "ended", desc := "()I" } : Jvm.MethodName)) ∈ lw_all := lw_g (lw_at lw_m7 39 rfl) rfl
theorem q1553 : (Jvm.Cond.code ({ cls := "ActorTreesModel", name := "ended", desc := "()I" } : Jvm.MethodName) prog_23_method_53_code (1 : Nat) (Option.some Jvm.ClassFile.FieldType.int)) ∈ lw_all := lw_g (lw_at lw_m7 40 rfl) rfl
theorem q1555 : (Jvm.Cond.instanceMethod ({ cls := "ActorTreesModel", name := "log", desc := "(I)I" } : Jvm.MethodName)) ∈ lw_all := lw_g (lw_at lw_m7 42 rfl) rfl
theorem q1556 : (Jvm.Cond.selects "ActorTreesModel" ({ cls := "ActorTreesModel", name := "log", desc := "(I)I" } : Jvm.MethodName) ({ cls := "ActorTreesModel", name := "log", desc := "(I)I" } : Jvm.MethodName)) ∈ lw_all := lw_g (lw_at lw_m7 43 rfl) rfl
theorem q1557 : (Jvm.Cond.code ({ cls := "ActorTreesModel", name := "log", desc := "(I)I" } : Jvm.MethodName) prog_23_method_54_code (2 : Nat) (Option.some Jvm.ClassFile.FieldType.int)) ∈ lw_all := lw_g (lw_at lw_m7 44 rfl) rfl
theorem q1559 : (Jvm.Cond.instanceMethod ({ cls := "ActorTreesModel", name := "cause", desc := "(II)I" } : Jvm.MethodName)) ∈ lw_all := lw_g (lw_at lw_m7 46 rfl) rfl
theorem q1560 : (Jvm.Cond.selects "ActorTreesModel" ({ cls := "ActorTreesModel", name := "cause", desc := "(II)I" } : Jvm.MethodName) ({ cls := "ActorTreesModel", name := "cause", desc := "(II)I" } : Jvm.MethodName)) ∈ lw_all := lw_g (lw_at lw_m7 47 rfl) rfl
theorem q1561 : (Jvm.Cond.code ({ cls := "ActorTreesModel", name := "cause", desc := "(II)I" } : Jvm.MethodName) prog_23_method_55_code (3 : Nat) (Option.some Jvm.ClassFile.FieldType.int)) ∈ lw_all := lw_g (lw_at lw_m7 48 rfl) rfl
theorem q1563 : (Jvm.Cond.instanceMethod ({ cls := "ActorTreesModel", name := "dry", desc := "(II)I" } : Jvm.MethodName)) ∈ lw_all := lw_g (lw_at lw_m7 50 rfl) rfl
theorem q1564 : (Jvm.Cond.selects "ActorTreesModel" ({ cls := "ActorTreesModel", name := "dry", desc := "(II)I" } : Jvm.MethodName) ({ cls := "ActorTreesModel", name := "dry", desc := "(II)I" } : Jvm.MethodName)) ∈ lw_all := lw_g (lw_at lw_m7 51 rfl) rfl
theorem q1565 : (Jvm.Cond.code ({ cls := "ActorTreesModel", name := "dry", desc := "(II)I" } : Jvm.MethodName) prog_23_method_56_code (5 : Nat) (Option.some Jvm.ClassFile.FieldType.int)) ∈ lw_all := lw_g (lw_at lw_m7 52 rfl) rfl
theorem q1566 : (Jvm.Cond.methodLink "ActorTreesModel" (200 : Nat) ({ cls := "ActorTreesModel", name := "take", desc := "([I[I)V" } : Jvm.MethodName)) ∈ lw_all := lw_g (lw_at lw_m7 53 rfl) rfl
theorem q1567 : (Jvm.Cond.static ({ cls := "ActorTreesModel", name := "take", desc := "([I[I)V" } : Jvm.MethodName)) ∈ lw_all := lw_g (lw_at lw_m7 54 rfl) rfl
theorem q1568 : (Jvm.Cond.code ({ cls := "ActorTreesModel", name := "take", desc := "([I[I)V" } : Jvm.MethodName) prog_23_method_3_code (3 : Nat) (Option.none : Option Jvm.ClassFile.FieldType)) ∈ lw_all := lw_g (lw_at lw_m7 55 rfl) rfl
theorem q1570 : (Jvm.Cond.instanceMethod ({ cls := "ActorTreesModel", name := "first", desc := "()I" } : Jvm.MethodName)) ∈ lw_all := lw_g (lw_at lw_m7 57 rfl) rfl
theorem q1571 : (Jvm.Cond.selects "ActorTreesModel" ({ cls := "ActorTreesModel", name := "first", desc := "()I" } : Jvm.MethodName) ({ cls := "ActorTreesModel", name := "first", desc := "()I" } : Jvm.MethodName)) ∈ lw_all := lw_g (lw_at lw_m7 58 rfl) rfl
theorem q1572 : (Jvm.Cond.code ({ cls := "ActorTreesModel", name := "first", desc := "()I" } : Jvm.MethodName) prog_23_method_57_code (2 : Nat) (Option.some Jvm.ClassFile.FieldType.int)) ∈ lw_all := lw_g (lw_at lw_m7 59 rfl) rfl
theorem q1574 : (Jvm.Cond.instanceMethod ({ cls := "ActorTreesModel", name := "quiet", desc := "()I" } : Jvm.MethodName)) ∈ lw_all := lw_g (lw_at lw_m7 61 rfl) rfl
theorem q1575 : (Jvm.Cond.selects "ActorTreesModel" ({ cls := "ActorTreesModel", name := "quiet", desc := "()I" } : Jvm.MethodName) ({ cls := "ActorTreesModel", name := "quiet", desc := "()I" } : Jvm.MethodName)) ∈ lw_all := lw_g (lw_at lw_m7 62 rfl) rfl
theorem q1576 : (Jvm.Cond.code ({ cls := "ActorTreesModel", name := "quiet", desc := "()I" } : Jvm.MethodName) prog_23_method_58_code (3 : Nat) (Option.some Jvm.ClassFile.FieldType.int)) ∈ lw_all := lw_g (lw_at lw_m7 63 rfl) rfl
theorem q1578 : (Jvm.Cond.instanceMethod ({ cls := "ActorTreesModel", name := "would", desc := "(III)I" } : Jvm.MethodName)) ∈ lw_all := lw_g (lw_at lw_m7 65 rfl) rfl
theorem q1579 : (Jvm.Cond.selects "ActorTreesModel" ({ cls := "ActorTreesModel", name := "would", desc := "(III)I" } : Jvm.MethodName) ({ cls := "ActorTreesModel", name := "would", desc := "(III)I" } : Jvm.MethodName)) ∈ lw_all := lw_g (lw_at lw_m7 66 rfl) rfl
theorem q1580 : (Jvm.Cond.code ({ cls := "ActorTreesModel", name := "would", desc := "(III)I" } : Jvm.MethodName) prog_23_method_59_code (5 : Nat) (Option.some Jvm.ClassFile.FieldType.int)) ∈ lw_all := lw_g (lw_at lw_m7 67 rfl) rfl
theorem q1582 : (Jvm.Cond.instanceMethod ({ cls := "ActorTreesModel", name := "brings", desc := "(II)I" } : Jvm.MethodName)) ∈ lw_all := lw_g (lw_at lw_m7 69 rfl) rfl
theorem q1583 : (Jvm.Cond.selects "ActorTreesModel" ({ cls := "ActorTreesModel", name := "brings", desc := "(II)I" } : Jvm.MethodName) ({ cls := "ActorTreesModel", name := "brings", desc := "(II)I" } : Jvm.MethodName)) ∈ lw_all := lw_g (lw_at lw_m7 70 rfl) rfl
theorem q1584 : (Jvm.Cond.code ({ cls := "ActorTreesModel", name := "brings", desc := "(II)I" } : Jvm.MethodName) prog_23_method_60_code (5 : Nat) (Option.some Jvm.ClassFile.FieldType.int)) ∈ lw_all := lw_g (lw_at lw_m7 71 rfl) rfl
theorem q1586 : (Jvm.Cond.instanceMethod ({ cls := "ActorTreesModel", name := "reach", desc := "(II)I" } : Jvm.MethodName)) ∈ lw_all := lw_g (lw_at lw_m7 73 rfl) rfl
theorem q1587 : (Jvm.Cond.selects "ActorTreesModel" ({ cls := "ActorTreesModel", name := "reach", desc := "(II)I" } : Jvm.MethodName) ({ cls := "ActorTreesModel", name := "reach", desc := "(II)I" } : Jvm.MethodName)) ∈ lw_all := lw_g (lw_at lw_m7 74 rfl) rfl
theorem q1588 : (Jvm.Cond.code ({ cls := "ActorTreesModel", name := "reach", desc := "(II)I" } : Jvm.MethodName) prog_23_method_62_code (6 : Nat) (Option.some Jvm.ClassFile.FieldType.int)) ∈ lw_all := lw_g (lw_at lw_m7 75 rfl) rfl
theorem q1589 : (Jvm.Cond.methodLink "ActorTreesModel" (204 : Nat) ({ cls := "ActorTreesModel", name := "isNext", desc := "(II)Z" } : Jvm.MethodName)) ∈ lw_all := lw_g (lw_at lw_m7 76 rfl) rfl
theorem q1590 : (Jvm.Cond.privateMethod ({ cls := "ActorTreesModel", name := "isNext", desc := "(II)Z" } : Jvm.MethodName)) ∈ lw_tbl := lw_at lw_m7 77 rfl
theorem q1591 : (Jvm.Cond.instanceMethod ({ cls := "ActorTreesModel", name := "isNext", desc := "(II)Z" } : Jvm.MethodName)) ∈ lw_all := lw_g (lw_at lw_m7 78 rfl) rfl
theorem q1592 : (Jvm.Cond.code ({ cls := "ActorTreesModel", name := "isNext", desc := "(II)Z" } : Jvm.MethodName) prog_23_method_61_code (3 : Nat) (Option.some Jvm.ClassFile.FieldType.boolean)) ∈ lw_all := lw_g (lw_at lw_m7 79 rfl) rfl
theorem q1594 : (Jvm.Cond.instanceMethod ({ cls := "ActorTreesModel", name := "feed", desc := "(I)I" } : Jvm.MethodName)) ∈ lw_all := lw_g (lw_at lw_m7 81 rfl) rfl
theorem q1595 : (Jvm.Cond.selects "ActorTreesModel" ({ cls := "ActorTreesModel", name := "feed", desc := "(I)I" } : Jvm.MethodName) ({ cls := "ActorTreesModel", name := "feed", desc := "(I)I" } : Jvm.MethodName)) ∈ lw_all := lw_g (lw_at lw_m7 82 rfl) rfl
theorem q1596 : (Jvm.Cond.code ({ cls := "ActorTreesModel", name := "feed", desc := "(I)I" } : Jvm.MethodName) prog_23_method_63_code (2 : Nat) (Option.some Jvm.ClassFile.FieldType.int)) ∈ lw_all := lw_g (lw_at lw_m7 83 rfl) rfl
theorem q1598 : (Jvm.Cond.instanceMethod ({ cls := "ActorTreesModel", name := "script", desc := "()I" } : Jvm.MethodName)) ∈ lw_all := lw_g (lw_at lw_m7 85 rfl) rfl
theorem q1599 : (Jvm.Cond.selects "ActorTreesModel" ({ cls := "ActorTreesModel", name := "script", desc := "()I" } : Jvm.MethodName) ({ cls := "ActorTreesModel", name := "script", desc := "()I" } : Jvm.MethodName)) ∈ lw_all := lw_g (lw_at lw_m7 86 rfl) rfl
theorem q1600 : (Jvm.Cond.code ({ cls := "ActorTreesModel", name := "script", desc := "()I" } : Jvm.MethodName) prog_23_method_70_code (3 : Nat) (Option.some Jvm.ClassFile.FieldType.int)) ∈ lw_all := lw_g (lw_at lw_m7 87 rfl) rfl
theorem q1601 : (Jvm.Cond.methodLink "ActorTreesModel" (235 : Nat) ({ cls := "ActorTreesModel", name := "isForm", desc := "()Z" } : Jvm.MethodName)) ∈ lw_all := lw_g (lw_at lw_m7 88 rfl) rfl
theorem q1602 : (Jvm.Cond.privateMethod ({ cls := "ActorTreesModel", name := "isForm", desc := "()Z" } : Jvm.MethodName)) ∈ lw_tbl := lw_at lw_m7 89 rfl
theorem q1603 : (Jvm.Cond.instanceMethod ({ cls := "ActorTreesModel", name := "isForm", desc := "()Z" } : Jvm.MethodName)) ∈ lw_all := lw_g (lw_at lw_m7 90 rfl) rfl
theorem q1604 : (Jvm.Cond.code ({ cls := "ActorTreesModel", name := "isForm", desc := "()Z" } : Jvm.MethodName) prog_23_method_68_code (1 : Nat) (Option.some Jvm.ClassFile.FieldType.boolean)) ∈ lw_all := lw_g (lw_at lw_m7 91 rfl) rfl
theorem q1605 : (Jvm.Cond.methodLink "ActorTreesModel" (226 : Nat) ({ cls := "ActorTreesModel", name := "line", desc := "()I" } : Jvm.MethodName)) ∈ lw_all := lw_g (lw_at lw_m7 92 rfl) rfl
theorem q1606 : (Jvm.Cond.privateMethod ({ cls := "ActorTreesModel", name := "line", desc := "()I" } : Jvm.MethodName)) ∈ lw_tbl := lw_at lw_m7 93 rfl
theorem q1607 : (Jvm.Cond.instanceMethod ({ cls := "ActorTreesModel", name := "line", desc := "()I" } : Jvm.MethodName)) ∈ lw_all := lw_g (lw_at lw_m7 94 rfl) rfl
theorem q1608 : (Jvm.Cond.code ({ cls := "ActorTreesModel", name := "line", desc := "()I" } : Jvm.MethodName) prog_23_method_67_code (4 : Nat) (Option.some Jvm.ClassFile.FieldType.int)) ∈ lw_all := lw_g (lw_at lw_m7 95 rfl) rfl
theorem q1609 : (Jvm.Cond.methodLink "ActorTreesModel" (216 : Nat) ({ cls := "ActorTreesModel", name := "sees", desc := "(II)Z" } : Jvm.MethodName)) ∈ lw_all := lw_g (lw_at lw_m7 96 rfl) rfl
theorem q1610 : (Jvm.Cond.privateMethod ({ cls := "ActorTreesModel", name := "sees", desc := "(II)Z" } : Jvm.MethodName)) ∈ lw_tbl := lw_at lw_m7 97 rfl
theorem q1611 : (Jvm.Cond.instanceMethod ({ cls := "ActorTreesModel", name := "sees", desc := "(II)Z" } : Jvm.MethodName)) ∈ lw_all := lw_g (lw_at lw_m7 98 rfl) rfl
theorem q1612 : (Jvm.Cond.code ({ cls := "ActorTreesModel", name := "sees", desc := "(II)Z" } : Jvm.MethodName) prog_23_method_64_code (3 : Nat) (Option.some Jvm.ClassFile.FieldType.boolean)) ∈ lw_all := lw_g (lw_at lw_m7 99 rfl) rfl
theorem q1613 : (Jvm.Cond.methodLink "ActorTreesModel" (219 : Nat) ({ cls := "ActorTreesModel", name := "must", desc := "(II)I" } : Jvm.MethodName)) ∈ lw_all := lw_g (lw_at lw_m7 100 rfl) rfl
theorem q1614 : (Jvm.Cond.privateMethod ({ cls := "ActorTreesModel", name := "must", desc := "(II)I" } : Jvm.MethodName)) ∈ lw_tbl := lw_at lw_m7 101 rfl
theorem q1615 : (Jvm.Cond.instanceMethod ({ cls := "ActorTreesModel", name := "must", desc := "(II)I" } : Jvm.MethodName)) ∈ lw_all := lw_g (lw_at lw_m7 102 rfl) rfl
theorem q1616 : (Jvm.Cond.code ({ cls := "ActorTreesModel", name := "must", desc := "(II)I" } : Jvm.MethodName) prog_23_method_65_code (3 : Nat) (Option.some Jvm.ClassFile.FieldType.int)) ∈ lw_all := lw_g (lw_at lw_m7 103 rfl) rfl
theorem q1617 : (Jvm.Cond.methodLink "ActorTreesModel" (222 : Nat) ({ cls := "ActorTreesModel", name := "number", desc := "(Z)I" } : Jvm.MethodName)) ∈ lw_all := lw_g (lw_at lw_m7 104 rfl) rfl
theorem q1618 : (Jvm.Cond.privateMethod ({ cls := "ActorTreesModel", name := "number", desc := "(Z)I" } : Jvm.MethodName)) ∈ lw_tbl := lw_at lw_m7 105 rfl
theorem q1619 : (Jvm.Cond.instanceMethod ({ cls := "ActorTreesModel", name := "number", desc := "(Z)I" } : Jvm.MethodName)) ∈ lw_all := lw_g (lw_at lw_m7 106 rfl) rfl
theorem q1620 : (Jvm.Cond.code ({ cls := "ActorTreesModel", name := "number", desc := "(Z)I" } : Jvm.MethodName) prog_23_method_66_code (4 : Nat) (Option.some Jvm.ClassFile.FieldType.int)) ∈ lw_all := lw_g (lw_at lw_m7 107 rfl) rfl
theorem q1621 : (Jvm.Cond.methodLink "ActorTreesModel" (238 : Nat) ({ cls := "ActorTreesModel", name := "does", desc := "(I)Z" } : Jvm.MethodName)) ∈ lw_all := lw_g (lw_at lw_m7 108 rfl) rfl
theorem q1622 : (Jvm.Cond.privateMethod ({ cls := "ActorTreesModel", name := "does", desc := "(I)Z" } : Jvm.MethodName)) ∈ lw_tbl := lw_at lw_m7 109 rfl
theorem q1623 : (Jvm.Cond.instanceMethod ({ cls := "ActorTreesModel", name := "does", desc := "(I)Z" } : Jvm.MethodName)) ∈ lw_all := lw_g (lw_at lw_m7 110 rfl) rfl
theorem q1624 : (Jvm.Cond.code ({ cls := "ActorTreesModel", name := "does", desc := "(I)Z" } : Jvm.MethodName) prog_23_method_69_code (4 : Nat) (Option.some Jvm.ClassFile.FieldType.boolean)) ∈ lw_all := lw_g (lw_at lw_m7 111 rfl) rfl
theorem q1625 : (Jvm.Cond.methodLink "ActorTreesModel" (229 : Nat) ({ cls := "ActorTreesModel", name := "actor", desc := "(III)I" } : Jvm.MethodName)) ∈ lw_all := lw_g (lw_at lw_m7 112 rfl) rfl
theorem q1626 : (Jvm.Cond.methodLink "ActorTreesModel" (232 : Nat) ({ cls := "ActorTreesModel", name := "run", desc := "(I)I" } : Jvm.MethodName)) ∈ lw_all := lw_g (lw_at lw_m7 113 rfl) rfl
theorem q1628 : (Jvm.Cond.instanceMethod ({ cls := "ActorTreesModel", name := "drawn", desc := "(I)I" } : Jvm.MethodName)) ∈ lw_all := lw_g (lw_at lw_m7 115 rfl) rfl
theorem q1629 : (Jvm.Cond.selects "ActorTreesModel" ({ cls := "ActorTreesModel", name := "drawn", desc := "(I)I" } : Jvm.MethodName) ({ cls := "ActorTreesModel", name := "drawn", desc := "(I)I" } : Jvm.MethodName)) ∈ lw_all := lw_g (lw_at lw_m7 116 rfl) rfl
theorem q1630 : (Jvm.Cond.code ({ cls := "ActorTreesModel", name := "drawn", desc := "(I)I" } : Jvm.MethodName) prog_23_method_71_code (5 : Nat) (Option.some Jvm.ClassFile.FieldType.int)) ∈ lw_all := lw_g (lw_at lw_m7 117 rfl) rfl
theorem q1631 : (Jvm.Cond.constant "ActorTreesModel" (241 : Nat) (1103515245 : Int32)) ∈ lw_all := lw_g (lw_at lw_m7 118 rfl) rfl
theorem q1633 : (Jvm.Cond.instanceMethod ({ cls := "ActorTreesModel", name := "seed", desc := "(I)I" } : Jvm.MethodName)) ∈ lw_all := lw_g (lw_at lw_m7 120 rfl) rfl
theorem q1634 : (Jvm.Cond.selects "ActorTreesModel" ({ cls := "ActorTreesModel", name := "seed", desc := "(I)I" } : Jvm.MethodName) ({ cls := "ActorTreesModel", name := "seed", desc := "(I)I" } : Jvm.MethodName)) ∈ lw_all := lw_g (lw_at lw_m7 121 rfl) rfl
theorem q1635 : (Jvm.Cond.code ({ cls := "ActorTreesModel", name := "seed", desc := "(I)I" } : Jvm.MethodName) prog_23_method_72_code (3 : Nat) (Option.some Jvm.ClassFile.FieldType.int)) ∈ lw_all := lw_g (lw_at lw_m7 122 rfl) rfl
theorem q1637 : (Jvm.Cond.instanceMethod ({ cls := "ActorTreesModel", name := "order", desc := "(II)I" } : Jvm.MethodName)) ∈ lw_all := lw_g (lw_at lw_m7 124 rfl) rfl
theorem q1638 : (Jvm.Cond.selects "ActorTreesModel" ({ cls := "ActorTreesModel", name := "order", desc := "(II)I" } : Jvm.MethodName) ({ cls := "ActorTreesModel", name := "order", desc := "(II)I" } : Jvm.MethodName)) ∈ lw_all := lw_g (lw_at lw_m7 125 rfl) rfl
theorem q1639 : (Jvm.Cond.code ({ cls := "ActorTreesModel", name := "order", desc := "(II)I" } : Jvm.MethodName) prog_23_method_75_code (4 : Nat) (Option.some Jvm.ClassFile.FieldType.int)) ∈ lw_all := lw_g (lw_at lw_m7 126 rfl) rfl
theorem q1640 : (Jvm.Cond.methodLink "ActorTreesModel" (242 : Nat) ({ cls := "ActorTreesModel", name := "isHandle", desc := "(I)Z" } : Jvm.MethodName)) ∈ lw_all := lw_g (lw_at lw_m7 127 rfl) rfl
theorem q1641 : (Jvm.Cond.privateMethod ({ cls := "ActorTreesModel", name := "isHandle", desc := "(I)Z" } : Jvm.MethodName)) ∈ lw_tbl := lw_at lw_m7 128 rfl
theorem q1642 : (Jvm.Cond.instanceMethod ({ cls := "ActorTreesModel", name := "isHandle", desc := "(I)Z" } : Jvm.MethodName)) ∈ lw_all := lw_g (lw_at lw_m7 129 rfl) rfl
theorem q1643 : (Jvm.Cond.code ({ cls := "ActorTreesModel", name := "isHandle", desc := "(I)Z" } : Jvm.MethodName) prog_23_method_74_code (2 : Nat) (Option.some Jvm.ClassFile.FieldType.boolean)) ∈ lw_all := lw_g (lw_at lw_m7 130 rfl) rfl
theorem q1644 : (Jvm.Cond.methodLink "ActorTreesModel" (245 : Nat) ({ cls := "ActorTreesModel", name := "ordered", desc := "(II)I" } : Jvm.MethodName)) ∈ lw_all := lw_g (lw_at lw_m7 131 rfl) rfl
theorem q1645 : (Jvm.Cond.privateMethod ({ cls := "ActorTreesModel", name := "ordered", desc := "(II)I" } : Jvm.MethodName)) ∈ lw_tbl := lw_at lw_m7 132 rfl
theorem q1646 : (Jvm.Cond.instanceMethod ({ cls := "ActorTreesModel", name := "ordered", desc := "(II)I" } : Jvm.MethodName)) ∈ lw_all := lw_g (lw_at lw_m7 133 rfl) rfl
theorem q1647 : (Jvm.Cond.code ({ cls := "ActorTreesModel", name := "ordered", desc := "(II)I" } : Jvm.MethodName) prog_23_method_73_code (5 : Nat) (Option.some Jvm.ClassFile.FieldType.int)) ∈ lw_all := lw_g (lw_at lw_m7 134 rfl) rfl
theorem q1649 : (Jvm.Cond.instanceMethod ({ cls := "ActorTreesModel", name := "image", desc := "()I" } : Jvm.MethodName)) ∈ lw_all := lw_g (lw_at lw_m7 136 rfl) rfl
theorem q1650 : (Jvm.Cond.selects "ActorTreesModel" ({ cls := "ActorTreesModel", name := "image", desc := "()I" } : Jvm.MethodName) ({ cls := "ActorTreesModel", name := "image", desc := "()I" } : Jvm.MethodName)) ∈ lw_all := lw_g (lw_at lw_m7 137 rfl) rfl
theorem q1651 : (Jvm.Cond.code ({ cls := "ActorTreesModel", name := "image", desc := "()I" } : Jvm.MethodName) prog_23_method_76_code (1 : Nat) (Option.some Jvm.ClassFile.FieldType.int)) ∈ lw_all := lw_g (lw_at lw_m7 138 rfl) rfl
theorem q1653 : (Jvm.Cond.instanceMethod ({ cls := "ActorTreesModel", name := "back", desc := "()I" } : Jvm.MethodName)) ∈ lw_all := lw_g (lw_at lw_m7 140 rfl) rfl
theorem q1654 : (Jvm.Cond.selects "ActorTreesModel" ({ cls := "ActorTreesModel", name := "back", desc := "()I" } : Jvm.MethodName) ({ cls := "ActorTreesModel", name := "back", desc := "()I" } : Jvm.MethodName)) ∈ lw_all := lw_g (lw_at lw_m7 141 rfl) rfl
theorem q1655 : (Jvm.Cond.code ({ cls := "ActorTreesModel", name := "back", desc := "()I" } : Jvm.MethodName) prog_23_method_77_code (2 : Nat) (Option.some Jvm.ClassFile.FieldType.int)) ∈ lw_all := lw_g (lw_at lw_m7 142 rfl) rfl
theorem q1657 : (Jvm.Cond.instanceMethod ({ cls := "ActorTreesModel", name := "hold", desc := "(II)I" } : Jvm.MethodName)) ∈ lw_all := lw_g (lw_at lw_m7 144 rfl) rfl
theorem q1658 : (Jvm.Cond.selects "ActorTreesModel" ({ cls := "ActorTreesModel", name := "hold", desc := "(II)I" } : Jvm.MethodName) ({ cls := "ActorTreesModel", name := "hold", desc := "(II)I" } : Jvm.MethodName)) ∈ lw_all := lw_g (lw_at lw_m7 145 rfl) rfl
theorem q1659 : (Jvm.Cond.code ({ cls := "ActorTreesModel", name := "hold", desc := "(II)I" } : Jvm.MethodName) prog_23_method_78_code (3 : Nat) (Option.some Jvm.ClassFile.FieldType.int)) ∈ lw_all := lw_g (lw_at lw_m7 146 rfl) rfl
theorem q1661 : (Jvm.Cond.instanceMethod ({ cls := "ActorTreesModel", name := "row", desc := "(II)I" } : Jvm.MethodName)) ∈ lw_all := lw_g (lw_at lw_m7 148 rfl) rfl
theorem q1662 : (Jvm.Cond.selects "ActorTreesModel" ({ cls := "ActorTreesModel", name := "row", desc := "(II)I" } : Jvm.MethodName) ({ cls := "ActorTreesModel", name := "row", desc := "(II)I" } : Jvm.MethodName)) ∈ lw_all := lw_g (lw_at lw_m7 149 rfl) rfl
theorem q1663 : (Jvm.Cond.code ({ cls := "ActorTreesModel", name := "row", desc := "(II)I" } : Jvm.MethodName) prog_23_method_79_code (4 : Nat) (Option.some Jvm.ClassFile.FieldType.int)) ∈ lw_all := lw_g (lw_at lw_m7 150 rfl) rfl
theorem q1665 : (Jvm.Cond.instanceMethod ({ cls := "ActorTreesModel", name := "put", desc := "(III)I" } : Jvm.MethodName)) ∈ lw_all := lw_g (lw_at lw_m7 152 rfl) rfl
theorem q1666 : (Jvm.Cond.selects "ActorTreesModel" ({ cls := "ActorTreesModel", name := "put", desc := "(III)I" } : Jvm.MethodName) ({ cls := "ActorTreesModel", name := "put", desc := "(III)I" } : Jvm.MethodName)) ∈ lw_all := lw_g (lw_at lw_m7 153 rfl) rfl
theorem q1667 : (Jvm.Cond.code ({ cls := "ActorTreesModel", name := "put", desc := "(III)I" } : Jvm.MethodName) prog_23_method_80_code (5 : Nat) (Option.some Jvm.ClassFile.FieldType.int)) ∈ lw_all := lw_g (lw_at lw_m7 154 rfl) rfl
theorem q1669 : (Jvm.Cond.instanceMethod ({ cls := "ActorTreesModel", name := "tells", desc := "(II)I" } : Jvm.MethodName)) ∈ lw_all := lw_g (lw_at lw_m7 156 rfl) rfl
theorem q1670 : (Jvm.Cond.selects "ActorTreesModel" ({ cls := "ActorTreesModel", name := "tells", desc := "(II)I" } : Jvm.MethodName) ({ cls := "ActorTreesModel", name := "tells", desc := "(II)I" } : Jvm.MethodName)) ∈ lw_all := lw_g (lw_at lw_m7 157 rfl) rfl
theorem q1671 : (Jvm.Cond.code ({ cls := "ActorTreesModel", name := "tells", desc := "(II)I" } : Jvm.MethodName) prog_23_method_81_code (5 : Nat) (Option.some Jvm.ClassFile.FieldType.int)) ∈ lw_all := lw_g (lw_at lw_m7 158 rfl) rfl
theorem q1672 : (Jvm.Cond.constant "ActorTreesModel" (251 : Nat) (-2000000012 : Int32)) ∈ lw_all := lw_g (lw_at lw_m7 159 rfl) rfl
theorem q1674 : (Jvm.Cond.instanceMethod ({ cls := "ActorTreesModel", name := "count", desc := "(I)I" } : Jvm.MethodName)) ∈ lw_all := lw_g (lw_at lw_m7 161 rfl) rfl
theorem q1675 : (Jvm.Cond.selects "ActorTreesModel" ({ cls := "ActorTreesModel", name := "count", desc := "(I)I" } : Jvm.MethodName) ({ cls := "ActorTreesModel", name := "count", desc := "(I)I" } : Jvm.MethodName)) ∈ lw_all := lw_g (lw_at lw_m7 162 rfl) rfl
theorem q1676 : (Jvm.Cond.code ({ cls := "ActorTreesModel", name := "count", desc := "(I)I" } : Jvm.MethodName) prog_23_method_82_code (4 : Nat) (Option.some Jvm.ClassFile.FieldType.int)) ∈ lw_all := lw_g (lw_at lw_m7 163 rfl) rfl
theorem q1684 : (Jvm.Cond.castable "ActorTreesModel" "java/lang/Object") ∈ lw_tbl := lw_at lw_m7 171 rfl
theorem in_X4 : ∀ w ∈ wsX40, w ∈ lw_all := lw_in wsX40 [1309, 1311, 1313, 1315, 1317, 1319, 1321, 1323, 1325, 1327, 1329, 1331, 1333, 1335, 1337, 1339, 1341, 1343, 1345, 1347, 1349, 1351] (by decide +kernel) (by decide +kernel)

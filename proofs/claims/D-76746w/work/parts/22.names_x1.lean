/-! ActorTrees$World -/
set_option maxRecDepth 100000
def RX1 : String := "ActorTrees$World"
def TX1 : u_T := fun k => match k with
  | 0 => ("ActorTrees$World", "actors", "[LActorTrees$Actor;", true)
  | 1 => ("ActorTrees$World", "many", "I", false)
  | 2 => ("ActorTrees$World", "latest", "I", false)
  | 3 => ("ActorTrees$World", "clock", "I", false)
  | 4 => ("ActorTrees$World", "time", "I", false)
  | 5 => ("ActorTrees$World", "dead", "I", false)
  | 6 => ("ActorTrees$World", "timers", "LActorTrees$Queue;", true)
  | 7 => ("ActorTrees$World", "seed", "I", false)
  | 8 => ("ActorTrees$World", "log", "[I", true)
  | 9 => ("ActorTrees$World", "logged", "I", false)
  | 10 => ("ActorTrees$World", "failure", "LActorTrees$Failure;", false)
  | 11 => ("ActorTrees$World", "failures", "I", false)
  | 12 => ("ActorTrees$World", "restarted", "I", false)
  | 13 => ("ActorTrees$World", "ended", "I", false)
  | _ => ("ActorTrees$World", "deeds", "LActorTrees$World$Deeds;", true)
def tyX1 : Nat → FieldType := fun k => match k with
  | 0 => .array (.object "ActorTrees$Actor")
  | 1 => .int
  | 2 => .int
  | 3 => .int
  | 4 => .int
  | 5 => .int
  | 6 => .object "ActorTrees$Queue"
  | 7 => .int
  | 8 => .array .int
  | 9 => .int
  | 10 => .object "ActorTrees$Failure"
  | 11 => .int
  | 12 => .int
  | 13 => .int
  | _ => .object "ActorTrees$World$Deeds"
abbrev wsX10 : List Cond := u_ws RX1 TX1 15
set_option maxRecDepth 100000 in
theorem nmX1 : ∀ a, a < 15 → ∀ b, b < 15 → a ≠ b → (TX1 a).2.1 ≠ (TX1 b).2.1 := by decide +kernel
set_option maxRecDepth 100000 in
theorem tyX1_ok : ∀ k, k < 15 → parseFieldDescriptor (TX1 k).2.2.1 = some (tyX1 k) := by decide +kernel
abbrev cX1_init : ByteArray := prog_19_method_1_code
def yX1_init : MethodName := ⟨RX1, "<init>", "()V"⟩
def dkwX1_init_2 : List UInt8 := [187, 0, 37, 89, 42, 183, 0, 39, 181, 0, 42, 177]
abbrev dktX1_init_2 : List UInt8 := dkwX1_init_2 ++ []
def dkwX1_init_1 : List UInt8 := [16, 10, 183, 0, 23, 181, 0, 26, 42, 4, 181, 0, 30, 42, 16, 30, 188, 10, 181, 0, 33, 42]
abbrev dktX1_init_1 : List UInt8 := dkwX1_init_1 ++ dktX1_init_2
def dkwX1_init_0 : List UInt8 := [42, 183, 0, 3, 42, 16, 12, 189, 0, 9, 181, 0, 11, 42, 2, 181, 0, 17, 42, 187, 0, 21, 89]
abbrev dktX1_init_0 : List UInt8 := dkwX1_init_0 ++ dktX1_init_1
theorem dksX1_init_0 : cX1_init.data.toList.drop 0 = dktX1_init_0 := by decide +kernel
theorem dksX1_init_1 : cX1_init.data.toList.drop 23 = dktX1_init_1 := dk_seg dksX1_init_0 23 rfl rfl
theorem dksX1_init_2 : cX1_init.data.toList.drop 45 = dktX1_init_2 := dk_seg dksX1_init_1 22 rfl rfl
theorem dX1_init_0 : decode cX1_init 0 = .ok (.aload_n 0, 1) := dk_42 (dk_at dksX1_init_0 0 rfl rfl)
theorem dX1_init_1 : decode cX1_init 1 = .ok (.invokespecial 3, 3) := dk_183 0 3 (dk_at dksX1_init_0 1 rfl rfl)
theorem dX1_init_4 : decode cX1_init 4 = .ok (.aload_n 0, 1) := dk_42 (dk_at dksX1_init_0 4 rfl rfl)
theorem dX1_init_5 : decode cX1_init 5 = .ok (.bipush 12, 2) := dk_16 12 (dk_at dksX1_init_0 5 rfl rfl)
theorem dX1_init_7 : decode cX1_init 7 = .ok (.anewarray 9, 3) := dk_189 0 9 (dk_at dksX1_init_0 7 rfl rfl)
theorem dX1_init_10 : decode cX1_init 10 = .ok (.putfield 11, 3) := dk_181 0 11 (dk_at dksX1_init_0 10 rfl rfl)
theorem dX1_init_13 : decode cX1_init 13 = .ok (.aload_n 0, 1) := dk_42 (dk_at dksX1_init_0 13 rfl rfl)
theorem dX1_init_14 : decode cX1_init 14 = .ok (.iconst (-1), 1) := dk_2 (dk_at dksX1_init_0 14 rfl rfl)
theorem dX1_init_15 : decode cX1_init 15 = .ok (.putfield 17, 3) := dk_181 0 17 (dk_at dksX1_init_0 15 rfl rfl)
theorem dX1_init_18 : decode cX1_init 18 = .ok (.aload_n 0, 1) := dk_42 (dk_at dksX1_init_0 18 rfl rfl)
theorem dX1_init_19 : decode cX1_init 19 = .ok (.new 21, 3) := dk_187 0 21 (dk_at dksX1_init_0 19 rfl rfl)
theorem dX1_init_22 : decode cX1_init 22 = .ok (.dup, 1) := dk_89 (dk_at dksX1_init_0 22 rfl rfl)
theorem dX1_init_23 : decode cX1_init 23 = .ok (.bipush 10, 2) := dk_16 10 (dk_at dksX1_init_1 0 rfl rfl)
theorem dX1_init_25 : decode cX1_init 25 = .ok (.invokespecial 23, 3) := dk_183 0 23 (dk_at dksX1_init_1 2 rfl rfl)
theorem dX1_init_28 : decode cX1_init 28 = .ok (.putfield 26, 3) := dk_181 0 26 (dk_at dksX1_init_1 5 rfl rfl)
theorem dX1_init_31 : decode cX1_init 31 = .ok (.aload_n 0, 1) := dk_42 (dk_at dksX1_init_1 8 rfl rfl)
theorem dX1_init_32 : decode cX1_init 32 = .ok (.iconst 1, 1) := dk_4 (dk_at dksX1_init_1 9 rfl rfl)
theorem dX1_init_33 : decode cX1_init 33 = .ok (.putfield 30, 3) := dk_181 0 30 (dk_at dksX1_init_1 10 rfl rfl)
theorem dX1_init_36 : decode cX1_init 36 = .ok (.aload_n 0, 1) := dk_42 (dk_at dksX1_init_1 13 rfl rfl)
theorem dX1_init_37 : decode cX1_init 37 = .ok (.bipush 30, 2) := dk_16 30 (dk_at dksX1_init_1 14 rfl rfl)
theorem dX1_init_39 : decode cX1_init 39 = .ok (.newarray .int, 2) := dk_188_10 (dk_at dksX1_init_1 16 rfl rfl)
theorem dX1_init_41 : decode cX1_init 41 = .ok (.putfield 33, 3) := dk_181 0 33 (dk_at dksX1_init_1 18 rfl rfl)
theorem dX1_init_44 : decode cX1_init 44 = .ok (.aload_n 0, 1) := dk_42 (dk_at dksX1_init_1 21 rfl rfl)
theorem dX1_init_45 : decode cX1_init 45 = .ok (.new 37, 3) := dk_187 0 37 (dk_at dksX1_init_2 0 rfl rfl)
theorem dX1_init_48 : decode cX1_init 48 = .ok (.dup, 1) := dk_89 (dk_at dksX1_init_2 3 rfl rfl)
theorem dX1_init_49 : decode cX1_init 49 = .ok (.aload_n 0, 1) := dk_42 (dk_at dksX1_init_2 4 rfl rfl)
theorem dX1_init_50 : decode cX1_init 50 = .ok (.invokespecial 39, 3) := dk_183 0 39 (dk_at dksX1_init_2 5 rfl rfl)
theorem dX1_init_53 : decode cX1_init 53 = .ok (.putfield 42, 3) := dk_181 0 42 (dk_at dksX1_init_2 8 rfl rfl)
theorem dX1_init_56 : decode cX1_init 56 = .ok (.return_, 1) := dk_177 (dk_at dksX1_init_2 11 rfl rfl)
abbrev cX1_bars : ByteArray := prog_19_method_25_code
def yX1_bars : MethodName := ⟨RX1, "bars", "(IIIII)I"⟩
def dkwX1_bars_4 : List UInt8 := [154, 0, 6, 16, 251, 172, 42, 180, 0, 47, 16, 12, 160, 0, 8, 16, 253, 167, 0, 4, 3, 172]
abbrev dktX1_bars_4 : List UInt8 := dkwX1_bars_4 ++ []
def dkwX1_bars_3 : List UInt8 := [184, 1, 43, 154, 0, 5, 2, 172, 21, 6, 154, 0, 18, 42, 180, 0, 11, 27, 50, 180, 0, 83]
abbrev dktX1_bars_3 : List UInt8 := dkwX1_bars_3 ++ dktX1_bars_4
def dkwX1_bars_2 : List UInt8 := [5, 184, 1, 43, 153, 0, 25, 21, 4, 3, 16, 9, 184, 1, 43, 153, 0, 14, 21, 5, 4, 16, 50]
abbrev dktX1_bars_2 : List UInt8 := dkwX1_bars_2 ++ dktX1_bars_3
def dkwX1_bars_1 : List UInt8 := [27, 155, 0, 52, 27, 42, 180, 0, 47, 162, 0, 44, 28, 3, 16, 9, 184, 1, 43, 153, 0, 34, 29, 3]
abbrev dktX1_bars_1 : List UInt8 := dkwX1_bars_1 ++ dktX1_bars_2
def dkwX1_bars_0 : List UInt8 := [27, 2, 160, 0, 14, 42, 180, 0, 47, 154, 0, 7, 4, 167, 0, 4, 3, 54, 6, 21, 6, 154, 0, 15]
abbrev dktX1_bars_0 : List UInt8 := dkwX1_bars_0 ++ dktX1_bars_1
theorem dksX1_bars_0 : cX1_bars.data.toList.drop 0 = dktX1_bars_0 := by decide +kernel
theorem dksX1_bars_1 : cX1_bars.data.toList.drop 24 = dktX1_bars_1 := dk_seg dksX1_bars_0 24 rfl rfl
theorem dksX1_bars_2 : cX1_bars.data.toList.drop 48 = dktX1_bars_2 := dk_seg dksX1_bars_1 24 rfl rfl
theorem dksX1_bars_3 : cX1_bars.data.toList.drop 71 = dktX1_bars_3 := dk_seg dksX1_bars_2 23 rfl rfl
theorem dksX1_bars_4 : cX1_bars.data.toList.drop 93 = dktX1_bars_4 := dk_seg dksX1_bars_3 22 rfl rfl
theorem dX1_bars_0 : decode cX1_bars 0 = .ok (.iload_n 1, 1) := dk_27 (dk_at dksX1_bars_0 0 rfl rfl)
theorem dX1_bars_1 : decode cX1_bars 1 = .ok (.iconst (-1), 1) := dk_2 (dk_at dksX1_bars_0 1 rfl rfl)
theorem dX1_bars_2 : decode cX1_bars 2 = .ok (.if_icmp .ne 14, 3) := dk_160 0 14 (dk_at dksX1_bars_0 2 rfl rfl)
theorem dX1_bars_5 : decode cX1_bars 5 = .ok (.aload_n 0, 1) := dk_42 (dk_at dksX1_bars_0 5 rfl rfl)
theorem dX1_bars_6 : decode cX1_bars 6 = .ok (.getfield 47, 3) := dk_180 0 47 (dk_at dksX1_bars_0 6 rfl rfl)
theorem dX1_bars_9 : decode cX1_bars 9 = .ok (.ifCond .ne 7, 3) := dk_154 0 7 (dk_at dksX1_bars_0 9 rfl rfl)
theorem dX1_bars_12 : decode cX1_bars 12 = .ok (.iconst 1, 1) := dk_4 (dk_at dksX1_bars_0 12 rfl rfl)
theorem dX1_bars_13 : decode cX1_bars 13 = .ok (.goto 4, 3) := dk_167 0 4 (dk_at dksX1_bars_0 13 rfl rfl)
theorem dX1_bars_16 : decode cX1_bars 16 = .ok (.iconst 0, 1) := dk_3 (dk_at dksX1_bars_0 16 rfl rfl)
theorem dX1_bars_17 : decode cX1_bars 17 = .ok (.istore 6, 2) := dk_54 6 (dk_at dksX1_bars_0 17 rfl rfl)
theorem dX1_bars_19 : decode cX1_bars 19 = .ok (.iload 6, 2) := dk_21 6 (dk_at dksX1_bars_0 19 rfl rfl)
theorem dX1_bars_21 : decode cX1_bars 21 = .ok (.ifCond .ne 15, 3) := dk_154 0 15 (dk_at dksX1_bars_0 21 rfl rfl)
theorem dX1_bars_24 : decode cX1_bars 24 = .ok (.iload_n 1, 1) := dk_27 (dk_at dksX1_bars_1 0 rfl rfl)
theorem dX1_bars_25 : decode cX1_bars 25 = .ok (.ifCond .lt 52, 3) := dk_155 0 52 (dk_at dksX1_bars_1 1 rfl rfl)
theorem dX1_bars_28 : decode cX1_bars 28 = .ok (.iload_n 1, 1) := dk_27 (dk_at dksX1_bars_1 4 rfl rfl)
theorem dX1_bars_29 : decode cX1_bars 29 = .ok (.aload_n 0, 1) := dk_42 (dk_at dksX1_bars_1 5 rfl rfl)
theorem dX1_bars_30 : decode cX1_bars 30 = .ok (.getfield 47, 3) := dk_180 0 47 (dk_at dksX1_bars_1 6 rfl rfl)
theorem dX1_bars_33 : decode cX1_bars 33 = .ok (.if_icmp .ge 44, 3) := dk_162 0 44 (dk_at dksX1_bars_1 9 rfl rfl)
theorem dX1_bars_36 : decode cX1_bars 36 = .ok (.iload_n 2, 1) := dk_28 (dk_at dksX1_bars_1 12 rfl rfl)
theorem dX1_bars_37 : decode cX1_bars 37 = .ok (.iconst 0, 1) := dk_3 (dk_at dksX1_bars_1 13 rfl rfl)
theorem dX1_bars_38 : decode cX1_bars 38 = .ok (.bipush 9, 2) := dk_16 9 (dk_at dksX1_bars_1 14 rfl rfl)
theorem dX1_bars_40 : decode cX1_bars 40 = .ok (.invokestatic 299, 3) := dk_184 1 43 (dk_at dksX1_bars_1 16 rfl rfl)
theorem dX1_bars_43 : decode cX1_bars 43 = .ok (.ifCond .eq 34, 3) := dk_153 0 34 (dk_at dksX1_bars_1 19 rfl rfl)
theorem dX1_bars_46 : decode cX1_bars 46 = .ok (.iload_n 3, 1) := dk_29 (dk_at dksX1_bars_1 22 rfl rfl)
theorem dX1_bars_47 : decode cX1_bars 47 = .ok (.iconst 0, 1) := dk_3 (dk_at dksX1_bars_1 23 rfl rfl)
theorem dX1_bars_48 : decode cX1_bars 48 = .ok (.iconst 2, 1) := dk_5 (dk_at dksX1_bars_2 0 rfl rfl)
theorem dX1_bars_49 : decode cX1_bars 49 = .ok (.invokestatic 299, 3) := dk_184 1 43 (dk_at dksX1_bars_2 1 rfl rfl)
theorem dX1_bars_52 : decode cX1_bars 52 = .ok (.ifCond .eq 25, 3) := dk_153 0 25 (dk_at dksX1_bars_2 4 rfl rfl)
theorem dX1_bars_55 : decode cX1_bars 55 = .ok (.iload 4, 2) := dk_21 4 (dk_at dksX1_bars_2 7 rfl rfl)
theorem dX1_bars_57 : decode cX1_bars 57 = .ok (.iconst 0, 1) := dk_3 (dk_at dksX1_bars_2 9 rfl rfl)
theorem dX1_bars_58 : decode cX1_bars 58 = .ok (.bipush 9, 2) := dk_16 9 (dk_at dksX1_bars_2 10 rfl rfl)
theorem dX1_bars_60 : decode cX1_bars 60 = .ok (.invokestatic 299, 3) := dk_184 1 43 (dk_at dksX1_bars_2 12 rfl rfl)
theorem dX1_bars_63 : decode cX1_bars 63 = .ok (.ifCond .eq 14, 3) := dk_153 0 14 (dk_at dksX1_bars_2 15 rfl rfl)
theorem dX1_bars_66 : decode cX1_bars 66 = .ok (.iload 5, 2) := dk_21 5 (dk_at dksX1_bars_2 18 rfl rfl)
theorem dX1_bars_68 : decode cX1_bars 68 = .ok (.iconst 1, 1) := dk_4 (dk_at dksX1_bars_2 20 rfl rfl)
theorem dX1_bars_69 : decode cX1_bars 69 = .ok (.bipush 50, 2) := dk_16 50 (dk_at dksX1_bars_2 21 rfl rfl)
theorem dX1_bars_71 : decode cX1_bars 71 = .ok (.invokestatic 299, 3) := dk_184 1 43 (dk_at dksX1_bars_3 0 rfl rfl)
theorem dX1_bars_74 : decode cX1_bars 74 = .ok (.ifCond .ne 5, 3) := dk_154 0 5 (dk_at dksX1_bars_3 3 rfl rfl)
theorem dX1_bars_77 : decode cX1_bars 77 = .ok (.iconst (-1), 1) := dk_2 (dk_at dksX1_bars_3 6 rfl rfl)
theorem dX1_bars_78 : decode cX1_bars 78 = .ok (.ireturn, 1) := dk_172 (dk_at dksX1_bars_3 7 rfl rfl)
theorem dX1_bars_79 : decode cX1_bars 79 = .ok (.iload 6, 2) := dk_21 6 (dk_at dksX1_bars_3 8 rfl rfl)
theorem dX1_bars_81 : decode cX1_bars 81 = .ok (.ifCond .ne 18, 3) := dk_154 0 18 (dk_at dksX1_bars_3 10 rfl rfl)
theorem dX1_bars_84 : decode cX1_bars 84 = .ok (.aload_n 0, 1) := dk_42 (dk_at dksX1_bars_3 13 rfl rfl)
theorem dX1_bars_85 : decode cX1_bars 85 = .ok (.getfield 11, 3) := dk_180 0 11 (dk_at dksX1_bars_3 14 rfl rfl)
theorem dX1_bars_88 : decode cX1_bars 88 = .ok (.iload_n 1, 1) := dk_27 (dk_at dksX1_bars_3 17 rfl rfl)
theorem dX1_bars_89 : decode cX1_bars 89 = .ok (.aaload, 1) := dk_50 (dk_at dksX1_bars_3 18 rfl rfl)
theorem dX1_bars_90 : decode cX1_bars 90 = .ok (.getfield 83, 3) := dk_180 0 83 (dk_at dksX1_bars_3 19 rfl rfl)
theorem dX1_bars_93 : decode cX1_bars 93 = .ok (.ifCond .ne 6, 3) := dk_154 0 6 (dk_at dksX1_bars_4 0 rfl rfl)
theorem dX1_bars_96 : decode cX1_bars 96 = .ok (.bipush (-5), 2) := dk_16 251 (dk_at dksX1_bars_4 3 rfl rfl)
theorem dX1_bars_98 : decode cX1_bars 98 = .ok (.ireturn, 1) := dk_172 (dk_at dksX1_bars_4 5 rfl rfl)
theorem dX1_bars_99 : decode cX1_bars 99 = .ok (.aload_n 0, 1) := dk_42 (dk_at dksX1_bars_4 6 rfl rfl)
theorem dX1_bars_100 : decode cX1_bars 100 = .ok (.getfield 47, 3) := dk_180 0 47 (dk_at dksX1_bars_4 7 rfl rfl)
theorem dX1_bars_103 : decode cX1_bars 103 = .ok (.bipush 12, 2) := dk_16 12 (dk_at dksX1_bars_4 10 rfl rfl)
theorem dX1_bars_105 : decode cX1_bars 105 = .ok (.if_icmp .ne 8, 3) := dk_160 0 8 (dk_at dksX1_bars_4 12 rfl rfl)
theorem dX1_bars_108 : decode cX1_bars 108 = .ok (.bipush (-3), 2) := dk_16 253 (dk_at dksX1_bars_4 15 rfl rfl)
theorem dX1_bars_110 : decode cX1_bars 110 = .ok (.goto 4, 3) := dk_167 0 4 (dk_at dksX1_bars_4 17 rfl rfl)
theorem dX1_bars_113 : decode cX1_bars 113 = .ok (.iconst 0, 1) := dk_3 (dk_at dksX1_bars_4 20 rfl rfl)
theorem dX1_bars_114 : decode cX1_bars 114 = .ok (.ireturn, 1) := dk_172 (dk_at dksX1_bars_4 21 rfl rfl)
abbrev cX1_comes : ByteArray := prog_19_method_24_code
def yX1_comes : MethodName := ⟨RX1, "comes", "(IIIII)I"⟩
def dkwX1_comes_1 : List UInt8 := [183, 1, 40, 83, 42, 89, 180, 0, 47, 4, 96, 181, 0, 47, 42, 180, 0, 47, 4, 100, 172]
abbrev dktX1_comes_1 : List UInt8 := dkwX1_comes_1 ++ []
def dkwX1_comes_0 : List UInt8 := [42, 180, 0, 11, 42, 180, 0, 47, 187, 0, 9, 89, 42, 180, 0, 47, 27, 28, 29, 21, 4, 21, 5]
abbrev dktX1_comes_0 : List UInt8 := dkwX1_comes_0 ++ dktX1_comes_1
theorem dksX1_comes_0 : cX1_comes.data.toList.drop 0 = dktX1_comes_0 := by decide +kernel
theorem dksX1_comes_1 : cX1_comes.data.toList.drop 23 = dktX1_comes_1 := dk_seg dksX1_comes_0 23 rfl rfl
theorem dX1_comes_0 : decode cX1_comes 0 = .ok (.aload_n 0, 1) := dk_42 (dk_at dksX1_comes_0 0 rfl rfl)
theorem dX1_comes_1 : decode cX1_comes 1 = .ok (.getfield 11, 3) := dk_180 0 11 (dk_at dksX1_comes_0 1 rfl rfl)
theorem dX1_comes_4 : decode cX1_comes 4 = .ok (.aload_n 0, 1) := dk_42 (dk_at dksX1_comes_0 4 rfl rfl)
theorem dX1_comes_5 : decode cX1_comes 5 = .ok (.getfield 47, 3) := dk_180 0 47 (dk_at dksX1_comes_0 5 rfl rfl)
theorem dX1_comes_8 : decode cX1_comes 8 = .ok (.new 9, 3) := dk_187 0 9 (dk_at dksX1_comes_0 8 rfl rfl)
theorem dX1_comes_11 : decode cX1_comes 11 = .ok (.dup, 1) := dk_89 (dk_at dksX1_comes_0 11 rfl rfl)
theorem dX1_comes_12 : decode cX1_comes 12 = .ok (.aload_n 0, 1) := dk_42 (dk_at dksX1_comes_0 12 rfl rfl)
theorem dX1_comes_13 : decode cX1_comes 13 = .ok (.getfield 47, 3) := dk_180 0 47 (dk_at dksX1_comes_0 13 rfl rfl)
theorem dX1_comes_16 : decode cX1_comes 16 = .ok (.iload_n 1, 1) := dk_27 (dk_at dksX1_comes_0 16 rfl rfl)
theorem dX1_comes_17 : decode cX1_comes 17 = .ok (.iload_n 2, 1) := dk_28 (dk_at dksX1_comes_0 17 rfl rfl)
theorem dX1_comes_18 : decode cX1_comes 18 = .ok (.iload_n 3, 1) := dk_29 (dk_at dksX1_comes_0 18 rfl rfl)
theorem dX1_comes_19 : decode cX1_comes 19 = .ok (.iload 4, 2) := dk_21 4 (dk_at dksX1_comes_0 19 rfl rfl)
theorem dX1_comes_21 : decode cX1_comes 21 = .ok (.iload 5, 2) := dk_21 5 (dk_at dksX1_comes_0 21 rfl rfl)
theorem dX1_comes_23 : decode cX1_comes 23 = .ok (.invokespecial 296, 3) := dk_183 1 40 (dk_at dksX1_comes_1 0 rfl rfl)
theorem dX1_comes_26 : decode cX1_comes 26 = .ok (.aastore, 1) := dk_83 (dk_at dksX1_comes_1 3 rfl rfl)
theorem dX1_comes_27 : decode cX1_comes 27 = .ok (.aload_n 0, 1) := dk_42 (dk_at dksX1_comes_1 4 rfl rfl)
theorem dX1_comes_28 : decode cX1_comes 28 = .ok (.dup, 1) := dk_89 (dk_at dksX1_comes_1 5 rfl rfl)
theorem dX1_comes_29 : decode cX1_comes 29 = .ok (.getfield 47, 3) := dk_180 0 47 (dk_at dksX1_comes_1 6 rfl rfl)
theorem dX1_comes_32 : decode cX1_comes 32 = .ok (.iconst 1, 1) := dk_4 (dk_at dksX1_comes_1 9 rfl rfl)
theorem dX1_comes_33 : decode cX1_comes 33 = .ok (.iadd, 1) := dk_96 (dk_at dksX1_comes_1 10 rfl rfl)
theorem dX1_comes_34 : decode cX1_comes 34 = .ok (.putfield 47, 3) := dk_181 0 47 (dk_at dksX1_comes_1 11 rfl rfl)
theorem dX1_comes_37 : decode cX1_comes 37 = .ok (.aload_n 0, 1) := dk_42 (dk_at dksX1_comes_1 14 rfl rfl)
theorem dX1_comes_38 : decode cX1_comes 38 = .ok (.getfield 47, 3) := dk_180 0 47 (dk_at dksX1_comes_1 15 rfl rfl)
theorem dX1_comes_41 : decode cX1_comes 41 = .ok (.iconst 1, 1) := dk_4 (dk_at dksX1_comes_1 18 rfl rfl)
theorem dX1_comes_42 : decode cX1_comes 42 = .ok (.isub, 1) := dk_100 (dk_at dksX1_comes_1 19 rfl rfl)
theorem dX1_comes_43 : decode cX1_comes 43 = .ok (.ireturn, 1) := dk_172 (dk_at dksX1_comes_1 20 rfl rfl)
abbrev cX1_sends : ByteArray := prog_19_method_4_code
def yX1_sends : MethodName := ⟨RX1, "sends", "(LActorTrees$Actor;LActorTrees$Message;)Z"⟩
def dkwX1_sends_1 : List UInt8 := [180, 0, 60, 4, 96, 181, 0, 60, 3, 172]
abbrev dktX1_sends_1 : List UInt8 := dkwX1_sends_1 ++ []
def dkwX1_sends_0 : List UInt8 := [43, 180, 0, 83, 153, 0, 16, 43, 180, 0, 87, 44, 182, 0, 90, 153, 0, 5, 4, 172, 42, 89]
abbrev dktX1_sends_0 : List UInt8 := dkwX1_sends_0 ++ dktX1_sends_1
theorem dksX1_sends_0 : cX1_sends.data.toList.drop 0 = dktX1_sends_0 := by decide +kernel
theorem dksX1_sends_1 : cX1_sends.data.toList.drop 22 = dktX1_sends_1 := dk_seg dksX1_sends_0 22 rfl rfl
theorem dX1_sends_0 : decode cX1_sends 0 = .ok (.aload_n 1, 1) := dk_43 (dk_at dksX1_sends_0 0 rfl rfl)
theorem dX1_sends_1 : decode cX1_sends 1 = .ok (.getfield 83, 3) := dk_180 0 83 (dk_at dksX1_sends_0 1 rfl rfl)
theorem dX1_sends_4 : decode cX1_sends 4 = .ok (.ifCond .eq 16, 3) := dk_153 0 16 (dk_at dksX1_sends_0 4 rfl rfl)
theorem dX1_sends_7 : decode cX1_sends 7 = .ok (.aload_n 1, 1) := dk_43 (dk_at dksX1_sends_0 7 rfl rfl)
theorem dX1_sends_8 : decode cX1_sends 8 = .ok (.getfield 87, 3) := dk_180 0 87 (dk_at dksX1_sends_0 8 rfl rfl)
theorem dX1_sends_11 : decode cX1_sends 11 = .ok (.aload_n 2, 1) := dk_44 (dk_at dksX1_sends_0 11 rfl rfl)
theorem dX1_sends_12 : decode cX1_sends 12 = .ok (.invokevirtual 90, 3) := dk_182 0 90 (dk_at dksX1_sends_0 12 rfl rfl)
theorem dX1_sends_15 : decode cX1_sends 15 = .ok (.ifCond .eq 5, 3) := dk_153 0 5 (dk_at dksX1_sends_0 15 rfl rfl)
theorem dX1_sends_18 : decode cX1_sends 18 = .ok (.iconst 1, 1) := dk_4 (dk_at dksX1_sends_0 18 rfl rfl)
theorem dX1_sends_19 : decode cX1_sends 19 = .ok (.ireturn, 1) := dk_172 (dk_at dksX1_sends_0 19 rfl rfl)
theorem dX1_sends_20 : decode cX1_sends 20 = .ok (.aload_n 0, 1) := dk_42 (dk_at dksX1_sends_0 20 rfl rfl)
theorem dX1_sends_21 : decode cX1_sends 21 = .ok (.dup, 1) := dk_89 (dk_at dksX1_sends_0 21 rfl rfl)
theorem dX1_sends_22 : decode cX1_sends 22 = .ok (.getfield 60, 3) := dk_180 0 60 (dk_at dksX1_sends_1 0 rfl rfl)
theorem dX1_sends_25 : decode cX1_sends 25 = .ok (.iconst 1, 1) := dk_4 (dk_at dksX1_sends_1 3 rfl rfl)
theorem dX1_sends_26 : decode cX1_sends 26 = .ok (.iadd, 1) := dk_96 (dk_at dksX1_sends_1 4 rfl rfl)
theorem dX1_sends_27 : decode cX1_sends 27 = .ok (.putfield 60, 3) := dk_181 0 60 (dk_at dksX1_sends_1 5 rfl rfl)
theorem dX1_sends_30 : decode cX1_sends 30 = .ok (.iconst 0, 1) := dk_3 (dk_at dksX1_sends_1 8 rfl rfl)
theorem dX1_sends_31 : decode cX1_sends 31 = .ok (.ireturn, 1) := dk_172 (dk_at dksX1_sends_1 9 rfl rfl)
abbrev cX1_timersOf : ByteArray := prog_19_method_8_code
def yX1_timersOf : MethodName := ⟨RX1, "timersOf", "(I)I"⟩
def dkwX1_timersOf_2 : List UInt8 := [167, 255, 224, 28, 172]
abbrev dktX1_timersOf_2 : List UInt8 := dkwX1_timersOf_2 ++ []
def dkwX1_timersOf_1 : List UInt8 := [185, 0, 131, 1, 0, 192, 0, 135, 58, 4, 25, 4, 180, 0, 137, 27, 160, 0, 6, 132, 2, 1]
abbrev dktX1_timersOf_1 : List UInt8 := dkwX1_timersOf_1 ++ dktX1_timersOf_2
def dkwX1_timersOf_0 : List UInt8 := [3, 61, 42, 180, 0, 26, 182, 0, 121, 78, 45, 185, 0, 125, 1, 0, 153, 0, 29, 45]
abbrev dktX1_timersOf_0 : List UInt8 := dkwX1_timersOf_0 ++ dktX1_timersOf_1
theorem dksX1_timersOf_0 : cX1_timersOf.data.toList.drop 0 = dktX1_timersOf_0 := by decide +kernel
theorem dksX1_timersOf_1 : cX1_timersOf.data.toList.drop 20 = dktX1_timersOf_1 := dk_seg dksX1_timersOf_0 20 rfl rfl
theorem dksX1_timersOf_2 : cX1_timersOf.data.toList.drop 42 = dktX1_timersOf_2 := dk_seg dksX1_timersOf_1 22 rfl rfl
theorem dX1_timersOf_0 : decode cX1_timersOf 0 = .ok (.iconst 0, 1) := dk_3 (dk_at dksX1_timersOf_0 0 rfl rfl)
theorem dX1_timersOf_1 : decode cX1_timersOf 1 = .ok (.istore_n 2, 1) := dk_61 (dk_at dksX1_timersOf_0 1 rfl rfl)
theorem dX1_timersOf_2 : decode cX1_timersOf 2 = .ok (.aload_n 0, 1) := dk_42 (dk_at dksX1_timersOf_0 2 rfl rfl)
theorem dX1_timersOf_3 : decode cX1_timersOf 3 = .ok (.getfield 26, 3) := dk_180 0 26 (dk_at dksX1_timersOf_0 3 rfl rfl)
theorem dX1_timersOf_6 : decode cX1_timersOf 6 = .ok (.invokevirtual 121, 3) := dk_182 0 121 (dk_at dksX1_timersOf_0 6 rfl rfl)
theorem dX1_timersOf_9 : decode cX1_timersOf 9 = .ok (.astore_n 3, 1) := dk_78 (dk_at dksX1_timersOf_0 9 rfl rfl)
theorem dX1_timersOf_10 : decode cX1_timersOf 10 = .ok (.aload_n 3, 1) := dk_45 (dk_at dksX1_timersOf_0 10 rfl rfl)
theorem dX1_timersOf_11 : decode cX1_timersOf 11 = .ok (.invokeinterface 125 1, 5) := by decide +kernel
theorem dX1_timersOf_16 : decode cX1_timersOf 16 = .ok (.ifCond .eq 29, 3) := dk_153 0 29 (dk_at dksX1_timersOf_0 16 rfl rfl)
theorem dX1_timersOf_19 : decode cX1_timersOf 19 = .ok (.aload_n 3, 1) := dk_45 (dk_at dksX1_timersOf_0 19 rfl rfl)
theorem dX1_timersOf_20 : decode cX1_timersOf 20 = .ok (.invokeinterface 131 1, 5) := by decide +kernel
theorem dX1_timersOf_25 : decode cX1_timersOf 25 = .ok (.checkcast 135, 3) := dk_192 0 135 (dk_at dksX1_timersOf_1 5 rfl rfl)
theorem dX1_timersOf_28 : decode cX1_timersOf 28 = .ok (.astore 4, 2) := dk_58 4 (dk_at dksX1_timersOf_1 8 rfl rfl)
theorem dX1_timersOf_30 : decode cX1_timersOf 30 = .ok (.aload 4, 2) := dk_25 4 (dk_at dksX1_timersOf_1 10 rfl rfl)
theorem dX1_timersOf_32 : decode cX1_timersOf 32 = .ok (.getfield 137, 3) := dk_180 0 137 (dk_at dksX1_timersOf_1 12 rfl rfl)
theorem dX1_timersOf_35 : decode cX1_timersOf 35 = .ok (.iload_n 1, 1) := dk_27 (dk_at dksX1_timersOf_1 15 rfl rfl)
theorem dX1_timersOf_36 : decode cX1_timersOf 36 = .ok (.if_icmp .ne 6, 3) := dk_160 0 6 (dk_at dksX1_timersOf_1 16 rfl rfl)
theorem dX1_timersOf_39 : decode cX1_timersOf 39 = .ok (.iinc 2 1, 3) := dk_132 2 1 (dk_at dksX1_timersOf_1 19 rfl rfl)
theorem dX1_timersOf_42 : decode cX1_timersOf 42 = .ok (.goto (-32), 3) := dk_167 255 224 (dk_at dksX1_timersOf_2 0 rfl rfl)
theorem dX1_timersOf_45 : decode cX1_timersOf 45 = .ok (.iload_n 2, 1) := dk_28 (dk_at dksX1_timersOf_2 3 rfl rfl)
theorem dX1_timersOf_46 : decode cX1_timersOf 46 = .ok (.ireturn, 1) := dk_172 (dk_at dksX1_timersOf_2 4 rfl rfl)
abbrev cX1_childrenOf : ByteArray := prog_19_method_23_code
def yX1_childrenOf : MethodName := ⟨RX1, "childrenOf", "(I)I"⟩
def dkwX1_childrenOf_1 : List UInt8 := [160, 0, 9, 4, 29, 120, 167, 0, 4, 3, 128, 61, 132, 3, 1, 167, 255, 222, 28, 172]
abbrev dktX1_childrenOf_1 : List UInt8 := dkwX1_childrenOf_1 ++ []
def dkwX1_childrenOf_0 : List UInt8 := [3, 61, 3, 62, 29, 42, 180, 0, 47, 162, 0, 32, 28, 42, 180, 0, 11, 29, 50, 180, 0, 140, 27]
abbrev dktX1_childrenOf_0 : List UInt8 := dkwX1_childrenOf_0 ++ dktX1_childrenOf_1
theorem dksX1_childrenOf_0 : cX1_childrenOf.data.toList.drop 0 = dktX1_childrenOf_0 := by decide +kernel
theorem dksX1_childrenOf_1 : cX1_childrenOf.data.toList.drop 23 = dktX1_childrenOf_1 := dk_seg dksX1_childrenOf_0 23 rfl rfl
theorem dX1_childrenOf_0 : decode cX1_childrenOf 0 = .ok (.iconst 0, 1) := dk_3 (dk_at dksX1_childrenOf_0 0 rfl rfl)
theorem dX1_childrenOf_1 : decode cX1_childrenOf 1 = .ok (.istore_n 2, 1) := dk_61 (dk_at dksX1_childrenOf_0 1 rfl rfl)
theorem dX1_childrenOf_2 : decode cX1_childrenOf 2 = .ok (.iconst 0, 1) := dk_3 (dk_at dksX1_childrenOf_0 2 rfl rfl)
theorem dX1_childrenOf_3 : decode cX1_childrenOf 3 = .ok (.istore_n 3, 1) := dk_62 (dk_at dksX1_childrenOf_0 3 rfl rfl)
theorem dX1_childrenOf_4 : decode cX1_childrenOf 4 = .ok (.iload_n 3, 1) := dk_29 (dk_at dksX1_childrenOf_0 4 rfl rfl)
theorem dX1_childrenOf_5 : decode cX1_childrenOf 5 = .ok (.aload_n 0, 1) := dk_42 (dk_at dksX1_childrenOf_0 5 rfl rfl)
theorem dX1_childrenOf_6 : decode cX1_childrenOf 6 = .ok (.getfield 47, 3) := dk_180 0 47 (dk_at dksX1_childrenOf_0 6 rfl rfl)
theorem dX1_childrenOf_9 : decode cX1_childrenOf 9 = .ok (.if_icmp .ge 32, 3) := dk_162 0 32 (dk_at dksX1_childrenOf_0 9 rfl rfl)
theorem dX1_childrenOf_12 : decode cX1_childrenOf 12 = .ok (.iload_n 2, 1) := dk_28 (dk_at dksX1_childrenOf_0 12 rfl rfl)
theorem dX1_childrenOf_13 : decode cX1_childrenOf 13 = .ok (.aload_n 0, 1) := dk_42 (dk_at dksX1_childrenOf_0 13 rfl rfl)
theorem dX1_childrenOf_14 : decode cX1_childrenOf 14 = .ok (.getfield 11, 3) := dk_180 0 11 (dk_at dksX1_childrenOf_0 14 rfl rfl)
theorem dX1_childrenOf_17 : decode cX1_childrenOf 17 = .ok (.iload_n 3, 1) := dk_29 (dk_at dksX1_childrenOf_0 17 rfl rfl)
theorem dX1_childrenOf_18 : decode cX1_childrenOf 18 = .ok (.aaload, 1) := dk_50 (dk_at dksX1_childrenOf_0 18 rfl rfl)
theorem dX1_childrenOf_19 : decode cX1_childrenOf 19 = .ok (.getfield 140, 3) := dk_180 0 140 (dk_at dksX1_childrenOf_0 19 rfl rfl)
theorem dX1_childrenOf_22 : decode cX1_childrenOf 22 = .ok (.iload_n 1, 1) := dk_27 (dk_at dksX1_childrenOf_0 22 rfl rfl)
theorem dX1_childrenOf_23 : decode cX1_childrenOf 23 = .ok (.if_icmp .ne 9, 3) := dk_160 0 9 (dk_at dksX1_childrenOf_1 0 rfl rfl)
theorem dX1_childrenOf_26 : decode cX1_childrenOf 26 = .ok (.iconst 1, 1) := dk_4 (dk_at dksX1_childrenOf_1 3 rfl rfl)
theorem dX1_childrenOf_27 : decode cX1_childrenOf 27 = .ok (.iload_n 3, 1) := dk_29 (dk_at dksX1_childrenOf_1 4 rfl rfl)
theorem dX1_childrenOf_28 : decode cX1_childrenOf 28 = .ok (.ishl, 1) := dk_120 (dk_at dksX1_childrenOf_1 5 rfl rfl)
theorem dX1_childrenOf_29 : decode cX1_childrenOf 29 = .ok (.goto 4, 3) := dk_167 0 4 (dk_at dksX1_childrenOf_1 6 rfl rfl)
theorem dX1_childrenOf_32 : decode cX1_childrenOf 32 = .ok (.iconst 0, 1) := dk_3 (dk_at dksX1_childrenOf_1 9 rfl rfl)
theorem dX1_childrenOf_33 : decode cX1_childrenOf 33 = .ok (.ior, 1) := dk_128 (dk_at dksX1_childrenOf_1 10 rfl rfl)
theorem dX1_childrenOf_34 : decode cX1_childrenOf 34 = .ok (.istore_n 2, 1) := dk_61 (dk_at dksX1_childrenOf_1 11 rfl rfl)
theorem dX1_childrenOf_35 : decode cX1_childrenOf 35 = .ok (.iinc 3 1, 3) := dk_132 3 1 (dk_at dksX1_childrenOf_1 12 rfl rfl)
theorem dX1_childrenOf_38 : decode cX1_childrenOf 38 = .ok (.goto (-34), 3) := dk_167 255 222 (dk_at dksX1_childrenOf_1 15 rfl rfl)
theorem dX1_childrenOf_41 : decode cX1_childrenOf 41 = .ok (.iload_n 2, 1) := dk_28 (dk_at dksX1_childrenOf_1 18 rfl rfl)
theorem dX1_childrenOf_42 : decode cX1_childrenOf 42 = .ok (.ireturn, 1) := dk_172 (dk_at dksX1_childrenOf_1 19 rfl rfl)
abbrev cX1_liveOnes : ByteArray := prog_19_method_21_code
def yX1_liveOnes : MethodName := ⟨RX1, "liveOnes", "()I"⟩
def dkwX1_liveOnes_1 : List UInt8 := [153, 0, 9, 4, 28, 120, 167, 0, 4, 3, 128, 60, 132, 2, 1, 167, 255, 223, 27, 172]
abbrev dktX1_liveOnes_1 : List UInt8 := dkwX1_liveOnes_1 ++ []
def dkwX1_liveOnes_0 : List UInt8 := [3, 60, 3, 61, 28, 42, 180, 0, 47, 162, 0, 31, 27, 42, 180, 0, 11, 28, 50, 180, 0, 83]
abbrev dktX1_liveOnes_0 : List UInt8 := dkwX1_liveOnes_0 ++ dktX1_liveOnes_1
theorem dksX1_liveOnes_0 : cX1_liveOnes.data.toList.drop 0 = dktX1_liveOnes_0 := by decide +kernel
theorem dksX1_liveOnes_1 : cX1_liveOnes.data.toList.drop 22 = dktX1_liveOnes_1 := dk_seg dksX1_liveOnes_0 22 rfl rfl
theorem dX1_liveOnes_0 : decode cX1_liveOnes 0 = .ok (.iconst 0, 1) := dk_3 (dk_at dksX1_liveOnes_0 0 rfl rfl)
theorem dX1_liveOnes_1 : decode cX1_liveOnes 1 = .ok (.istore_n 1, 1) := dk_60 (dk_at dksX1_liveOnes_0 1 rfl rfl)
theorem dX1_liveOnes_2 : decode cX1_liveOnes 2 = .ok (.iconst 0, 1) := dk_3 (dk_at dksX1_liveOnes_0 2 rfl rfl)
theorem dX1_liveOnes_3 : decode cX1_liveOnes 3 = .ok (.istore_n 2, 1) := dk_61 (dk_at dksX1_liveOnes_0 3 rfl rfl)
theorem dX1_liveOnes_4 : decode cX1_liveOnes 4 = .ok (.iload_n 2, 1) := dk_28 (dk_at dksX1_liveOnes_0 4 rfl rfl)
theorem dX1_liveOnes_5 : decode cX1_liveOnes 5 = .ok (.aload_n 0, 1) := dk_42 (dk_at dksX1_liveOnes_0 5 rfl rfl)
theorem dX1_liveOnes_6 : decode cX1_liveOnes 6 = .ok (.getfield 47, 3) := dk_180 0 47 (dk_at dksX1_liveOnes_0 6 rfl rfl)
theorem dX1_liveOnes_9 : decode cX1_liveOnes 9 = .ok (.if_icmp .ge 31, 3) := dk_162 0 31 (dk_at dksX1_liveOnes_0 9 rfl rfl)
theorem dX1_liveOnes_12 : decode cX1_liveOnes 12 = .ok (.iload_n 1, 1) := dk_27 (dk_at dksX1_liveOnes_0 12 rfl rfl)
theorem dX1_liveOnes_13 : decode cX1_liveOnes 13 = .ok (.aload_n 0, 1) := dk_42 (dk_at dksX1_liveOnes_0 13 rfl rfl)
theorem dX1_liveOnes_14 : decode cX1_liveOnes 14 = .ok (.getfield 11, 3) := dk_180 0 11 (dk_at dksX1_liveOnes_0 14 rfl rfl)
theorem dX1_liveOnes_17 : decode cX1_liveOnes 17 = .ok (.iload_n 2, 1) := dk_28 (dk_at dksX1_liveOnes_0 17 rfl rfl)
theorem dX1_liveOnes_18 : decode cX1_liveOnes 18 = .ok (.aaload, 1) := dk_50 (dk_at dksX1_liveOnes_0 18 rfl rfl)
theorem dX1_liveOnes_19 : decode cX1_liveOnes 19 = .ok (.getfield 83, 3) := dk_180 0 83 (dk_at dksX1_liveOnes_0 19 rfl rfl)
theorem dX1_liveOnes_22 : decode cX1_liveOnes 22 = .ok (.ifCond .eq 9, 3) := dk_153 0 9 (dk_at dksX1_liveOnes_1 0 rfl rfl)
theorem dX1_liveOnes_25 : decode cX1_liveOnes 25 = .ok (.iconst 1, 1) := dk_4 (dk_at dksX1_liveOnes_1 3 rfl rfl)
theorem dX1_liveOnes_26 : decode cX1_liveOnes 26 = .ok (.iload_n 2, 1) := dk_28 (dk_at dksX1_liveOnes_1 4 rfl rfl)
theorem dX1_liveOnes_27 : decode cX1_liveOnes 27 = .ok (.ishl, 1) := dk_120 (dk_at dksX1_liveOnes_1 5 rfl rfl)
theorem dX1_liveOnes_28 : decode cX1_liveOnes 28 = .ok (.goto 4, 3) := dk_167 0 4 (dk_at dksX1_liveOnes_1 6 rfl rfl)
theorem dX1_liveOnes_31 : decode cX1_liveOnes 31 = .ok (.iconst 0, 1) := dk_3 (dk_at dksX1_liveOnes_1 9 rfl rfl)
theorem dX1_liveOnes_32 : decode cX1_liveOnes 32 = .ok (.ior, 1) := dk_128 (dk_at dksX1_liveOnes_1 10 rfl rfl)
theorem dX1_liveOnes_33 : decode cX1_liveOnes 33 = .ok (.istore_n 1, 1) := dk_60 (dk_at dksX1_liveOnes_1 11 rfl rfl)
theorem dX1_liveOnes_34 : decode cX1_liveOnes 34 = .ok (.iinc 2 1, 3) := dk_132 2 1 (dk_at dksX1_liveOnes_1 12 rfl rfl)
theorem dX1_liveOnes_37 : decode cX1_liveOnes 37 = .ok (.goto (-33), 3) := dk_167 255 223 (dk_at dksX1_liveOnes_1 15 rfl rfl)
theorem dX1_liveOnes_40 : decode cX1_liveOnes 40 = .ok (.iload_n 1, 1) := dk_27 (dk_at dksX1_liveOnes_1 18 rfl rfl)
theorem dX1_liveOnes_41 : decode cX1_liveOnes 41 = .ok (.ireturn, 1) := dk_172 (dk_at dksX1_liveOnes_1 19 rfl rfl)
abbrev cX1_stops : ByteArray := prog_19_method_10_code
def yX1_stops : MethodName := ⟨RX1, "stops", "(LActorTrees$Actor;)V"⟩
def dkwX1_stops_4 : List UInt8 := [50, 187, 0, 177, 89, 43, 180, 0, 143, 183, 0, 179, 182, 0, 180, 87, 167, 255, 212, 177]
abbrev dktX1_stops_4 : List UInt8 := dkwX1_stops_4 ++ []
def dkwX1_stops_3 : List UInt8 := [180, 0, 104, 158, 0, 40, 42, 42, 180, 0, 11, 43, 180, 0, 165, 182, 0, 168, 192, 0, 171, 182, 0, 173]
abbrev dktX1_stops_3 : List UInt8 := dkwX1_stops_3 ++ dktX1_stops_4
def dkwX1_stops_2 : List UInt8 := [162, 0, 19, 42, 180, 0, 11, 28, 50, 43, 182, 0, 162, 132, 2, 1, 167, 255, 235, 43, 180, 0, 165]
abbrev dktX1_stops_2 : List UInt8 := dkwX1_stops_2 ++ dktX1_stops_3
def dkwX1_stops_1 : List UInt8 := [43, 4, 181, 0, 153, 43, 180, 0, 156, 182, 0, 101, 42, 43, 182, 0, 159, 3, 61, 28, 42, 180, 0, 47]
abbrev dktX1_stops_1 : List UInt8 := dkwX1_stops_1 ++ dktX1_stops_2
def dkwX1_stops_0 : List UInt8 := [42, 43, 182, 0, 150, 43, 3, 181, 0, 83, 43, 180, 0, 87, 182, 0, 101, 43, 180, 0, 94, 182, 0, 101]
abbrev dktX1_stops_0 : List UInt8 := dkwX1_stops_0 ++ dktX1_stops_1
theorem dksX1_stops_0 : cX1_stops.data.toList.drop 0 = dktX1_stops_0 := by decide +kernel
theorem dksX1_stops_1 : cX1_stops.data.toList.drop 24 = dktX1_stops_1 := dk_seg dksX1_stops_0 24 rfl rfl
theorem dksX1_stops_2 : cX1_stops.data.toList.drop 48 = dktX1_stops_2 := dk_seg dksX1_stops_1 24 rfl rfl
theorem dksX1_stops_3 : cX1_stops.data.toList.drop 71 = dktX1_stops_3 := dk_seg dksX1_stops_2 23 rfl rfl
theorem dksX1_stops_4 : cX1_stops.data.toList.drop 95 = dktX1_stops_4 := dk_seg dksX1_stops_3 24 rfl rfl
theorem dX1_stops_0 : decode cX1_stops 0 = .ok (.aload_n 0, 1) := dk_42 (dk_at dksX1_stops_0 0 rfl rfl)
theorem dX1_stops_1 : decode cX1_stops 1 = .ok (.aload_n 1, 1) := dk_43 (dk_at dksX1_stops_0 1 rfl rfl)
theorem dX1_stops_2 : decode cX1_stops 2 = .ok (.invokevirtual 150, 3) := dk_182 0 150 (dk_at dksX1_stops_0 2 rfl rfl)
theorem dX1_stops_5 : decode cX1_stops 5 = .ok (.aload_n 1, 1) := dk_43 (dk_at dksX1_stops_0 5 rfl rfl)
theorem dX1_stops_6 : decode cX1_stops 6 = .ok (.iconst 0, 1) := dk_3 (dk_at dksX1_stops_0 6 rfl rfl)
theorem dX1_stops_7 : decode cX1_stops 7 = .ok (.putfield 83, 3) := dk_181 0 83 (dk_at dksX1_stops_0 7 rfl rfl)
theorem dX1_stops_10 : decode cX1_stops 10 = .ok (.aload_n 1, 1) := dk_43 (dk_at dksX1_stops_0 10 rfl rfl)
theorem dX1_stops_11 : decode cX1_stops 11 = .ok (.getfield 87, 3) := dk_180 0 87 (dk_at dksX1_stops_0 11 rfl rfl)
theorem dX1_stops_14 : decode cX1_stops 14 = .ok (.invokevirtual 101, 3) := dk_182 0 101 (dk_at dksX1_stops_0 14 rfl rfl)
theorem dX1_stops_17 : decode cX1_stops 17 = .ok (.aload_n 1, 1) := dk_43 (dk_at dksX1_stops_0 17 rfl rfl)
theorem dX1_stops_18 : decode cX1_stops 18 = .ok (.getfield 94, 3) := dk_180 0 94 (dk_at dksX1_stops_0 18 rfl rfl)
theorem dX1_stops_21 : decode cX1_stops 21 = .ok (.invokevirtual 101, 3) := dk_182 0 101 (dk_at dksX1_stops_0 21 rfl rfl)
theorem dX1_stops_24 : decode cX1_stops 24 = .ok (.aload_n 1, 1) := dk_43 (dk_at dksX1_stops_1 0 rfl rfl)
theorem dX1_stops_25 : decode cX1_stops 25 = .ok (.iconst 1, 1) := dk_4 (dk_at dksX1_stops_1 1 rfl rfl)
theorem dX1_stops_26 : decode cX1_stops 26 = .ok (.putfield 153, 3) := dk_181 0 153 (dk_at dksX1_stops_1 2 rfl rfl)
theorem dX1_stops_29 : decode cX1_stops 29 = .ok (.aload_n 1, 1) := dk_43 (dk_at dksX1_stops_1 5 rfl rfl)
theorem dX1_stops_30 : decode cX1_stops 30 = .ok (.getfield 156, 3) := dk_180 0 156 (dk_at dksX1_stops_1 6 rfl rfl)
theorem dX1_stops_33 : decode cX1_stops 33 = .ok (.invokevirtual 101, 3) := dk_182 0 101 (dk_at dksX1_stops_1 9 rfl rfl)
theorem dX1_stops_36 : decode cX1_stops 36 = .ok (.aload_n 0, 1) := dk_42 (dk_at dksX1_stops_1 12 rfl rfl)
theorem dX1_stops_37 : decode cX1_stops 37 = .ok (.aload_n 1, 1) := dk_43 (dk_at dksX1_stops_1 13 rfl rfl)
theorem dX1_stops_38 : decode cX1_stops 38 = .ok (.invokevirtual 159, 3) := dk_182 0 159 (dk_at dksX1_stops_1 14 rfl rfl)
theorem dX1_stops_41 : decode cX1_stops 41 = .ok (.iconst 0, 1) := dk_3 (dk_at dksX1_stops_1 17 rfl rfl)
theorem dX1_stops_42 : decode cX1_stops 42 = .ok (.istore_n 2, 1) := dk_61 (dk_at dksX1_stops_1 18 rfl rfl)
theorem dX1_stops_43 : decode cX1_stops 43 = .ok (.iload_n 2, 1) := dk_28 (dk_at dksX1_stops_1 19 rfl rfl)
theorem dX1_stops_44 : decode cX1_stops 44 = .ok (.aload_n 0, 1) := dk_42 (dk_at dksX1_stops_1 20 rfl rfl)
theorem dX1_stops_45 : decode cX1_stops 45 = .ok (.getfield 47, 3) := dk_180 0 47 (dk_at dksX1_stops_1 21 rfl rfl)
theorem dX1_stops_48 : decode cX1_stops 48 = .ok (.if_icmp .ge 19, 3) := dk_162 0 19 (dk_at dksX1_stops_2 0 rfl rfl)
theorem dX1_stops_51 : decode cX1_stops 51 = .ok (.aload_n 0, 1) := dk_42 (dk_at dksX1_stops_2 3 rfl rfl)
theorem dX1_stops_52 : decode cX1_stops 52 = .ok (.getfield 11, 3) := dk_180 0 11 (dk_at dksX1_stops_2 4 rfl rfl)
theorem dX1_stops_55 : decode cX1_stops 55 = .ok (.iload_n 2, 1) := dk_28 (dk_at dksX1_stops_2 7 rfl rfl)
theorem dX1_stops_56 : decode cX1_stops 56 = .ok (.aaload, 1) := dk_50 (dk_at dksX1_stops_2 8 rfl rfl)
theorem dX1_stops_57 : decode cX1_stops 57 = .ok (.aload_n 1, 1) := dk_43 (dk_at dksX1_stops_2 9 rfl rfl)
theorem dX1_stops_58 : decode cX1_stops 58 = .ok (.invokevirtual 162, 3) := dk_182 0 162 (dk_at dksX1_stops_2 10 rfl rfl)
theorem dX1_stops_61 : decode cX1_stops 61 = .ok (.iinc 2 1, 3) := dk_132 2 1 (dk_at dksX1_stops_2 13 rfl rfl)
theorem dX1_stops_64 : decode cX1_stops 64 = .ok (.goto (-21), 3) := dk_167 255 235 (dk_at dksX1_stops_2 16 rfl rfl)
theorem dX1_stops_67 : decode cX1_stops 67 = .ok (.aload_n 1, 1) := dk_43 (dk_at dksX1_stops_2 19 rfl rfl)
theorem dX1_stops_68 : decode cX1_stops 68 = .ok (.getfield 165, 3) := dk_180 0 165 (dk_at dksX1_stops_2 20 rfl rfl)
theorem dX1_stops_71 : decode cX1_stops 71 = .ok (.getfield 104, 3) := dk_180 0 104 (dk_at dksX1_stops_3 0 rfl rfl)
theorem dX1_stops_74 : decode cX1_stops 74 = .ok (.ifCond .le 40, 3) := dk_158 0 40 (dk_at dksX1_stops_3 3 rfl rfl)
theorem dX1_stops_77 : decode cX1_stops 77 = .ok (.aload_n 0, 1) := dk_42 (dk_at dksX1_stops_3 6 rfl rfl)
theorem dX1_stops_78 : decode cX1_stops 78 = .ok (.aload_n 0, 1) := dk_42 (dk_at dksX1_stops_3 7 rfl rfl)
theorem dX1_stops_79 : decode cX1_stops 79 = .ok (.getfield 11, 3) := dk_180 0 11 (dk_at dksX1_stops_3 8 rfl rfl)
theorem dX1_stops_82 : decode cX1_stops 82 = .ok (.aload_n 1, 1) := dk_43 (dk_at dksX1_stops_3 11 rfl rfl)
theorem dX1_stops_83 : decode cX1_stops 83 = .ok (.getfield 165, 3) := dk_180 0 165 (dk_at dksX1_stops_3 12 rfl rfl)
theorem dX1_stops_86 : decode cX1_stops 86 = .ok (.invokevirtual 168, 3) := dk_182 0 168 (dk_at dksX1_stops_3 15 rfl rfl)
theorem dX1_stops_89 : decode cX1_stops 89 = .ok (.checkcast 171, 3) := dk_192 0 171 (dk_at dksX1_stops_3 18 rfl rfl)
theorem dX1_stops_92 : decode cX1_stops 92 = .ok (.invokevirtual 173, 3) := dk_182 0 173 (dk_at dksX1_stops_3 21 rfl rfl)
theorem dX1_stops_95 : decode cX1_stops 95 = .ok (.aaload, 1) := dk_50 (dk_at dksX1_stops_4 0 rfl rfl)
theorem dX1_stops_96 : decode cX1_stops 96 = .ok (.new 177, 3) := dk_187 0 177 (dk_at dksX1_stops_4 1 rfl rfl)
theorem dX1_stops_99 : decode cX1_stops 99 = .ok (.dup, 1) := dk_89 (dk_at dksX1_stops_4 4 rfl rfl)
theorem dX1_stops_100 : decode cX1_stops 100 = .ok (.aload_n 1, 1) := dk_43 (dk_at dksX1_stops_4 5 rfl rfl)
theorem dX1_stops_101 : decode cX1_stops 101 = .ok (.getfield 143, 3) := dk_180 0 143 (dk_at dksX1_stops_4 6 rfl rfl)
theorem dX1_stops_104 : decode cX1_stops 104 = .ok (.invokespecial 179, 3) := dk_183 0 179 (dk_at dksX1_stops_4 9 rfl rfl)
theorem dX1_stops_107 : decode cX1_stops 107 = .ok (.invokevirtual 180, 3) := dk_182 0 180 (dk_at dksX1_stops_4 12 rfl rfl)
theorem dX1_stops_110 : decode cX1_stops 110 = .ok (.pop, 1) := dk_87 (dk_at dksX1_stops_4 15 rfl rfl)
theorem dX1_stops_111 : decode cX1_stops 111 = .ok (.goto (-44), 3) := dk_167 255 212 (dk_at dksX1_stops_4 16 rfl rfl)
theorem dX1_stops_114 : decode cX1_stops 114 = .ok (.return_, 1) := dk_177 (dk_at dksX1_stops_4 19 rfl rfl)
abbrev cX1_stopsBelow : ByteArray := prog_19_method_9_code
def yX1_stopsBelow : MethodName := ⟨RX1, "stopsBelow", "(LActorTrees$Actor;)V"⟩
def dkwX1_stopsBelow_2 : List UInt8 := [182, 0, 146, 132, 2, 255, 167, 255, 211, 177]
abbrev dktX1_stopsBelow_2 : List UInt8 := dkwX1_stopsBelow_2 ++ []
def dkwX1_stopsBelow_1 : List UInt8 := [160, 0, 25, 42, 180, 0, 11, 28, 50, 180, 0, 83, 153, 0, 13, 42, 42, 180, 0, 11, 28, 50]
abbrev dktX1_stopsBelow_1 : List UInt8 := dkwX1_stopsBelow_1 ++ dktX1_stopsBelow_2
def dkwX1_stopsBelow_0 : List UInt8 := [42, 180, 0, 47, 4, 100, 61, 28, 155, 0, 47, 42, 180, 0, 11, 28, 50, 180, 0, 140, 43, 180, 0, 143]
abbrev dktX1_stopsBelow_0 : List UInt8 := dkwX1_stopsBelow_0 ++ dktX1_stopsBelow_1
theorem dksX1_stopsBelow_0 : cX1_stopsBelow.data.toList.drop 0 = dktX1_stopsBelow_0 := by decide +kernel
theorem dksX1_stopsBelow_1 : cX1_stopsBelow.data.toList.drop 24 = dktX1_stopsBelow_1 := dk_seg dksX1_stopsBelow_0 24 rfl rfl
theorem dksX1_stopsBelow_2 : cX1_stopsBelow.data.toList.drop 46 = dktX1_stopsBelow_2 := dk_seg dksX1_stopsBelow_1 22 rfl rfl
theorem dX1_stopsBelow_0 : decode cX1_stopsBelow 0 = .ok (.aload_n 0, 1) := dk_42 (dk_at dksX1_stopsBelow_0 0 rfl rfl)
theorem dX1_stopsBelow_1 : decode cX1_stopsBelow 1 = .ok (.getfield 47, 3) := dk_180 0 47 (dk_at dksX1_stopsBelow_0 1 rfl rfl)
theorem dX1_stopsBelow_4 : decode cX1_stopsBelow 4 = .ok (.iconst 1, 1) := dk_4 (dk_at dksX1_stopsBelow_0 4 rfl rfl)
theorem dX1_stopsBelow_5 : decode cX1_stopsBelow 5 = .ok (.isub, 1) := dk_100 (dk_at dksX1_stopsBelow_0 5 rfl rfl)
theorem dX1_stopsBelow_6 : decode cX1_stopsBelow 6 = .ok (.istore_n 2, 1) := dk_61 (dk_at dksX1_stopsBelow_0 6 rfl rfl)
theorem dX1_stopsBelow_7 : decode cX1_stopsBelow 7 = .ok (.iload_n 2, 1) := dk_28 (dk_at dksX1_stopsBelow_0 7 rfl rfl)
theorem dX1_stopsBelow_8 : decode cX1_stopsBelow 8 = .ok (.ifCond .lt 47, 3) := dk_155 0 47 (dk_at dksX1_stopsBelow_0 8 rfl rfl)
theorem dX1_stopsBelow_11 : decode cX1_stopsBelow 11 = .ok (.aload_n 0, 1) := dk_42 (dk_at dksX1_stopsBelow_0 11 rfl rfl)
theorem dX1_stopsBelow_12 : decode cX1_stopsBelow 12 = .ok (.getfield 11, 3) := dk_180 0 11 (dk_at dksX1_stopsBelow_0 12 rfl rfl)
theorem dX1_stopsBelow_15 : decode cX1_stopsBelow 15 = .ok (.iload_n 2, 1) := dk_28 (dk_at dksX1_stopsBelow_0 15 rfl rfl)
theorem dX1_stopsBelow_16 : decode cX1_stopsBelow 16 = .ok (.aaload, 1) := dk_50 (dk_at dksX1_stopsBelow_0 16 rfl rfl)
theorem dX1_stopsBelow_17 : decode cX1_stopsBelow 17 = .ok (.getfield 140, 3) := dk_180 0 140 (dk_at dksX1_stopsBelow_0 17 rfl rfl)
theorem dX1_stopsBelow_20 : decode cX1_stopsBelow 20 = .ok (.aload_n 1, 1) := dk_43 (dk_at dksX1_stopsBelow_0 20 rfl rfl)
theorem dX1_stopsBelow_21 : decode cX1_stopsBelow 21 = .ok (.getfield 143, 3) := dk_180 0 143 (dk_at dksX1_stopsBelow_0 21 rfl rfl)
theorem dX1_stopsBelow_24 : decode cX1_stopsBelow 24 = .ok (.if_icmp .ne 25, 3) := dk_160 0 25 (dk_at dksX1_stopsBelow_1 0 rfl rfl)
theorem dX1_stopsBelow_27 : decode cX1_stopsBelow 27 = .ok (.aload_n 0, 1) := dk_42 (dk_at dksX1_stopsBelow_1 3 rfl rfl)
theorem dX1_stopsBelow_28 : decode cX1_stopsBelow 28 = .ok (.getfield 11, 3) := dk_180 0 11 (dk_at dksX1_stopsBelow_1 4 rfl rfl)
theorem dX1_stopsBelow_31 : decode cX1_stopsBelow 31 = .ok (.iload_n 2, 1) := dk_28 (dk_at dksX1_stopsBelow_1 7 rfl rfl)
theorem dX1_stopsBelow_32 : decode cX1_stopsBelow 32 = .ok (.aaload, 1) := dk_50 (dk_at dksX1_stopsBelow_1 8 rfl rfl)
theorem dX1_stopsBelow_33 : decode cX1_stopsBelow 33 = .ok (.getfield 83, 3) := dk_180 0 83 (dk_at dksX1_stopsBelow_1 9 rfl rfl)
theorem dX1_stopsBelow_36 : decode cX1_stopsBelow 36 = .ok (.ifCond .eq 13, 3) := dk_153 0 13 (dk_at dksX1_stopsBelow_1 12 rfl rfl)
theorem dX1_stopsBelow_39 : decode cX1_stopsBelow 39 = .ok (.aload_n 0, 1) := dk_42 (dk_at dksX1_stopsBelow_1 15 rfl rfl)
theorem dX1_stopsBelow_40 : decode cX1_stopsBelow 40 = .ok (.aload_n 0, 1) := dk_42 (dk_at dksX1_stopsBelow_1 16 rfl rfl)
theorem dX1_stopsBelow_41 : decode cX1_stopsBelow 41 = .ok (.getfield 11, 3) := dk_180 0 11 (dk_at dksX1_stopsBelow_1 17 rfl rfl)
theorem dX1_stopsBelow_44 : decode cX1_stopsBelow 44 = .ok (.iload_n 2, 1) := dk_28 (dk_at dksX1_stopsBelow_1 20 rfl rfl)
theorem dX1_stopsBelow_45 : decode cX1_stopsBelow 45 = .ok (.aaload, 1) := dk_50 (dk_at dksX1_stopsBelow_1 21 rfl rfl)
theorem dX1_stopsBelow_46 : decode cX1_stopsBelow 46 = .ok (.invokevirtual 146, 3) := dk_182 0 146 (dk_at dksX1_stopsBelow_2 0 rfl rfl)
theorem dX1_stopsBelow_49 : decode cX1_stopsBelow 49 = .ok (.iinc 2 (-1), 3) := dk_132 2 255 (dk_at dksX1_stopsBelow_2 3 rfl rfl)
theorem dX1_stopsBelow_52 : decode cX1_stopsBelow 52 = .ok (.goto (-45), 3) := dk_167 255 211 (dk_at dksX1_stopsBelow_2 6 rfl rfl)
theorem dX1_stopsBelow_55 : decode cX1_stopsBelow 55 = .ok (.return_, 1) := dk_177 (dk_at dksX1_stopsBelow_2 9 rfl rfl)
abbrev cX1_untimed : ByteArray := prog_19_method_7_code
def yX1_untimed : MethodName := ⟨RX1, "untimed", "(LActorTrees$Actor;)V"⟩
def dkwX1_untimed_0 : List UInt8 := [42, 180, 0, 26, 43, 180, 0, 113, 182, 0, 117, 177]
abbrev dktX1_untimed_0 : List UInt8 := dkwX1_untimed_0 ++ []
theorem dksX1_untimed_0 : cX1_untimed.data.toList.drop 0 = dktX1_untimed_0 := by decide +kernel
theorem dX1_untimed_0 : decode cX1_untimed 0 = .ok (.aload_n 0, 1) := dk_42 (dk_at dksX1_untimed_0 0 rfl rfl)
theorem dX1_untimed_1 : decode cX1_untimed 1 = .ok (.getfield 26, 3) := dk_180 0 26 (dk_at dksX1_untimed_0 1 rfl rfl)
theorem dX1_untimed_4 : decode cX1_untimed 4 = .ok (.aload_n 1, 1) := dk_43 (dk_at dksX1_untimed_0 4 rfl rfl)
theorem dX1_untimed_5 : decode cX1_untimed 5 = .ok (.getfield 113, 3) := dk_180 0 113 (dk_at dksX1_untimed_0 5 rfl rfl)
theorem dX1_untimed_8 : decode cX1_untimed 8 = .ok (.invokevirtual 117, 3) := dk_182 0 117 (dk_at dksX1_untimed_0 8 rfl rfl)
theorem dX1_untimed_11 : decode cX1_untimed 11 = .ok (.return_, 1) := dk_177 (dk_at dksX1_untimed_0 11 rfl rfl)
abbrev cX1_runs : ByteArray := prog_19_method_20_code
def yX1_runs : MethodName := ⟨RX1, "runs", "(I)I"⟩
def dkwX1_runs_1 : List UInt8 := [182, 1, 33, 62, 167, 255, 237, 42, 29, 181, 0, 80, 28, 172]
abbrev dktX1_runs_1 : List UInt8 := dkwX1_runs_1 ++ []
def dkwX1_runs_0 : List UInt8 := [3, 61, 42, 28, 27, 182, 1, 33, 62, 29, 156, 0, 21, 42, 182, 1, 37, 87, 132, 2, 1, 42, 28, 27]
abbrev dktX1_runs_0 : List UInt8 := dkwX1_runs_0 ++ dktX1_runs_1
theorem dksX1_runs_0 : cX1_runs.data.toList.drop 0 = dktX1_runs_0 := by decide +kernel
theorem dksX1_runs_1 : cX1_runs.data.toList.drop 24 = dktX1_runs_1 := dk_seg dksX1_runs_0 24 rfl rfl
theorem dX1_runs_0 : decode cX1_runs 0 = .ok (.iconst 0, 1) := dk_3 (dk_at dksX1_runs_0 0 rfl rfl)
theorem dX1_runs_1 : decode cX1_runs 1 = .ok (.istore_n 2, 1) := dk_61 (dk_at dksX1_runs_0 1 rfl rfl)
theorem dX1_runs_2 : decode cX1_runs 2 = .ok (.aload_n 0, 1) := dk_42 (dk_at dksX1_runs_0 2 rfl rfl)
theorem dX1_runs_3 : decode cX1_runs 3 = .ok (.iload_n 2, 1) := dk_28 (dk_at dksX1_runs_0 3 rfl rfl)
theorem dX1_runs_4 : decode cX1_runs 4 = .ok (.iload_n 1, 1) := dk_27 (dk_at dksX1_runs_0 4 rfl rfl)
theorem dX1_runs_5 : decode cX1_runs 5 = .ok (.invokevirtual 289, 3) := dk_182 1 33 (dk_at dksX1_runs_0 5 rfl rfl)
theorem dX1_runs_8 : decode cX1_runs 8 = .ok (.istore_n 3, 1) := dk_62 (dk_at dksX1_runs_0 8 rfl rfl)
theorem dX1_runs_9 : decode cX1_runs 9 = .ok (.iload_n 3, 1) := dk_29 (dk_at dksX1_runs_0 9 rfl rfl)
theorem dX1_runs_10 : decode cX1_runs 10 = .ok (.ifCond .ge 21, 3) := dk_156 0 21 (dk_at dksX1_runs_0 10 rfl rfl)
theorem dX1_runs_13 : decode cX1_runs 13 = .ok (.aload_n 0, 1) := dk_42 (dk_at dksX1_runs_0 13 rfl rfl)
theorem dX1_runs_14 : decode cX1_runs 14 = .ok (.invokevirtual 293, 3) := dk_182 1 37 (dk_at dksX1_runs_0 14 rfl rfl)
theorem dX1_runs_17 : decode cX1_runs 17 = .ok (.pop, 1) := dk_87 (dk_at dksX1_runs_0 17 rfl rfl)
theorem dX1_runs_18 : decode cX1_runs 18 = .ok (.iinc 2 1, 3) := dk_132 2 1 (dk_at dksX1_runs_0 18 rfl rfl)
theorem dX1_runs_21 : decode cX1_runs 21 = .ok (.aload_n 0, 1) := dk_42 (dk_at dksX1_runs_0 21 rfl rfl)
theorem dX1_runs_22 : decode cX1_runs 22 = .ok (.iload_n 2, 1) := dk_28 (dk_at dksX1_runs_0 22 rfl rfl)
theorem dX1_runs_23 : decode cX1_runs 23 = .ok (.iload_n 1, 1) := dk_27 (dk_at dksX1_runs_0 23 rfl rfl)
theorem dX1_runs_24 : decode cX1_runs 24 = .ok (.invokevirtual 289, 3) := dk_182 1 33 (dk_at dksX1_runs_1 0 rfl rfl)
theorem dX1_runs_27 : decode cX1_runs 27 = .ok (.istore_n 3, 1) := dk_62 (dk_at dksX1_runs_1 3 rfl rfl)
theorem dX1_runs_28 : decode cX1_runs 28 = .ok (.goto (-19), 3) := dk_167 255 237 (dk_at dksX1_runs_1 4 rfl rfl)
theorem dX1_runs_31 : decode cX1_runs 31 = .ok (.aload_n 0, 1) := dk_42 (dk_at dksX1_runs_1 7 rfl rfl)
theorem dX1_runs_32 : decode cX1_runs 32 = .ok (.iload_n 3, 1) := dk_29 (dk_at dksX1_runs_1 8 rfl rfl)
theorem dX1_runs_33 : decode cX1_runs 33 = .ok (.putfield 80, 3) := dk_181 0 80 (dk_at dksX1_runs_1 9 rfl rfl)
theorem dX1_runs_36 : decode cX1_runs 36 = .ok (.iload_n 2, 1) := dk_28 (dk_at dksX1_runs_1 12 rfl rfl)
theorem dX1_runs_37 : decode cX1_runs 37 = .ok (.ireturn, 1) := dk_172 (dk_at dksX1_runs_1 13 rfl rfl)
abbrev cX1_ends : ByteArray := prog_19_method_19_code
def yX1_ends : MethodName := ⟨RX1, "ends", "(II)I"⟩
def dkwX1_ends_1 : List UInt8 := [182, 1, 30, 154, 0, 5, 4, 172, 27, 28, 160, 0, 7, 3, 167, 0, 4, 2, 172]
abbrev dktX1_ends_1 : List UInt8 := dkwX1_ends_1 ++ []
def dkwX1_ends_0 : List UInt8 := [42, 180, 0, 47, 158, 0, 17, 42, 180, 0, 11, 3, 50, 180, 0, 83, 154, 0, 5, 5, 172, 42]
abbrev dktX1_ends_0 : List UInt8 := dkwX1_ends_0 ++ dktX1_ends_1
theorem dksX1_ends_0 : cX1_ends.data.toList.drop 0 = dktX1_ends_0 := by decide +kernel
theorem dksX1_ends_1 : cX1_ends.data.toList.drop 22 = dktX1_ends_1 := dk_seg dksX1_ends_0 22 rfl rfl
theorem dX1_ends_0 : decode cX1_ends 0 = .ok (.aload_n 0, 1) := dk_42 (dk_at dksX1_ends_0 0 rfl rfl)
theorem dX1_ends_1 : decode cX1_ends 1 = .ok (.getfield 47, 3) := dk_180 0 47 (dk_at dksX1_ends_0 1 rfl rfl)
theorem dX1_ends_4 : decode cX1_ends 4 = .ok (.ifCond .le 17, 3) := dk_158 0 17 (dk_at dksX1_ends_0 4 rfl rfl)
theorem dX1_ends_7 : decode cX1_ends 7 = .ok (.aload_n 0, 1) := dk_42 (dk_at dksX1_ends_0 7 rfl rfl)
theorem dX1_ends_8 : decode cX1_ends 8 = .ok (.getfield 11, 3) := dk_180 0 11 (dk_at dksX1_ends_0 8 rfl rfl)
theorem dX1_ends_11 : decode cX1_ends 11 = .ok (.iconst 0, 1) := dk_3 (dk_at dksX1_ends_0 11 rfl rfl)
theorem dX1_ends_12 : decode cX1_ends 12 = .ok (.aaload, 1) := dk_50 (dk_at dksX1_ends_0 12 rfl rfl)
theorem dX1_ends_13 : decode cX1_ends 13 = .ok (.getfield 83, 3) := dk_180 0 83 (dk_at dksX1_ends_0 13 rfl rfl)
theorem dX1_ends_16 : decode cX1_ends 16 = .ok (.ifCond .ne 5, 3) := dk_154 0 5 (dk_at dksX1_ends_0 16 rfl rfl)
theorem dX1_ends_19 : decode cX1_ends 19 = .ok (.iconst 2, 1) := dk_5 (dk_at dksX1_ends_0 19 rfl rfl)
theorem dX1_ends_20 : decode cX1_ends 20 = .ok (.ireturn, 1) := dk_172 (dk_at dksX1_ends_0 20 rfl rfl)
theorem dX1_ends_21 : decode cX1_ends 21 = .ok (.aload_n 0, 1) := dk_42 (dk_at dksX1_ends_0 21 rfl rfl)
theorem dX1_ends_22 : decode cX1_ends 22 = .ok (.invokevirtual 286, 3) := dk_182 1 30 (dk_at dksX1_ends_1 0 rfl rfl)
theorem dX1_ends_25 : decode cX1_ends 25 = .ok (.ifCond .ne 5, 3) := dk_154 0 5 (dk_at dksX1_ends_1 3 rfl rfl)
theorem dX1_ends_28 : decode cX1_ends 28 = .ok (.iconst 1, 1) := dk_4 (dk_at dksX1_ends_1 6 rfl rfl)
theorem dX1_ends_29 : decode cX1_ends 29 = .ok (.ireturn, 1) := dk_172 (dk_at dksX1_ends_1 7 rfl rfl)
theorem dX1_ends_30 : decode cX1_ends 30 = .ok (.iload_n 1, 1) := dk_27 (dk_at dksX1_ends_1 8 rfl rfl)
theorem dX1_ends_31 : decode cX1_ends 31 = .ok (.iload_n 2, 1) := dk_28 (dk_at dksX1_ends_1 9 rfl rfl)
theorem dX1_ends_32 : decode cX1_ends 32 = .ok (.if_icmp .ne 7, 3) := dk_160 0 7 (dk_at dksX1_ends_1 10 rfl rfl)
theorem dX1_ends_35 : decode cX1_ends 35 = .ok (.iconst 0, 1) := dk_3 (dk_at dksX1_ends_1 13 rfl rfl)
theorem dX1_ends_36 : decode cX1_ends 36 = .ok (.goto 4, 3) := dk_167 0 4 (dk_at dksX1_ends_1 14 rfl rfl)
theorem dX1_ends_39 : decode cX1_ends 39 = .ok (.iconst (-1), 1) := dk_2 (dk_at dksX1_ends_1 17 rfl rfl)
theorem dX1_ends_40 : decode cX1_ends 40 = .ok (.ireturn, 1) := dk_172 (dk_at dksX1_ends_1 18 rfl rfl)
abbrev cX1_isMore : ByteArray := prog_19_method_17_code
def yX1_isMore : MethodName := ⟨RX1, "isMore", "()Z"⟩
def dkwX1_isMore_0 : List UInt8 := [42, 180, 0, 26, 180, 0, 104, 157, 0, 10, 42, 182, 1, 18, 198, 0, 7, 4, 167, 0, 4, 3, 172]
abbrev dktX1_isMore_0 : List UInt8 := dkwX1_isMore_0 ++ []
theorem dksX1_isMore_0 : cX1_isMore.data.toList.drop 0 = dktX1_isMore_0 := by decide +kernel
theorem dX1_isMore_0 : decode cX1_isMore 0 = .ok (.aload_n 0, 1) := dk_42 (dk_at dksX1_isMore_0 0 rfl rfl)
theorem dX1_isMore_1 : decode cX1_isMore 1 = .ok (.getfield 26, 3) := dk_180 0 26 (dk_at dksX1_isMore_0 1 rfl rfl)
theorem dX1_isMore_4 : decode cX1_isMore 4 = .ok (.getfield 104, 3) := dk_180 0 104 (dk_at dksX1_isMore_0 4 rfl rfl)
theorem dX1_isMore_7 : decode cX1_isMore 7 = .ok (.ifCond .gt 10, 3) := dk_157 0 10 (dk_at dksX1_isMore_0 7 rfl rfl)
theorem dX1_isMore_10 : decode cX1_isMore 10 = .ok (.aload_n 0, 1) := dk_42 (dk_at dksX1_isMore_0 10 rfl rfl)
theorem dX1_isMore_11 : decode cX1_isMore 11 = .ok (.invokevirtual 274, 3) := dk_182 1 18 (dk_at dksX1_isMore_0 11 rfl rfl)
theorem dX1_isMore_14 : decode cX1_isMore 14 = .ok (.ifnull 7, 3) := dk_198 0 7 (dk_at dksX1_isMore_0 14 rfl rfl)
theorem dX1_isMore_17 : decode cX1_isMore 17 = .ok (.iconst 1, 1) := dk_4 (dk_at dksX1_isMore_0 17 rfl rfl)
theorem dX1_isMore_18 : decode cX1_isMore 18 = .ok (.goto 4, 3) := dk_167 0 4 (dk_at dksX1_isMore_0 18 rfl rfl)
theorem dX1_isMore_21 : decode cX1_isMore 21 = .ok (.iconst 0, 1) := dk_3 (dk_at dksX1_isMore_0 21 rfl rfl)
theorem dX1_isMore_22 : decode cX1_isMore 22 = .ok (.ireturn, 1) := dk_172 (dk_at dksX1_isMore_0 22 rfl rfl)
abbrev cX1_next : ByteArray := prog_19_method_16_code
def yX1_next : MethodName := ⟨RX1, "next", "()LActorTrees$Actor;"⟩
def dkwX1_next_2 : List UInt8 := [180, 0, 11, 28, 50, 176, 132, 1, 1, 167, 255, 204, 1, 176]
abbrev dktX1_next_2 : List UInt8 := dkwX1_next_2 ++ []
def dkwX1_next_1 : List UInt8 := [182, 1, 14, 153, 0, 25, 42, 180, 0, 11, 28, 50, 180, 0, 87, 180, 0, 104, 158, 0, 10, 42]
abbrev dktX1_next_1 : List UInt8 := dkwX1_next_1 ++ dktX1_next_2
def dkwX1_next_0 : List UInt8 := [4, 60, 27, 16, 12, 163, 0, 52, 42, 180, 0, 17, 27, 96, 16, 12, 96, 16, 12, 112, 61, 42, 28]
abbrev dktX1_next_0 : List UInt8 := dkwX1_next_0 ++ dktX1_next_1
theorem dksX1_next_0 : cX1_next.data.toList.drop 0 = dktX1_next_0 := by decide +kernel
theorem dksX1_next_1 : cX1_next.data.toList.drop 23 = dktX1_next_1 := dk_seg dksX1_next_0 23 rfl rfl
theorem dksX1_next_2 : cX1_next.data.toList.drop 45 = dktX1_next_2 := dk_seg dksX1_next_1 22 rfl rfl
theorem dX1_next_0 : decode cX1_next 0 = .ok (.iconst 1, 1) := dk_4 (dk_at dksX1_next_0 0 rfl rfl)
theorem dX1_next_1 : decode cX1_next 1 = .ok (.istore_n 1, 1) := dk_60 (dk_at dksX1_next_0 1 rfl rfl)
theorem dX1_next_2 : decode cX1_next 2 = .ok (.iload_n 1, 1) := dk_27 (dk_at dksX1_next_0 2 rfl rfl)
theorem dX1_next_3 : decode cX1_next 3 = .ok (.bipush 12, 2) := dk_16 12 (dk_at dksX1_next_0 3 rfl rfl)
theorem dX1_next_5 : decode cX1_next 5 = .ok (.if_icmp .gt 52, 3) := dk_163 0 52 (dk_at dksX1_next_0 5 rfl rfl)
theorem dX1_next_8 : decode cX1_next 8 = .ok (.aload_n 0, 1) := dk_42 (dk_at dksX1_next_0 8 rfl rfl)
theorem dX1_next_9 : decode cX1_next 9 = .ok (.getfield 17, 3) := dk_180 0 17 (dk_at dksX1_next_0 9 rfl rfl)
theorem dX1_next_12 : decode cX1_next 12 = .ok (.iload_n 1, 1) := dk_27 (dk_at dksX1_next_0 12 rfl rfl)
theorem dX1_next_13 : decode cX1_next 13 = .ok (.iadd, 1) := dk_96 (dk_at dksX1_next_0 13 rfl rfl)
theorem dX1_next_14 : decode cX1_next 14 = .ok (.bipush 12, 2) := dk_16 12 (dk_at dksX1_next_0 14 rfl rfl)
theorem dX1_next_16 : decode cX1_next 16 = .ok (.iadd, 1) := dk_96 (dk_at dksX1_next_0 16 rfl rfl)
theorem dX1_next_17 : decode cX1_next 17 = .ok (.bipush 12, 2) := dk_16 12 (dk_at dksX1_next_0 17 rfl rfl)
theorem dX1_next_19 : decode cX1_next 19 = .ok (.irem, 1) := dk_112 (dk_at dksX1_next_0 19 rfl rfl)
theorem dX1_next_20 : decode cX1_next 20 = .ok (.istore_n 2, 1) := dk_61 (dk_at dksX1_next_0 20 rfl rfl)
theorem dX1_next_21 : decode cX1_next 21 = .ok (.aload_n 0, 1) := dk_42 (dk_at dksX1_next_0 21 rfl rfl)
theorem dX1_next_22 : decode cX1_next 22 = .ok (.iload_n 2, 1) := dk_28 (dk_at dksX1_next_0 22 rfl rfl)
theorem dX1_next_23 : decode cX1_next 23 = .ok (.invokevirtual 270, 3) := dk_182 1 14 (dk_at dksX1_next_1 0 rfl rfl)
theorem dX1_next_26 : decode cX1_next 26 = .ok (.ifCond .eq 25, 3) := dk_153 0 25 (dk_at dksX1_next_1 3 rfl rfl)
theorem dX1_next_29 : decode cX1_next 29 = .ok (.aload_n 0, 1) := dk_42 (dk_at dksX1_next_1 6 rfl rfl)
theorem dX1_next_30 : decode cX1_next 30 = .ok (.getfield 11, 3) := dk_180 0 11 (dk_at dksX1_next_1 7 rfl rfl)
theorem dX1_next_33 : decode cX1_next 33 = .ok (.iload_n 2, 1) := dk_28 (dk_at dksX1_next_1 10 rfl rfl)
theorem dX1_next_34 : decode cX1_next 34 = .ok (.aaload, 1) := dk_50 (dk_at dksX1_next_1 11 rfl rfl)
theorem dX1_next_35 : decode cX1_next 35 = .ok (.getfield 87, 3) := dk_180 0 87 (dk_at dksX1_next_1 12 rfl rfl)
theorem dX1_next_38 : decode cX1_next 38 = .ok (.getfield 104, 3) := dk_180 0 104 (dk_at dksX1_next_1 15 rfl rfl)
theorem dX1_next_41 : decode cX1_next 41 = .ok (.ifCond .le 10, 3) := dk_158 0 10 (dk_at dksX1_next_1 18 rfl rfl)
theorem dX1_next_44 : decode cX1_next 44 = .ok (.aload_n 0, 1) := dk_42 (dk_at dksX1_next_1 21 rfl rfl)
theorem dX1_next_45 : decode cX1_next 45 = .ok (.getfield 11, 3) := dk_180 0 11 (dk_at dksX1_next_2 0 rfl rfl)
theorem dX1_next_48 : decode cX1_next 48 = .ok (.iload_n 2, 1) := dk_28 (dk_at dksX1_next_2 3 rfl rfl)
theorem dX1_next_49 : decode cX1_next 49 = .ok (.aaload, 1) := dk_50 (dk_at dksX1_next_2 4 rfl rfl)
theorem dX1_next_50 : decode cX1_next 50 = .ok (.areturn, 1) := dk_176 (dk_at dksX1_next_2 5 rfl rfl)
theorem dX1_next_51 : decode cX1_next 51 = .ok (.iinc 1 1, 3) := dk_132 1 1 (dk_at dksX1_next_2 6 rfl rfl)
theorem dX1_next_54 : decode cX1_next 54 = .ok (.goto (-52), 3) := dk_167 255 204 (dk_at dksX1_next_2 9 rfl rfl)
theorem dX1_next_57 : decode cX1_next 57 = .ok (.aconst_null, 1) := dk_1 (dk_at dksX1_next_2 12 rfl rfl)
theorem dX1_next_58 : decode cX1_next 58 = .ok (.areturn, 1) := dk_176 (dk_at dksX1_next_2 13 rfl rfl)
abbrev cX1_isLive : ByteArray := prog_19_method_3_code
def yX1_isLive : MethodName := ⟨RX1, "isLive", "(I)Z"⟩
def dkwX1_isLive_1 : List UInt8 := [4, 167, 0, 4, 3, 172]
abbrev dktX1_isLive_1 : List UInt8 := dkwX1_isLive_1 ++ []
def dkwX1_isLive_0 : List UInt8 := [27, 155, 0, 27, 27, 42, 180, 0, 47, 162, 0, 19, 42, 180, 0, 11, 27, 50, 180, 0, 83, 153, 0, 7]
abbrev dktX1_isLive_0 : List UInt8 := dkwX1_isLive_0 ++ dktX1_isLive_1
theorem dksX1_isLive_0 : cX1_isLive.data.toList.drop 0 = dktX1_isLive_0 := by decide +kernel
theorem dksX1_isLive_1 : cX1_isLive.data.toList.drop 24 = dktX1_isLive_1 := dk_seg dksX1_isLive_0 24 rfl rfl
theorem dX1_isLive_0 : decode cX1_isLive 0 = .ok (.iload_n 1, 1) := dk_27 (dk_at dksX1_isLive_0 0 rfl rfl)
theorem dX1_isLive_1 : decode cX1_isLive 1 = .ok (.ifCond .lt 27, 3) := dk_155 0 27 (dk_at dksX1_isLive_0 1 rfl rfl)
theorem dX1_isLive_4 : decode cX1_isLive 4 = .ok (.iload_n 1, 1) := dk_27 (dk_at dksX1_isLive_0 4 rfl rfl)
theorem dX1_isLive_5 : decode cX1_isLive 5 = .ok (.aload_n 0, 1) := dk_42 (dk_at dksX1_isLive_0 5 rfl rfl)
theorem dX1_isLive_6 : decode cX1_isLive 6 = .ok (.getfield 47, 3) := dk_180 0 47 (dk_at dksX1_isLive_0 6 rfl rfl)
theorem dX1_isLive_9 : decode cX1_isLive 9 = .ok (.if_icmp .ge 19, 3) := dk_162 0 19 (dk_at dksX1_isLive_0 9 rfl rfl)
theorem dX1_isLive_12 : decode cX1_isLive 12 = .ok (.aload_n 0, 1) := dk_42 (dk_at dksX1_isLive_0 12 rfl rfl)
theorem dX1_isLive_13 : decode cX1_isLive 13 = .ok (.getfield 11, 3) := dk_180 0 11 (dk_at dksX1_isLive_0 13 rfl rfl)
theorem dX1_isLive_16 : decode cX1_isLive 16 = .ok (.iload_n 1, 1) := dk_27 (dk_at dksX1_isLive_0 16 rfl rfl)
theorem dX1_isLive_17 : decode cX1_isLive 17 = .ok (.aaload, 1) := dk_50 (dk_at dksX1_isLive_0 17 rfl rfl)
theorem dX1_isLive_18 : decode cX1_isLive 18 = .ok (.getfield 83, 3) := dk_180 0 83 (dk_at dksX1_isLive_0 18 rfl rfl)
theorem dX1_isLive_21 : decode cX1_isLive 21 = .ok (.ifCond .eq 7, 3) := dk_153 0 7 (dk_at dksX1_isLive_0 21 rfl rfl)
theorem dX1_isLive_24 : decode cX1_isLive 24 = .ok (.iconst 1, 1) := dk_4 (dk_at dksX1_isLive_1 0 rfl rfl)
theorem dX1_isLive_25 : decode cX1_isLive 25 = .ok (.goto 4, 3) := dk_167 0 4 (dk_at dksX1_isLive_1 1 rfl rfl)
theorem dX1_isLive_28 : decode cX1_isLive 28 = .ok (.iconst 0, 1) := dk_3 (dk_at dksX1_isLive_1 4 rfl rfl)
theorem dX1_isLive_29 : decode cX1_isLive 29 = .ok (.ireturn, 1) := dk_172 (dk_at dksX1_isLive_1 5 rfl rfl)
abbrev cX1_steps : ByteArray := prog_19_method_18_code
def yX1_steps : MethodName := ⟨RX1, "steps", "()Z"⟩
def dkwX1_steps_3 : List UInt8 := [44, 180, 0, 137, 50, 187, 0, 240, 89, 2, 44, 180, 1, 26, 183, 1, 29, 182, 0, 180, 87, 4, 172]
abbrev dktX1_steps_3 : List UInt8 := dkwX1_steps_3 ++ []
def dkwX1_steps_2 : List UInt8 := [42, 180, 0, 26, 182, 0, 168, 192, 0, 135, 77, 42, 44, 180, 1, 23, 181, 0, 57, 42, 42, 180, 0, 11]
abbrev dktX1_steps_2 : List UInt8 := dkwX1_steps_2 ++ dktX1_steps_3
def dkwX1_steps_1 : List UInt8 := [182, 0, 168, 192, 1, 2, 182, 1, 20, 87, 4, 172, 42, 180, 0, 26, 180, 0, 104, 154, 0, 5, 3, 172]
abbrev dktX1_steps_1 : List UInt8 := dkwX1_steps_1 ++ dktX1_steps_2
def dkwX1_steps_0 : List UInt8 := [42, 182, 1, 18, 76, 43, 198, 0, 29, 42, 43, 180, 0, 143, 181, 0, 17, 42, 43, 43, 180, 0, 87]
abbrev dktX1_steps_0 : List UInt8 := dkwX1_steps_0 ++ dktX1_steps_1
theorem dksX1_steps_0 : cX1_steps.data.toList.drop 0 = dktX1_steps_0 := by decide +kernel
theorem dksX1_steps_1 : cX1_steps.data.toList.drop 23 = dktX1_steps_1 := dk_seg dksX1_steps_0 23 rfl rfl
theorem dksX1_steps_2 : cX1_steps.data.toList.drop 47 = dktX1_steps_2 := dk_seg dksX1_steps_1 24 rfl rfl
theorem dksX1_steps_3 : cX1_steps.data.toList.drop 71 = dktX1_steps_3 := dk_seg dksX1_steps_2 24 rfl rfl
theorem dX1_steps_0 : decode cX1_steps 0 = .ok (.aload_n 0, 1) := dk_42 (dk_at dksX1_steps_0 0 rfl rfl)
theorem dX1_steps_1 : decode cX1_steps 1 = .ok (.invokevirtual 274, 3) := dk_182 1 18 (dk_at dksX1_steps_0 1 rfl rfl)
theorem dX1_steps_4 : decode cX1_steps 4 = .ok (.astore_n 1, 1) := dk_76 (dk_at dksX1_steps_0 4 rfl rfl)
theorem dX1_steps_5 : decode cX1_steps 5 = .ok (.aload_n 1, 1) := dk_43 (dk_at dksX1_steps_0 5 rfl rfl)
theorem dX1_steps_6 : decode cX1_steps 6 = .ok (.ifnull 29, 3) := dk_198 0 29 (dk_at dksX1_steps_0 6 rfl rfl)
theorem dX1_steps_9 : decode cX1_steps 9 = .ok (.aload_n 0, 1) := dk_42 (dk_at dksX1_steps_0 9 rfl rfl)
theorem dX1_steps_10 : decode cX1_steps 10 = .ok (.aload_n 1, 1) := dk_43 (dk_at dksX1_steps_0 10 rfl rfl)
theorem dX1_steps_11 : decode cX1_steps 11 = .ok (.getfield 143, 3) := dk_180 0 143 (dk_at dksX1_steps_0 11 rfl rfl)
theorem dX1_steps_14 : decode cX1_steps 14 = .ok (.putfield 17, 3) := dk_181 0 17 (dk_at dksX1_steps_0 14 rfl rfl)
theorem dX1_steps_17 : decode cX1_steps 17 = .ok (.aload_n 0, 1) := dk_42 (dk_at dksX1_steps_0 17 rfl rfl)
theorem dX1_steps_18 : decode cX1_steps 18 = .ok (.aload_n 1, 1) := dk_43 (dk_at dksX1_steps_0 18 rfl rfl)
theorem dX1_steps_19 : decode cX1_steps 19 = .ok (.aload_n 1, 1) := dk_43 (dk_at dksX1_steps_0 19 rfl rfl)
theorem dX1_steps_20 : decode cX1_steps 20 = .ok (.getfield 87, 3) := dk_180 0 87 (dk_at dksX1_steps_0 20 rfl rfl)
theorem dX1_steps_23 : decode cX1_steps 23 = .ok (.invokevirtual 168, 3) := dk_182 0 168 (dk_at dksX1_steps_1 0 rfl rfl)
theorem dX1_steps_26 : decode cX1_steps 26 = .ok (.checkcast 258, 3) := dk_192 1 2 (dk_at dksX1_steps_1 3 rfl rfl)
theorem dX1_steps_29 : decode cX1_steps 29 = .ok (.invokevirtual 276, 3) := dk_182 1 20 (dk_at dksX1_steps_1 6 rfl rfl)
theorem dX1_steps_32 : decode cX1_steps 32 = .ok (.pop, 1) := dk_87 (dk_at dksX1_steps_1 9 rfl rfl)
theorem dX1_steps_33 : decode cX1_steps 33 = .ok (.iconst 1, 1) := dk_4 (dk_at dksX1_steps_1 10 rfl rfl)
theorem dX1_steps_34 : decode cX1_steps 34 = .ok (.ireturn, 1) := dk_172 (dk_at dksX1_steps_1 11 rfl rfl)
theorem dX1_steps_35 : decode cX1_steps 35 = .ok (.aload_n 0, 1) := dk_42 (dk_at dksX1_steps_1 12 rfl rfl)
theorem dX1_steps_36 : decode cX1_steps 36 = .ok (.getfield 26, 3) := dk_180 0 26 (dk_at dksX1_steps_1 13 rfl rfl)
theorem dX1_steps_39 : decode cX1_steps 39 = .ok (.getfield 104, 3) := dk_180 0 104 (dk_at dksX1_steps_1 16 rfl rfl)
theorem dX1_steps_42 : decode cX1_steps 42 = .ok (.ifCond .ne 5, 3) := dk_154 0 5 (dk_at dksX1_steps_1 19 rfl rfl)
theorem dX1_steps_45 : decode cX1_steps 45 = .ok (.iconst 0, 1) := dk_3 (dk_at dksX1_steps_1 22 rfl rfl)
theorem dX1_steps_46 : decode cX1_steps 46 = .ok (.ireturn, 1) := dk_172 (dk_at dksX1_steps_1 23 rfl rfl)
theorem dX1_steps_47 : decode cX1_steps 47 = .ok (.aload_n 0, 1) := dk_42 (dk_at dksX1_steps_2 0 rfl rfl)
theorem dX1_steps_48 : decode cX1_steps 48 = .ok (.getfield 26, 3) := dk_180 0 26 (dk_at dksX1_steps_2 1 rfl rfl)
theorem dX1_steps_51 : decode cX1_steps 51 = .ok (.invokevirtual 168, 3) := dk_182 0 168 (dk_at dksX1_steps_2 4 rfl rfl)
theorem dX1_steps_54 : decode cX1_steps 54 = .ok (.checkcast 135, 3) := dk_192 0 135 (dk_at dksX1_steps_2 7 rfl rfl)
theorem dX1_steps_57 : decode cX1_steps 57 = .ok (.astore_n 2, 1) := dk_77 (dk_at dksX1_steps_2 10 rfl rfl)
theorem dX1_steps_58 : decode cX1_steps 58 = .ok (.aload_n 0, 1) := dk_42 (dk_at dksX1_steps_2 11 rfl rfl)
theorem dX1_steps_59 : decode cX1_steps 59 = .ok (.aload_n 2, 1) := dk_44 (dk_at dksX1_steps_2 12 rfl rfl)
theorem dX1_steps_60 : decode cX1_steps 60 = .ok (.getfield 279, 3) := dk_180 1 23 (dk_at dksX1_steps_2 13 rfl rfl)
theorem dX1_steps_63 : decode cX1_steps 63 = .ok (.putfield 57, 3) := dk_181 0 57 (dk_at dksX1_steps_2 16 rfl rfl)
theorem dX1_steps_66 : decode cX1_steps 66 = .ok (.aload_n 0, 1) := dk_42 (dk_at dksX1_steps_2 19 rfl rfl)
theorem dX1_steps_67 : decode cX1_steps 67 = .ok (.aload_n 0, 1) := dk_42 (dk_at dksX1_steps_2 20 rfl rfl)
theorem dX1_steps_68 : decode cX1_steps 68 = .ok (.getfield 11, 3) := dk_180 0 11 (dk_at dksX1_steps_2 21 rfl rfl)
theorem dX1_steps_71 : decode cX1_steps 71 = .ok (.aload_n 2, 1) := dk_44 (dk_at dksX1_steps_3 0 rfl rfl)
theorem dX1_steps_72 : decode cX1_steps 72 = .ok (.getfield 137, 3) := dk_180 0 137 (dk_at dksX1_steps_3 1 rfl rfl)
theorem dX1_steps_75 : decode cX1_steps 75 = .ok (.aaload, 1) := dk_50 (dk_at dksX1_steps_3 4 rfl rfl)
theorem dX1_steps_76 : decode cX1_steps 76 = .ok (.new 240, 3) := dk_187 0 240 (dk_at dksX1_steps_3 5 rfl rfl)
theorem dX1_steps_79 : decode cX1_steps 79 = .ok (.dup, 1) := dk_89 (dk_at dksX1_steps_3 8 rfl rfl)
theorem dX1_steps_80 : decode cX1_steps 80 = .ok (.iconst (-1), 1) := dk_2 (dk_at dksX1_steps_3 9 rfl rfl)
theorem dX1_steps_81 : decode cX1_steps 81 = .ok (.aload_n 2, 1) := dk_44 (dk_at dksX1_steps_3 10 rfl rfl)
theorem dX1_steps_82 : decode cX1_steps 82 = .ok (.getfield 282, 3) := dk_180 1 26 (dk_at dksX1_steps_3 11 rfl rfl)
theorem dX1_steps_85 : decode cX1_steps 85 = .ok (.invokespecial 285, 3) := dk_183 1 29 (dk_at dksX1_steps_3 14 rfl rfl)
theorem dX1_steps_88 : decode cX1_steps 88 = .ok (.invokevirtual 180, 3) := dk_182 0 180 (dk_at dksX1_steps_3 17 rfl rfl)
theorem dX1_steps_91 : decode cX1_steps 91 = .ok (.pop, 1) := dk_87 (dk_at dksX1_steps_3 20 rfl rfl)
theorem dX1_steps_92 : decode cX1_steps 92 = .ok (.iconst 1, 1) := dk_4 (dk_at dksX1_steps_3 21 rfl rfl)
theorem dX1_steps_93 : decode cX1_steps 93 = .ok (.ireturn, 1) := dk_172 (dk_at dksX1_steps_3 22 rfl rfl)
abbrev cX1_deals : ByteArray := prog_19_method_15_code
def yX1_deals : MethodName := ⟨RX1, "deals", "(LActorTrees$Actor;LActorTrees$Message;)I"⟩
def dkwX1_deals_2 : List UInt8 := [181, 0, 73, 42, 43, 44, 182, 1, 6, 3, 172, 78, 42, 45, 182, 1, 9, 45, 180, 1, 12, 172]
abbrev dktX1_deals_2 : List UInt8 := dkwX1_deals_2 ++ []
def dkwX1_deals_1 : List UInt8 := [43, 180, 0, 143, 104, 17, 1, 44, 96, 44, 182, 1, 1, 96, 79, 42, 89, 180, 0, 73, 4, 96]
abbrev dktX1_deals_1 : List UInt8 := dkwX1_deals_1 ++ dktX1_deals_2
def dkwX1_deals_0 : List UInt8 := [42, 89, 180, 0, 54, 4, 96, 181, 0, 54, 42, 180, 0, 33, 42, 180, 0, 73, 16, 30, 112, 17, 3, 232]
abbrev dktX1_deals_0 : List UInt8 := dkwX1_deals_0 ++ dktX1_deals_1
theorem dksX1_deals_0 : cX1_deals.data.toList.drop 0 = dktX1_deals_0 := by decide +kernel
theorem dksX1_deals_1 : cX1_deals.data.toList.drop 24 = dktX1_deals_1 := dk_seg dksX1_deals_0 24 rfl rfl
theorem dksX1_deals_2 : cX1_deals.data.toList.drop 46 = dktX1_deals_2 := dk_seg dksX1_deals_1 22 rfl rfl
theorem dX1_deals_0 : decode cX1_deals 0 = .ok (.aload_n 0, 1) := dk_42 (dk_at dksX1_deals_0 0 rfl rfl)
theorem dX1_deals_1 : decode cX1_deals 1 = .ok (.dup, 1) := dk_89 (dk_at dksX1_deals_0 1 rfl rfl)
theorem dX1_deals_2 : decode cX1_deals 2 = .ok (.getfield 54, 3) := dk_180 0 54 (dk_at dksX1_deals_0 2 rfl rfl)
theorem dX1_deals_5 : decode cX1_deals 5 = .ok (.iconst 1, 1) := dk_4 (dk_at dksX1_deals_0 5 rfl rfl)
theorem dX1_deals_6 : decode cX1_deals 6 = .ok (.iadd, 1) := dk_96 (dk_at dksX1_deals_0 6 rfl rfl)
theorem dX1_deals_7 : decode cX1_deals 7 = .ok (.putfield 54, 3) := dk_181 0 54 (dk_at dksX1_deals_0 7 rfl rfl)
theorem dX1_deals_10 : decode cX1_deals 10 = .ok (.aload_n 0, 1) := dk_42 (dk_at dksX1_deals_0 10 rfl rfl)
theorem dX1_deals_11 : decode cX1_deals 11 = .ok (.getfield 33, 3) := dk_180 0 33 (dk_at dksX1_deals_0 11 rfl rfl)
theorem dX1_deals_14 : decode cX1_deals 14 = .ok (.aload_n 0, 1) := dk_42 (dk_at dksX1_deals_0 14 rfl rfl)
theorem dX1_deals_15 : decode cX1_deals 15 = .ok (.getfield 73, 3) := dk_180 0 73 (dk_at dksX1_deals_0 15 rfl rfl)
theorem dX1_deals_18 : decode cX1_deals 18 = .ok (.bipush 30, 2) := dk_16 30 (dk_at dksX1_deals_0 18 rfl rfl)
theorem dX1_deals_20 : decode cX1_deals 20 = .ok (.irem, 1) := dk_112 (dk_at dksX1_deals_0 20 rfl rfl)
theorem dX1_deals_21 : decode cX1_deals 21 = .ok (.sipush 1000, 3) := dk_17 3 232 (dk_at dksX1_deals_0 21 rfl rfl)
theorem dX1_deals_24 : decode cX1_deals 24 = .ok (.aload_n 1, 1) := dk_43 (dk_at dksX1_deals_1 0 rfl rfl)
theorem dX1_deals_25 : decode cX1_deals 25 = .ok (.getfield 143, 3) := dk_180 0 143 (dk_at dksX1_deals_1 1 rfl rfl)
theorem dX1_deals_28 : decode cX1_deals 28 = .ok (.imul, 1) := dk_104 (dk_at dksX1_deals_1 4 rfl rfl)
theorem dX1_deals_29 : decode cX1_deals 29 = .ok (.sipush 300, 3) := dk_17 1 44 (dk_at dksX1_deals_1 5 rfl rfl)
theorem dX1_deals_32 : decode cX1_deals 32 = .ok (.iadd, 1) := dk_96 (dk_at dksX1_deals_1 8 rfl rfl)
theorem dX1_deals_33 : decode cX1_deals 33 = .ok (.aload_n 2, 1) := dk_44 (dk_at dksX1_deals_1 9 rfl rfl)
theorem dX1_deals_34 : decode cX1_deals 34 = .ok (.invokevirtual 257, 3) := dk_182 1 1 (dk_at dksX1_deals_1 10 rfl rfl)
theorem dX1_deals_37 : decode cX1_deals 37 = .ok (.iadd, 1) := dk_96 (dk_at dksX1_deals_1 13 rfl rfl)
theorem dX1_deals_38 : decode cX1_deals 38 = .ok (.iastore, 1) := dk_79 (dk_at dksX1_deals_1 14 rfl rfl)
theorem dX1_deals_39 : decode cX1_deals 39 = .ok (.aload_n 0, 1) := dk_42 (dk_at dksX1_deals_1 15 rfl rfl)
theorem dX1_deals_40 : decode cX1_deals 40 = .ok (.dup, 1) := dk_89 (dk_at dksX1_deals_1 16 rfl rfl)
theorem dX1_deals_41 : decode cX1_deals 41 = .ok (.getfield 73, 3) := dk_180 0 73 (dk_at dksX1_deals_1 17 rfl rfl)
theorem dX1_deals_44 : decode cX1_deals 44 = .ok (.iconst 1, 1) := dk_4 (dk_at dksX1_deals_1 20 rfl rfl)
theorem dX1_deals_45 : decode cX1_deals 45 = .ok (.iadd, 1) := dk_96 (dk_at dksX1_deals_1 21 rfl rfl)
theorem dX1_deals_46 : decode cX1_deals 46 = .ok (.putfield 73, 3) := dk_181 0 73 (dk_at dksX1_deals_2 0 rfl rfl)
theorem dX1_deals_49 : decode cX1_deals 49 = .ok (.aload_n 0, 1) := dk_42 (dk_at dksX1_deals_2 3 rfl rfl)
theorem dX1_deals_50 : decode cX1_deals 50 = .ok (.aload_n 1, 1) := dk_43 (dk_at dksX1_deals_2 4 rfl rfl)
theorem dX1_deals_51 : decode cX1_deals 51 = .ok (.aload_n 2, 1) := dk_44 (dk_at dksX1_deals_2 5 rfl rfl)
theorem dX1_deals_52 : decode cX1_deals 52 = .ok (.invokevirtual 262, 3) := dk_182 1 6 (dk_at dksX1_deals_2 6 rfl rfl)
theorem dX1_deals_55 : decode cX1_deals 55 = .ok (.iconst 0, 1) := dk_3 (dk_at dksX1_deals_2 9 rfl rfl)
theorem dX1_deals_56 : decode cX1_deals 56 = .ok (.ireturn, 1) := dk_172 (dk_at dksX1_deals_2 10 rfl rfl)
theorem dX1_deals_57 : decode cX1_deals 57 = .ok (.astore_n 3, 1) := dk_78 (dk_at dksX1_deals_2 11 rfl rfl)
theorem dX1_deals_58 : decode cX1_deals 58 = .ok (.aload_n 0, 1) := dk_42 (dk_at dksX1_deals_2 12 rfl rfl)
theorem dX1_deals_59 : decode cX1_deals 59 = .ok (.aload_n 3, 1) := dk_45 (dk_at dksX1_deals_2 13 rfl rfl)
theorem dX1_deals_60 : decode cX1_deals 60 = .ok (.invokevirtual 265, 3) := dk_182 1 9 (dk_at dksX1_deals_2 14 rfl rfl)
theorem dX1_deals_63 : decode cX1_deals 63 = .ok (.aload_n 3, 1) := dk_45 (dk_at dksX1_deals_2 17 rfl rfl)
theorem dX1_deals_64 : decode cX1_deals 64 = .ok (.getfield 268, 3) := dk_180 1 12 (dk_at dksX1_deals_2 18 rfl rfl)
theorem dX1_deals_67 : decode cX1_deals 67 = .ok (.ireturn, 1) := dk_172 (dk_at dksX1_deals_2 21 rfl rfl)
abbrev cX1_does : ByteArray := prog_19_method_14_code
def yX1_does : MethodName := ⟨RX1, "does", "(LActorTrees$Actor;LActorTrees$Message;)V"⟩
def dkwX1_does_4 : List UInt8 := [183, 0, 206, 191, 177]
abbrev dktX1_does_4 : List UInt8 := dkwX1_does_4 ++ []
def dkwX1_does_3 : List UInt8 := [185, 0, 242, 3, 0, 167, 0, 21, 78, 187, 0, 194, 89, 43, 180, 0, 143, 45, 182, 0, 252, 45]
abbrev dktX1_does_3 : List UInt8 := dkwX1_does_3 ++ dktX1_does_4
def dkwX1_does_2 : List UInt8 := [181, 0, 184, 177, 42, 180, 0, 42, 43, 182, 0, 227, 182, 0, 236, 43, 44, 192, 0, 240]
abbrev dktX1_does_2 : List UInt8 := dkwX1_does_2 ++ dktX1_does_3
def dkwX1_does_1 : List UInt8 := [43, 180, 0, 143, 5, 183, 0, 230, 191, 43, 89, 180, 0, 184, 16, 100, 45, 180, 0, 233, 96, 96]
abbrev dktX1_does_1 : List UInt8 := dkwX1_does_1 ++ dktX1_does_2
def dkwX1_does_0 : List UInt8 := [44, 193, 0, 177, 153, 0, 46, 44, 192, 0, 177, 78, 43, 182, 0, 227, 8, 160, 0, 16, 187, 0, 194, 89]
abbrev dktX1_does_0 : List UInt8 := dkwX1_does_0 ++ dktX1_does_1
theorem dksX1_does_0 : cX1_does.data.toList.drop 0 = dktX1_does_0 := by decide +kernel
theorem dksX1_does_1 : cX1_does.data.toList.drop 24 = dktX1_does_1 := dk_seg dksX1_does_0 24 rfl rfl
theorem dksX1_does_2 : cX1_does.data.toList.drop 46 = dktX1_does_2 := dk_seg dksX1_does_1 22 rfl rfl
theorem dksX1_does_3 : cX1_does.data.toList.drop 66 = dktX1_does_3 := dk_seg dksX1_does_2 20 rfl rfl
theorem dksX1_does_4 : cX1_does.data.toList.drop 88 = dktX1_does_4 := dk_seg dksX1_does_3 22 rfl rfl
theorem dX1_does_0 : decode cX1_does 0 = .ok (.aload_n 2, 1) := dk_44 (dk_at dksX1_does_0 0 rfl rfl)
theorem dX1_does_1 : decode cX1_does 1 = .ok (.instanceof 177, 3) := dk_193 0 177 (dk_at dksX1_does_0 1 rfl rfl)
theorem dX1_does_4 : decode cX1_does 4 = .ok (.ifCond .eq 46, 3) := dk_153 0 46 (dk_at dksX1_does_0 4 rfl rfl)
theorem dX1_does_7 : decode cX1_does 7 = .ok (.aload_n 2, 1) := dk_44 (dk_at dksX1_does_0 7 rfl rfl)
theorem dX1_does_8 : decode cX1_does 8 = .ok (.checkcast 177, 3) := dk_192 0 177 (dk_at dksX1_does_0 8 rfl rfl)
theorem dX1_does_11 : decode cX1_does 11 = .ok (.astore_n 3, 1) := dk_78 (dk_at dksX1_does_0 11 rfl rfl)
theorem dX1_does_12 : decode cX1_does 12 = .ok (.aload_n 1, 1) := dk_43 (dk_at dksX1_does_0 12 rfl rfl)
theorem dX1_does_13 : decode cX1_does 13 = .ok (.invokevirtual 227, 3) := dk_182 0 227 (dk_at dksX1_does_0 13 rfl rfl)
theorem dX1_does_16 : decode cX1_does 16 = .ok (.iconst 5, 1) := dk_8 (dk_at dksX1_does_0 16 rfl rfl)
theorem dX1_does_17 : decode cX1_does 17 = .ok (.if_icmp .ne 16, 3) := dk_160 0 16 (dk_at dksX1_does_0 17 rfl rfl)
theorem dX1_does_20 : decode cX1_does 20 = .ok (.new 194, 3) := dk_187 0 194 (dk_at dksX1_does_0 20 rfl rfl)
theorem dX1_does_23 : decode cX1_does 23 = .ok (.dup, 1) := dk_89 (dk_at dksX1_does_0 23 rfl rfl)
theorem dX1_does_24 : decode cX1_does 24 = .ok (.aload_n 1, 1) := dk_43 (dk_at dksX1_does_1 0 rfl rfl)
theorem dX1_does_25 : decode cX1_does 25 = .ok (.getfield 143, 3) := dk_180 0 143 (dk_at dksX1_does_1 1 rfl rfl)
theorem dX1_does_28 : decode cX1_does 28 = .ok (.iconst 2, 1) := dk_5 (dk_at dksX1_does_1 4 rfl rfl)
theorem dX1_does_29 : decode cX1_does 29 = .ok (.invokespecial 230, 3) := dk_183 0 230 (dk_at dksX1_does_1 5 rfl rfl)
theorem dX1_does_32 : decode cX1_does 32 = .ok (.athrow, 1) := dk_191 (dk_at dksX1_does_1 8 rfl rfl)
theorem dX1_does_33 : decode cX1_does 33 = .ok (.aload_n 1, 1) := dk_43 (dk_at dksX1_does_1 9 rfl rfl)
theorem dX1_does_34 : decode cX1_does 34 = .ok (.dup, 1) := dk_89 (dk_at dksX1_does_1 10 rfl rfl)
theorem dX1_does_35 : decode cX1_does 35 = .ok (.getfield 184, 3) := dk_180 0 184 (dk_at dksX1_does_1 11 rfl rfl)
theorem dX1_does_38 : decode cX1_does 38 = .ok (.bipush 100, 2) := dk_16 100 (dk_at dksX1_does_1 14 rfl rfl)
theorem dX1_does_40 : decode cX1_does 40 = .ok (.aload_n 3, 1) := dk_45 (dk_at dksX1_does_1 16 rfl rfl)
theorem dX1_does_41 : decode cX1_does 41 = .ok (.getfield 233, 3) := dk_180 0 233 (dk_at dksX1_does_1 17 rfl rfl)
theorem dX1_does_44 : decode cX1_does 44 = .ok (.iadd, 1) := dk_96 (dk_at dksX1_does_1 20 rfl rfl)
theorem dX1_does_45 : decode cX1_does 45 = .ok (.iadd, 1) := dk_96 (dk_at dksX1_does_1 21 rfl rfl)
theorem dX1_does_46 : decode cX1_does 46 = .ok (.putfield 184, 3) := dk_181 0 184 (dk_at dksX1_does_2 0 rfl rfl)
theorem dX1_does_49 : decode cX1_does 49 = .ok (.return_, 1) := dk_177 (dk_at dksX1_does_2 3 rfl rfl)
theorem dX1_does_50 : decode cX1_does 50 = .ok (.aload_n 0, 1) := dk_42 (dk_at dksX1_does_2 4 rfl rfl)
theorem dX1_does_51 : decode cX1_does 51 = .ok (.getfield 42, 3) := dk_180 0 42 (dk_at dksX1_does_2 5 rfl rfl)
theorem dX1_does_54 : decode cX1_does 54 = .ok (.aload_n 1, 1) := dk_43 (dk_at dksX1_does_2 8 rfl rfl)
theorem dX1_does_55 : decode cX1_does 55 = .ok (.invokevirtual 227, 3) := dk_182 0 227 (dk_at dksX1_does_2 9 rfl rfl)
theorem dX1_does_58 : decode cX1_does 58 = .ok (.invokevirtual 236, 3) := dk_182 0 236 (dk_at dksX1_does_2 12 rfl rfl)
theorem dX1_does_61 : decode cX1_does 61 = .ok (.aload_n 1, 1) := dk_43 (dk_at dksX1_does_2 15 rfl rfl)
theorem dX1_does_62 : decode cX1_does 62 = .ok (.aload_n 2, 1) := dk_44 (dk_at dksX1_does_2 16 rfl rfl)
theorem dX1_does_63 : decode cX1_does 63 = .ok (.checkcast 240, 3) := dk_192 0 240 (dk_at dksX1_does_2 17 rfl rfl)
theorem dX1_does_66 : decode cX1_does 66 = .ok (.invokeinterface 242 3, 5) := by decide +kernel
theorem dX1_does_71 : decode cX1_does 71 = .ok (.goto 21, 3) := dk_167 0 21 (dk_at dksX1_does_3 5 rfl rfl)
theorem dX1_does_74 : decode cX1_does 74 = .ok (.astore_n 3, 1) := dk_78 (dk_at dksX1_does_3 8 rfl rfl)
theorem dX1_does_75 : decode cX1_does 75 = .ok (.new 194, 3) := dk_187 0 194 (dk_at dksX1_does_3 9 rfl rfl)
theorem dX1_does_78 : decode cX1_does 78 = .ok (.dup, 1) := dk_89 (dk_at dksX1_does_3 12 rfl rfl)
theorem dX1_does_79 : decode cX1_does 79 = .ok (.aload_n 1, 1) := dk_43 (dk_at dksX1_does_3 13 rfl rfl)
theorem dX1_does_80 : decode cX1_does 80 = .ok (.getfield 143, 3) := dk_180 0 143 (dk_at dksX1_does_3 14 rfl rfl)
theorem dX1_does_83 : decode cX1_does 83 = .ok (.aload_n 3, 1) := dk_45 (dk_at dksX1_does_3 17 rfl rfl)
theorem dX1_does_84 : decode cX1_does 84 = .ok (.invokevirtual 252, 3) := dk_182 0 252 (dk_at dksX1_does_3 18 rfl rfl)
theorem dX1_does_87 : decode cX1_does 87 = .ok (.aload_n 3, 1) := dk_45 (dk_at dksX1_does_3 21 rfl rfl)
theorem dX1_does_88 : decode cX1_does 88 = .ok (.invokespecial 206, 3) := dk_183 0 206 (dk_at dksX1_does_4 0 rfl rfl)
theorem dX1_does_91 : decode cX1_does 91 = .ok (.athrow, 1) := dk_191 (dk_at dksX1_does_4 3 rfl rfl)
theorem dX1_does_92 : decode cX1_does 92 = .ok (.return_, 1) := dk_177 (dk_at dksX1_does_4 4 rfl rfl)
abbrev cX1_unstashes : ByteArray := prog_19_method_5_code
def yX1_unstashes : MethodName := ⟨RX1, "unstashes", "(LActorTrees$Actor;)V"⟩
def dkwX1_unstashes_1 : List UInt8 := [182, 0, 101, 177]
abbrev dktX1_unstashes_1 : List UInt8 := dkwX1_unstashes_1 ++ []
def dkwX1_unstashes_0 : List UInt8 := [42, 89, 180, 0, 60, 43, 180, 0, 87, 43, 180, 0, 94, 182, 0, 97, 96, 181, 0, 60, 43, 180, 0, 94]
abbrev dktX1_unstashes_0 : List UInt8 := dkwX1_unstashes_0 ++ dktX1_unstashes_1
theorem dksX1_unstashes_0 : cX1_unstashes.data.toList.drop 0 = dktX1_unstashes_0 := by decide +kernel
theorem dksX1_unstashes_1 : cX1_unstashes.data.toList.drop 24 = dktX1_unstashes_1 := dk_seg dksX1_unstashes_0 24 rfl rfl
theorem dX1_unstashes_0 : decode cX1_unstashes 0 = .ok (.aload_n 0, 1) := dk_42 (dk_at dksX1_unstashes_0 0 rfl rfl)
theorem dX1_unstashes_1 : decode cX1_unstashes 1 = .ok (.dup, 1) := dk_89 (dk_at dksX1_unstashes_0 1 rfl rfl)
theorem dX1_unstashes_2 : decode cX1_unstashes 2 = .ok (.getfield 60, 3) := dk_180 0 60 (dk_at dksX1_unstashes_0 2 rfl rfl)
theorem dX1_unstashes_5 : decode cX1_unstashes 5 = .ok (.aload_n 1, 1) := dk_43 (dk_at dksX1_unstashes_0 5 rfl rfl)
theorem dX1_unstashes_6 : decode cX1_unstashes 6 = .ok (.getfield 87, 3) := dk_180 0 87 (dk_at dksX1_unstashes_0 6 rfl rfl)
theorem dX1_unstashes_9 : decode cX1_unstashes 9 = .ok (.aload_n 1, 1) := dk_43 (dk_at dksX1_unstashes_0 9 rfl rfl)
theorem dX1_unstashes_10 : decode cX1_unstashes 10 = .ok (.getfield 94, 3) := dk_180 0 94 (dk_at dksX1_unstashes_0 10 rfl rfl)
theorem dX1_unstashes_13 : decode cX1_unstashes 13 = .ok (.invokevirtual 97, 3) := dk_182 0 97 (dk_at dksX1_unstashes_0 13 rfl rfl)
theorem dX1_unstashes_16 : decode cX1_unstashes 16 = .ok (.iadd, 1) := dk_96 (dk_at dksX1_unstashes_0 16 rfl rfl)
theorem dX1_unstashes_17 : decode cX1_unstashes 17 = .ok (.putfield 60, 3) := dk_181 0 60 (dk_at dksX1_unstashes_0 17 rfl rfl)
theorem dX1_unstashes_20 : decode cX1_unstashes 20 = .ok (.aload_n 1, 1) := dk_43 (dk_at dksX1_unstashes_0 20 rfl rfl)
theorem dX1_unstashes_21 : decode cX1_unstashes 21 = .ok (.getfield 94, 3) := dk_180 0 94 (dk_at dksX1_unstashes_0 21 rfl rfl)
theorem dX1_unstashes_24 : decode cX1_unstashes 24 = .ok (.invokevirtual 101, 3) := dk_182 0 101 (dk_at dksX1_unstashes_1 0 rfl rfl)
theorem dX1_unstashes_27 : decode cX1_unstashes 27 = .ok (.return_, 1) := dk_177 (dk_at dksX1_unstashes_1 3 rfl rfl)
abbrev cX1_timed : ByteArray := prog_19_method_6_code
def yX1_timed : MethodName := ⟨RX1, "timed", "(LActorTrees$Timer;)V"⟩
def dkwX1_timed_1 : List UInt8 := [182, 0, 109, 177]
abbrev dktX1_timed_1 : List UInt8 := dkwX1_timed_1 ++ []
def dkwX1_timed_0 : List UInt8 := [42, 180, 0, 26, 180, 0, 104, 16, 10, 160, 0, 4, 177, 42, 180, 0, 26, 43, 43, 186, 0, 105, 0, 0]
abbrev dktX1_timed_0 : List UInt8 := dkwX1_timed_0 ++ dktX1_timed_1
theorem dksX1_timed_0 : cX1_timed.data.toList.drop 0 = dktX1_timed_0 := by decide +kernel
theorem dksX1_timed_1 : cX1_timed.data.toList.drop 24 = dktX1_timed_1 := dk_seg dksX1_timed_0 24 rfl rfl
theorem dX1_timed_0 : decode cX1_timed 0 = .ok (.aload_n 0, 1) := dk_42 (dk_at dksX1_timed_0 0 rfl rfl)
theorem dX1_timed_1 : decode cX1_timed 1 = .ok (.getfield 26, 3) := dk_180 0 26 (dk_at dksX1_timed_0 1 rfl rfl)
theorem dX1_timed_4 : decode cX1_timed 4 = .ok (.getfield 104, 3) := dk_180 0 104 (dk_at dksX1_timed_0 4 rfl rfl)
theorem dX1_timed_7 : decode cX1_timed 7 = .ok (.bipush 10, 2) := dk_16 10 (dk_at dksX1_timed_0 7 rfl rfl)
theorem dX1_timed_9 : decode cX1_timed 9 = .ok (.if_icmp .ne 4, 3) := dk_160 0 4 (dk_at dksX1_timed_0 9 rfl rfl)
theorem dX1_timed_12 : decode cX1_timed 12 = .ok (.return_, 1) := dk_177 (dk_at dksX1_timed_0 12 rfl rfl)
theorem dX1_timed_13 : decode cX1_timed 13 = .ok (.aload_n 0, 1) := dk_42 (dk_at dksX1_timed_0 13 rfl rfl)
theorem dX1_timed_14 : decode cX1_timed 14 = .ok (.getfield 26, 3) := dk_180 0 26 (dk_at dksX1_timed_0 14 rfl rfl)
theorem dX1_timed_17 : decode cX1_timed 17 = .ok (.aload_n 1, 1) := dk_43 (dk_at dksX1_timed_0 17 rfl rfl)
theorem dX1_timed_18 : decode cX1_timed 18 = .ok (.aload_n 1, 1) := dk_43 (dk_at dksX1_timed_0 18 rfl rfl)
theorem dX1_timed_19 : decode cX1_timed 19 = .ok (.invokedynamic 105, 5) := by decide +kernel
theorem dX1_timed_24 : decode cX1_timed 24 = .ok (.invokevirtual 109, 3) := dk_182 0 109 (dk_at dksX1_timed_1 0 rfl rfl)
theorem dX1_timed_27 : decode cX1_timed 27 = .ok (.return_, 1) := dk_177 (dk_at dksX1_timed_1 3 rfl rfl)
abbrev cX1_lambda_timed_0 : ByteArray := prog_19_method_26_code
def yX1_lambda_timed_0 : MethodName := ⟨RX1, "lambda$timed$0", "(LActorTrees$Timer;LActorTrees$Timer;)Z"⟩
def dkwX1_lambda_timed_0_0 : List UInt8 := [43, 180, 1, 23, 42, 180, 1, 23, 164, 0, 7, 4, 167, 0, 4, 3, 172]
abbrev dktX1_lambda_timed_0_0 : List UInt8 := dkwX1_lambda_timed_0_0 ++ []
theorem dksX1_lambda_timed_0_0 : cX1_lambda_timed_0.data.toList.drop 0 = dktX1_lambda_timed_0_0 := by decide +kernel
theorem dX1_lambda_timed_0_0 : decode cX1_lambda_timed_0 0 = .ok (.aload_n 1, 1) := dk_43 (dk_at dksX1_lambda_timed_0_0 0 rfl rfl)
theorem dX1_lambda_timed_0_1 : decode cX1_lambda_timed_0 1 = .ok (.getfield 279, 3) := dk_180 1 23 (dk_at dksX1_lambda_timed_0_0 1 rfl rfl)
theorem dX1_lambda_timed_0_4 : decode cX1_lambda_timed_0 4 = .ok (.aload_n 0, 1) := dk_42 (dk_at dksX1_lambda_timed_0_0 4 rfl rfl)
theorem dX1_lambda_timed_0_5 : decode cX1_lambda_timed_0 5 = .ok (.getfield 279, 3) := dk_180 1 23 (dk_at dksX1_lambda_timed_0_0 5 rfl rfl)
theorem dX1_lambda_timed_0_8 : decode cX1_lambda_timed_0 8 = .ok (.if_icmp .le 7, 3) := dk_164 0 7 (dk_at dksX1_lambda_timed_0_0 8 rfl rfl)
theorem dX1_lambda_timed_0_11 : decode cX1_lambda_timed_0 11 = .ok (.iconst 1, 1) := dk_4 (dk_at dksX1_lambda_timed_0_0 11 rfl rfl)
theorem dX1_lambda_timed_0_12 : decode cX1_lambda_timed_0 12 = .ok (.goto 4, 3) := dk_167 0 4 (dk_at dksX1_lambda_timed_0_0 12 rfl rfl)
theorem dX1_lambda_timed_0_15 : decode cX1_lambda_timed_0 15 = .ok (.iconst 0, 1) := dk_3 (dk_at dksX1_lambda_timed_0_0 15 rfl rfl)
theorem dX1_lambda_timed_0_16 : decode cX1_lambda_timed_0 16 = .ok (.ireturn, 1) := dk_172 (dk_at dksX1_lambda_timed_0_0 16 rfl rfl)
abbrev cX1_fails : ByteArray := prog_19_method_13_code
def yX1_fails : MethodName := ⟨RX1, "fails", "(LActorTrees$Failure;)V"⟩
def dkwX1_fails_1 : List UInt8 := [62, 167, 255, 245, 58, 4, 25, 4, 77, 167, 255, 237, 42, 44, 181, 0, 76, 177]
abbrev dktX1_fails_1 : List UInt8 := dkwX1_fails_1 ++ []
def dkwX1_fails_0 : List UInt8 := [42, 89, 180, 0, 221, 4, 96, 181, 0, 221, 43, 77, 4, 62, 29, 153, 0, 21, 42, 44, 182, 0, 223, 3]
abbrev dktX1_fails_0 : List UInt8 := dkwX1_fails_0 ++ dktX1_fails_1
theorem dksX1_fails_0 : cX1_fails.data.toList.drop 0 = dktX1_fails_0 := by decide +kernel
theorem dksX1_fails_1 : cX1_fails.data.toList.drop 24 = dktX1_fails_1 := dk_seg dksX1_fails_0 24 rfl rfl
theorem dX1_fails_0 : decode cX1_fails 0 = .ok (.aload_n 0, 1) := dk_42 (dk_at dksX1_fails_0 0 rfl rfl)
theorem dX1_fails_1 : decode cX1_fails 1 = .ok (.dup, 1) := dk_89 (dk_at dksX1_fails_0 1 rfl rfl)
theorem dX1_fails_2 : decode cX1_fails 2 = .ok (.getfield 221, 3) := dk_180 0 221 (dk_at dksX1_fails_0 2 rfl rfl)
theorem dX1_fails_5 : decode cX1_fails 5 = .ok (.iconst 1, 1) := dk_4 (dk_at dksX1_fails_0 5 rfl rfl)
theorem dX1_fails_6 : decode cX1_fails 6 = .ok (.iadd, 1) := dk_96 (dk_at dksX1_fails_0 6 rfl rfl)
theorem dX1_fails_7 : decode cX1_fails 7 = .ok (.putfield 221, 3) := dk_181 0 221 (dk_at dksX1_fails_0 7 rfl rfl)
theorem dX1_fails_10 : decode cX1_fails 10 = .ok (.aload_n 1, 1) := dk_43 (dk_at dksX1_fails_0 10 rfl rfl)
theorem dX1_fails_11 : decode cX1_fails 11 = .ok (.astore_n 2, 1) := dk_77 (dk_at dksX1_fails_0 11 rfl rfl)
theorem dX1_fails_12 : decode cX1_fails 12 = .ok (.iconst 1, 1) := dk_4 (dk_at dksX1_fails_0 12 rfl rfl)
theorem dX1_fails_13 : decode cX1_fails 13 = .ok (.istore_n 3, 1) := dk_62 (dk_at dksX1_fails_0 13 rfl rfl)
theorem dX1_fails_14 : decode cX1_fails 14 = .ok (.iload_n 3, 1) := dk_29 (dk_at dksX1_fails_0 14 rfl rfl)
theorem dX1_fails_15 : decode cX1_fails 15 = .ok (.ifCond .eq 21, 3) := dk_153 0 21 (dk_at dksX1_fails_0 15 rfl rfl)
theorem dX1_fails_18 : decode cX1_fails 18 = .ok (.aload_n 0, 1) := dk_42 (dk_at dksX1_fails_0 18 rfl rfl)
theorem dX1_fails_19 : decode cX1_fails 19 = .ok (.aload_n 2, 1) := dk_44 (dk_at dksX1_fails_0 19 rfl rfl)
theorem dX1_fails_20 : decode cX1_fails 20 = .ok (.invokevirtual 223, 3) := dk_182 0 223 (dk_at dksX1_fails_0 20 rfl rfl)
theorem dX1_fails_23 : decode cX1_fails 23 = .ok (.iconst 0, 1) := dk_3 (dk_at dksX1_fails_0 23 rfl rfl)
theorem dX1_fails_24 : decode cX1_fails 24 = .ok (.istore_n 3, 1) := dk_62 (dk_at dksX1_fails_1 0 rfl rfl)
theorem dX1_fails_25 : decode cX1_fails 25 = .ok (.goto (-11), 3) := dk_167 255 245 (dk_at dksX1_fails_1 1 rfl rfl)
theorem dX1_fails_28 : decode cX1_fails 28 = .ok (.astore 4, 2) := dk_58 4 (dk_at dksX1_fails_1 4 rfl rfl)
theorem dX1_fails_30 : decode cX1_fails 30 = .ok (.aload 4, 2) := dk_25 4 (dk_at dksX1_fails_1 6 rfl rfl)
theorem dX1_fails_32 : decode cX1_fails 32 = .ok (.astore_n 2, 1) := dk_77 (dk_at dksX1_fails_1 8 rfl rfl)
theorem dX1_fails_33 : decode cX1_fails 33 = .ok (.goto (-19), 3) := dk_167 255 237 (dk_at dksX1_fails_1 9 rfl rfl)
theorem dX1_fails_36 : decode cX1_fails 36 = .ok (.aload_n 0, 1) := dk_42 (dk_at dksX1_fails_1 12 rfl rfl)
theorem dX1_fails_37 : decode cX1_fails 37 = .ok (.aload_n 2, 1) := dk_44 (dk_at dksX1_fails_1 13 rfl rfl)
theorem dX1_fails_38 : decode cX1_fails 38 = .ok (.putfield 76, 3) := dk_181 0 76 (dk_at dksX1_fails_1 14 rfl rfl)
theorem dX1_fails_41 : decode cX1_fails 41 = .ok (.return_, 1) := dk_177 (dk_at dksX1_fails_1 17 rfl rfl)
abbrev cX1_handles : ByteArray := prog_19_method_12_code
def yX1_handles : MethodName := ⟨RX1, "handles", "(LActorTrees$Failure;)V"⟩
def dkwX1_handles_6 : List UInt8 := [132, 4, 1, 167, 255, 185, 177]
abbrev dktX1_handles_6 : List UInt8 := dkwX1_handles_6 ++ []
def dkwX1_handles_5 : List UInt8 := [180, 0, 143, 21, 4, 185, 0, 213, 3, 0, 153, 0, 14, 42, 42, 180, 0, 11, 21, 4, 50, 182, 0, 219]
abbrev dktX1_handles_5 : List UInt8 := dkwX1_handles_5 ++ dktX1_handles_6
def dkwX1_handles_4 : List UInt8 := [180, 0, 143, 160, 0, 45, 42, 180, 0, 11, 21, 4, 50, 180, 0, 83, 153, 0, 32, 45, 180, 0, 209, 44]
abbrev dktX1_handles_4 : List UInt8 := dkwX1_handles_4 ++ dktX1_handles_5
def dkwX1_handles_3 : List UInt8 := [191, 3, 54, 4, 21, 4, 42, 180, 0, 47, 162, 0, 68, 42, 180, 0, 11, 21, 4, 50, 180, 0, 140, 45]
abbrev dktX1_handles_3 : List UInt8 := dkwX1_handles_3 ++ dktX1_handles_4
def dkwX1_handles_2 : List UInt8 := [182, 0, 199, 45, 180, 0, 203, 164, 0, 18, 187, 0, 194, 89, 45, 180, 0, 143, 16, 9, 43, 183, 0, 206]
abbrev dktX1_handles_2 : List UInt8 := dkwX1_handles_2 ++ dktX1_handles_3
def dkwX1_handles_1 : List UInt8 := [180, 0, 11, 44, 180, 0, 140, 50, 78, 45, 42, 180, 0, 57, 182, 0, 196, 45, 42, 180, 0, 57]
abbrev dktX1_handles_1 : List UInt8 := dkwX1_handles_1 ++ dktX1_handles_2
def dkwX1_handles_0 : List UInt8 := [42, 180, 0, 11, 43, 180, 0, 193, 50, 77, 44, 180, 0, 140, 156, 0, 9, 42, 44, 182, 0, 146, 177, 42]
abbrev dktX1_handles_0 : List UInt8 := dkwX1_handles_0 ++ dktX1_handles_1
theorem dksX1_handles_0 : cX1_handles.data.toList.drop 0 = dktX1_handles_0 := by decide +kernel
theorem dksX1_handles_1 : cX1_handles.data.toList.drop 24 = dktX1_handles_1 := dk_seg dksX1_handles_0 24 rfl rfl
theorem dksX1_handles_2 : cX1_handles.data.toList.drop 46 = dktX1_handles_2 := dk_seg dksX1_handles_1 22 rfl rfl
theorem dksX1_handles_3 : cX1_handles.data.toList.drop 70 = dktX1_handles_3 := dk_seg dksX1_handles_2 24 rfl rfl
theorem dksX1_handles_4 : cX1_handles.data.toList.drop 94 = dktX1_handles_4 := dk_seg dksX1_handles_3 24 rfl rfl
theorem dksX1_handles_5 : cX1_handles.data.toList.drop 118 = dktX1_handles_5 := dk_seg dksX1_handles_4 24 rfl rfl
theorem dksX1_handles_6 : cX1_handles.data.toList.drop 142 = dktX1_handles_6 := dk_seg dksX1_handles_5 24 rfl rfl
theorem dX1_handles_0 : decode cX1_handles 0 = .ok (.aload_n 0, 1) := dk_42 (dk_at dksX1_handles_0 0 rfl rfl)
theorem dX1_handles_1 : decode cX1_handles 1 = .ok (.getfield 11, 3) := dk_180 0 11 (dk_at dksX1_handles_0 1 rfl rfl)
theorem dX1_handles_4 : decode cX1_handles 4 = .ok (.aload_n 1, 1) := dk_43 (dk_at dksX1_handles_0 4 rfl rfl)
theorem dX1_handles_5 : decode cX1_handles 5 = .ok (.getfield 193, 3) := dk_180 0 193 (dk_at dksX1_handles_0 5 rfl rfl)
theorem dX1_handles_8 : decode cX1_handles 8 = .ok (.aaload, 1) := dk_50 (dk_at dksX1_handles_0 8 rfl rfl)
theorem dX1_handles_9 : decode cX1_handles 9 = .ok (.astore_n 2, 1) := dk_77 (dk_at dksX1_handles_0 9 rfl rfl)
theorem dX1_handles_10 : decode cX1_handles 10 = .ok (.aload_n 2, 1) := dk_44 (dk_at dksX1_handles_0 10 rfl rfl)
theorem dX1_handles_11 : decode cX1_handles 11 = .ok (.getfield 140, 3) := dk_180 0 140 (dk_at dksX1_handles_0 11 rfl rfl)
theorem dX1_handles_14 : decode cX1_handles 14 = .ok (.ifCond .ge 9, 3) := dk_156 0 9 (dk_at dksX1_handles_0 14 rfl rfl)
theorem dX1_handles_17 : decode cX1_handles 17 = .ok (.aload_n 0, 1) := dk_42 (dk_at dksX1_handles_0 17 rfl rfl)
theorem dX1_handles_18 : decode cX1_handles 18 = .ok (.aload_n 2, 1) := dk_44 (dk_at dksX1_handles_0 18 rfl rfl)
theorem dX1_handles_19 : decode cX1_handles 19 = .ok (.invokevirtual 146, 3) := dk_182 0 146 (dk_at dksX1_handles_0 19 rfl rfl)
theorem dX1_handles_22 : decode cX1_handles 22 = .ok (.return_, 1) := dk_177 (dk_at dksX1_handles_0 22 rfl rfl)
theorem dX1_handles_23 : decode cX1_handles 23 = .ok (.aload_n 0, 1) := dk_42 (dk_at dksX1_handles_0 23 rfl rfl)
theorem dX1_handles_24 : decode cX1_handles 24 = .ok (.getfield 11, 3) := dk_180 0 11 (dk_at dksX1_handles_1 0 rfl rfl)
theorem dX1_handles_27 : decode cX1_handles 27 = .ok (.aload_n 2, 1) := dk_44 (dk_at dksX1_handles_1 3 rfl rfl)
theorem dX1_handles_28 : decode cX1_handles 28 = .ok (.getfield 140, 3) := dk_180 0 140 (dk_at dksX1_handles_1 4 rfl rfl)
theorem dX1_handles_31 : decode cX1_handles 31 = .ok (.aaload, 1) := dk_50 (dk_at dksX1_handles_1 7 rfl rfl)
theorem dX1_handles_32 : decode cX1_handles 32 = .ok (.astore_n 3, 1) := dk_78 (dk_at dksX1_handles_1 8 rfl rfl)
theorem dX1_handles_33 : decode cX1_handles 33 = .ok (.aload_n 3, 1) := dk_45 (dk_at dksX1_handles_1 9 rfl rfl)
theorem dX1_handles_34 : decode cX1_handles 34 = .ok (.aload_n 0, 1) := dk_42 (dk_at dksX1_handles_1 10 rfl rfl)
theorem dX1_handles_35 : decode cX1_handles 35 = .ok (.getfield 57, 3) := dk_180 0 57 (dk_at dksX1_handles_1 11 rfl rfl)
theorem dX1_handles_38 : decode cX1_handles 38 = .ok (.invokevirtual 196, 3) := dk_182 0 196 (dk_at dksX1_handles_1 14 rfl rfl)
theorem dX1_handles_41 : decode cX1_handles 41 = .ok (.aload_n 3, 1) := dk_45 (dk_at dksX1_handles_1 17 rfl rfl)
theorem dX1_handles_42 : decode cX1_handles 42 = .ok (.aload_n 0, 1) := dk_42 (dk_at dksX1_handles_1 18 rfl rfl)
theorem dX1_handles_43 : decode cX1_handles 43 = .ok (.getfield 57, 3) := dk_180 0 57 (dk_at dksX1_handles_1 19 rfl rfl)
theorem dX1_handles_46 : decode cX1_handles 46 = .ok (.invokevirtual 199, 3) := dk_182 0 199 (dk_at dksX1_handles_2 0 rfl rfl)
theorem dX1_handles_49 : decode cX1_handles 49 = .ok (.aload_n 3, 1) := dk_45 (dk_at dksX1_handles_2 3 rfl rfl)
theorem dX1_handles_50 : decode cX1_handles 50 = .ok (.getfield 203, 3) := dk_180 0 203 (dk_at dksX1_handles_2 4 rfl rfl)
theorem dX1_handles_53 : decode cX1_handles 53 = .ok (.if_icmp .le 18, 3) := dk_164 0 18 (dk_at dksX1_handles_2 7 rfl rfl)
theorem dX1_handles_56 : decode cX1_handles 56 = .ok (.new 194, 3) := dk_187 0 194 (dk_at dksX1_handles_2 10 rfl rfl)
theorem dX1_handles_59 : decode cX1_handles 59 = .ok (.dup, 1) := dk_89 (dk_at dksX1_handles_2 13 rfl rfl)
theorem dX1_handles_60 : decode cX1_handles 60 = .ok (.aload_n 3, 1) := dk_45 (dk_at dksX1_handles_2 14 rfl rfl)
theorem dX1_handles_61 : decode cX1_handles 61 = .ok (.getfield 143, 3) := dk_180 0 143 (dk_at dksX1_handles_2 15 rfl rfl)
theorem dX1_handles_64 : decode cX1_handles 64 = .ok (.bipush 9, 2) := dk_16 9 (dk_at dksX1_handles_2 18 rfl rfl)
theorem dX1_handles_66 : decode cX1_handles 66 = .ok (.aload_n 1, 1) := dk_43 (dk_at dksX1_handles_2 20 rfl rfl)
theorem dX1_handles_67 : decode cX1_handles 67 = .ok (.invokespecial 206, 3) := dk_183 0 206 (dk_at dksX1_handles_2 21 rfl rfl)
theorem dX1_handles_70 : decode cX1_handles 70 = .ok (.athrow, 1) := dk_191 (dk_at dksX1_handles_3 0 rfl rfl)
theorem dX1_handles_71 : decode cX1_handles 71 = .ok (.iconst 0, 1) := dk_3 (dk_at dksX1_handles_3 1 rfl rfl)
theorem dX1_handles_72 : decode cX1_handles 72 = .ok (.istore 4, 2) := dk_54 4 (dk_at dksX1_handles_3 2 rfl rfl)
theorem dX1_handles_74 : decode cX1_handles 74 = .ok (.iload 4, 2) := dk_21 4 (dk_at dksX1_handles_3 4 rfl rfl)
theorem dX1_handles_76 : decode cX1_handles 76 = .ok (.aload_n 0, 1) := dk_42 (dk_at dksX1_handles_3 6 rfl rfl)
theorem dX1_handles_77 : decode cX1_handles 77 = .ok (.getfield 47, 3) := dk_180 0 47 (dk_at dksX1_handles_3 7 rfl rfl)
theorem dX1_handles_80 : decode cX1_handles 80 = .ok (.if_icmp .ge 68, 3) := dk_162 0 68 (dk_at dksX1_handles_3 10 rfl rfl)
theorem dX1_handles_83 : decode cX1_handles 83 = .ok (.aload_n 0, 1) := dk_42 (dk_at dksX1_handles_3 13 rfl rfl)
theorem dX1_handles_84 : decode cX1_handles 84 = .ok (.getfield 11, 3) := dk_180 0 11 (dk_at dksX1_handles_3 14 rfl rfl)
theorem dX1_handles_87 : decode cX1_handles 87 = .ok (.iload 4, 2) := dk_21 4 (dk_at dksX1_handles_3 17 rfl rfl)
theorem dX1_handles_89 : decode cX1_handles 89 = .ok (.aaload, 1) := dk_50 (dk_at dksX1_handles_3 19 rfl rfl)
theorem dX1_handles_90 : decode cX1_handles 90 = .ok (.getfield 140, 3) := dk_180 0 140 (dk_at dksX1_handles_3 20 rfl rfl)
theorem dX1_handles_93 : decode cX1_handles 93 = .ok (.aload_n 3, 1) := dk_45 (dk_at dksX1_handles_3 23 rfl rfl)
theorem dX1_handles_94 : decode cX1_handles 94 = .ok (.getfield 143, 3) := dk_180 0 143 (dk_at dksX1_handles_4 0 rfl rfl)
theorem dX1_handles_97 : decode cX1_handles 97 = .ok (.if_icmp .ne 45, 3) := dk_160 0 45 (dk_at dksX1_handles_4 3 rfl rfl)
theorem dX1_handles_100 : decode cX1_handles 100 = .ok (.aload_n 0, 1) := dk_42 (dk_at dksX1_handles_4 6 rfl rfl)
theorem dX1_handles_101 : decode cX1_handles 101 = .ok (.getfield 11, 3) := dk_180 0 11 (dk_at dksX1_handles_4 7 rfl rfl)
theorem dX1_handles_104 : decode cX1_handles 104 = .ok (.iload 4, 2) := dk_21 4 (dk_at dksX1_handles_4 10 rfl rfl)
theorem dX1_handles_106 : decode cX1_handles 106 = .ok (.aaload, 1) := dk_50 (dk_at dksX1_handles_4 12 rfl rfl)
theorem dX1_handles_107 : decode cX1_handles 107 = .ok (.getfield 83, 3) := dk_180 0 83 (dk_at dksX1_handles_4 13 rfl rfl)
theorem dX1_handles_110 : decode cX1_handles 110 = .ok (.ifCond .eq 32, 3) := dk_153 0 32 (dk_at dksX1_handles_4 16 rfl rfl)
theorem dX1_handles_113 : decode cX1_handles 113 = .ok (.aload_n 3, 1) := dk_45 (dk_at dksX1_handles_4 19 rfl rfl)
theorem dX1_handles_114 : decode cX1_handles 114 = .ok (.getfield 209, 3) := dk_180 0 209 (dk_at dksX1_handles_4 20 rfl rfl)
theorem dX1_handles_117 : decode cX1_handles 117 = .ok (.aload_n 2, 1) := dk_44 (dk_at dksX1_handles_4 23 rfl rfl)
theorem dX1_handles_118 : decode cX1_handles 118 = .ok (.getfield 143, 3) := dk_180 0 143 (dk_at dksX1_handles_5 0 rfl rfl)
theorem dX1_handles_121 : decode cX1_handles 121 = .ok (.iload 4, 2) := dk_21 4 (dk_at dksX1_handles_5 3 rfl rfl)
theorem dX1_handles_123 : decode cX1_handles 123 = .ok (.invokeinterface 213 3, 5) := by decide +kernel
theorem dX1_handles_128 : decode cX1_handles 128 = .ok (.ifCond .eq 14, 3) := dk_153 0 14 (dk_at dksX1_handles_5 10 rfl rfl)
theorem dX1_handles_131 : decode cX1_handles 131 = .ok (.aload_n 0, 1) := dk_42 (dk_at dksX1_handles_5 13 rfl rfl)
theorem dX1_handles_132 : decode cX1_handles 132 = .ok (.aload_n 0, 1) := dk_42 (dk_at dksX1_handles_5 14 rfl rfl)
theorem dX1_handles_133 : decode cX1_handles 133 = .ok (.getfield 11, 3) := dk_180 0 11 (dk_at dksX1_handles_5 15 rfl rfl)
theorem dX1_handles_136 : decode cX1_handles 136 = .ok (.iload 4, 2) := dk_21 4 (dk_at dksX1_handles_5 18 rfl rfl)
theorem dX1_handles_138 : decode cX1_handles 138 = .ok (.aaload, 1) := dk_50 (dk_at dksX1_handles_5 20 rfl rfl)
theorem dX1_handles_139 : decode cX1_handles 139 = .ok (.invokevirtual 219, 3) := dk_182 0 219 (dk_at dksX1_handles_5 21 rfl rfl)
theorem dX1_handles_142 : decode cX1_handles 142 = .ok (.iinc 4 1, 3) := dk_132 4 1 (dk_at dksX1_handles_6 0 rfl rfl)
theorem dX1_handles_145 : decode cX1_handles 145 = .ok (.goto (-71), 3) := dk_167 255 185 (dk_at dksX1_handles_6 3 rfl rfl)
theorem dX1_handles_148 : decode cX1_handles 148 = .ok (.return_, 1) := dk_177 (dk_at dksX1_handles_6 6 rfl rfl)
abbrev cX1_restarts : ByteArray := prog_19_method_11_code
def yX1_restarts : MethodName := ⟨RX1, "restarts", "(LActorTrees$Actor;)V"⟩
def dkwX1_restarts_1 : List UInt8 := [182, 0, 159, 42, 43, 182, 0, 187, 42, 89, 180, 0, 190, 4, 43, 180, 0, 143, 120, 128, 181, 0, 190, 177]
abbrev dktX1_restarts_1 : List UInt8 := dkwX1_restarts_1 ++ []
def dkwX1_restarts_0 : List UInt8 := [42, 43, 182, 0, 150, 43, 3, 181, 0, 184, 43, 4, 181, 0, 153, 43, 180, 0, 156, 182, 0, 101, 42, 43]
abbrev dktX1_restarts_0 : List UInt8 := dkwX1_restarts_0 ++ dktX1_restarts_1
theorem dksX1_restarts_0 : cX1_restarts.data.toList.drop 0 = dktX1_restarts_0 := by decide +kernel
theorem dksX1_restarts_1 : cX1_restarts.data.toList.drop 24 = dktX1_restarts_1 := dk_seg dksX1_restarts_0 24 rfl rfl
theorem dX1_restarts_0 : decode cX1_restarts 0 = .ok (.aload_n 0, 1) := dk_42 (dk_at dksX1_restarts_0 0 rfl rfl)
theorem dX1_restarts_1 : decode cX1_restarts 1 = .ok (.aload_n 1, 1) := dk_43 (dk_at dksX1_restarts_0 1 rfl rfl)
theorem dX1_restarts_2 : decode cX1_restarts 2 = .ok (.invokevirtual 150, 3) := dk_182 0 150 (dk_at dksX1_restarts_0 2 rfl rfl)
theorem dX1_restarts_5 : decode cX1_restarts 5 = .ok (.aload_n 1, 1) := dk_43 (dk_at dksX1_restarts_0 5 rfl rfl)
theorem dX1_restarts_6 : decode cX1_restarts 6 = .ok (.iconst 0, 1) := dk_3 (dk_at dksX1_restarts_0 6 rfl rfl)
theorem dX1_restarts_7 : decode cX1_restarts 7 = .ok (.putfield 184, 3) := dk_181 0 184 (dk_at dksX1_restarts_0 7 rfl rfl)
theorem dX1_restarts_10 : decode cX1_restarts 10 = .ok (.aload_n 1, 1) := dk_43 (dk_at dksX1_restarts_0 10 rfl rfl)
theorem dX1_restarts_11 : decode cX1_restarts 11 = .ok (.iconst 1, 1) := dk_4 (dk_at dksX1_restarts_0 11 rfl rfl)
theorem dX1_restarts_12 : decode cX1_restarts 12 = .ok (.putfield 153, 3) := dk_181 0 153 (dk_at dksX1_restarts_0 12 rfl rfl)
theorem dX1_restarts_15 : decode cX1_restarts 15 = .ok (.aload_n 1, 1) := dk_43 (dk_at dksX1_restarts_0 15 rfl rfl)
theorem dX1_restarts_16 : decode cX1_restarts 16 = .ok (.getfield 156, 3) := dk_180 0 156 (dk_at dksX1_restarts_0 16 rfl rfl)
theorem dX1_restarts_19 : decode cX1_restarts 19 = .ok (.invokevirtual 101, 3) := dk_182 0 101 (dk_at dksX1_restarts_0 19 rfl rfl)
theorem dX1_restarts_22 : decode cX1_restarts 22 = .ok (.aload_n 0, 1) := dk_42 (dk_at dksX1_restarts_0 22 rfl rfl)
theorem dX1_restarts_23 : decode cX1_restarts 23 = .ok (.aload_n 1, 1) := dk_43 (dk_at dksX1_restarts_0 23 rfl rfl)
theorem dX1_restarts_24 : decode cX1_restarts 24 = .ok (.invokevirtual 159, 3) := dk_182 0 159 (dk_at dksX1_restarts_1 0 rfl rfl)
theorem dX1_restarts_27 : decode cX1_restarts 27 = .ok (.aload_n 0, 1) := dk_42 (dk_at dksX1_restarts_1 3 rfl rfl)
theorem dX1_restarts_28 : decode cX1_restarts 28 = .ok (.aload_n 1, 1) := dk_43 (dk_at dksX1_restarts_1 4 rfl rfl)
theorem dX1_restarts_29 : decode cX1_restarts 29 = .ok (.invokevirtual 187, 3) := dk_182 0 187 (dk_at dksX1_restarts_1 5 rfl rfl)
theorem dX1_restarts_32 : decode cX1_restarts 32 = .ok (.aload_n 0, 1) := dk_42 (dk_at dksX1_restarts_1 8 rfl rfl)
theorem dX1_restarts_33 : decode cX1_restarts 33 = .ok (.dup, 1) := dk_89 (dk_at dksX1_restarts_1 9 rfl rfl)
theorem dX1_restarts_34 : decode cX1_restarts 34 = .ok (.getfield 190, 3) := dk_180 0 190 (dk_at dksX1_restarts_1 10 rfl rfl)
theorem dX1_restarts_37 : decode cX1_restarts 37 = .ok (.iconst 1, 1) := dk_4 (dk_at dksX1_restarts_1 13 rfl rfl)
theorem dX1_restarts_38 : decode cX1_restarts 38 = .ok (.aload_n 1, 1) := dk_43 (dk_at dksX1_restarts_1 14 rfl rfl)
theorem dX1_restarts_39 : decode cX1_restarts 39 = .ok (.getfield 143, 3) := dk_180 0 143 (dk_at dksX1_restarts_1 15 rfl rfl)
theorem dX1_restarts_42 : decode cX1_restarts 42 = .ok (.ishl, 1) := dk_120 (dk_at dksX1_restarts_1 18 rfl rfl)
theorem dX1_restarts_43 : decode cX1_restarts 43 = .ok (.ior, 1) := dk_128 (dk_at dksX1_restarts_1 19 rfl rfl)
theorem dX1_restarts_44 : decode cX1_restarts 44 = .ok (.putfield 190, 3) := dk_181 0 190 (dk_at dksX1_restarts_1 20 rfl rfl)
theorem dX1_restarts_47 : decode cX1_restarts 47 = .ok (.return_, 1) := dk_177 (dk_at dksX1_restarts_1 23 rfl rfl)
abbrev cX1_copy : ByteArray := prog_19_method_2_code
def yX1_copy : MethodName := ⟨RX1, "copy", "()LActorTrees$World;"⟩
def dkwX1_copy_5 : List UInt8 := [181, 0, 73, 43, 42, 180, 0, 76, 181, 0, 76, 43, 42, 180, 0, 80, 181, 0, 80, 43, 176]
abbrev dktX1_copy_5 : List UInt8 := dkwX1_copy_5 ++ []
def dkwX1_copy_4 : List UInt8 := [181, 0, 30, 42, 180, 0, 33, 3, 43, 180, 0, 33, 3, 16, 30, 184, 0, 67, 43, 42, 180, 0, 73]
abbrev dktX1_copy_4 : List UInt8 := dkwX1_copy_4 ++ dktX1_copy_5
def dkwX1_copy_3 : List UInt8 := [42, 180, 0, 60, 181, 0, 60, 43, 180, 0, 26, 42, 180, 0, 26, 182, 0, 63, 43, 42, 180, 0, 30]
abbrev dktX1_copy_3 : List UInt8 := dkwX1_copy_3 ++ dktX1_copy_4
def dkwX1_copy_2 : List UInt8 := [42, 180, 0, 17, 181, 0, 17, 43, 42, 180, 0, 54, 181, 0, 54, 43, 42, 180, 0, 57, 181, 0, 57, 43]
abbrev dktX1_copy_2 : List UInt8 := dkwX1_copy_2 ++ dktX1_copy_3
def dkwX1_copy_1 : List UInt8 := [180, 0, 11, 28, 50, 182, 0, 50, 83, 132, 2, 1, 167, 255, 230, 43, 42, 180, 0, 47, 181, 0, 47, 43]
abbrev dktX1_copy_1 : List UInt8 := dkwX1_copy_1 ++ dktX1_copy_2
def dkwX1_copy_0 : List UInt8 := [187, 0, 12, 89, 183, 0, 46, 76, 3, 61, 28, 42, 180, 0, 47, 162, 0, 24, 43, 180, 0, 11, 28, 42]
abbrev dktX1_copy_0 : List UInt8 := dkwX1_copy_0 ++ dktX1_copy_1
theorem dksX1_copy_0 : cX1_copy.data.toList.drop 0 = dktX1_copy_0 := by decide +kernel
theorem dksX1_copy_1 : cX1_copy.data.toList.drop 24 = dktX1_copy_1 := dk_seg dksX1_copy_0 24 rfl rfl
theorem dksX1_copy_2 : cX1_copy.data.toList.drop 48 = dktX1_copy_2 := dk_seg dksX1_copy_1 24 rfl rfl
theorem dksX1_copy_3 : cX1_copy.data.toList.drop 72 = dktX1_copy_3 := dk_seg dksX1_copy_2 24 rfl rfl
theorem dksX1_copy_4 : cX1_copy.data.toList.drop 95 = dktX1_copy_4 := dk_seg dksX1_copy_3 23 rfl rfl
theorem dksX1_copy_5 : cX1_copy.data.toList.drop 118 = dktX1_copy_5 := dk_seg dksX1_copy_4 23 rfl rfl
theorem dX1_copy_0 : decode cX1_copy 0 = .ok (.new 12, 3) := dk_187 0 12 (dk_at dksX1_copy_0 0 rfl rfl)
theorem dX1_copy_3 : decode cX1_copy 3 = .ok (.dup, 1) := dk_89 (dk_at dksX1_copy_0 3 rfl rfl)
theorem dX1_copy_4 : decode cX1_copy 4 = .ok (.invokespecial 46, 3) := dk_183 0 46 (dk_at dksX1_copy_0 4 rfl rfl)
theorem dX1_copy_7 : decode cX1_copy 7 = .ok (.astore_n 1, 1) := dk_76 (dk_at dksX1_copy_0 7 rfl rfl)
theorem dX1_copy_8 : decode cX1_copy 8 = .ok (.iconst 0, 1) := dk_3 (dk_at dksX1_copy_0 8 rfl rfl)
theorem dX1_copy_9 : decode cX1_copy 9 = .ok (.istore_n 2, 1) := dk_61 (dk_at dksX1_copy_0 9 rfl rfl)
theorem dX1_copy_10 : decode cX1_copy 10 = .ok (.iload_n 2, 1) := dk_28 (dk_at dksX1_copy_0 10 rfl rfl)
theorem dX1_copy_11 : decode cX1_copy 11 = .ok (.aload_n 0, 1) := dk_42 (dk_at dksX1_copy_0 11 rfl rfl)
theorem dX1_copy_12 : decode cX1_copy 12 = .ok (.getfield 47, 3) := dk_180 0 47 (dk_at dksX1_copy_0 12 rfl rfl)
theorem dX1_copy_15 : decode cX1_copy 15 = .ok (.if_icmp .ge 24, 3) := dk_162 0 24 (dk_at dksX1_copy_0 15 rfl rfl)
theorem dX1_copy_18 : decode cX1_copy 18 = .ok (.aload_n 1, 1) := dk_43 (dk_at dksX1_copy_0 18 rfl rfl)
theorem dX1_copy_19 : decode cX1_copy 19 = .ok (.getfield 11, 3) := dk_180 0 11 (dk_at dksX1_copy_0 19 rfl rfl)
theorem dX1_copy_22 : decode cX1_copy 22 = .ok (.iload_n 2, 1) := dk_28 (dk_at dksX1_copy_0 22 rfl rfl)
theorem dX1_copy_23 : decode cX1_copy 23 = .ok (.aload_n 0, 1) := dk_42 (dk_at dksX1_copy_0 23 rfl rfl)
theorem dX1_copy_24 : decode cX1_copy 24 = .ok (.getfield 11, 3) := dk_180 0 11 (dk_at dksX1_copy_1 0 rfl rfl)
theorem dX1_copy_27 : decode cX1_copy 27 = .ok (.iload_n 2, 1) := dk_28 (dk_at dksX1_copy_1 3 rfl rfl)
theorem dX1_copy_28 : decode cX1_copy 28 = .ok (.aaload, 1) := dk_50 (dk_at dksX1_copy_1 4 rfl rfl)
theorem dX1_copy_29 : decode cX1_copy 29 = .ok (.invokevirtual 50, 3) := dk_182 0 50 (dk_at dksX1_copy_1 5 rfl rfl)
theorem dX1_copy_32 : decode cX1_copy 32 = .ok (.aastore, 1) := dk_83 (dk_at dksX1_copy_1 8 rfl rfl)
theorem dX1_copy_33 : decode cX1_copy 33 = .ok (.iinc 2 1, 3) := dk_132 2 1 (dk_at dksX1_copy_1 9 rfl rfl)
theorem dX1_copy_36 : decode cX1_copy 36 = .ok (.goto (-26), 3) := dk_167 255 230 (dk_at dksX1_copy_1 12 rfl rfl)
theorem dX1_copy_39 : decode cX1_copy 39 = .ok (.aload_n 1, 1) := dk_43 (dk_at dksX1_copy_1 15 rfl rfl)
theorem dX1_copy_40 : decode cX1_copy 40 = .ok (.aload_n 0, 1) := dk_42 (dk_at dksX1_copy_1 16 rfl rfl)
theorem dX1_copy_41 : decode cX1_copy 41 = .ok (.getfield 47, 3) := dk_180 0 47 (dk_at dksX1_copy_1 17 rfl rfl)
theorem dX1_copy_44 : decode cX1_copy 44 = .ok (.putfield 47, 3) := dk_181 0 47 (dk_at dksX1_copy_1 20 rfl rfl)
theorem dX1_copy_47 : decode cX1_copy 47 = .ok (.aload_n 1, 1) := dk_43 (dk_at dksX1_copy_1 23 rfl rfl)
theorem dX1_copy_48 : decode cX1_copy 48 = .ok (.aload_n 0, 1) := dk_42 (dk_at dksX1_copy_2 0 rfl rfl)
theorem dX1_copy_49 : decode cX1_copy 49 = .ok (.getfield 17, 3) := dk_180 0 17 (dk_at dksX1_copy_2 1 rfl rfl)
theorem dX1_copy_52 : decode cX1_copy 52 = .ok (.putfield 17, 3) := dk_181 0 17 (dk_at dksX1_copy_2 4 rfl rfl)
theorem dX1_copy_55 : decode cX1_copy 55 = .ok (.aload_n 1, 1) := dk_43 (dk_at dksX1_copy_2 7 rfl rfl)
theorem dX1_copy_56 : decode cX1_copy 56 = .ok (.aload_n 0, 1) := dk_42 (dk_at dksX1_copy_2 8 rfl rfl)
theorem dX1_copy_57 : decode cX1_copy 57 = .ok (.getfield 54, 3) := dk_180 0 54 (dk_at dksX1_copy_2 9 rfl rfl)
theorem dX1_copy_60 : decode cX1_copy 60 = .ok (.putfield 54, 3) := dk_181 0 54 (dk_at dksX1_copy_2 12 rfl rfl)
theorem dX1_copy_63 : decode cX1_copy 63 = .ok (.aload_n 1, 1) := dk_43 (dk_at dksX1_copy_2 15 rfl rfl)
theorem dX1_copy_64 : decode cX1_copy 64 = .ok (.aload_n 0, 1) := dk_42 (dk_at dksX1_copy_2 16 rfl rfl)
theorem dX1_copy_65 : decode cX1_copy 65 = .ok (.getfield 57, 3) := dk_180 0 57 (dk_at dksX1_copy_2 17 rfl rfl)
theorem dX1_copy_68 : decode cX1_copy 68 = .ok (.putfield 57, 3) := dk_181 0 57 (dk_at dksX1_copy_2 20 rfl rfl)
theorem dX1_copy_71 : decode cX1_copy 71 = .ok (.aload_n 1, 1) := dk_43 (dk_at dksX1_copy_2 23 rfl rfl)
theorem dX1_copy_72 : decode cX1_copy 72 = .ok (.aload_n 0, 1) := dk_42 (dk_at dksX1_copy_3 0 rfl rfl)
theorem dX1_copy_73 : decode cX1_copy 73 = .ok (.getfield 60, 3) := dk_180 0 60 (dk_at dksX1_copy_3 1 rfl rfl)
theorem dX1_copy_76 : decode cX1_copy 76 = .ok (.putfield 60, 3) := dk_181 0 60 (dk_at dksX1_copy_3 4 rfl rfl)
theorem dX1_copy_79 : decode cX1_copy 79 = .ok (.aload_n 1, 1) := dk_43 (dk_at dksX1_copy_3 7 rfl rfl)
theorem dX1_copy_80 : decode cX1_copy 80 = .ok (.getfield 26, 3) := dk_180 0 26 (dk_at dksX1_copy_3 8 rfl rfl)
theorem dX1_copy_83 : decode cX1_copy 83 = .ok (.aload_n 0, 1) := dk_42 (dk_at dksX1_copy_3 11 rfl rfl)
theorem dX1_copy_84 : decode cX1_copy 84 = .ok (.getfield 26, 3) := dk_180 0 26 (dk_at dksX1_copy_3 12 rfl rfl)
theorem dX1_copy_87 : decode cX1_copy 87 = .ok (.invokevirtual 63, 3) := dk_182 0 63 (dk_at dksX1_copy_3 15 rfl rfl)
theorem dX1_copy_90 : decode cX1_copy 90 = .ok (.aload_n 1, 1) := dk_43 (dk_at dksX1_copy_3 18 rfl rfl)
theorem dX1_copy_91 : decode cX1_copy 91 = .ok (.aload_n 0, 1) := dk_42 (dk_at dksX1_copy_3 19 rfl rfl)
theorem dX1_copy_92 : decode cX1_copy 92 = .ok (.getfield 30, 3) := dk_180 0 30 (dk_at dksX1_copy_3 20 rfl rfl)
theorem dX1_copy_95 : decode cX1_copy 95 = .ok (.putfield 30, 3) := dk_181 0 30 (dk_at dksX1_copy_4 0 rfl rfl)
theorem dX1_copy_98 : decode cX1_copy 98 = .ok (.aload_n 0, 1) := dk_42 (dk_at dksX1_copy_4 3 rfl rfl)
theorem dX1_copy_99 : decode cX1_copy 99 = .ok (.getfield 33, 3) := dk_180 0 33 (dk_at dksX1_copy_4 4 rfl rfl)
theorem dX1_copy_102 : decode cX1_copy 102 = .ok (.iconst 0, 1) := dk_3 (dk_at dksX1_copy_4 7 rfl rfl)
theorem dX1_copy_103 : decode cX1_copy 103 = .ok (.aload_n 1, 1) := dk_43 (dk_at dksX1_copy_4 8 rfl rfl)
theorem dX1_copy_104 : decode cX1_copy 104 = .ok (.getfield 33, 3) := dk_180 0 33 (dk_at dksX1_copy_4 9 rfl rfl)
theorem dX1_copy_107 : decode cX1_copy 107 = .ok (.iconst 0, 1) := dk_3 (dk_at dksX1_copy_4 12 rfl rfl)
theorem dX1_copy_108 : decode cX1_copy 108 = .ok (.bipush 30, 2) := dk_16 30 (dk_at dksX1_copy_4 13 rfl rfl)
theorem dX1_copy_110 : decode cX1_copy 110 = .ok (.invokestatic 67, 3) := dk_184 0 67 (dk_at dksX1_copy_4 15 rfl rfl)
theorem dX1_copy_113 : decode cX1_copy 113 = .ok (.aload_n 1, 1) := dk_43 (dk_at dksX1_copy_4 18 rfl rfl)
theorem dX1_copy_114 : decode cX1_copy 114 = .ok (.aload_n 0, 1) := dk_42 (dk_at dksX1_copy_4 19 rfl rfl)
theorem dX1_copy_115 : decode cX1_copy 115 = .ok (.getfield 73, 3) := dk_180 0 73 (dk_at dksX1_copy_4 20 rfl rfl)
theorem dX1_copy_118 : decode cX1_copy 118 = .ok (.putfield 73, 3) := dk_181 0 73 (dk_at dksX1_copy_5 0 rfl rfl)
theorem dX1_copy_121 : decode cX1_copy 121 = .ok (.aload_n 1, 1) := dk_43 (dk_at dksX1_copy_5 3 rfl rfl)
theorem dX1_copy_122 : decode cX1_copy 122 = .ok (.aload_n 0, 1) := dk_42 (dk_at dksX1_copy_5 4 rfl rfl)
theorem dX1_copy_123 : decode cX1_copy 123 = .ok (.getfield 76, 3) := dk_180 0 76 (dk_at dksX1_copy_5 5 rfl rfl)
theorem dX1_copy_126 : decode cX1_copy 126 = .ok (.putfield 76, 3) := dk_181 0 76 (dk_at dksX1_copy_5 8 rfl rfl)
theorem dX1_copy_129 : decode cX1_copy 129 = .ok (.aload_n 1, 1) := dk_43 (dk_at dksX1_copy_5 11 rfl rfl)
theorem dX1_copy_130 : decode cX1_copy 130 = .ok (.aload_n 0, 1) := dk_42 (dk_at dksX1_copy_5 12 rfl rfl)
theorem dX1_copy_131 : decode cX1_copy 131 = .ok (.getfield 80, 3) := dk_180 0 80 (dk_at dksX1_copy_5 13 rfl rfl)
theorem dX1_copy_134 : decode cX1_copy 134 = .ok (.putfield 80, 3) := dk_181 0 80 (dk_at dksX1_copy_5 16 rfl rfl)
theorem dX1_copy_137 : decode cX1_copy 137 = .ok (.aload_n 1, 1) := dk_43 (dk_at dksX1_copy_5 19 rfl rfl)
theorem dX1_copy_138 : decode cX1_copy 138 = .ok (.areturn, 1) := dk_176 (dk_at dksX1_copy_5 20 rfl rfl)
abbrev cX1_mails : ByteArray := prog_19_method_22_code
def yX1_mails : MethodName := ⟨RX1, "mails", "()I"⟩
def dkwX1_mails_1 : List UInt8 := [180, 0, 104, 96, 60, 132, 2, 1, 167, 255, 230, 27, 172]
abbrev dktX1_mails_1 : List UInt8 := dkwX1_mails_1 ++ []
def dkwX1_mails_0 : List UInt8 := [3, 60, 3, 61, 28, 42, 180, 0, 47, 162, 0, 24, 27, 42, 180, 0, 11, 28, 50, 180, 0, 87]
abbrev dktX1_mails_0 : List UInt8 := dkwX1_mails_0 ++ dktX1_mails_1
theorem dksX1_mails_0 : cX1_mails.data.toList.drop 0 = dktX1_mails_0 := by decide +kernel
theorem dksX1_mails_1 : cX1_mails.data.toList.drop 22 = dktX1_mails_1 := dk_seg dksX1_mails_0 22 rfl rfl
theorem dX1_mails_0 : decode cX1_mails 0 = .ok (.iconst 0, 1) := dk_3 (dk_at dksX1_mails_0 0 rfl rfl)
theorem dX1_mails_1 : decode cX1_mails 1 = .ok (.istore_n 1, 1) := dk_60 (dk_at dksX1_mails_0 1 rfl rfl)
theorem dX1_mails_2 : decode cX1_mails 2 = .ok (.iconst 0, 1) := dk_3 (dk_at dksX1_mails_0 2 rfl rfl)
theorem dX1_mails_3 : decode cX1_mails 3 = .ok (.istore_n 2, 1) := dk_61 (dk_at dksX1_mails_0 3 rfl rfl)
theorem dX1_mails_4 : decode cX1_mails 4 = .ok (.iload_n 2, 1) := dk_28 (dk_at dksX1_mails_0 4 rfl rfl)
theorem dX1_mails_5 : decode cX1_mails 5 = .ok (.aload_n 0, 1) := dk_42 (dk_at dksX1_mails_0 5 rfl rfl)
theorem dX1_mails_6 : decode cX1_mails 6 = .ok (.getfield 47, 3) := dk_180 0 47 (dk_at dksX1_mails_0 6 rfl rfl)
theorem dX1_mails_9 : decode cX1_mails 9 = .ok (.if_icmp .ge 24, 3) := dk_162 0 24 (dk_at dksX1_mails_0 9 rfl rfl)
theorem dX1_mails_12 : decode cX1_mails 12 = .ok (.iload_n 1, 1) := dk_27 (dk_at dksX1_mails_0 12 rfl rfl)
theorem dX1_mails_13 : decode cX1_mails 13 = .ok (.aload_n 0, 1) := dk_42 (dk_at dksX1_mails_0 13 rfl rfl)
theorem dX1_mails_14 : decode cX1_mails 14 = .ok (.getfield 11, 3) := dk_180 0 11 (dk_at dksX1_mails_0 14 rfl rfl)
theorem dX1_mails_17 : decode cX1_mails 17 = .ok (.iload_n 2, 1) := dk_28 (dk_at dksX1_mails_0 17 rfl rfl)
theorem dX1_mails_18 : decode cX1_mails 18 = .ok (.aaload, 1) := dk_50 (dk_at dksX1_mails_0 18 rfl rfl)
theorem dX1_mails_19 : decode cX1_mails 19 = .ok (.getfield 87, 3) := dk_180 0 87 (dk_at dksX1_mails_0 19 rfl rfl)
theorem dX1_mails_22 : decode cX1_mails 22 = .ok (.getfield 104, 3) := dk_180 0 104 (dk_at dksX1_mails_1 0 rfl rfl)
theorem dX1_mails_25 : decode cX1_mails 25 = .ok (.iadd, 1) := dk_96 (dk_at dksX1_mails_1 3 rfl rfl)
theorem dX1_mails_26 : decode cX1_mails 26 = .ok (.istore_n 1, 1) := dk_60 (dk_at dksX1_mails_1 4 rfl rfl)
theorem dX1_mails_27 : decode cX1_mails 27 = .ok (.iinc 2 1, 3) := dk_132 2 1 (dk_at dksX1_mails_1 5 rfl rfl)
theorem dX1_mails_30 : decode cX1_mails 30 = .ok (.goto (-26), 3) := dk_167 255 230 (dk_at dksX1_mails_1 8 rfl rfl)
theorem dX1_mails_33 : decode cX1_mails 33 = .ok (.iload_n 1, 1) := dk_27 (dk_at dksX1_mails_1 11 rfl rfl)
theorem dX1_mails_34 : decode cX1_mails 34 = .ok (.ireturn, 1) := dk_172 (dk_at dksX1_mails_1 12 rfl rfl)
theorem q75 : (Jvm.Cond.initialized "ActorTrees$World") ∈ lw_all := lw_g (lw_at lw_m1 2 rfl) rfl
theorem q116 : (Jvm.Cond.instantiable "ActorTrees$World" (15 : Nat)) ∈ lw_all := lw_g (lw_at lw_m1 43 rfl) rfl
theorem q118 : (Jvm.Cond.instanceMethod ({ cls := "ActorTrees$World", name := "<init>", desc := "()V" } : Jvm.MethodName)) ∈ lw_all := lw_g (lw_at lw_m1 45 rfl) rfl
theorem q119 : (Jvm.Cond.code ({ cls := "ActorTrees$World", name := "<init>", desc := "()V" } : Jvm.MethodName) prog_19_method_1_code (1 : Nat) (Option.none : Option Jvm.ClassFile.FieldType)) ∈ lw_all := lw_g (lw_at lw_m1 46 rfl) rfl
theorem q120 : (Jvm.Cond.methodLink "ActorTrees$World" (3 : Nat) ({ cls := "java/lang/Object", name := "<init>", desc := "()V" } : Jvm.MethodName)) ∈ lw_all := lw_g (lw_at lw_m1 47 rfl) rfl
theorem q121 : (Jvm.Cond.classLink "ActorTrees$World" (9 : Nat) "ActorTrees$Actor") ∈ lw_all := lw_g (lw_at lw_m1 48 rfl) rfl
theorem q123 : (Jvm.Cond.classLink "ActorTrees$World" (21 : Nat) "ActorTrees$Queue") ∈ lw_all := lw_g (lw_at lw_m1 50 rfl) rfl
theorem q125 : (Jvm.Cond.methodLink "ActorTrees$World" (23 : Nat) ({ cls := "ActorTrees$Queue", name := "<init>", desc := "(I)V" } : Jvm.MethodName)) ∈ lw_all := lw_g (lw_at lw_m1 52 rfl) rfl
theorem q135 : (Jvm.Cond.fieldLinkNest "ActorTrees$World" (104 : Nat) "ActorTrees$Queue" "many" "I" "ActorTrees") ∈ lw_tbl := lw_at lw_m1 62 rfl
theorem q147 : (Jvm.Cond.classLink "ActorTrees$World" (37 : Nat) "ActorTrees$World$Deeds") ∈ lw_all := lw_g (lw_at lw_m1 74 rfl) rfl
theorem q149 : (Jvm.Cond.methodLinkNest "ActorTrees$World" (39 : Nat) ({ cls := "ActorTrees$World$Deeds", name := "<init>", desc := "(LActorTrees$World;)V" } : Jvm.MethodName) "ActorTrees") ∈ lw_tbl := lw_at lw_m1 76 rfl
theorem q158 : (Jvm.Cond.fieldLink "ActorTrees$World" (11 : Nat) "ActorTrees$World" "actors" "[LActorTrees$Actor;") ∈ lw_all := lw_g (lw_at lw_m1 85 rfl) rfl
theorem q162 : (Jvm.Cond.fieldLink "ActorTrees$World" (47 : Nat) "ActorTrees$World" "many" "I") ∈ lw_all := lw_g (lw_at lw_m1 89 rfl) rfl
theorem q166 : (Jvm.Cond.fieldLink "ActorTrees$World" (17 : Nat) "ActorTrees$World" "latest" "I") ∈ lw_all := lw_g (lw_at lw_m1 93 rfl) rfl
theorem q167 : (Jvm.Cond.fieldLink "ActorTrees$World" (54 : Nat) "ActorTrees$World" "clock" "I") ∈ lw_all := lw_g (lw_at lw_m1 94 rfl) rfl
theorem q169 : (Jvm.Cond.fieldLink "ActorTrees$World" (57 : Nat) "ActorTrees$World" "time" "I") ∈ lw_all := lw_g (lw_at lw_m1 96 rfl) rfl
theorem q172 : (Jvm.Cond.fieldLink "ActorTrees$World" (60 : Nat) "ActorTrees$World" "dead" "I") ∈ lw_all := lw_g (lw_at lw_m1 99 rfl) rfl
theorem q174 : (Jvm.Cond.fieldLink "ActorTrees$World" (26 : Nat) "ActorTrees$World" "timers" "LActorTrees$Queue;") ∈ lw_all := lw_g (lw_at lw_m1 101 rfl) rfl
theorem q176 : (Jvm.Cond.fieldLink "ActorTrees$World" (30 : Nat) "ActorTrees$World" "seed" "I") ∈ lw_all := lw_g (lw_at lw_m1 103 rfl) rfl
theorem q178 : (Jvm.Cond.fieldLink "ActorTrees$World" (33 : Nat) "ActorTrees$World" "log" "[I") ∈ lw_all := lw_g (lw_at lw_m1 105 rfl) rfl
theorem q180 : (Jvm.Cond.fieldLink "ActorTrees$World" (73 : Nat) "ActorTrees$World" "logged" "I") ∈ lw_all := lw_g (lw_at lw_m1 107 rfl) rfl
theorem q182 : (Jvm.Cond.fieldLink "ActorTrees$World" (76 : Nat) "ActorTrees$World" "failure" "LActorTrees$Failure;") ∈ lw_all := lw_g (lw_at lw_m1 109 rfl) rfl
theorem q184 : (Jvm.Cond.fieldLink "ActorTrees$World" (221 : Nat) "ActorTrees$World" "failures" "I") ∈ lw_all := lw_g (lw_at lw_m1 111 rfl) rfl
theorem q186 : (Jvm.Cond.fieldLink "ActorTrees$World" (190 : Nat) "ActorTrees$World" "restarted" "I") ∈ lw_all := lw_g (lw_at lw_m1 113 rfl) rfl
theorem q188 : (Jvm.Cond.fieldLink "ActorTrees$World" (80 : Nat) "ActorTrees$World" "ended" "I") ∈ lw_all := lw_g (lw_at lw_m1 115 rfl) rfl
theorem q190 : (Jvm.Cond.fieldLink "ActorTrees$World" (42 : Nat) "ActorTrees$World" "deeds" "LActorTrees$World$Deeds;") ∈ lw_all := lw_g (lw_at lw_m1 117 rfl) rfl
theorem q191 : (Jvm.Cond.laysFinal "ActorTrees$World" "ActorTrees$World" "actors" "[LActorTrees$Actor;") ∈ lw_all := lw_g (lw_at lw_m1 118 rfl) rfl
theorem q192 : (Jvm.Cond.soleField "ActorTrees$World" "actors") ∈ lw_all := lw_g (lw_at lw_m1 119 rfl) rfl
theorem q193 : (Jvm.Cond.lays "ActorTrees$World" "ActorTrees$World" "many" "I") ∈ lw_all := lw_g (lw_at lw_m1 120 rfl) rfl
theorem q194 : (Jvm.Cond.soleField "ActorTrees$World" "many") ∈ lw_all := lw_g (lw_at lw_m1 121 rfl) rfl
theorem q195 : (Jvm.Cond.lays "ActorTrees$World" "ActorTrees$World" "latest" "I") ∈ lw_all := lw_g (lw_at lw_m1 122 rfl) rfl
theorem q196 : (Jvm.Cond.soleField "ActorTrees$World" "latest") ∈ lw_all := lw_g (lw_at lw_m1 123 rfl) rfl
theorem q197 : (Jvm.Cond.lays "ActorTrees$World" "ActorTrees$World" "clock" "I") ∈ lw_all := lw_g (lw_at lw_m1 124 rfl) rfl
theorem q198 : (Jvm.Cond.soleField "ActorTrees$World" "clock") ∈ lw_all := lw_g (lw_at lw_m1 125 rfl) rfl
theorem q199 : (Jvm.Cond.lays "ActorTrees$World" "ActorTrees$World" "time" "I") ∈ lw_all := lw_g (lw_at lw_m1 126 rfl) rfl
theorem q200 : (Jvm.Cond.soleField "ActorTrees$World" "time") ∈ lw_all := lw_g (lw_at lw_m1 127 rfl) rfl
theorem q201 : (Jvm.Cond.lays "ActorTrees$World" "ActorTrees$World" "dead" "I") ∈ lw_all := lw_g (lw_at lw_m1 128 rfl) rfl
theorem q202 : (Jvm.Cond.soleField "ActorTrees$World" "dead") ∈ lw_all := lw_g (lw_at lw_m1 129 rfl) rfl
theorem q203 : (Jvm.Cond.laysFinal "ActorTrees$World" "ActorTrees$World" "timers" "LActorTrees$Queue;") ∈ lw_all := lw_g (lw_at lw_m1 130 rfl) rfl
theorem q204 : (Jvm.Cond.soleField "ActorTrees$World" "timers") ∈ lw_all := lw_g (lw_at lw_m1 131 rfl) rfl
theorem q205 : (Jvm.Cond.lays "ActorTrees$World" "ActorTrees$World" "seed" "I") ∈ lw_all := lw_g (lw_at lw_m1 132 rfl) rfl
theorem q206 : (Jvm.Cond.soleField "ActorTrees$World" "seed") ∈ lw_all := lw_g (lw_at lw_m1 133 rfl) rfl
theorem q207 : (Jvm.Cond.laysFinal "ActorTrees$World" "ActorTrees$World" "log" "[I") ∈ lw_all := lw_g (lw_at lw_m1 134 rfl) rfl
theorem q208 : (Jvm.Cond.soleField "ActorTrees$World" "log") ∈ lw_all := lw_g (lw_at lw_m1 135 rfl) rfl
theorem q209 : (Jvm.Cond.lays "ActorTrees$World" "ActorTrees$World" "logged" "I") ∈ lw_all := lw_g (lw_at lw_m1 136 rfl) rfl
theorem q210 : (Jvm.Cond.soleField "ActorTrees$World" "logged") ∈ lw_all := lw_g (lw_at lw_m1 137 rfl) rfl
theorem q211 : (Jvm.Cond.lays "ActorTrees$World" "ActorTrees$World" "failure" "LActorTrees$Failure;") ∈ lw_all := lw_g (lw_at lw_m1 138 rfl) rfl
theorem q212 : (Jvm.Cond.soleField "ActorTrees$World" "failure") ∈ lw_all := lw_g (lw_at lw_m1 139 rfl) rfl
theorem q213 : (Jvm.Cond.lays "ActorTrees$World" "ActorTrees$World" "failures" "I") ∈ lw_all := lw_g (lw_at lw_m1 140 rfl) rfl
theorem q214 : (Jvm.Cond.soleField "ActorTrees$World" "failures") ∈ lw_all := lw_g (lw_at lw_m1 141 rfl) rfl
theorem q215 : (Jvm.Cond.lays "ActorTrees$World" "ActorTrees$World" "restarted" "I") ∈ lw_all := lw_g (lw_at lw_m1 142 rfl) rfl
theorem q216 : (Jvm.Cond.soleField "ActorTrees$World" "restarted") ∈ lw_all := lw_g (lw_at lw_m1 143 rfl) rfl
theorem q217 : (Jvm.Cond.lays "ActorTrees$World" "ActorTrees$World" "ended" "I") ∈ lw_all := lw_g (lw_at lw_m1 144 rfl) rfl
theorem q218 : (Jvm.Cond.soleField "ActorTrees$World" "ended") ∈ lw_all := lw_g (lw_at lw_m1 145 rfl) rfl
theorem q219 : (Jvm.Cond.laysFinal "ActorTrees$World" "ActorTrees$World" "deeds" "LActorTrees$World$Deeds;") ∈ lw_all := lw_g (lw_at lw_m1 146 rfl) rfl
theorem q220 : (Jvm.Cond.soleField "ActorTrees$World" "deeds") ∈ lw_all := lw_g (lw_at lw_m1 147 rfl) rfl
theorem q221 : (Jvm.Cond.superclass "ActorTrees$World" "java/lang/Object") ∈ lw_all := lw_g (lw_at lw_m1 148 rfl) rfl
theorem q246 : (Jvm.Cond.instanceMethod ({ cls := "ActorTrees$World", name := "bars", desc := "(IIIII)I" } : Jvm.MethodName)) ∈ lw_all := lw_g (lw_at lw_m1 173 rfl) rfl
theorem q247 : (Jvm.Cond.selects "ActorTrees$World" ({ cls := "ActorTrees$World", name := "bars", desc := "(IIIII)I" } : Jvm.MethodName) ({ cls := "ActorTrees$World", name := "bars", desc := "(IIIII)I" } : Jvm.MethodName)) ∈ lw_all := lw_g (lw_at lw_m1 174 rfl) rfl
theorem q248 : (Jvm.Cond.code ({ cls := "ActorTrees$World", name := "bars", desc := "(IIIII)I" } : Jvm.MethodName) prog_19_method_25_code (7 : Nat) (Option.some Jvm.ClassFile.FieldType.int)) ∈ lw_all := lw_g (lw_at lw_m1 175 rfl) rfl
theorem q249 : (Jvm.Cond.methodLinkNest "ActorTrees$World" (299 : Nat) ({ cls := "ActorTrees", name := "within", desc := "(III)Z" } : Jvm.MethodName) "ActorTrees") ∈ lw_tbl := lw_at lw_m1 176 rfl
theorem q253 : (Jvm.Cond.instanceMethod ({ cls := "ActorTrees$World", name := "comes", desc := "(IIIII)I" } : Jvm.MethodName)) ∈ lw_all := lw_g (lw_at lw_m1 180 rfl) rfl
theorem q254 : (Jvm.Cond.selects "ActorTrees$World" ({ cls := "ActorTrees$World", name := "comes", desc := "(IIIII)I" } : Jvm.MethodName) ({ cls := "ActorTrees$World", name := "comes", desc := "(IIIII)I" } : Jvm.MethodName)) ∈ lw_all := lw_g (lw_at lw_m1 181 rfl) rfl
theorem q255 : (Jvm.Cond.code ({ cls := "ActorTrees$World", name := "comes", desc := "(IIIII)I" } : Jvm.MethodName) prog_19_method_24_code (6 : Nat) (Option.some Jvm.ClassFile.FieldType.int)) ∈ lw_all := lw_g (lw_at lw_m1 182 rfl) rfl
theorem q257 : (Jvm.Cond.methodLink "ActorTrees$World" (296 : Nat) ({ cls := "ActorTrees$Actor", name := "<init>", desc := "(IIIIII)V" } : Jvm.MethodName)) ∈ lw_all := lw_g (lw_at lw_m1 184 rfl) rfl
theorem q283 : (Jvm.Cond.fieldLinkNest "ActorTrees$World" (143 : Nat) "ActorTrees$Actor" "number" "I" "ActorTrees") ∈ lw_tbl := lw_at lw_m1 210 rfl
theorem q287 : (Jvm.Cond.fieldLinkNest "ActorTrees$World" (140 : Nat) "ActorTrees$Actor" "parent" "I" "ActorTrees") ∈ lw_tbl := lw_at lw_m1 214 rfl
theorem q293 : (Jvm.Cond.fieldLinkNest "ActorTrees$World" (209 : Nat) "ActorTrees$Actor" "how" "LActorTrees$Strategy;" "ActorTrees") ∈ lw_tbl := lw_at lw_m1 220 rfl
theorem q296 : (Jvm.Cond.fieldLinkNest "ActorTrees$World" (203 : Nat) "ActorTrees$Actor" "budget" "I" "ActorTrees") ∈ lw_tbl := lw_at lw_m1 223 rfl
theorem q300 : (Jvm.Cond.fieldLinkNest "ActorTrees$World" (83 : Nat) "ActorTrees$Actor" "live" "Z" "ActorTrees") ∈ lw_tbl := lw_at lw_m1 227 rfl
theorem q306 : (Jvm.Cond.fieldLinkNest "ActorTrees$World" (184 : Nat) "ActorTrees$Actor" "count" "I" "ActorTrees") ∈ lw_tbl := lw_at lw_m1 233 rfl
theorem q311 : (Jvm.Cond.fieldLinkNest "ActorTrees$World" (153 : Nat) "ActorTrees$Actor" "stacked" "I" "ActorTrees") ∈ lw_tbl := lw_at lw_m1 238 rfl
theorem q313 : (Jvm.Cond.fieldLinkNest "ActorTrees$World" (87 : Nat) "ActorTrees$Actor" "mails" "LActorTrees$Queue;" "ActorTrees") ∈ lw_tbl := lw_at lw_m2 0 rfl
theorem q316 : (Jvm.Cond.fieldLinkNest "ActorTrees$World" (94 : Nat) "ActorTrees$Actor" "stash" "LActorTrees$Queue;" "ActorTrees") ∈ lw_tbl := lw_at lw_m2 3 rfl
theorem q320 : (Jvm.Cond.fieldLinkNest "ActorTrees$World" (165 : Nat) "ActorTrees$Actor" "watchers" "LActorTrees$Queue;" "ActorTrees") ∈ lw_tbl := lw_at lw_m2 7 rfl
theorem q323 : (Jvm.Cond.fieldLinkNest "ActorTrees$World" (156 : Nat) "ActorTrees$Actor" "noted" "LActorTrees$Queue;" "ActorTrees") ∈ lw_tbl := lw_at lw_m2 10 rfl
theorem q326 : (Jvm.Cond.fieldLinkNest "ActorTrees$World" (113 : Nat) "ActorTrees$Actor" "isOwnTimer" "LActorTrees$Test;" "ActorTrees") ∈ lw_tbl := lw_at lw_m2 13 rfl
theorem q391 : (Jvm.Cond.instanceMethod ({ cls := "ActorTrees$World", name := "sends", desc := "(LActorTrees$Actor;LActorTrees$Message;)Z" } : Jvm.MethodName)) ∈ lw_all := lw_g (lw_at lw_m2 78 rfl) rfl
theorem q392 : (Jvm.Cond.selects "ActorTrees$World" ({ cls := "ActorTrees$World", name := "sends", desc := "(LActorTrees$Actor;LActorTrees$Message;)Z" } : Jvm.MethodName) ({ cls := "ActorTrees$World", name := "sends", desc := "(LActorTrees$Actor;LActorTrees$Message;)Z" } : Jvm.MethodName)) ∈ lw_all := lw_g (lw_at lw_m2 79 rfl) rfl
theorem q393 : (Jvm.Cond.code ({ cls := "ActorTrees$World", name := "sends", desc := "(LActorTrees$Actor;LActorTrees$Message;)Z" } : Jvm.MethodName) prog_19_method_4_code (3 : Nat) (Option.some Jvm.ClassFile.FieldType.boolean)) ∈ lw_all := lw_g (lw_at lw_m2 80 rfl) rfl
theorem q394 : (Jvm.Cond.methodLink "ActorTrees$World" (90 : Nat) ({ cls := "ActorTrees$Queue", name := "puts", desc := "(Ljava/lang/Object;)Z" } : Jvm.MethodName)) ∈ lw_all := lw_g (lw_at lw_m2 81 rfl) rfl
theorem q431 : (Jvm.Cond.instanceMethod ({ cls := "ActorTrees$World", name := "timersOf", desc := "(I)I" } : Jvm.MethodName)) ∈ lw_all := lw_g (lw_at lw_m2 118 rfl) rfl
theorem q432 : (Jvm.Cond.selects "ActorTrees$World" ({ cls := "ActorTrees$World", name := "timersOf", desc := "(I)I" } : Jvm.MethodName) ({ cls := "ActorTrees$World", name := "timersOf", desc := "(I)I" } : Jvm.MethodName)) ∈ lw_all := lw_g (lw_at lw_m2 119 rfl) rfl
theorem q433 : (Jvm.Cond.code ({ cls := "ActorTrees$World", name := "timersOf", desc := "(I)I" } : Jvm.MethodName) prog_19_method_8_code (5 : Nat) (Option.some Jvm.ClassFile.FieldType.int)) ∈ lw_all := lw_g (lw_at lw_m2 120 rfl) rfl
theorem q434 : (Jvm.Cond.methodLink "ActorTrees$World" (121 : Nat) ({ cls := "ActorTrees$Queue", name := "iterator", desc := "()Ljava/util/Iterator;" } : Jvm.MethodName)) ∈ lw_all := lw_g (lw_at lw_m2 121 rfl) rfl
theorem q451 : (Jvm.Cond.interfaceEntry "ActorTrees$World" (125 : Nat)) ∈ lw_tbl := lw_at lw_m2 138 rfl
theorem q452 : (Jvm.Cond.methodLink "ActorTrees$World" (125 : Nat) ({ cls := "java/util/Iterator", name := "hasNext", desc := "()Z" } : Jvm.MethodName)) ∈ lw_all := lw_g (lw_at lw_m2 139 rfl) rfl
theorem q461 : (Jvm.Cond.interfaceEntry "ActorTrees$World" (131 : Nat)) ∈ lw_tbl := lw_at lw_m2 148 rfl
theorem q462 : (Jvm.Cond.methodLink "ActorTrees$World" (131 : Nat) ({ cls := "java/util/Iterator", name := "next", desc := "()Ljava/lang/Object;" } : Jvm.MethodName)) ∈ lw_all := lw_g (lw_at lw_m2 149 rfl) rfl
theorem q470 : (Jvm.Cond.classLink "ActorTrees$World" (135 : Nat) "ActorTrees$Timer") ∈ lw_all := lw_g (lw_at lw_m2 157 rfl) rfl
theorem q482 : (Jvm.Cond.instanceMethod ({ cls := "ActorTrees$World", name := "childrenOf", desc := "(I)I" } : Jvm.MethodName)) ∈ lw_all := lw_g (lw_at lw_m2 169 rfl) rfl
theorem q483 : (Jvm.Cond.selects "ActorTrees$World" ({ cls := "ActorTrees$World", name := "childrenOf", desc := "(I)I" } : Jvm.MethodName) ({ cls := "ActorTrees$World", name := "childrenOf", desc := "(I)I" } : Jvm.MethodName)) ∈ lw_all := lw_g (lw_at lw_m2 170 rfl) rfl
theorem q484 : (Jvm.Cond.code ({ cls := "ActorTrees$World", name := "childrenOf", desc := "(I)I" } : Jvm.MethodName) prog_19_method_23_code (4 : Nat) (Option.some Jvm.ClassFile.FieldType.int)) ∈ lw_all := lw_g (lw_at lw_m2 171 rfl) rfl
theorem q627 : (Jvm.Cond.instanceMethod ({ cls := "ActorTrees$World", name := "liveOnes", desc := "()I" } : Jvm.MethodName)) ∈ lw_all := lw_g (lw_at lw_m3 74 rfl) rfl
theorem q628 : (Jvm.Cond.selects "ActorTrees$World" ({ cls := "ActorTrees$World", name := "liveOnes", desc := "()I" } : Jvm.MethodName) ({ cls := "ActorTrees$World", name := "liveOnes", desc := "()I" } : Jvm.MethodName)) ∈ lw_all := lw_g (lw_at lw_m3 75 rfl) rfl
theorem q629 : (Jvm.Cond.code ({ cls := "ActorTrees$World", name := "liveOnes", desc := "()I" } : Jvm.MethodName) prog_19_method_21_code (3 : Nat) (Option.some Jvm.ClassFile.FieldType.int)) ∈ lw_all := lw_g (lw_at lw_m3 76 rfl) rfl
theorem q637 : (Jvm.Cond.instanceMethod ({ cls := "ActorTrees$World", name := "stops", desc := "(LActorTrees$Actor;)V" } : Jvm.MethodName)) ∈ lw_all := lw_g (lw_at lw_m3 84 rfl) rfl
theorem q638 : (Jvm.Cond.selects "ActorTrees$World" ({ cls := "ActorTrees$World", name := "stops", desc := "(LActorTrees$Actor;)V" } : Jvm.MethodName) ({ cls := "ActorTrees$World", name := "stops", desc := "(LActorTrees$Actor;)V" } : Jvm.MethodName)) ∈ lw_all := lw_g (lw_at lw_m3 85 rfl) rfl
theorem q639 : (Jvm.Cond.code ({ cls := "ActorTrees$World", name := "stops", desc := "(LActorTrees$Actor;)V" } : Jvm.MethodName) prog_19_method_10_code (3 : Nat) (Option.none : Option Jvm.ClassFile.FieldType)) ∈ lw_all := lw_g (lw_at lw_m3 86 rfl) rfl
theorem q640 : (Jvm.Cond.methodLink "ActorTrees$World" (150 : Nat) ({ cls := "ActorTrees$World", name := "stopsBelow", desc := "(LActorTrees$Actor;)V" } : Jvm.MethodName)) ∈ lw_all := lw_g (lw_at lw_m3 87 rfl) rfl
theorem q641 : (Jvm.Cond.instanceMethod ({ cls := "ActorTrees$World", name := "stopsBelow", desc := "(LActorTrees$Actor;)V" } : Jvm.MethodName)) ∈ lw_all := lw_g (lw_at lw_m3 88 rfl) rfl
theorem q642 : (Jvm.Cond.selects "ActorTrees$World" ({ cls := "ActorTrees$World", name := "stopsBelow", desc := "(LActorTrees$Actor;)V" } : Jvm.MethodName) ({ cls := "ActorTrees$World", name := "stopsBelow", desc := "(LActorTrees$Actor;)V" } : Jvm.MethodName)) ∈ lw_all := lw_g (lw_at lw_m3 89 rfl) rfl
theorem q643 : (Jvm.Cond.code ({ cls := "ActorTrees$World", name := "stopsBelow", desc := "(LActorTrees$Actor;)V" } : Jvm.MethodName) prog_19_method_9_code (3 : Nat) (Option.none : Option Jvm.ClassFile.FieldType)) ∈ lw_all := lw_g (lw_at lw_m3 90 rfl) rfl
theorem q644 : (Jvm.Cond.methodLink "ActorTrees$World" (146 : Nat) ({ cls := "ActorTrees$World", name := "stops", desc := "(LActorTrees$Actor;)V" } : Jvm.MethodName)) ∈ lw_all := lw_g (lw_at lw_m3 91 rfl) rfl
theorem q645 : (Jvm.Cond.methodLink "ActorTrees$World" (101 : Nat) ({ cls := "ActorTrees$Queue", name := "empties", desc := "()V" } : Jvm.MethodName)) ∈ lw_all := lw_g (lw_at lw_m3 92 rfl) rfl
theorem q649 : (Jvm.Cond.methodLink "ActorTrees$World" (159 : Nat) ({ cls := "ActorTrees$World", name := "untimed", desc := "(LActorTrees$Actor;)V" } : Jvm.MethodName)) ∈ lw_all := lw_g (lw_at lw_m3 96 rfl) rfl
theorem q650 : (Jvm.Cond.instanceMethod ({ cls := "ActorTrees$World", name := "untimed", desc := "(LActorTrees$Actor;)V" } : Jvm.MethodName)) ∈ lw_all := lw_g (lw_at lw_m3 97 rfl) rfl
theorem q651 : (Jvm.Cond.selects "ActorTrees$World" ({ cls := "ActorTrees$World", name := "untimed", desc := "(LActorTrees$Actor;)V" } : Jvm.MethodName) ({ cls := "ActorTrees$World", name := "untimed", desc := "(LActorTrees$Actor;)V" } : Jvm.MethodName)) ∈ lw_all := lw_g (lw_at lw_m3 98 rfl) rfl
theorem q652 : (Jvm.Cond.code ({ cls := "ActorTrees$World", name := "untimed", desc := "(LActorTrees$Actor;)V" } : Jvm.MethodName) prog_19_method_7_code (2 : Nat) (Option.none : Option Jvm.ClassFile.FieldType)) ∈ lw_all := lw_g (lw_at lw_m3 99 rfl) rfl
theorem q653 : (Jvm.Cond.methodLink "ActorTrees$World" (117 : Nat) ({ cls := "ActorTrees$Queue", name := "drops", desc := "(LActorTrees$Test;)V" } : Jvm.MethodName)) ∈ lw_all := lw_g (lw_at lw_m3 100 rfl) rfl
theorem q662 : (Jvm.Cond.methodLink "ActorTrees$World" (162 : Nat) ({ cls := "ActorTrees$Actor", name := "forgets", desc := "(LActorTrees$Actor;)V" } : Jvm.MethodName)) ∈ lw_all := lw_g (lw_at lw_m3 109 rfl) rfl
theorem q667 : (Jvm.Cond.methodLink "ActorTrees$World" (168 : Nat) ({ cls := "ActorTrees$Queue", name := "takes", desc := "()Ljava/lang/Object;" } : Jvm.MethodName)) ∈ lw_all := lw_g (lw_at lw_m3 114 rfl) rfl
theorem q671 : (Jvm.Cond.classLink "ActorTrees$World" (171 : Nat) "java/lang/Integer") ∈ lw_all := lw_g (lw_at lw_m3 118 rfl) rfl
theorem q672 : (Jvm.Cond.methodLink "ActorTrees$World" (173 : Nat) ({ cls := "java/lang/Integer", name := "intValue", desc := "()I" } : Jvm.MethodName)) ∈ lw_all := lw_g (lw_at lw_m3 119 rfl) rfl
theorem q673 : (Jvm.Cond.classLink "ActorTrees$World" (177 : Nat) "ActorTrees$Death") ∈ lw_all := lw_g (lw_at lw_m3 120 rfl) rfl
theorem q675 : (Jvm.Cond.methodLink "ActorTrees$World" (179 : Nat) ({ cls := "ActorTrees$Death", name := "<init>", desc := "(I)V" } : Jvm.MethodName)) ∈ lw_all := lw_g (lw_at lw_m3 122 rfl) rfl
theorem q680 : (Jvm.Cond.fieldLinkNest "ActorTrees$World" (233 : Nat) "ActorTrees$Death" "who" "I" "ActorTrees") ∈ lw_tbl := lw_at lw_m3 127 rfl
theorem q685 : (Jvm.Cond.methodLink "ActorTrees$World" (180 : Nat) ({ cls := "ActorTrees$World", name := "sends", desc := "(LActorTrees$Actor;LActorTrees$Message;)Z" } : Jvm.MethodName)) ∈ lw_all := lw_g (lw_at lw_m3 132 rfl) rfl
theorem q691 : (Jvm.Cond.instanceMethod ({ cls := "ActorTrees$World", name := "runs", desc := "(I)I" } : Jvm.MethodName)) ∈ lw_all := lw_g (lw_at lw_m3 138 rfl) rfl
theorem q692 : (Jvm.Cond.selects "ActorTrees$World" ({ cls := "ActorTrees$World", name := "runs", desc := "(I)I" } : Jvm.MethodName) ({ cls := "ActorTrees$World", name := "runs", desc := "(I)I" } : Jvm.MethodName)) ∈ lw_all := lw_g (lw_at lw_m3 139 rfl) rfl
theorem q693 : (Jvm.Cond.code ({ cls := "ActorTrees$World", name := "runs", desc := "(I)I" } : Jvm.MethodName) prog_19_method_20_code (4 : Nat) (Option.some Jvm.ClassFile.FieldType.int)) ∈ lw_all := lw_g (lw_at lw_m3 140 rfl) rfl
theorem q694 : (Jvm.Cond.methodLink "ActorTrees$World" (289 : Nat) ({ cls := "ActorTrees$World", name := "ends", desc := "(II)I" } : Jvm.MethodName)) ∈ lw_all := lw_g (lw_at lw_m3 141 rfl) rfl
theorem q695 : (Jvm.Cond.privateMethod ({ cls := "ActorTrees$World", name := "ends", desc := "(II)I" } : Jvm.MethodName)) ∈ lw_tbl := lw_at lw_m3 142 rfl
theorem q696 : (Jvm.Cond.instanceMethod ({ cls := "ActorTrees$World", name := "ends", desc := "(II)I" } : Jvm.MethodName)) ∈ lw_all := lw_g (lw_at lw_m3 143 rfl) rfl
theorem q697 : (Jvm.Cond.code ({ cls := "ActorTrees$World", name := "ends", desc := "(II)I" } : Jvm.MethodName) prog_19_method_19_code (3 : Nat) (Option.some Jvm.ClassFile.FieldType.int)) ∈ lw_all := lw_g (lw_at lw_m3 144 rfl) rfl
theorem q698 : (Jvm.Cond.methodLink "ActorTrees$World" (286 : Nat) ({ cls := "ActorTrees$World", name := "isMore", desc := "()Z" } : Jvm.MethodName)) ∈ lw_all := lw_g (lw_at lw_m3 145 rfl) rfl
theorem q699 : (Jvm.Cond.instanceMethod ({ cls := "ActorTrees$World", name := "isMore", desc := "()Z" } : Jvm.MethodName)) ∈ lw_all := lw_g (lw_at lw_m3 146 rfl) rfl
theorem q700 : (Jvm.Cond.selects "ActorTrees$World" ({ cls := "ActorTrees$World", name := "isMore", desc := "()Z" } : Jvm.MethodName) ({ cls := "ActorTrees$World", name := "isMore", desc := "()Z" } : Jvm.MethodName)) ∈ lw_all := lw_g (lw_at lw_m3 147 rfl) rfl
theorem q701 : (Jvm.Cond.code ({ cls := "ActorTrees$World", name := "isMore", desc := "()Z" } : Jvm.MethodName) prog_19_method_17_code (1 : Nat) (Option.some Jvm.ClassFile.FieldType.boolean)) ∈ lw_all := lw_g (lw_at lw_m3 148 rfl) rfl
theorem q702 : (Jvm.Cond.methodLink "ActorTrees$World" (274 : Nat) ({ cls := "ActorTrees$World", name := "next", desc := "()LActorTrees$Actor;" } : Jvm.MethodName)) ∈ lw_all := lw_g (lw_at lw_m3 149 rfl) rfl
theorem q703 : (Jvm.Cond.privateMethod ({ cls := "ActorTrees$World", name := "next", desc := "()LActorTrees$Actor;" } : Jvm.MethodName)) ∈ lw_tbl := lw_at lw_m3 150 rfl
theorem q704 : (Jvm.Cond.instanceMethod ({ cls := "ActorTrees$World", name := "next", desc := "()LActorTrees$Actor;" } : Jvm.MethodName)) ∈ lw_all := lw_g (lw_at lw_m3 151 rfl) rfl
theorem q705 : (Jvm.Cond.code ({ cls := "ActorTrees$World", name := "next", desc := "()LActorTrees$Actor;" } : Jvm.MethodName) prog_19_method_16_code (3 : Nat) (Option.some (Jvm.ClassFile.FieldType.object "ActorTrees$Actor"))) ∈ lw_all := lw_g (lw_at lw_m3 152 rfl) rfl
theorem q706 : (Jvm.Cond.methodLink "ActorTrees$World" (270 : Nat) ({ cls := "ActorTrees$World", name := "isLive", desc := "(I)Z" } : Jvm.MethodName)) ∈ lw_all := lw_g (lw_at lw_m3 153 rfl) rfl
theorem q707 : (Jvm.Cond.instanceMethod ({ cls := "ActorTrees$World", name := "isLive", desc := "(I)Z" } : Jvm.MethodName)) ∈ lw_all := lw_g (lw_at lw_m3 154 rfl) rfl
theorem q708 : (Jvm.Cond.selects "ActorTrees$World" ({ cls := "ActorTrees$World", name := "isLive", desc := "(I)Z" } : Jvm.MethodName) ({ cls := "ActorTrees$World", name := "isLive", desc := "(I)Z" } : Jvm.MethodName)) ∈ lw_all := lw_g (lw_at lw_m3 155 rfl) rfl
theorem q709 : (Jvm.Cond.code ({ cls := "ActorTrees$World", name := "isLive", desc := "(I)Z" } : Jvm.MethodName) prog_19_method_3_code (2 : Nat) (Option.some Jvm.ClassFile.FieldType.boolean)) ∈ lw_all := lw_g (lw_at lw_m3 156 rfl) rfl
theorem q710 : (Jvm.Cond.methodLink "ActorTrees$World" (293 : Nat) ({ cls := "ActorTrees$World", name := "steps", desc := "()Z" } : Jvm.MethodName)) ∈ lw_all := lw_g (lw_at lw_m3 157 rfl) rfl
theorem q711 : (Jvm.Cond.instanceMethod ({ cls := "ActorTrees$World", name := "steps", desc := "()Z" } : Jvm.MethodName)) ∈ lw_all := lw_g (lw_at lw_m3 158 rfl) rfl
theorem q712 : (Jvm.Cond.selects "ActorTrees$World" ({ cls := "ActorTrees$World", name := "steps", desc := "()Z" } : Jvm.MethodName) ({ cls := "ActorTrees$World", name := "steps", desc := "()Z" } : Jvm.MethodName)) ∈ lw_all := lw_g (lw_at lw_m3 159 rfl) rfl
theorem q713 : (Jvm.Cond.code ({ cls := "ActorTrees$World", name := "steps", desc := "()Z" } : Jvm.MethodName) prog_19_method_18_code (3 : Nat) (Option.some Jvm.ClassFile.FieldType.boolean)) ∈ lw_all := lw_g (lw_at lw_m3 160 rfl) rfl
theorem q714 : (Jvm.Cond.classLink "ActorTrees$World" (258 : Nat) "ActorTrees$Message") ∈ lw_all := lw_g (lw_at lw_m3 161 rfl) rfl
theorem q715 : (Jvm.Cond.methodLink "ActorTrees$World" (276 : Nat) ({ cls := "ActorTrees$World", name := "deals", desc := "(LActorTrees$Actor;LActorTrees$Message;)I" } : Jvm.MethodName)) ∈ lw_all := lw_g (lw_at lw_m3 162 rfl) rfl
theorem q716 : (Jvm.Cond.instanceMethod ({ cls := "ActorTrees$World", name := "deals", desc := "(LActorTrees$Actor;LActorTrees$Message;)I" } : Jvm.MethodName)) ∈ lw_all := lw_g (lw_at lw_m3 163 rfl) rfl
theorem q717 : (Jvm.Cond.selects "ActorTrees$World" ({ cls := "ActorTrees$World", name := "deals", desc := "(LActorTrees$Actor;LActorTrees$Message;)I" } : Jvm.MethodName) ({ cls := "ActorTrees$World", name := "deals", desc := "(LActorTrees$Actor;LActorTrees$Message;)I" } : Jvm.MethodName)) ∈ lw_all := lw_g (lw_at lw_m3 164 rfl) rfl
theorem q718 : (Jvm.Cond.codeWith ({ cls := "ActorTrees$World", name := "deals", desc := "(LActorTrees$Actor;LActorTrees$Message;)I" } : Jvm.MethodName) prog_19_method_15_code (4 : Nat) (Option.some Jvm.ClassFile.FieldType.int) [((49 : Nat), (56 : Nat), (57 : Nat), (194 : Nat))]) ∈ lw_all := lw_g (lw_at lw_m3 165 rfl) rfl
theorem q719 : (Jvm.Cond.classLink "ActorTrees$World" (194 : Nat) "ActorTrees$Failure") ∈ lw_all := lw_g (lw_at lw_m3 166 rfl) rfl
theorem q720 : (Jvm.Cond.methodLink "ActorTrees$World" (257 : Nat) ({ cls := "ActorTrees$Message", name := "code", desc := "()I" } : Jvm.MethodName)) ∈ lw_all := lw_g (lw_at lw_m3 167 rfl) rfl
theorem q721 : (Jvm.Cond.methodLink "ActorTrees$World" (262 : Nat) ({ cls := "ActorTrees$World", name := "does", desc := "(LActorTrees$Actor;LActorTrees$Message;)V" } : Jvm.MethodName)) ∈ lw_all := lw_g (lw_at lw_m3 168 rfl) rfl
theorem q722 : (Jvm.Cond.privateMethod ({ cls := "ActorTrees$World", name := "does", desc := "(LActorTrees$Actor;LActorTrees$Message;)V" } : Jvm.MethodName)) ∈ lw_tbl := lw_at lw_m3 169 rfl
theorem q723 : (Jvm.Cond.instanceMethod ({ cls := "ActorTrees$World", name := "does", desc := "(LActorTrees$Actor;LActorTrees$Message;)V" } : Jvm.MethodName)) ∈ lw_all := lw_g (lw_at lw_m3 170 rfl) rfl
theorem q724 : (Jvm.Cond.codeWith ({ cls := "ActorTrees$World", name := "does", desc := "(LActorTrees$Actor;LActorTrees$Message;)V" } : Jvm.MethodName) prog_19_method_14_code (4 : Nat) (Option.none : Option Jvm.ClassFile.FieldType) [((50 : Nat), (71 : Nat), (74 : Nat), (248 : Nat)), ((50 : Nat), (71 : Nat), (74 : Nat), (250 : Nat))]) ∈ lw_all := lw_g (lw_at lw_m3 171 rfl) rfl
theorem q725 : (Jvm.Cond.classLink "ActorTrees$World" (248 : Nat) "ActorTrees$StashFull") ∈ lw_all := lw_g (lw_at lw_m3 172 rfl) rfl
theorem q726 : (Jvm.Cond.classLink "ActorTrees$World" (250 : Nat) "ActorTrees$StackFull") ∈ lw_all := lw_g (lw_at lw_m3 173 rfl) rfl
theorem q727 : (Jvm.Cond.methodLink "ActorTrees$World" (227 : Nat) ({ cls := "ActorTrees$Actor", name := "does", desc := "()I" } : Jvm.MethodName)) ∈ lw_all := lw_g (lw_at lw_m3 174 rfl) rfl
theorem q736 : (Jvm.Cond.methodLink "ActorTrees$World" (230 : Nat) ({ cls := "ActorTrees$Failure", name := "<init>", desc := "(II)V" } : Jvm.MethodName)) ∈ lw_all := lw_g (lw_at lw_m3 183 rfl) rfl
theorem q750 : (Jvm.Cond.fieldLinkNest "ActorTrees$World" (193 : Nat) "ActorTrees$Failure" "actor" "I" "ActorTrees") ∈ lw_tbl := lw_at lw_m3 197 rfl
theorem q753 : (Jvm.Cond.fieldLinkNest "ActorTrees$World" (268 : Nat) "ActorTrees$Failure" "why" "I" "ActorTrees") ∈ lw_tbl := lw_at lw_m3 200 rfl
theorem q761 : (Jvm.Cond.methodLinkNest "ActorTrees$World" (236 : Nat) ({ cls := "ActorTrees$World$Deeds", name := "of", desc := "(I)LActorTrees$Behaviour;" } : Jvm.MethodName) "ActorTrees") ∈ lw_tbl := lw_at lw_m3 208 rfl
theorem q808 : (Jvm.Cond.instanceMethod ({ cls := "ActorTrees$World", name := "unstashes", desc := "(LActorTrees$Actor;)V" } : Jvm.MethodName)) ∈ lw_all := lw_g (lw_at lw_m4 15 rfl) rfl
theorem q809 : (Jvm.Cond.selects "ActorTrees$World" ({ cls := "ActorTrees$World", name := "unstashes", desc := "(LActorTrees$Actor;)V" } : Jvm.MethodName) ({ cls := "ActorTrees$World", name := "unstashes", desc := "(LActorTrees$Actor;)V" } : Jvm.MethodName)) ∈ lw_all := lw_g (lw_at lw_m4 16 rfl) rfl
theorem q810 : (Jvm.Cond.code ({ cls := "ActorTrees$World", name := "unstashes", desc := "(LActorTrees$Actor;)V" } : Jvm.MethodName) prog_19_method_5_code (2 : Nat) (Option.none : Option Jvm.ClassFile.FieldType)) ∈ lw_all := lw_g (lw_at lw_m4 17 rfl) rfl
theorem q811 : (Jvm.Cond.methodLink "ActorTrees$World" (97 : Nat) ({ cls := "ActorTrees$Queue", name := "ahead", desc := "(LActorTrees$Queue;)I" } : Jvm.MethodName)) ∈ lw_all := lw_g (lw_at lw_m4 18 rfl) rfl
theorem q898 : (Jvm.Cond.fieldLinkNest "ActorTrees$World" (137 : Nat) "ActorTrees$Timer" "actor" "I" "ActorTrees") ∈ lw_tbl := lw_at lw_m4 105 rfl
theorem q903 : (Jvm.Cond.fieldLinkNest "ActorTrees$World" (279 : Nat) "ActorTrees$Timer" "due" "I" "ActorTrees") ∈ lw_tbl := lw_at lw_m4 110 rfl
theorem q906 : (Jvm.Cond.fieldLinkNest "ActorTrees$World" (282 : Nat) "ActorTrees$Timer" "n" "I" "ActorTrees") ∈ lw_tbl := lw_at lw_m4 113 rfl
theorem q915 : (Jvm.Cond.instanceMethod ({ cls := "ActorTrees$World", name := "timed", desc := "(LActorTrees$Timer;)V" } : Jvm.MethodName)) ∈ lw_all := lw_g (lw_at lw_m4 122 rfl) rfl
theorem q916 : (Jvm.Cond.selects "ActorTrees$World" ({ cls := "ActorTrees$World", name := "timed", desc := "(LActorTrees$Timer;)V" } : Jvm.MethodName) ({ cls := "ActorTrees$World", name := "timed", desc := "(LActorTrees$Timer;)V" } : Jvm.MethodName)) ∈ lw_all := lw_g (lw_at lw_m4 123 rfl) rfl
theorem q917 : (Jvm.Cond.code ({ cls := "ActorTrees$World", name := "timed", desc := "(LActorTrees$Timer;)V" } : Jvm.MethodName) prog_19_method_6_code (2 : Nat) (Option.none : Option Jvm.ClassFile.FieldType)) ∈ lw_all := lw_g (lw_at lw_m4 124 rfl) rfl
theorem q918 : (Jvm.Cond.static ({ cls := "ActorTrees$World", name := "lambda$timed$0", desc := "(LActorTrees$Timer;LActorTrees$Timer;)Z" } : Jvm.MethodName)) ∈ lw_all := lw_g (lw_at lw_m4 125 rfl) rfl
theorem q919 : (Jvm.Cond.code ({ cls := "ActorTrees$World", name := "lambda$timed$0", desc := "(LActorTrees$Timer;LActorTrees$Timer;)Z" } : Jvm.MethodName) prog_19_method_26_code (2 : Nat) (Option.some Jvm.ClassFile.FieldType.boolean)) ∈ lw_all := lw_g (lw_at lw_m4 126 rfl) rfl
theorem q920 : (Jvm.Cond.methodLink "ActorTrees$World" (109 : Nat) ({ cls := "ActorTrees$Queue", name := "putsAhead", desc := "(Ljava/lang/Object;LActorTrees$Test;)V" } : Jvm.MethodName)) ∈ lw_all := lw_g (lw_at lw_m4 127 rfl) rfl
theorem q961 : (Jvm.Cond.classLink "ActorTrees$World" (240 : Nat) "ActorTrees$Count") ∈ lw_all := lw_g (lw_at lw_m4 168 rfl) rfl
theorem q962 : (Jvm.Cond.interfaceEntry "ActorTrees$World" (242 : Nat)) ∈ lw_tbl := lw_at lw_m4 169 rfl
theorem q963 : (Jvm.Cond.methodLink "ActorTrees$World" (242 : Nat) ({ cls := "ActorTrees$Behaviour", name := "deals", desc := "(LActorTrees$Actor;LActorTrees$Count;)V" } : Jvm.MethodName)) ∈ lw_all := lw_g (lw_at lw_m4 170 rfl) rfl
theorem q966 : (Jvm.Cond.methodLink "ActorTrees$World" (252 : Nat) ({ cls := "ActorTrees$Overfull", name := "why", desc := "()I" } : Jvm.MethodName)) ∈ lw_all := lw_g (lw_at lw_m4 173 rfl) rfl
theorem q975 : (Jvm.Cond.methodLink "ActorTrees$World" (206 : Nat) ({ cls := "ActorTrees$Failure", name := "<init>", desc := "(IILjava/lang/Throwable;)V" } : Jvm.MethodName)) ∈ lw_all := lw_g (lw_at lw_m4 182 rfl) rfl
theorem q976 : (Jvm.Cond.methodLink "ActorTrees$World" (265 : Nat) ({ cls := "ActorTrees$World", name := "fails", desc := "(LActorTrees$Failure;)V" } : Jvm.MethodName)) ∈ lw_all := lw_g (lw_at lw_m4 183 rfl) rfl
theorem q977 : (Jvm.Cond.instanceMethod ({ cls := "ActorTrees$World", name := "fails", desc := "(LActorTrees$Failure;)V" } : Jvm.MethodName)) ∈ lw_all := lw_g (lw_at lw_m4 184 rfl) rfl
theorem q978 : (Jvm.Cond.selects "ActorTrees$World" ({ cls := "ActorTrees$World", name := "fails", desc := "(LActorTrees$Failure;)V" } : Jvm.MethodName) ({ cls := "ActorTrees$World", name := "fails", desc := "(LActorTrees$Failure;)V" } : Jvm.MethodName)) ∈ lw_all := lw_g (lw_at lw_m4 185 rfl) rfl
theorem q979 : (Jvm.Cond.codeWith ({ cls := "ActorTrees$World", name := "fails", desc := "(LActorTrees$Failure;)V" } : Jvm.MethodName) prog_19_method_13_code (5 : Nat) (Option.none : Option Jvm.ClassFile.FieldType) [((18 : Nat), (25 : Nat), (28 : Nat), (194 : Nat))]) ∈ lw_all := lw_g (lw_at lw_m4 186 rfl) rfl
theorem q980 : (Jvm.Cond.methodLink "ActorTrees$World" (223 : Nat) ({ cls := "ActorTrees$World", name := "handles", desc := "(LActorTrees$Failure;)V" } : Jvm.MethodName)) ∈ lw_all := lw_g (lw_at lw_m4 187 rfl) rfl
theorem q981 : (Jvm.Cond.privateMethod ({ cls := "ActorTrees$World", name := "handles", desc := "(LActorTrees$Failure;)V" } : Jvm.MethodName)) ∈ lw_tbl := lw_at lw_m4 188 rfl
theorem q982 : (Jvm.Cond.instanceMethod ({ cls := "ActorTrees$World", name := "handles", desc := "(LActorTrees$Failure;)V" } : Jvm.MethodName)) ∈ lw_all := lw_g (lw_at lw_m4 189 rfl) rfl
theorem q983 : (Jvm.Cond.code ({ cls := "ActorTrees$World", name := "handles", desc := "(LActorTrees$Failure;)V" } : Jvm.MethodName) prog_19_method_12_code (5 : Nat) (Option.none : Option Jvm.ClassFile.FieldType)) ∈ lw_all := lw_g (lw_at lw_m4 190 rfl) rfl
theorem q984 : (Jvm.Cond.methodLink "ActorTrees$World" (196 : Nat) ({ cls := "ActorTrees$Actor", name := "notes", desc := "(I)V" } : Jvm.MethodName)) ∈ lw_all := lw_g (lw_at lw_m4 191 rfl) rfl
theorem q990 : (Jvm.Cond.methodLink "ActorTrees$World" (199 : Nat) ({ cls := "ActorTrees$Actor", name := "failures", desc := "(I)I" } : Jvm.MethodName)) ∈ lw_all := lw_g (lw_at lw_m4 197 rfl) rfl
theorem q991 : (Jvm.Cond.interfaceEntry "ActorTrees$World" (213 : Nat)) ∈ lw_tbl := lw_at lw_m4 198 rfl
theorem q992 : (Jvm.Cond.methodLink "ActorTrees$World" (213 : Nat) ({ cls := "ActorTrees$Strategy", name := "restarts", desc := "(II)Z" } : Jvm.MethodName)) ∈ lw_all := lw_g (lw_at lw_m4 199 rfl) rfl
theorem q995 : (Jvm.Cond.methodLink "ActorTrees$World" (219 : Nat) ({ cls := "ActorTrees$World", name := "restarts", desc := "(LActorTrees$Actor;)V" } : Jvm.MethodName)) ∈ lw_all := lw_g (lw_at lw_m4 202 rfl) rfl
theorem q996 : (Jvm.Cond.instanceMethod ({ cls := "ActorTrees$World", name := "restarts", desc := "(LActorTrees$Actor;)V" } : Jvm.MethodName)) ∈ lw_all := lw_g (lw_at lw_m4 203 rfl) rfl
theorem q997 : (Jvm.Cond.selects "ActorTrees$World" ({ cls := "ActorTrees$World", name := "restarts", desc := "(LActorTrees$Actor;)V" } : Jvm.MethodName) ({ cls := "ActorTrees$World", name := "restarts", desc := "(LActorTrees$Actor;)V" } : Jvm.MethodName)) ∈ lw_all := lw_g (lw_at lw_m4 204 rfl) rfl
theorem q998 : (Jvm.Cond.code ({ cls := "ActorTrees$World", name := "restarts", desc := "(LActorTrees$Actor;)V" } : Jvm.MethodName) prog_19_method_11_code (2 : Nat) (Option.none : Option Jvm.ClassFile.FieldType)) ∈ lw_all := lw_g (lw_at lw_m4 205 rfl) rfl
theorem q999 : (Jvm.Cond.methodLink "ActorTrees$World" (187 : Nat) ({ cls := "ActorTrees$World", name := "unstashes", desc := "(LActorTrees$Actor;)V" } : Jvm.MethodName)) ∈ lw_all := lw_g (lw_at lw_m4 206 rfl) rfl
theorem q1000 : (Jvm.Cond.methodLink "ActorTrees$World" (285 : Nat) ({ cls := "ActorTrees$Count", name := "<init>", desc := "(II)V" } : Jvm.MethodName)) ∈ lw_all := lw_g (lw_at lw_m4 207 rfl) rfl
theorem q1038 : (Jvm.Cond.instanceMethod ({ cls := "ActorTrees$World", name := "copy", desc := "()LActorTrees$World;" } : Jvm.MethodName)) ∈ lw_all := lw_g (lw_at lw_m5 5 rfl) rfl
theorem q1039 : (Jvm.Cond.selects "ActorTrees$World" ({ cls := "ActorTrees$World", name := "copy", desc := "()LActorTrees$World;" } : Jvm.MethodName) ({ cls := "ActorTrees$World", name := "copy", desc := "()LActorTrees$World;" } : Jvm.MethodName)) ∈ lw_all := lw_g (lw_at lw_m5 6 rfl) rfl
theorem q1040 : (Jvm.Cond.code ({ cls := "ActorTrees$World", name := "copy", desc := "()LActorTrees$World;" } : Jvm.MethodName) prog_19_method_2_code (3 : Nat) (Option.some (Jvm.ClassFile.FieldType.object "ActorTrees$World"))) ∈ lw_all := lw_g (lw_at lw_m5 7 rfl) rfl
theorem q1041 : (Jvm.Cond.classLink "ActorTrees$World" (12 : Nat) "ActorTrees$World") ∈ lw_all := lw_g (lw_at lw_m5 8 rfl) rfl
theorem q1042 : (Jvm.Cond.methodLink "ActorTrees$World" (46 : Nat) ({ cls := "ActorTrees$World", name := "<init>", desc := "()V" } : Jvm.MethodName)) ∈ lw_all := lw_g (lw_at lw_m5 9 rfl) rfl
theorem q1043 : (Jvm.Cond.methodLink "ActorTrees$World" (50 : Nat) ({ cls := "ActorTrees$Actor", name := "copy", desc := "()LActorTrees$Actor;" } : Jvm.MethodName)) ∈ lw_all := lw_g (lw_at lw_m5 10 rfl) rfl
theorem q1053 : (Jvm.Cond.methodLink "ActorTrees$World" (63 : Nat) ({ cls := "ActorTrees$Queue", name := "all", desc := "(LActorTrees$Queue;)V" } : Jvm.MethodName)) ∈ lw_all := lw_g (lw_at lw_m5 20 rfl) rfl
theorem q1054 : (Jvm.Cond.methodLink "ActorTrees$World" (67 : Nat) ({ cls := "java/lang/System", name := "arraycopy", desc := "(Ljava/lang/Object;ILjava/lang/Object;II)V" } : Jvm.MethodName)) ∈ lw_all := lw_g (lw_at lw_m5 21 rfl) rfl
theorem q1271 : (Jvm.Cond.instanceMethod ({ cls := "ActorTrees$World", name := "mails", desc := "()I" } : Jvm.MethodName)) ∈ lw_all := lw_g (lw_at lw_m5 238 rfl) rfl
theorem q1272 : (Jvm.Cond.selects "ActorTrees$World" ({ cls := "ActorTrees$World", name := "mails", desc := "()I" } : Jvm.MethodName) ({ cls := "ActorTrees$World", name := "mails", desc := "()I" } : Jvm.MethodName)) ∈ lw_all := lw_g (lw_at lw_m5 239 rfl) rfl
theorem q1273 : (Jvm.Cond.code ({ cls := "ActorTrees$World", name := "mails", desc := "()I" } : Jvm.MethodName) prog_19_method_22_code (3 : Nat) (Option.some Jvm.ClassFile.FieldType.int)) ∈ lw_all := lw_g (lw_at lw_m6 0 rfl) rfl
theorem q1681 : (Jvm.Cond.castable "ActorTrees$World" "java/lang/Object") ∈ lw_tbl := lw_at lw_m7 168 rfl
theorem in_X1 : ∀ w ∈ wsX10, w ∈ lw_all := lw_in wsX10 [191, 193, 195, 197, 199, 201, 203, 205, 207, 209, 211, 213, 215, 217, 219] (by decide +kernel) (by decide +kernel)
/-! ActorTrees$Queue -/
set_option maxRecDepth 100000
def RX2 : String := "ActorTrees$Queue"
def TX2 : u_T := fun k => match k with
  | 0 => ("ActorTrees$Queue", "most", "I", true)
  | 1 => ("ActorTrees$Queue", "first", "LActorTrees$Queue$Cell;", false)
  | 2 => ("ActorTrees$Queue", "last", "LActorTrees$Queue$Cell;", false)
  | _ => ("ActorTrees$Queue", "many", "I", false)
def tyX2 : Nat → FieldType := fun k => match k with
  | 0 => .int
  | 1 => .object "ActorTrees$Queue$Cell"
  | 2 => .object "ActorTrees$Queue$Cell"
  | _ => .int
abbrev wsX20 : List Cond := u_ws RX2 TX2 4
theorem nmX2 : ∀ a, a < 4 → ∀ b, b < 4 → a ≠ b → (TX2 a).2.1 ≠ (TX2 b).2.1 := by decide +kernel
theorem tyX2_ok : ∀ k, k < 4 → parseFieldDescriptor (TX2 k).2.2.1 = some (tyX2 k) := by decide +kernel
abbrev cX2_init : ByteArray := prog_9_method_1_code
def yX2_init : MethodName := ⟨RX2, "<init>", "(I)V"⟩
def dkwX2_init_0 : List UInt8 := [42, 183, 0, 1, 42, 27, 181, 0, 7, 177]
abbrev dktX2_init_0 : List UInt8 := dkwX2_init_0 ++ []
theorem dksX2_init_0 : cX2_init.data.toList.drop 0 = dktX2_init_0 := by decide +kernel
theorem dX2_init_0 : decode cX2_init 0 = .ok (.aload_n 0, 1) := dk_42 (dk_at dksX2_init_0 0 rfl rfl)
theorem dX2_init_1 : decode cX2_init 1 = .ok (.invokespecial 1, 3) := dk_183 0 1 (dk_at dksX2_init_0 1 rfl rfl)
theorem dX2_init_4 : decode cX2_init 4 = .ok (.aload_n 0, 1) := dk_42 (dk_at dksX2_init_0 4 rfl rfl)
theorem dX2_init_5 : decode cX2_init 5 = .ok (.iload_n 1, 1) := dk_27 (dk_at dksX2_init_0 5 rfl rfl)
theorem dX2_init_6 : decode cX2_init 6 = .ok (.putfield 7, 3) := dk_181 0 7 (dk_at dksX2_init_0 6 rfl rfl)
theorem dX2_init_9 : decode cX2_init 9 = .ok (.return_, 1) := dk_177 (dk_at dksX2_init_0 9 rfl rfl)
abbrev cX2_puts : ByteArray := prog_9_method_3_code
def yX2_puts : MethodName := ⟨RX2, "puts", "(Ljava/lang/Object;)Z"⟩
def dkwX2_puts_1 : List UInt8 := [182, 0, 26, 4, 172]
abbrev dktX2_puts_1 : List UInt8 := dkwX2_puts_1 ++ []
def dkwX2_puts_0 : List UInt8 := [42, 180, 0, 18, 42, 180, 0, 7, 160, 0, 5, 3, 172, 42, 187, 0, 21, 89, 42, 43, 183, 0, 23]
abbrev dktX2_puts_0 : List UInt8 := dkwX2_puts_0 ++ dktX2_puts_1
theorem dksX2_puts_0 : cX2_puts.data.toList.drop 0 = dktX2_puts_0 := by decide +kernel
theorem dksX2_puts_1 : cX2_puts.data.toList.drop 23 = dktX2_puts_1 := dk_seg dksX2_puts_0 23 rfl rfl
theorem dX2_puts_0 : decode cX2_puts 0 = .ok (.aload_n 0, 1) := dk_42 (dk_at dksX2_puts_0 0 rfl rfl)
theorem dX2_puts_1 : decode cX2_puts 1 = .ok (.getfield 18, 3) := dk_180 0 18 (dk_at dksX2_puts_0 1 rfl rfl)
theorem dX2_puts_4 : decode cX2_puts 4 = .ok (.aload_n 0, 1) := dk_42 (dk_at dksX2_puts_0 4 rfl rfl)
theorem dX2_puts_5 : decode cX2_puts 5 = .ok (.getfield 7, 3) := dk_180 0 7 (dk_at dksX2_puts_0 5 rfl rfl)
theorem dX2_puts_8 : decode cX2_puts 8 = .ok (.if_icmp .ne 5, 3) := dk_160 0 5 (dk_at dksX2_puts_0 8 rfl rfl)
theorem dX2_puts_11 : decode cX2_puts 11 = .ok (.iconst 0, 1) := dk_3 (dk_at dksX2_puts_0 11 rfl rfl)
theorem dX2_puts_12 : decode cX2_puts 12 = .ok (.ireturn, 1) := dk_172 (dk_at dksX2_puts_0 12 rfl rfl)
theorem dX2_puts_13 : decode cX2_puts 13 = .ok (.aload_n 0, 1) := dk_42 (dk_at dksX2_puts_0 13 rfl rfl)
theorem dX2_puts_14 : decode cX2_puts 14 = .ok (.new 21, 3) := dk_187 0 21 (dk_at dksX2_puts_0 14 rfl rfl)
theorem dX2_puts_17 : decode cX2_puts 17 = .ok (.dup, 1) := dk_89 (dk_at dksX2_puts_0 17 rfl rfl)
theorem dX2_puts_18 : decode cX2_puts 18 = .ok (.aload_n 0, 1) := dk_42 (dk_at dksX2_puts_0 18 rfl rfl)
theorem dX2_puts_19 : decode cX2_puts 19 = .ok (.aload_n 1, 1) := dk_43 (dk_at dksX2_puts_0 19 rfl rfl)
theorem dX2_puts_20 : decode cX2_puts 20 = .ok (.invokespecial 23, 3) := dk_183 0 23 (dk_at dksX2_puts_0 20 rfl rfl)
theorem dX2_puts_23 : decode cX2_puts 23 = .ok (.invokevirtual 26, 3) := dk_182 0 26 (dk_at dksX2_puts_1 0 rfl rfl)
theorem dX2_puts_26 : decode cX2_puts 26 = .ok (.iconst 1, 1) := dk_4 (dk_at dksX2_puts_1 3 rfl rfl)
theorem dX2_puts_27 : decode cX2_puts 27 = .ok (.ireturn, 1) := dk_172 (dk_at dksX2_puts_1 4 rfl rfl)
abbrev cX2_links : ByteArray := prog_9_method_4_code
def yX2_links : MethodName := ⟨RX2, "links", "(LActorTrees$Queue$Cell;)V"⟩
def dkwX2_links_1 : List UInt8 := [43, 181, 0, 30, 42, 89, 180, 0, 18, 4, 96, 181, 0, 18, 177]
abbrev dktX2_links_1 : List UInt8 := dkwX2_links_1 ++ []
def dkwX2_links_0 : List UInt8 := [42, 180, 0, 30, 199, 0, 11, 42, 43, 181, 0, 34, 167, 0, 11, 42, 180, 0, 30, 43, 181, 0, 37, 42]
abbrev dktX2_links_0 : List UInt8 := dkwX2_links_0 ++ dktX2_links_1
theorem dksX2_links_0 : cX2_links.data.toList.drop 0 = dktX2_links_0 := by decide +kernel
theorem dksX2_links_1 : cX2_links.data.toList.drop 24 = dktX2_links_1 := dk_seg dksX2_links_0 24 rfl rfl
theorem dX2_links_0 : decode cX2_links 0 = .ok (.aload_n 0, 1) := dk_42 (dk_at dksX2_links_0 0 rfl rfl)
theorem dX2_links_1 : decode cX2_links 1 = .ok (.getfield 30, 3) := dk_180 0 30 (dk_at dksX2_links_0 1 rfl rfl)
theorem dX2_links_4 : decode cX2_links 4 = .ok (.ifnonnull 11, 3) := dk_199 0 11 (dk_at dksX2_links_0 4 rfl rfl)
theorem dX2_links_7 : decode cX2_links 7 = .ok (.aload_n 0, 1) := dk_42 (dk_at dksX2_links_0 7 rfl rfl)
theorem dX2_links_8 : decode cX2_links 8 = .ok (.aload_n 1, 1) := dk_43 (dk_at dksX2_links_0 8 rfl rfl)
theorem dX2_links_9 : decode cX2_links 9 = .ok (.putfield 34, 3) := dk_181 0 34 (dk_at dksX2_links_0 9 rfl rfl)
theorem dX2_links_12 : decode cX2_links 12 = .ok (.goto 11, 3) := dk_167 0 11 (dk_at dksX2_links_0 12 rfl rfl)
theorem dX2_links_15 : decode cX2_links 15 = .ok (.aload_n 0, 1) := dk_42 (dk_at dksX2_links_0 15 rfl rfl)
theorem dX2_links_16 : decode cX2_links 16 = .ok (.getfield 30, 3) := dk_180 0 30 (dk_at dksX2_links_0 16 rfl rfl)
theorem dX2_links_19 : decode cX2_links 19 = .ok (.aload_n 1, 1) := dk_43 (dk_at dksX2_links_0 19 rfl rfl)
theorem dX2_links_20 : decode cX2_links 20 = .ok (.putfield 37, 3) := dk_181 0 37 (dk_at dksX2_links_0 20 rfl rfl)
theorem dX2_links_23 : decode cX2_links 23 = .ok (.aload_n 0, 1) := dk_42 (dk_at dksX2_links_0 23 rfl rfl)
theorem dX2_links_24 : decode cX2_links 24 = .ok (.aload_n 1, 1) := dk_43 (dk_at dksX2_links_1 0 rfl rfl)
theorem dX2_links_25 : decode cX2_links 25 = .ok (.putfield 30, 3) := dk_181 0 30 (dk_at dksX2_links_1 1 rfl rfl)
theorem dX2_links_28 : decode cX2_links 28 = .ok (.aload_n 0, 1) := dk_42 (dk_at dksX2_links_1 4 rfl rfl)
theorem dX2_links_29 : decode cX2_links 29 = .ok (.dup, 1) := dk_89 (dk_at dksX2_links_1 5 rfl rfl)
theorem dX2_links_30 : decode cX2_links 30 = .ok (.getfield 18, 3) := dk_180 0 18 (dk_at dksX2_links_1 6 rfl rfl)
theorem dX2_links_33 : decode cX2_links 33 = .ok (.iconst 1, 1) := dk_4 (dk_at dksX2_links_1 9 rfl rfl)
theorem dX2_links_34 : decode cX2_links 34 = .ok (.iadd, 1) := dk_96 (dk_at dksX2_links_1 10 rfl rfl)
theorem dX2_links_35 : decode cX2_links 35 = .ok (.putfield 18, 3) := dk_181 0 18 (dk_at dksX2_links_1 11 rfl rfl)
theorem dX2_links_38 : decode cX2_links 38 = .ok (.return_, 1) := dk_177 (dk_at dksX2_links_1 14 rfl rfl)
abbrev cX2_iterator : ByteArray := prog_9_method_2_code
def yX2_iterator : MethodName := ⟨RX2, "iterator", "()Ljava/util/Iterator;"⟩
def dkwX2_iterator_0 : List UInt8 := [187, 0, 13, 89, 42, 183, 0, 15, 176]
abbrev dktX2_iterator_0 : List UInt8 := dkwX2_iterator_0 ++ []
theorem dksX2_iterator_0 : cX2_iterator.data.toList.drop 0 = dktX2_iterator_0 := by decide +kernel
theorem dX2_iterator_0 : decode cX2_iterator 0 = .ok (.new 13, 3) := dk_187 0 13 (dk_at dksX2_iterator_0 0 rfl rfl)
theorem dX2_iterator_3 : decode cX2_iterator 3 = .ok (.dup, 1) := dk_89 (dk_at dksX2_iterator_0 3 rfl rfl)
theorem dX2_iterator_4 : decode cX2_iterator 4 = .ok (.aload_n 0, 1) := dk_42 (dk_at dksX2_iterator_0 4 rfl rfl)
theorem dX2_iterator_5 : decode cX2_iterator 5 = .ok (.invokespecial 15, 3) := dk_183 0 15 (dk_at dksX2_iterator_0 5 rfl rfl)
theorem dX2_iterator_8 : decode cX2_iterator 8 = .ok (.areturn, 1) := dk_176 (dk_at dksX2_iterator_0 8 rfl rfl)
abbrev cX2_at : ByteArray := prog_9_method_9_code
def yX2_at : MethodName := ⟨RX2, "at", "(I)Ljava/lang/Object;"⟩
def dkwX2_at_1 : List UInt8 := [28, 154, 0, 6, 25, 4, 176, 132, 2, 255, 167, 255, 229, 1, 176]
abbrev dktX2_at_1 : List UInt8 := dkwX2_at_1 ++ []
def dkwX2_at_0 : List UInt8 := [27, 61, 42, 182, 0, 53, 78, 45, 185, 0, 57, 1, 0, 153, 0, 24, 45, 185, 0, 63, 1, 0, 58, 4]
abbrev dktX2_at_0 : List UInt8 := dkwX2_at_0 ++ dktX2_at_1
theorem dksX2_at_0 : cX2_at.data.toList.drop 0 = dktX2_at_0 := by decide +kernel
theorem dksX2_at_1 : cX2_at.data.toList.drop 24 = dktX2_at_1 := dk_seg dksX2_at_0 24 rfl rfl
theorem dX2_at_0 : decode cX2_at 0 = .ok (.iload_n 1, 1) := dk_27 (dk_at dksX2_at_0 0 rfl rfl)
theorem dX2_at_1 : decode cX2_at 1 = .ok (.istore_n 2, 1) := dk_61 (dk_at dksX2_at_0 1 rfl rfl)
theorem dX2_at_2 : decode cX2_at 2 = .ok (.aload_n 0, 1) := dk_42 (dk_at dksX2_at_0 2 rfl rfl)
theorem dX2_at_3 : decode cX2_at 3 = .ok (.invokevirtual 53, 3) := dk_182 0 53 (dk_at dksX2_at_0 3 rfl rfl)
theorem dX2_at_6 : decode cX2_at 6 = .ok (.astore_n 3, 1) := dk_78 (dk_at dksX2_at_0 6 rfl rfl)
theorem dX2_at_7 : decode cX2_at 7 = .ok (.aload_n 3, 1) := dk_45 (dk_at dksX2_at_0 7 rfl rfl)
theorem dX2_at_8 : decode cX2_at 8 = .ok (.invokeinterface 57 1, 5) := by decide +kernel
theorem dX2_at_13 : decode cX2_at 13 = .ok (.ifCond .eq 24, 3) := dk_153 0 24 (dk_at dksX2_at_0 13 rfl rfl)
theorem dX2_at_16 : decode cX2_at 16 = .ok (.aload_n 3, 1) := dk_45 (dk_at dksX2_at_0 16 rfl rfl)
theorem dX2_at_17 : decode cX2_at 17 = .ok (.invokeinterface 63 1, 5) := by decide +kernel
theorem dX2_at_22 : decode cX2_at 22 = .ok (.astore 4, 2) := dk_58 4 (dk_at dksX2_at_0 22 rfl rfl)
theorem dX2_at_24 : decode cX2_at 24 = .ok (.iload_n 2, 1) := dk_28 (dk_at dksX2_at_1 0 rfl rfl)
theorem dX2_at_25 : decode cX2_at 25 = .ok (.ifCond .ne 6, 3) := dk_154 0 6 (dk_at dksX2_at_1 1 rfl rfl)
theorem dX2_at_28 : decode cX2_at 28 = .ok (.aload 4, 2) := dk_25 4 (dk_at dksX2_at_1 4 rfl rfl)
theorem dX2_at_30 : decode cX2_at 30 = .ok (.areturn, 1) := dk_176 (dk_at dksX2_at_1 6 rfl rfl)
theorem dX2_at_31 : decode cX2_at 31 = .ok (.iinc 2 (-1), 3) := dk_132 2 255 (dk_at dksX2_at_1 7 rfl rfl)
theorem dX2_at_34 : decode cX2_at 34 = .ok (.goto (-27), 3) := dk_167 255 229 (dk_at dksX2_at_1 10 rfl rfl)
theorem dX2_at_37 : decode cX2_at 37 = .ok (.aconst_null, 1) := dk_1 (dk_at dksX2_at_1 13 rfl rfl)
theorem dX2_at_38 : decode cX2_at 38 = .ok (.areturn, 1) := dk_176 (dk_at dksX2_at_1 14 rfl rfl)
abbrev cX2_empties : ByteArray := prog_9_method_8_code
def yX2_empties : MethodName := ⟨RX2, "empties", "()V"⟩
def dkwX2_empties_0 : List UInt8 := [42, 1, 181, 0, 34, 42, 1, 181, 0, 30, 42, 3, 181, 0, 18, 177]
abbrev dktX2_empties_0 : List UInt8 := dkwX2_empties_0 ++ []
theorem dksX2_empties_0 : cX2_empties.data.toList.drop 0 = dktX2_empties_0 := by decide +kernel
theorem dX2_empties_0 : decode cX2_empties 0 = .ok (.aload_n 0, 1) := dk_42 (dk_at dksX2_empties_0 0 rfl rfl)
theorem dX2_empties_1 : decode cX2_empties 1 = .ok (.aconst_null, 1) := dk_1 (dk_at dksX2_empties_0 1 rfl rfl)
theorem dX2_empties_2 : decode cX2_empties 2 = .ok (.putfield 34, 3) := dk_181 0 34 (dk_at dksX2_empties_0 2 rfl rfl)
theorem dX2_empties_5 : decode cX2_empties 5 = .ok (.aload_n 0, 1) := dk_42 (dk_at dksX2_empties_0 5 rfl rfl)
theorem dX2_empties_6 : decode cX2_empties 6 = .ok (.aconst_null, 1) := dk_1 (dk_at dksX2_empties_0 6 rfl rfl)
theorem dX2_empties_7 : decode cX2_empties 7 = .ok (.putfield 30, 3) := dk_181 0 30 (dk_at dksX2_empties_0 7 rfl rfl)
theorem dX2_empties_10 : decode cX2_empties 10 = .ok (.aload_n 0, 1) := dk_42 (dk_at dksX2_empties_0 10 rfl rfl)
theorem dX2_empties_11 : decode cX2_empties 11 = .ok (.iconst 0, 1) := dk_3 (dk_at dksX2_empties_0 11 rfl rfl)
theorem dX2_empties_12 : decode cX2_empties 12 = .ok (.putfield 18, 3) := dk_181 0 18 (dk_at dksX2_empties_0 12 rfl rfl)
theorem dX2_empties_15 : decode cX2_empties 15 = .ok (.return_, 1) := dk_177 (dk_at dksX2_empties_0 15 rfl rfl)
abbrev cX2_drops : ByteArray := prog_9_method_6_code
def yX2_drops : MethodName := ⟨RX2, "drops", "(LActorTrees$Test;)V"⟩
def dkwX2_drops_1 : List UInt8 := [44, 180, 0, 40, 185, 0, 44, 2, 0, 154, 0, 8, 42, 44, 182, 0, 26, 45, 77, 167, 255, 222, 177]
abbrev dktX2_drops_1 : List UInt8 := dkwX2_drops_1 ++ []
def dkwX2_drops_0 : List UInt8 := [42, 180, 0, 34, 77, 42, 182, 0, 50, 44, 198, 0, 36, 44, 180, 0, 37, 78, 44, 1, 181, 0, 37, 43]
abbrev dktX2_drops_0 : List UInt8 := dkwX2_drops_0 ++ dktX2_drops_1
theorem dksX2_drops_0 : cX2_drops.data.toList.drop 0 = dktX2_drops_0 := by decide +kernel
theorem dksX2_drops_1 : cX2_drops.data.toList.drop 24 = dktX2_drops_1 := dk_seg dksX2_drops_0 24 rfl rfl
theorem dX2_drops_0 : decode cX2_drops 0 = .ok (.aload_n 0, 1) := dk_42 (dk_at dksX2_drops_0 0 rfl rfl)
theorem dX2_drops_1 : decode cX2_drops 1 = .ok (.getfield 34, 3) := dk_180 0 34 (dk_at dksX2_drops_0 1 rfl rfl)
theorem dX2_drops_4 : decode cX2_drops 4 = .ok (.astore_n 2, 1) := dk_77 (dk_at dksX2_drops_0 4 rfl rfl)
theorem dX2_drops_5 : decode cX2_drops 5 = .ok (.aload_n 0, 1) := dk_42 (dk_at dksX2_drops_0 5 rfl rfl)
theorem dX2_drops_6 : decode cX2_drops 6 = .ok (.invokevirtual 50, 3) := dk_182 0 50 (dk_at dksX2_drops_0 6 rfl rfl)
theorem dX2_drops_9 : decode cX2_drops 9 = .ok (.aload_n 2, 1) := dk_44 (dk_at dksX2_drops_0 9 rfl rfl)
theorem dX2_drops_10 : decode cX2_drops 10 = .ok (.ifnull 36, 3) := dk_198 0 36 (dk_at dksX2_drops_0 10 rfl rfl)
theorem dX2_drops_13 : decode cX2_drops 13 = .ok (.aload_n 2, 1) := dk_44 (dk_at dksX2_drops_0 13 rfl rfl)
theorem dX2_drops_14 : decode cX2_drops 14 = .ok (.getfield 37, 3) := dk_180 0 37 (dk_at dksX2_drops_0 14 rfl rfl)
theorem dX2_drops_17 : decode cX2_drops 17 = .ok (.astore_n 3, 1) := dk_78 (dk_at dksX2_drops_0 17 rfl rfl)
theorem dX2_drops_18 : decode cX2_drops 18 = .ok (.aload_n 2, 1) := dk_44 (dk_at dksX2_drops_0 18 rfl rfl)
theorem dX2_drops_19 : decode cX2_drops 19 = .ok (.aconst_null, 1) := dk_1 (dk_at dksX2_drops_0 19 rfl rfl)
theorem dX2_drops_20 : decode cX2_drops 20 = .ok (.putfield 37, 3) := dk_181 0 37 (dk_at dksX2_drops_0 20 rfl rfl)
theorem dX2_drops_23 : decode cX2_drops 23 = .ok (.aload_n 1, 1) := dk_43 (dk_at dksX2_drops_0 23 rfl rfl)
theorem dX2_drops_24 : decode cX2_drops 24 = .ok (.aload_n 2, 1) := dk_44 (dk_at dksX2_drops_1 0 rfl rfl)
theorem dX2_drops_25 : decode cX2_drops 25 = .ok (.getfield 40, 3) := dk_180 0 40 (dk_at dksX2_drops_1 1 rfl rfl)
theorem dX2_drops_28 : decode cX2_drops 28 = .ok (.invokeinterface 44 2, 5) := by decide +kernel
theorem dX2_drops_33 : decode cX2_drops 33 = .ok (.ifCond .ne 8, 3) := dk_154 0 8 (dk_at dksX2_drops_1 9 rfl rfl)
theorem dX2_drops_36 : decode cX2_drops 36 = .ok (.aload_n 0, 1) := dk_42 (dk_at dksX2_drops_1 12 rfl rfl)
theorem dX2_drops_37 : decode cX2_drops 37 = .ok (.aload_n 2, 1) := dk_44 (dk_at dksX2_drops_1 13 rfl rfl)
theorem dX2_drops_38 : decode cX2_drops 38 = .ok (.invokevirtual 26, 3) := dk_182 0 26 (dk_at dksX2_drops_1 14 rfl rfl)
theorem dX2_drops_41 : decode cX2_drops 41 = .ok (.aload_n 3, 1) := dk_45 (dk_at dksX2_drops_1 17 rfl rfl)
theorem dX2_drops_42 : decode cX2_drops 42 = .ok (.astore_n 2, 1) := dk_77 (dk_at dksX2_drops_1 18 rfl rfl)
theorem dX2_drops_43 : decode cX2_drops 43 = .ok (.goto (-34), 3) := dk_167 255 222 (dk_at dksX2_drops_1 19 rfl rfl)
theorem dX2_drops_46 : decode cX2_drops 46 = .ok (.return_, 1) := dk_177 (dk_at dksX2_drops_1 22 rfl rfl)
abbrev cX2_takes : ByteArray := prog_9_method_7_code
def yX2_takes : MethodName := ⟨RX2, "takes", "()Ljava/lang/Object;"⟩
def dkwX2_takes_1 : List UInt8 := [199, 0, 8, 42, 1, 181, 0, 30, 42, 89, 180, 0, 18, 4, 100, 181, 0, 18, 43, 176]
abbrev dktX2_takes_1 : List UInt8 := dkwX2_takes_1 ++ []
def dkwX2_takes_0 : List UInt8 := [42, 180, 0, 34, 180, 0, 40, 76, 42, 42, 180, 0, 34, 180, 0, 37, 181, 0, 34, 42, 180, 0, 34]
abbrev dktX2_takes_0 : List UInt8 := dkwX2_takes_0 ++ dktX2_takes_1
theorem dksX2_takes_0 : cX2_takes.data.toList.drop 0 = dktX2_takes_0 := by decide +kernel
theorem dksX2_takes_1 : cX2_takes.data.toList.drop 23 = dktX2_takes_1 := dk_seg dksX2_takes_0 23 rfl rfl
theorem dX2_takes_0 : decode cX2_takes 0 = .ok (.aload_n 0, 1) := dk_42 (dk_at dksX2_takes_0 0 rfl rfl)
theorem dX2_takes_1 : decode cX2_takes 1 = .ok (.getfield 34, 3) := dk_180 0 34 (dk_at dksX2_takes_0 1 rfl rfl)
theorem dX2_takes_4 : decode cX2_takes 4 = .ok (.getfield 40, 3) := dk_180 0 40 (dk_at dksX2_takes_0 4 rfl rfl)
theorem dX2_takes_7 : decode cX2_takes 7 = .ok (.astore_n 1, 1) := dk_76 (dk_at dksX2_takes_0 7 rfl rfl)
theorem dX2_takes_8 : decode cX2_takes 8 = .ok (.aload_n 0, 1) := dk_42 (dk_at dksX2_takes_0 8 rfl rfl)
theorem dX2_takes_9 : decode cX2_takes 9 = .ok (.aload_n 0, 1) := dk_42 (dk_at dksX2_takes_0 9 rfl rfl)
theorem dX2_takes_10 : decode cX2_takes 10 = .ok (.getfield 34, 3) := dk_180 0 34 (dk_at dksX2_takes_0 10 rfl rfl)
theorem dX2_takes_13 : decode cX2_takes 13 = .ok (.getfield 37, 3) := dk_180 0 37 (dk_at dksX2_takes_0 13 rfl rfl)
theorem dX2_takes_16 : decode cX2_takes 16 = .ok (.putfield 34, 3) := dk_181 0 34 (dk_at dksX2_takes_0 16 rfl rfl)
theorem dX2_takes_19 : decode cX2_takes 19 = .ok (.aload_n 0, 1) := dk_42 (dk_at dksX2_takes_0 19 rfl rfl)
theorem dX2_takes_20 : decode cX2_takes 20 = .ok (.getfield 34, 3) := dk_180 0 34 (dk_at dksX2_takes_0 20 rfl rfl)
theorem dX2_takes_23 : decode cX2_takes 23 = .ok (.ifnonnull 8, 3) := dk_199 0 8 (dk_at dksX2_takes_1 0 rfl rfl)
theorem dX2_takes_26 : decode cX2_takes 26 = .ok (.aload_n 0, 1) := dk_42 (dk_at dksX2_takes_1 3 rfl rfl)
theorem dX2_takes_27 : decode cX2_takes 27 = .ok (.aconst_null, 1) := dk_1 (dk_at dksX2_takes_1 4 rfl rfl)
theorem dX2_takes_28 : decode cX2_takes 28 = .ok (.putfield 30, 3) := dk_181 0 30 (dk_at dksX2_takes_1 5 rfl rfl)
theorem dX2_takes_31 : decode cX2_takes 31 = .ok (.aload_n 0, 1) := dk_42 (dk_at dksX2_takes_1 8 rfl rfl)
theorem dX2_takes_32 : decode cX2_takes 32 = .ok (.dup, 1) := dk_89 (dk_at dksX2_takes_1 9 rfl rfl)
theorem dX2_takes_33 : decode cX2_takes 33 = .ok (.getfield 18, 3) := dk_180 0 18 (dk_at dksX2_takes_1 10 rfl rfl)
theorem dX2_takes_36 : decode cX2_takes 36 = .ok (.iconst 1, 1) := dk_4 (dk_at dksX2_takes_1 13 rfl rfl)
theorem dX2_takes_37 : decode cX2_takes 37 = .ok (.isub, 1) := dk_100 (dk_at dksX2_takes_1 14 rfl rfl)
theorem dX2_takes_38 : decode cX2_takes 38 = .ok (.putfield 18, 3) := dk_181 0 18 (dk_at dksX2_takes_1 15 rfl rfl)
theorem dX2_takes_41 : decode cX2_takes 41 = .ok (.aload_n 1, 1) := dk_43 (dk_at dksX2_takes_1 18 rfl rfl)
theorem dX2_takes_42 : decode cX2_takes 42 = .ok (.areturn, 1) := dk_176 (dk_at dksX2_takes_1 19 rfl rfl)
abbrev cX2_ahead : ByteArray := prog_9_method_10_code
def yX2_ahead : MethodName := ⟨RX2, "ahead", "(LActorTrees$Queue;)I"⟩
def dkwX2_ahead_4 : List UInt8 := [25, 7, 182, 0, 78, 87, 132, 5, 1, 167, 255, 221, 42, 45, 182, 0, 75, 21, 4, 172]
abbrev dktX2_ahead_4 : List UInt8 := dkwX2_ahead_4 ++ []
def dkwX2_ahead_3 : List UInt8 := [185, 0, 57, 1, 0, 153, 0, 31, 25, 6, 185, 0, 63, 1, 0, 58, 7, 21, 5, 28, 162, 0, 10, 42]
abbrev dktX2_ahead_3 : List UInt8 := dkwX2_ahead_3 ++ dktX2_ahead_4
def dkwX2_ahead_2 : List UInt8 := [180, 0, 18, 28, 100, 54, 4, 42, 182, 0, 50, 3, 54, 5, 43, 182, 0, 53, 58, 6, 25, 6]
abbrev dktX2_ahead_2 : List UInt8 := dkwX2_ahead_2 ++ dktX2_ahead_3
def dkwX2_ahead_1 : List UInt8 := [184, 0, 66, 61, 187, 0, 8, 89, 42, 180, 0, 7, 183, 0, 72, 78, 45, 42, 182, 0, 75, 43]
abbrev dktX2_ahead_1 : List UInt8 := dkwX2_ahead_1 ++ dktX2_ahead_2
def dkwX2_ahead_0 : List UInt8 := [43, 180, 0, 18, 154, 0, 5, 3, 172, 43, 180, 0, 18, 42, 180, 0, 7, 42, 180, 0, 18, 100]
abbrev dktX2_ahead_0 : List UInt8 := dkwX2_ahead_0 ++ dktX2_ahead_1
theorem dksX2_ahead_0 : cX2_ahead.data.toList.drop 0 = dktX2_ahead_0 := by decide +kernel
theorem dksX2_ahead_1 : cX2_ahead.data.toList.drop 22 = dktX2_ahead_1 := dk_seg dksX2_ahead_0 22 rfl rfl
theorem dksX2_ahead_2 : cX2_ahead.data.toList.drop 44 = dktX2_ahead_2 := dk_seg dksX2_ahead_1 22 rfl rfl
theorem dksX2_ahead_3 : cX2_ahead.data.toList.drop 66 = dktX2_ahead_3 := dk_seg dksX2_ahead_2 22 rfl rfl
theorem dksX2_ahead_4 : cX2_ahead.data.toList.drop 90 = dktX2_ahead_4 := dk_seg dksX2_ahead_3 24 rfl rfl
theorem dX2_ahead_0 : decode cX2_ahead 0 = .ok (.aload_n 1, 1) := dk_43 (dk_at dksX2_ahead_0 0 rfl rfl)
theorem dX2_ahead_1 : decode cX2_ahead 1 = .ok (.getfield 18, 3) := dk_180 0 18 (dk_at dksX2_ahead_0 1 rfl rfl)
theorem dX2_ahead_4 : decode cX2_ahead 4 = .ok (.ifCond .ne 5, 3) := dk_154 0 5 (dk_at dksX2_ahead_0 4 rfl rfl)
theorem dX2_ahead_7 : decode cX2_ahead 7 = .ok (.iconst 0, 1) := dk_3 (dk_at dksX2_ahead_0 7 rfl rfl)
theorem dX2_ahead_8 : decode cX2_ahead 8 = .ok (.ireturn, 1) := dk_172 (dk_at dksX2_ahead_0 8 rfl rfl)
theorem dX2_ahead_9 : decode cX2_ahead 9 = .ok (.aload_n 1, 1) := dk_43 (dk_at dksX2_ahead_0 9 rfl rfl)
theorem dX2_ahead_10 : decode cX2_ahead 10 = .ok (.getfield 18, 3) := dk_180 0 18 (dk_at dksX2_ahead_0 10 rfl rfl)
theorem dX2_ahead_13 : decode cX2_ahead 13 = .ok (.aload_n 0, 1) := dk_42 (dk_at dksX2_ahead_0 13 rfl rfl)
theorem dX2_ahead_14 : decode cX2_ahead 14 = .ok (.getfield 7, 3) := dk_180 0 7 (dk_at dksX2_ahead_0 14 rfl rfl)
theorem dX2_ahead_17 : decode cX2_ahead 17 = .ok (.aload_n 0, 1) := dk_42 (dk_at dksX2_ahead_0 17 rfl rfl)
theorem dX2_ahead_18 : decode cX2_ahead 18 = .ok (.getfield 18, 3) := dk_180 0 18 (dk_at dksX2_ahead_0 18 rfl rfl)
theorem dX2_ahead_21 : decode cX2_ahead 21 = .ok (.isub, 1) := dk_100 (dk_at dksX2_ahead_0 21 rfl rfl)
theorem dX2_ahead_22 : decode cX2_ahead 22 = .ok (.invokestatic 66, 3) := dk_184 0 66 (dk_at dksX2_ahead_1 0 rfl rfl)
theorem dX2_ahead_25 : decode cX2_ahead 25 = .ok (.istore_n 2, 1) := dk_61 (dk_at dksX2_ahead_1 3 rfl rfl)
theorem dX2_ahead_26 : decode cX2_ahead 26 = .ok (.new 8, 3) := dk_187 0 8 (dk_at dksX2_ahead_1 4 rfl rfl)
theorem dX2_ahead_29 : decode cX2_ahead 29 = .ok (.dup, 1) := dk_89 (dk_at dksX2_ahead_1 7 rfl rfl)
theorem dX2_ahead_30 : decode cX2_ahead 30 = .ok (.aload_n 0, 1) := dk_42 (dk_at dksX2_ahead_1 8 rfl rfl)
theorem dX2_ahead_31 : decode cX2_ahead 31 = .ok (.getfield 7, 3) := dk_180 0 7 (dk_at dksX2_ahead_1 9 rfl rfl)
theorem dX2_ahead_34 : decode cX2_ahead 34 = .ok (.invokespecial 72, 3) := dk_183 0 72 (dk_at dksX2_ahead_1 12 rfl rfl)
theorem dX2_ahead_37 : decode cX2_ahead 37 = .ok (.astore_n 3, 1) := dk_78 (dk_at dksX2_ahead_1 15 rfl rfl)
theorem dX2_ahead_38 : decode cX2_ahead 38 = .ok (.aload_n 3, 1) := dk_45 (dk_at dksX2_ahead_1 16 rfl rfl)
theorem dX2_ahead_39 : decode cX2_ahead 39 = .ok (.aload_n 0, 1) := dk_42 (dk_at dksX2_ahead_1 17 rfl rfl)
theorem dX2_ahead_40 : decode cX2_ahead 40 = .ok (.invokevirtual 75, 3) := dk_182 0 75 (dk_at dksX2_ahead_1 18 rfl rfl)
theorem dX2_ahead_43 : decode cX2_ahead 43 = .ok (.aload_n 1, 1) := dk_43 (dk_at dksX2_ahead_1 21 rfl rfl)
theorem dX2_ahead_44 : decode cX2_ahead 44 = .ok (.getfield 18, 3) := dk_180 0 18 (dk_at dksX2_ahead_2 0 rfl rfl)
theorem dX2_ahead_47 : decode cX2_ahead 47 = .ok (.iload_n 2, 1) := dk_28 (dk_at dksX2_ahead_2 3 rfl rfl)
theorem dX2_ahead_48 : decode cX2_ahead 48 = .ok (.isub, 1) := dk_100 (dk_at dksX2_ahead_2 4 rfl rfl)
theorem dX2_ahead_49 : decode cX2_ahead 49 = .ok (.istore 4, 2) := dk_54 4 (dk_at dksX2_ahead_2 5 rfl rfl)
theorem dX2_ahead_51 : decode cX2_ahead 51 = .ok (.aload_n 0, 1) := dk_42 (dk_at dksX2_ahead_2 7 rfl rfl)
theorem dX2_ahead_52 : decode cX2_ahead 52 = .ok (.invokevirtual 50, 3) := dk_182 0 50 (dk_at dksX2_ahead_2 8 rfl rfl)
theorem dX2_ahead_55 : decode cX2_ahead 55 = .ok (.iconst 0, 1) := dk_3 (dk_at dksX2_ahead_2 11 rfl rfl)
theorem dX2_ahead_56 : decode cX2_ahead 56 = .ok (.istore 5, 2) := dk_54 5 (dk_at dksX2_ahead_2 12 rfl rfl)
theorem dX2_ahead_58 : decode cX2_ahead 58 = .ok (.aload_n 1, 1) := dk_43 (dk_at dksX2_ahead_2 14 rfl rfl)
theorem dX2_ahead_59 : decode cX2_ahead 59 = .ok (.invokevirtual 53, 3) := dk_182 0 53 (dk_at dksX2_ahead_2 15 rfl rfl)
theorem dX2_ahead_62 : decode cX2_ahead 62 = .ok (.astore 6, 2) := dk_58 6 (dk_at dksX2_ahead_2 18 rfl rfl)
theorem dX2_ahead_64 : decode cX2_ahead 64 = .ok (.aload 6, 2) := dk_25 6 (dk_at dksX2_ahead_2 20 rfl rfl)
theorem dX2_ahead_66 : decode cX2_ahead 66 = .ok (.invokeinterface 57 1, 5) := by decide +kernel
theorem dX2_ahead_71 : decode cX2_ahead 71 = .ok (.ifCond .eq 31, 3) := dk_153 0 31 (dk_at dksX2_ahead_3 5 rfl rfl)
theorem dX2_ahead_74 : decode cX2_ahead 74 = .ok (.aload 6, 2) := dk_25 6 (dk_at dksX2_ahead_3 8 rfl rfl)
theorem dX2_ahead_76 : decode cX2_ahead 76 = .ok (.invokeinterface 63 1, 5) := by decide +kernel
theorem dX2_ahead_81 : decode cX2_ahead 81 = .ok (.astore 7, 2) := dk_58 7 (dk_at dksX2_ahead_3 15 rfl rfl)
theorem dX2_ahead_83 : decode cX2_ahead 83 = .ok (.iload 5, 2) := dk_21 5 (dk_at dksX2_ahead_3 17 rfl rfl)
theorem dX2_ahead_85 : decode cX2_ahead 85 = .ok (.iload_n 2, 1) := dk_28 (dk_at dksX2_ahead_3 19 rfl rfl)
theorem dX2_ahead_86 : decode cX2_ahead 86 = .ok (.if_icmp .ge 10, 3) := dk_162 0 10 (dk_at dksX2_ahead_3 20 rfl rfl)
theorem dX2_ahead_89 : decode cX2_ahead 89 = .ok (.aload_n 0, 1) := dk_42 (dk_at dksX2_ahead_3 23 rfl rfl)
theorem dX2_ahead_90 : decode cX2_ahead 90 = .ok (.aload 7, 2) := dk_25 7 (dk_at dksX2_ahead_4 0 rfl rfl)
theorem dX2_ahead_92 : decode cX2_ahead 92 = .ok (.invokevirtual 78, 3) := dk_182 0 78 (dk_at dksX2_ahead_4 2 rfl rfl)
theorem dX2_ahead_95 : decode cX2_ahead 95 = .ok (.pop, 1) := dk_87 (dk_at dksX2_ahead_4 5 rfl rfl)
theorem dX2_ahead_96 : decode cX2_ahead 96 = .ok (.iinc 5 1, 3) := dk_132 5 1 (dk_at dksX2_ahead_4 6 rfl rfl)
theorem dX2_ahead_99 : decode cX2_ahead 99 = .ok (.goto (-35), 3) := dk_167 255 221 (dk_at dksX2_ahead_4 9 rfl rfl)
theorem dX2_ahead_102 : decode cX2_ahead 102 = .ok (.aload_n 0, 1) := dk_42 (dk_at dksX2_ahead_4 12 rfl rfl)
theorem dX2_ahead_103 : decode cX2_ahead 103 = .ok (.aload_n 3, 1) := dk_45 (dk_at dksX2_ahead_4 13 rfl rfl)
theorem dX2_ahead_104 : decode cX2_ahead 104 = .ok (.invokevirtual 75, 3) := dk_182 0 75 (dk_at dksX2_ahead_4 14 rfl rfl)
theorem dX2_ahead_107 : decode cX2_ahead 107 = .ok (.iload 4, 2) := dk_21 4 (dk_at dksX2_ahead_4 17 rfl rfl)
theorem dX2_ahead_109 : decode cX2_ahead 109 = .ok (.ireturn, 1) := dk_172 (dk_at dksX2_ahead_4 19 rfl rfl)
abbrev cX2_all : ByteArray := prog_9_method_11_code
def yX2_all : MethodName := ⟨RX2, "all", "(LActorTrees$Queue;)V"⟩
def dkwX2_all_1 : List UInt8 := [182, 0, 78, 87, 167, 255, 234, 177]
abbrev dktX2_all_1 : List UInt8 := dkwX2_all_1 ++ []
def dkwX2_all_0 : List UInt8 := [43, 182, 0, 53, 77, 44, 185, 0, 57, 1, 0, 153, 0, 19, 44, 185, 0, 63, 1, 0, 78, 42, 45]
abbrev dktX2_all_0 : List UInt8 := dkwX2_all_0 ++ dktX2_all_1
theorem dksX2_all_0 : cX2_all.data.toList.drop 0 = dktX2_all_0 := by decide +kernel
theorem dksX2_all_1 : cX2_all.data.toList.drop 23 = dktX2_all_1 := dk_seg dksX2_all_0 23 rfl rfl
theorem dX2_all_0 : decode cX2_all 0 = .ok (.aload_n 1, 1) := dk_43 (dk_at dksX2_all_0 0 rfl rfl)
theorem dX2_all_1 : decode cX2_all 1 = .ok (.invokevirtual 53, 3) := dk_182 0 53 (dk_at dksX2_all_0 1 rfl rfl)
theorem dX2_all_4 : decode cX2_all 4 = .ok (.astore_n 2, 1) := dk_77 (dk_at dksX2_all_0 4 rfl rfl)
theorem dX2_all_5 : decode cX2_all 5 = .ok (.aload_n 2, 1) := dk_44 (dk_at dksX2_all_0 5 rfl rfl)
theorem dX2_all_6 : decode cX2_all 6 = .ok (.invokeinterface 57 1, 5) := by decide +kernel
theorem dX2_all_11 : decode cX2_all 11 = .ok (.ifCond .eq 19, 3) := dk_153 0 19 (dk_at dksX2_all_0 11 rfl rfl)
theorem dX2_all_14 : decode cX2_all 14 = .ok (.aload_n 2, 1) := dk_44 (dk_at dksX2_all_0 14 rfl rfl)
theorem dX2_all_15 : decode cX2_all 15 = .ok (.invokeinterface 63 1, 5) := by decide +kernel
theorem dX2_all_20 : decode cX2_all 20 = .ok (.astore_n 3, 1) := dk_78 (dk_at dksX2_all_0 20 rfl rfl)
theorem dX2_all_21 : decode cX2_all 21 = .ok (.aload_n 0, 1) := dk_42 (dk_at dksX2_all_0 21 rfl rfl)
theorem dX2_all_22 : decode cX2_all 22 = .ok (.aload_n 3, 1) := dk_45 (dk_at dksX2_all_0 22 rfl rfl)
theorem dX2_all_23 : decode cX2_all 23 = .ok (.invokevirtual 78, 3) := dk_182 0 78 (dk_at dksX2_all_1 0 rfl rfl)
theorem dX2_all_26 : decode cX2_all 26 = .ok (.pop, 1) := dk_87 (dk_at dksX2_all_1 3 rfl rfl)
theorem dX2_all_27 : decode cX2_all 27 = .ok (.goto (-22), 3) := dk_167 255 234 (dk_at dksX2_all_1 4 rfl rfl)
theorem dX2_all_30 : decode cX2_all 30 = .ok (.return_, 1) := dk_177 (dk_at dksX2_all_1 7 rfl rfl)
abbrev cX2_putsAhead : ByteArray := prog_9_method_5_code
def yX2_putsAhead : MethodName := ⟨RX2, "putsAhead", "(Ljava/lang/Object;LActorTrees$Test;)V"⟩
def dkwX2_putsAhead_5 : List UInt8 := [181, 0, 18, 177]
abbrev dktX2_putsAhead_5 : List UInt8 := dkwX2_putsAhead_5 ++ []
def dkwX2_putsAhead_4 : List UInt8 := [180, 0, 37, 199, 0, 7, 45, 167, 0, 7, 42, 180, 0, 30, 181, 0, 30, 42, 89, 180, 0, 18, 4, 96]
abbrev dktX2_putsAhead_4 : List UInt8 := dkwX2_putsAhead_4 ++ dktX2_putsAhead_5
def dkwX2_putsAhead_3 : List UInt8 := [181, 0, 37, 25, 4, 199, 0, 11, 42, 45, 181, 0, 34, 167, 0, 9, 25, 4, 45, 181, 0, 37, 42, 45]
abbrev dktX2_putsAhead_3 : List UInt8 := dkwX2_putsAhead_3 ++ dktX2_putsAhead_4
def dkwX2_putsAhead_2 : List UInt8 := [58, 5, 167, 255, 226, 45, 25, 4, 199, 0, 10, 42, 180, 0, 34, 167, 0, 8, 25, 4, 180, 0, 37]
abbrev dktX2_putsAhead_2 : List UInt8 := dkwX2_putsAhead_2 ++ dktX2_putsAhead_3
def dkwX2_putsAhead_1 : List UInt8 := [44, 25, 5, 180, 0, 40, 185, 0, 44, 2, 0, 154, 0, 17, 25, 5, 58, 4, 25, 5, 180, 0, 37]
abbrev dktX2_putsAhead_1 : List UInt8 := dkwX2_putsAhead_1 ++ dktX2_putsAhead_2
def dkwX2_putsAhead_0 : List UInt8 := [187, 0, 21, 89, 42, 43, 183, 0, 23, 78, 1, 58, 4, 42, 180, 0, 34, 58, 5, 25, 5, 198, 0, 31]
abbrev dktX2_putsAhead_0 : List UInt8 := dkwX2_putsAhead_0 ++ dktX2_putsAhead_1
theorem dksX2_putsAhead_0 : cX2_putsAhead.data.toList.drop 0 = dktX2_putsAhead_0 := by decide +kernel
theorem dksX2_putsAhead_1 : cX2_putsAhead.data.toList.drop 24 = dktX2_putsAhead_1 := dk_seg dksX2_putsAhead_0 24 rfl rfl
theorem dksX2_putsAhead_2 : cX2_putsAhead.data.toList.drop 47 = dktX2_putsAhead_2 := dk_seg dksX2_putsAhead_1 23 rfl rfl
theorem dksX2_putsAhead_3 : cX2_putsAhead.data.toList.drop 70 = dktX2_putsAhead_3 := dk_seg dksX2_putsAhead_2 23 rfl rfl
theorem dksX2_putsAhead_4 : cX2_putsAhead.data.toList.drop 94 = dktX2_putsAhead_4 := dk_seg dksX2_putsAhead_3 24 rfl rfl
theorem dksX2_putsAhead_5 : cX2_putsAhead.data.toList.drop 118 = dktX2_putsAhead_5 := dk_seg dksX2_putsAhead_4 24 rfl rfl
theorem dX2_putsAhead_0 : decode cX2_putsAhead 0 = .ok (.new 21, 3) := dk_187 0 21 (dk_at dksX2_putsAhead_0 0 rfl rfl)
theorem dX2_putsAhead_3 : decode cX2_putsAhead 3 = .ok (.dup, 1) := dk_89 (dk_at dksX2_putsAhead_0 3 rfl rfl)
theorem dX2_putsAhead_4 : decode cX2_putsAhead 4 = .ok (.aload_n 0, 1) := dk_42 (dk_at dksX2_putsAhead_0 4 rfl rfl)
theorem dX2_putsAhead_5 : decode cX2_putsAhead 5 = .ok (.aload_n 1, 1) := dk_43 (dk_at dksX2_putsAhead_0 5 rfl rfl)
theorem dX2_putsAhead_6 : decode cX2_putsAhead 6 = .ok (.invokespecial 23, 3) := dk_183 0 23 (dk_at dksX2_putsAhead_0 6 rfl rfl)
theorem dX2_putsAhead_9 : decode cX2_putsAhead 9 = .ok (.astore_n 3, 1) := dk_78 (dk_at dksX2_putsAhead_0 9 rfl rfl)
theorem dX2_putsAhead_10 : decode cX2_putsAhead 10 = .ok (.aconst_null, 1) := dk_1 (dk_at dksX2_putsAhead_0 10 rfl rfl)
theorem dX2_putsAhead_11 : decode cX2_putsAhead 11 = .ok (.astore 4, 2) := dk_58 4 (dk_at dksX2_putsAhead_0 11 rfl rfl)
theorem dX2_putsAhead_13 : decode cX2_putsAhead 13 = .ok (.aload_n 0, 1) := dk_42 (dk_at dksX2_putsAhead_0 13 rfl rfl)
theorem dX2_putsAhead_14 : decode cX2_putsAhead 14 = .ok (.getfield 34, 3) := dk_180 0 34 (dk_at dksX2_putsAhead_0 14 rfl rfl)
theorem dX2_putsAhead_17 : decode cX2_putsAhead 17 = .ok (.astore 5, 2) := dk_58 5 (dk_at dksX2_putsAhead_0 17 rfl rfl)
theorem dX2_putsAhead_19 : decode cX2_putsAhead 19 = .ok (.aload 5, 2) := dk_25 5 (dk_at dksX2_putsAhead_0 19 rfl rfl)
theorem dX2_putsAhead_21 : decode cX2_putsAhead 21 = .ok (.ifnull 31, 3) := dk_198 0 31 (dk_at dksX2_putsAhead_0 21 rfl rfl)
theorem dX2_putsAhead_24 : decode cX2_putsAhead 24 = .ok (.aload_n 2, 1) := dk_44 (dk_at dksX2_putsAhead_1 0 rfl rfl)
theorem dX2_putsAhead_25 : decode cX2_putsAhead 25 = .ok (.aload 5, 2) := dk_25 5 (dk_at dksX2_putsAhead_1 1 rfl rfl)
theorem dX2_putsAhead_27 : decode cX2_putsAhead 27 = .ok (.getfield 40, 3) := dk_180 0 40 (dk_at dksX2_putsAhead_1 3 rfl rfl)
theorem dX2_putsAhead_30 : decode cX2_putsAhead 30 = .ok (.invokeinterface 44 2, 5) := by decide +kernel
theorem dX2_putsAhead_35 : decode cX2_putsAhead 35 = .ok (.ifCond .ne 17, 3) := dk_154 0 17 (dk_at dksX2_putsAhead_1 11 rfl rfl)
theorem dX2_putsAhead_38 : decode cX2_putsAhead 38 = .ok (.aload 5, 2) := dk_25 5 (dk_at dksX2_putsAhead_1 14 rfl rfl)
theorem dX2_putsAhead_40 : decode cX2_putsAhead 40 = .ok (.astore 4, 2) := dk_58 4 (dk_at dksX2_putsAhead_1 16 rfl rfl)
theorem dX2_putsAhead_42 : decode cX2_putsAhead 42 = .ok (.aload 5, 2) := dk_25 5 (dk_at dksX2_putsAhead_1 18 rfl rfl)
theorem dX2_putsAhead_44 : decode cX2_putsAhead 44 = .ok (.getfield 37, 3) := dk_180 0 37 (dk_at dksX2_putsAhead_1 20 rfl rfl)
theorem dX2_putsAhead_47 : decode cX2_putsAhead 47 = .ok (.astore 5, 2) := dk_58 5 (dk_at dksX2_putsAhead_2 0 rfl rfl)
theorem dX2_putsAhead_49 : decode cX2_putsAhead 49 = .ok (.goto (-30), 3) := dk_167 255 226 (dk_at dksX2_putsAhead_2 2 rfl rfl)
theorem dX2_putsAhead_52 : decode cX2_putsAhead 52 = .ok (.aload_n 3, 1) := dk_45 (dk_at dksX2_putsAhead_2 5 rfl rfl)
theorem dX2_putsAhead_53 : decode cX2_putsAhead 53 = .ok (.aload 4, 2) := dk_25 4 (dk_at dksX2_putsAhead_2 6 rfl rfl)
theorem dX2_putsAhead_55 : decode cX2_putsAhead 55 = .ok (.ifnonnull 10, 3) := dk_199 0 10 (dk_at dksX2_putsAhead_2 8 rfl rfl)
theorem dX2_putsAhead_58 : decode cX2_putsAhead 58 = .ok (.aload_n 0, 1) := dk_42 (dk_at dksX2_putsAhead_2 11 rfl rfl)
theorem dX2_putsAhead_59 : decode cX2_putsAhead 59 = .ok (.getfield 34, 3) := dk_180 0 34 (dk_at dksX2_putsAhead_2 12 rfl rfl)
theorem dX2_putsAhead_62 : decode cX2_putsAhead 62 = .ok (.goto 8, 3) := dk_167 0 8 (dk_at dksX2_putsAhead_2 15 rfl rfl)
theorem dX2_putsAhead_65 : decode cX2_putsAhead 65 = .ok (.aload 4, 2) := dk_25 4 (dk_at dksX2_putsAhead_2 18 rfl rfl)
theorem dX2_putsAhead_67 : decode cX2_putsAhead 67 = .ok (.getfield 37, 3) := dk_180 0 37 (dk_at dksX2_putsAhead_2 20 rfl rfl)
theorem dX2_putsAhead_70 : decode cX2_putsAhead 70 = .ok (.putfield 37, 3) := dk_181 0 37 (dk_at dksX2_putsAhead_3 0 rfl rfl)
theorem dX2_putsAhead_73 : decode cX2_putsAhead 73 = .ok (.aload 4, 2) := dk_25 4 (dk_at dksX2_putsAhead_3 3 rfl rfl)
theorem dX2_putsAhead_75 : decode cX2_putsAhead 75 = .ok (.ifnonnull 11, 3) := dk_199 0 11 (dk_at dksX2_putsAhead_3 5 rfl rfl)
theorem dX2_putsAhead_78 : decode cX2_putsAhead 78 = .ok (.aload_n 0, 1) := dk_42 (dk_at dksX2_putsAhead_3 8 rfl rfl)
theorem dX2_putsAhead_79 : decode cX2_putsAhead 79 = .ok (.aload_n 3, 1) := dk_45 (dk_at dksX2_putsAhead_3 9 rfl rfl)
theorem dX2_putsAhead_80 : decode cX2_putsAhead 80 = .ok (.putfield 34, 3) := dk_181 0 34 (dk_at dksX2_putsAhead_3 10 rfl rfl)
theorem dX2_putsAhead_83 : decode cX2_putsAhead 83 = .ok (.goto 9, 3) := dk_167 0 9 (dk_at dksX2_putsAhead_3 13 rfl rfl)
theorem dX2_putsAhead_86 : decode cX2_putsAhead 86 = .ok (.aload 4, 2) := dk_25 4 (dk_at dksX2_putsAhead_3 16 rfl rfl)
theorem dX2_putsAhead_88 : decode cX2_putsAhead 88 = .ok (.aload_n 3, 1) := dk_45 (dk_at dksX2_putsAhead_3 18 rfl rfl)
theorem dX2_putsAhead_89 : decode cX2_putsAhead 89 = .ok (.putfield 37, 3) := dk_181 0 37 (dk_at dksX2_putsAhead_3 19 rfl rfl)
theorem dX2_putsAhead_92 : decode cX2_putsAhead 92 = .ok (.aload_n 0, 1) := dk_42 (dk_at dksX2_putsAhead_3 22 rfl rfl)
theorem dX2_putsAhead_93 : decode cX2_putsAhead 93 = .ok (.aload_n 3, 1) := dk_45 (dk_at dksX2_putsAhead_3 23 rfl rfl)
theorem dX2_putsAhead_94 : decode cX2_putsAhead 94 = .ok (.getfield 37, 3) := dk_180 0 37 (dk_at dksX2_putsAhead_4 0 rfl rfl)
theorem dX2_putsAhead_97 : decode cX2_putsAhead 97 = .ok (.ifnonnull 7, 3) := dk_199 0 7 (dk_at dksX2_putsAhead_4 3 rfl rfl)
theorem dX2_putsAhead_100 : decode cX2_putsAhead 100 = .ok (.aload_n 3, 1) := dk_45 (dk_at dksX2_putsAhead_4 6 rfl rfl)
theorem dX2_putsAhead_101 : decode cX2_putsAhead 101 = .ok (.goto 7, 3) := dk_167 0 7 (dk_at dksX2_putsAhead_4 7 rfl rfl)
theorem dX2_putsAhead_104 : decode cX2_putsAhead 104 = .ok (.aload_n 0, 1) := dk_42 (dk_at dksX2_putsAhead_4 10 rfl rfl)
theorem dX2_putsAhead_105 : decode cX2_putsAhead 105 = .ok (.getfield 30, 3) := dk_180 0 30 (dk_at dksX2_putsAhead_4 11 rfl rfl)
theorem dX2_putsAhead_108 : decode cX2_putsAhead 108 = .ok (.putfield 30, 3) := dk_181 0 30 (dk_at dksX2_putsAhead_4 14 rfl rfl)
theorem dX2_putsAhead_111 : decode cX2_putsAhead 111 = .ok (.aload_n 0, 1) := dk_42 (dk_at dksX2_putsAhead_4 17 rfl rfl)
theorem dX2_putsAhead_112 : decode cX2_putsAhead 112 = .ok (.dup, 1) := dk_89 (dk_at dksX2_putsAhead_4 18 rfl rfl)
theorem dX2_putsAhead_113 : decode cX2_putsAhead 113 = .ok (.getfield 18, 3) := dk_180 0 18 (dk_at dksX2_putsAhead_4 19 rfl rfl)
theorem dX2_putsAhead_116 : decode cX2_putsAhead 116 = .ok (.iconst 1, 1) := dk_4 (dk_at dksX2_putsAhead_4 22 rfl rfl)
theorem dX2_putsAhead_117 : decode cX2_putsAhead 117 = .ok (.iadd, 1) := dk_96 (dk_at dksX2_putsAhead_4 23 rfl rfl)
theorem dX2_putsAhead_118 : decode cX2_putsAhead 118 = .ok (.putfield 18, 3) := dk_181 0 18 (dk_at dksX2_putsAhead_5 0 rfl rfl)
theorem dX2_putsAhead_121 : decode cX2_putsAhead 121 = .ok (.return_, 1) := dk_177 (dk_at dksX2_putsAhead_5 3 rfl rfl)
theorem q76 : (Jvm.Cond.initialized "ActorTrees$Queue") ∈ lw_all := lw_g (lw_at lw_m1 3 rfl) rfl
theorem q124 : (Jvm.Cond.instantiable "ActorTrees$Queue" (4 : Nat)) ∈ lw_all := lw_g (lw_at lw_m1 51 rfl) rfl
theorem q126 : (Jvm.Cond.instanceMethod ({ cls := "ActorTrees$Queue", name := "<init>", desc := "(I)V" } : Jvm.MethodName)) ∈ lw_all := lw_g (lw_at lw_m1 53 rfl) rfl
theorem q127 : (Jvm.Cond.code ({ cls := "ActorTrees$Queue", name := "<init>", desc := "(I)V" } : Jvm.MethodName) prog_9_method_1_code (2 : Nat) (Option.none : Option Jvm.ClassFile.FieldType)) ∈ lw_all := lw_g (lw_at lw_m1 54 rfl) rfl
theorem q128 : (Jvm.Cond.methodLink "ActorTrees$Queue" (1 : Nat) ({ cls := "java/lang/Object", name := "<init>", desc := "()V" } : Jvm.MethodName)) ∈ lw_all := lw_g (lw_at lw_m1 55 rfl) rfl
theorem q129 : (Jvm.Cond.fieldLink "ActorTrees$Queue" (7 : Nat) "ActorTrees$Queue" "most" "I") ∈ lw_all := lw_g (lw_at lw_m1 56 rfl) rfl
theorem q131 : (Jvm.Cond.fieldLink "ActorTrees$Queue" (34 : Nat) "ActorTrees$Queue" "first" "LActorTrees$Queue$Cell;") ∈ lw_all := lw_g (lw_at lw_m1 58 rfl) rfl
theorem q133 : (Jvm.Cond.fieldLink "ActorTrees$Queue" (30 : Nat) "ActorTrees$Queue" "last" "LActorTrees$Queue$Cell;") ∈ lw_all := lw_g (lw_at lw_m1 60 rfl) rfl
theorem q134 : (Jvm.Cond.fieldLink "ActorTrees$Queue" (18 : Nat) "ActorTrees$Queue" "many" "I") ∈ lw_all := lw_g (lw_at lw_m1 61 rfl) rfl
theorem q138 : (Jvm.Cond.laysFinal "ActorTrees$Queue" "ActorTrees$Queue" "most" "I") ∈ lw_all := lw_g (lw_at lw_m1 65 rfl) rfl
theorem q139 : (Jvm.Cond.soleField "ActorTrees$Queue" "most") ∈ lw_all := lw_g (lw_at lw_m1 66 rfl) rfl
theorem q140 : (Jvm.Cond.lays "ActorTrees$Queue" "ActorTrees$Queue" "first" "LActorTrees$Queue$Cell;") ∈ lw_all := lw_g (lw_at lw_m1 67 rfl) rfl
theorem q141 : (Jvm.Cond.soleField "ActorTrees$Queue" "first") ∈ lw_all := lw_g (lw_at lw_m1 68 rfl) rfl
theorem q142 : (Jvm.Cond.lays "ActorTrees$Queue" "ActorTrees$Queue" "last" "LActorTrees$Queue$Cell;") ∈ lw_all := lw_g (lw_at lw_m1 69 rfl) rfl
theorem q143 : (Jvm.Cond.soleField "ActorTrees$Queue" "last") ∈ lw_all := lw_g (lw_at lw_m1 70 rfl) rfl
theorem q144 : (Jvm.Cond.lays "ActorTrees$Queue" "ActorTrees$Queue" "many" "I") ∈ lw_all := lw_g (lw_at lw_m1 71 rfl) rfl
theorem q145 : (Jvm.Cond.soleField "ActorTrees$Queue" "many") ∈ lw_all := lw_g (lw_at lw_m1 72 rfl) rfl
theorem q146 : (Jvm.Cond.superclass "ActorTrees$Queue" "java/lang/Object") ∈ lw_all := lw_g (lw_at lw_m1 73 rfl) rfl
theorem q395 : (Jvm.Cond.instanceMethod ({ cls := "ActorTrees$Queue", name := "puts", desc := "(Ljava/lang/Object;)Z" } : Jvm.MethodName)) ∈ lw_all := lw_g (lw_at lw_m2 82 rfl) rfl
theorem q396 : (Jvm.Cond.selects "ActorTrees$Queue" ({ cls := "ActorTrees$Queue", name := "puts", desc := "(Ljava/lang/Object;)Z" } : Jvm.MethodName) ({ cls := "ActorTrees$Queue", name := "puts", desc := "(Ljava/lang/Object;)Z" } : Jvm.MethodName)) ∈ lw_all := lw_g (lw_at lw_m2 83 rfl) rfl
theorem q397 : (Jvm.Cond.code ({ cls := "ActorTrees$Queue", name := "puts", desc := "(Ljava/lang/Object;)Z" } : Jvm.MethodName) prog_9_method_3_code (2 : Nat) (Option.some Jvm.ClassFile.FieldType.boolean)) ∈ lw_all := lw_g (lw_at lw_m2 84 rfl) rfl
theorem q398 : (Jvm.Cond.classLink "ActorTrees$Queue" (21 : Nat) "ActorTrees$Queue$Cell") ∈ lw_all := lw_g (lw_at lw_m2 85 rfl) rfl
theorem q400 : (Jvm.Cond.methodLink "ActorTrees$Queue" (23 : Nat) ({ cls := "ActorTrees$Queue$Cell", name := "<init>", desc := "(LActorTrees$Queue;Ljava/lang/Object;)V" } : Jvm.MethodName)) ∈ lw_all := lw_g (lw_at lw_m2 87 rfl) rfl
theorem q406 : (Jvm.Cond.fieldLinkNest "ActorTrees$Queue" (40 : Nat) "ActorTrees$Queue$Cell" "thing" "Ljava/lang/Object;" "ActorTrees") ∈ lw_tbl := lw_at lw_m2 93 rfl
theorem q409 : (Jvm.Cond.fieldLinkNest "ActorTrees$Queue" (37 : Nat) "ActorTrees$Queue$Cell" "next" "LActorTrees$Queue$Cell;" "ActorTrees") ∈ lw_tbl := lw_at lw_m2 96 rfl
theorem q418 : (Jvm.Cond.methodLink "ActorTrees$Queue" (26 : Nat) ({ cls := "ActorTrees$Queue", name := "links", desc := "(LActorTrees$Queue$Cell;)V" } : Jvm.MethodName)) ∈ lw_all := lw_g (lw_at lw_m2 105 rfl) rfl
theorem q419 : (Jvm.Cond.privateMethod ({ cls := "ActorTrees$Queue", name := "links", desc := "(LActorTrees$Queue$Cell;)V" } : Jvm.MethodName)) ∈ lw_tbl := lw_at lw_m2 106 rfl
theorem q420 : (Jvm.Cond.instanceMethod ({ cls := "ActorTrees$Queue", name := "links", desc := "(LActorTrees$Queue$Cell;)V" } : Jvm.MethodName)) ∈ lw_all := lw_g (lw_at lw_m2 107 rfl) rfl
theorem q421 : (Jvm.Cond.code ({ cls := "ActorTrees$Queue", name := "links", desc := "(LActorTrees$Queue$Cell;)V" } : Jvm.MethodName) prog_9_method_4_code (2 : Nat) (Option.none : Option Jvm.ClassFile.FieldType)) ∈ lw_all := lw_g (lw_at lw_m2 108 rfl) rfl
theorem q435 : (Jvm.Cond.instanceMethod ({ cls := "ActorTrees$Queue", name := "iterator", desc := "()Ljava/util/Iterator;" } : Jvm.MethodName)) ∈ lw_all := lw_g (lw_at lw_m2 122 rfl) rfl
theorem q436 : (Jvm.Cond.selects "ActorTrees$Queue" ({ cls := "ActorTrees$Queue", name := "iterator", desc := "()Ljava/util/Iterator;" } : Jvm.MethodName) ({ cls := "ActorTrees$Queue", name := "iterator", desc := "()Ljava/util/Iterator;" } : Jvm.MethodName)) ∈ lw_all := lw_g (lw_at lw_m2 123 rfl) rfl
theorem q437 : (Jvm.Cond.code ({ cls := "ActorTrees$Queue", name := "iterator", desc := "()Ljava/util/Iterator;" } : Jvm.MethodName) prog_9_method_2_code (1 : Nat) (Option.some (Jvm.ClassFile.FieldType.object "java/util/Iterator"))) ∈ lw_all := lw_g (lw_at lw_m2 124 rfl) rfl
theorem q438 : (Jvm.Cond.classLink "ActorTrees$Queue" (13 : Nat) "ActorTrees$Queue$Walk") ∈ lw_all := lw_g (lw_at lw_m2 125 rfl) rfl
theorem q440 : (Jvm.Cond.methodLinkNest "ActorTrees$Queue" (15 : Nat) ({ cls := "ActorTrees$Queue$Walk", name := "<init>", desc := "(LActorTrees$Queue;)V" } : Jvm.MethodName) "ActorTrees") ∈ lw_tbl := lw_at lw_m2 127 rfl
theorem q585 : (Jvm.Cond.instanceMethod ({ cls := "ActorTrees$Queue", name := "at", desc := "(I)Ljava/lang/Object;" } : Jvm.MethodName)) ∈ lw_all := lw_g (lw_at lw_m3 32 rfl) rfl
theorem q586 : (Jvm.Cond.selects "ActorTrees$Queue" ({ cls := "ActorTrees$Queue", name := "at", desc := "(I)Ljava/lang/Object;" } : Jvm.MethodName) ({ cls := "ActorTrees$Queue", name := "at", desc := "(I)Ljava/lang/Object;" } : Jvm.MethodName)) ∈ lw_all := lw_g (lw_at lw_m3 33 rfl) rfl
theorem q587 : (Jvm.Cond.code ({ cls := "ActorTrees$Queue", name := "at", desc := "(I)Ljava/lang/Object;" } : Jvm.MethodName) prog_9_method_9_code (5 : Nat) (Option.some (Jvm.ClassFile.FieldType.object "java/lang/Object"))) ∈ lw_all := lw_g (lw_at lw_m3 34 rfl) rfl
theorem q588 : (Jvm.Cond.methodLink "ActorTrees$Queue" (53 : Nat) ({ cls := "ActorTrees$Queue", name := "iterator", desc := "()Ljava/util/Iterator;" } : Jvm.MethodName)) ∈ lw_all := lw_g (lw_at lw_m3 35 rfl) rfl
theorem q589 : (Jvm.Cond.interfaceEntry "ActorTrees$Queue" (57 : Nat)) ∈ lw_tbl := lw_at lw_m3 36 rfl
theorem q590 : (Jvm.Cond.methodLink "ActorTrees$Queue" (57 : Nat) ({ cls := "java/util/Iterator", name := "hasNext", desc := "()Z" } : Jvm.MethodName)) ∈ lw_all := lw_g (lw_at lw_m3 37 rfl) rfl
theorem q591 : (Jvm.Cond.interfaceEntry "ActorTrees$Queue" (63 : Nat)) ∈ lw_tbl := lw_at lw_m3 38 rfl
theorem q592 : (Jvm.Cond.methodLink "ActorTrees$Queue" (63 : Nat) ({ cls := "java/util/Iterator", name := "next", desc := "()Ljava/lang/Object;" } : Jvm.MethodName)) ∈ lw_all := lw_g (lw_at lw_m3 39 rfl) rfl
theorem q646 : (Jvm.Cond.instanceMethod ({ cls := "ActorTrees$Queue", name := "empties", desc := "()V" } : Jvm.MethodName)) ∈ lw_all := lw_g (lw_at lw_m3 93 rfl) rfl
theorem q647 : (Jvm.Cond.selects "ActorTrees$Queue" ({ cls := "ActorTrees$Queue", name := "empties", desc := "()V" } : Jvm.MethodName) ({ cls := "ActorTrees$Queue", name := "empties", desc := "()V" } : Jvm.MethodName)) ∈ lw_all := lw_g (lw_at lw_m3 94 rfl) rfl
theorem q648 : (Jvm.Cond.code ({ cls := "ActorTrees$Queue", name := "empties", desc := "()V" } : Jvm.MethodName) prog_9_method_8_code (1 : Nat) (Option.none : Option Jvm.ClassFile.FieldType)) ∈ lw_all := lw_g (lw_at lw_m3 95 rfl) rfl
theorem q654 : (Jvm.Cond.instanceMethod ({ cls := "ActorTrees$Queue", name := "drops", desc := "(LActorTrees$Test;)V" } : Jvm.MethodName)) ∈ lw_all := lw_g (lw_at lw_m3 101 rfl) rfl
theorem q655 : (Jvm.Cond.selects "ActorTrees$Queue" ({ cls := "ActorTrees$Queue", name := "drops", desc := "(LActorTrees$Test;)V" } : Jvm.MethodName) ({ cls := "ActorTrees$Queue", name := "drops", desc := "(LActorTrees$Test;)V" } : Jvm.MethodName)) ∈ lw_all := lw_g (lw_at lw_m3 102 rfl) rfl
theorem q656 : (Jvm.Cond.code ({ cls := "ActorTrees$Queue", name := "drops", desc := "(LActorTrees$Test;)V" } : Jvm.MethodName) prog_9_method_6_code (4 : Nat) (Option.none : Option Jvm.ClassFile.FieldType)) ∈ lw_all := lw_g (lw_at lw_m3 103 rfl) rfl
theorem q657 : (Jvm.Cond.methodLink "ActorTrees$Queue" (50 : Nat) ({ cls := "ActorTrees$Queue", name := "empties", desc := "()V" } : Jvm.MethodName)) ∈ lw_all := lw_g (lw_at lw_m3 104 rfl) rfl
theorem q658 : (Jvm.Cond.interfaceEntry "ActorTrees$Queue" (44 : Nat)) ∈ lw_tbl := lw_at lw_m3 105 rfl
theorem q659 : (Jvm.Cond.methodLink "ActorTrees$Queue" (44 : Nat) ({ cls := "ActorTrees$Test", name := "is", desc := "(Ljava/lang/Object;)Z" } : Jvm.MethodName)) ∈ lw_all := lw_g (lw_at lw_m3 106 rfl) rfl
theorem q668 : (Jvm.Cond.instanceMethod ({ cls := "ActorTrees$Queue", name := "takes", desc := "()Ljava/lang/Object;" } : Jvm.MethodName)) ∈ lw_all := lw_g (lw_at lw_m3 115 rfl) rfl
theorem q669 : (Jvm.Cond.selects "ActorTrees$Queue" ({ cls := "ActorTrees$Queue", name := "takes", desc := "()Ljava/lang/Object;" } : Jvm.MethodName) ({ cls := "ActorTrees$Queue", name := "takes", desc := "()Ljava/lang/Object;" } : Jvm.MethodName)) ∈ lw_all := lw_g (lw_at lw_m3 116 rfl) rfl
theorem q670 : (Jvm.Cond.code ({ cls := "ActorTrees$Queue", name := "takes", desc := "()Ljava/lang/Object;" } : Jvm.MethodName) prog_9_method_7_code (2 : Nat) (Option.some (Jvm.ClassFile.FieldType.object "java/lang/Object"))) ∈ lw_all := lw_g (lw_at lw_m3 117 rfl) rfl
theorem q812 : (Jvm.Cond.instanceMethod ({ cls := "ActorTrees$Queue", name := "ahead", desc := "(LActorTrees$Queue;)I" } : Jvm.MethodName)) ∈ lw_all := lw_g (lw_at lw_m4 19 rfl) rfl
theorem q813 : (Jvm.Cond.selects "ActorTrees$Queue" ({ cls := "ActorTrees$Queue", name := "ahead", desc := "(LActorTrees$Queue;)I" } : Jvm.MethodName) ({ cls := "ActorTrees$Queue", name := "ahead", desc := "(LActorTrees$Queue;)I" } : Jvm.MethodName)) ∈ lw_all := lw_g (lw_at lw_m4 20 rfl) rfl
theorem q814 : (Jvm.Cond.code ({ cls := "ActorTrees$Queue", name := "ahead", desc := "(LActorTrees$Queue;)I" } : Jvm.MethodName) prog_9_method_10_code (8 : Nat) (Option.some Jvm.ClassFile.FieldType.int)) ∈ lw_all := lw_g (lw_at lw_m4 21 rfl) rfl
theorem q815 : (Jvm.Cond.methodLink "ActorTrees$Queue" (66 : Nat) ({ cls := "java/lang/Math", name := "min", desc := "(II)I" } : Jvm.MethodName)) ∈ lw_all := lw_g (lw_at lw_m4 22 rfl) rfl
theorem q818 : (Jvm.Cond.classLink "ActorTrees$Queue" (8 : Nat) "ActorTrees$Queue") ∈ lw_all := lw_g (lw_at lw_m4 25 rfl) rfl
theorem q819 : (Jvm.Cond.methodLink "ActorTrees$Queue" (72 : Nat) ({ cls := "ActorTrees$Queue", name := "<init>", desc := "(I)V" } : Jvm.MethodName)) ∈ lw_all := lw_g (lw_at lw_m4 26 rfl) rfl
theorem q820 : (Jvm.Cond.methodLink "ActorTrees$Queue" (75 : Nat) ({ cls := "ActorTrees$Queue", name := "all", desc := "(LActorTrees$Queue;)V" } : Jvm.MethodName)) ∈ lw_all := lw_g (lw_at lw_m4 27 rfl) rfl
theorem q821 : (Jvm.Cond.instanceMethod ({ cls := "ActorTrees$Queue", name := "all", desc := "(LActorTrees$Queue;)V" } : Jvm.MethodName)) ∈ lw_all := lw_g (lw_at lw_m4 28 rfl) rfl
theorem q822 : (Jvm.Cond.selects "ActorTrees$Queue" ({ cls := "ActorTrees$Queue", name := "all", desc := "(LActorTrees$Queue;)V" } : Jvm.MethodName) ({ cls := "ActorTrees$Queue", name := "all", desc := "(LActorTrees$Queue;)V" } : Jvm.MethodName)) ∈ lw_all := lw_g (lw_at lw_m4 29 rfl) rfl
theorem q823 : (Jvm.Cond.code ({ cls := "ActorTrees$Queue", name := "all", desc := "(LActorTrees$Queue;)V" } : Jvm.MethodName) prog_9_method_11_code (4 : Nat) (Option.none : Option Jvm.ClassFile.FieldType)) ∈ lw_all := lw_g (lw_at lw_m4 30 rfl) rfl
theorem q824 : (Jvm.Cond.methodLink "ActorTrees$Queue" (78 : Nat) ({ cls := "ActorTrees$Queue", name := "puts", desc := "(Ljava/lang/Object;)Z" } : Jvm.MethodName)) ∈ lw_all := lw_g (lw_at lw_m4 31 rfl) rfl
theorem q921 : (Jvm.Cond.instanceMethod ({ cls := "ActorTrees$Queue", name := "putsAhead", desc := "(Ljava/lang/Object;LActorTrees$Test;)V" } : Jvm.MethodName)) ∈ lw_all := lw_g (lw_at lw_m4 128 rfl) rfl
theorem q922 : (Jvm.Cond.selects "ActorTrees$Queue" ({ cls := "ActorTrees$Queue", name := "putsAhead", desc := "(Ljava/lang/Object;LActorTrees$Test;)V" } : Jvm.MethodName) ({ cls := "ActorTrees$Queue", name := "putsAhead", desc := "(Ljava/lang/Object;LActorTrees$Test;)V" } : Jvm.MethodName)) ∈ lw_all := lw_g (lw_at lw_m4 129 rfl) rfl
theorem q923 : (Jvm.Cond.code ({ cls := "ActorTrees$Queue", name := "putsAhead", desc := "(Ljava/lang/Object;LActorTrees$Test;)V" } : Jvm.MethodName) prog_9_method_5_code (6 : Nat) (Option.none : Option Jvm.ClassFile.FieldType)) ∈ lw_all := lw_g (lw_at lw_m4 130 rfl) rfl
theorem q1682 : (Jvm.Cond.castable "ActorTrees$Queue" "java/lang/Object") ∈ lw_tbl := lw_at lw_m7 169 rfl
theorem in_X2 : ∀ w ∈ wsX20, w ∈ lw_all := lw_in wsX20 [138, 140, 142, 144] (by decide +kernel) (by decide +kernel)
/-! ActorTrees$World$Deeds -/
set_option maxRecDepth 100000
def RX3 : String := "ActorTrees$World$Deeds"
def TX3 : u_T := fun k => match k with
  | _ => ("ActorTrees$World$Deeds", "this$0", "LActorTrees$World;", true)
def tyX3 : Nat → FieldType := fun k => match k with
  | _ => .object "ActorTrees$World"
abbrev wsX30 : List Cond := u_ws RX3 TX3 1
theorem nmX3 : ∀ a, a < 1 → ∀ b, b < 1 → a ≠ b → (TX3 a).2.1 ≠ (TX3 b).2.1 := by decide +kernel
theorem tyX3_ok : ∀ k, k < 1 → parseFieldDescriptor (TX3 k).2.2.1 = some (tyX3 k) := by decide +kernel
abbrev cX3_init : ByteArray := prog_20_method_1_code
def yX3_init : MethodName := ⟨RX3, "<init>", "(LActorTrees$World;)V"⟩
def dkwX3_init_0 : List UInt8 := [42, 43, 181, 0, 3, 42, 183, 0, 9, 177]
abbrev dktX3_init_0 : List UInt8 := dkwX3_init_0 ++ []
theorem dksX3_init_0 : cX3_init.data.toList.drop 0 = dktX3_init_0 := by decide +kernel
theorem dX3_init_0 : decode cX3_init 0 = .ok (.aload_n 0, 1) := dk_42 (dk_at dksX3_init_0 0 rfl rfl)
theorem dX3_init_1 : decode cX3_init 1 = .ok (.aload_n 1, 1) := dk_43 (dk_at dksX3_init_0 1 rfl rfl)
theorem dX3_init_2 : decode cX3_init 2 = .ok (.putfield 3, 3) := dk_181 0 3 (dk_at dksX3_init_0 2 rfl rfl)
theorem dX3_init_5 : decode cX3_init 5 = .ok (.aload_n 0, 1) := dk_42 (dk_at dksX3_init_0 5 rfl rfl)
theorem dX3_init_6 : decode cX3_init 6 = .ok (.invokespecial 9, 3) := dk_183 0 9 (dk_at dksX3_init_0 6 rfl rfl)
theorem dX3_init_9 : decode cX3_init 9 = .ok (.return_, 1) := dk_177 (dk_at dksX3_init_0 9 rfl rfl)
abbrev cX3_of : ByteArray := prog_20_method_2_code
def yX3_of : MethodName := ⟨RX3, "of", "(I)LActorTrees$Behaviour;"⟩
def dkwX3_of_5 : List UInt8 := [186, 0, 29, 0, 0, 176]
abbrev dktX3_of_5 : List UInt8 := dkwX3_of_5 ++ []
def dkwX3_of_4 : List UInt8 := [186, 0, 26, 0, 0, 176, 42, 186, 0, 27, 0, 0, 176, 42, 186, 0, 28, 0, 0, 176, 42]
abbrev dktX3_of_4 : List UInt8 := dkwX3_of_4 ++ dktX3_of_5
def dkwX3_of_3 : List UInt8 := [186, 0, 23, 0, 0, 176, 42, 186, 0, 24, 0, 0, 176, 42, 186, 0, 25, 0, 0, 176, 42]
abbrev dktX3_of_3 : List UInt8 := dkwX3_of_3 ++ dktX3_of_4
def dkwX3_of_2 : List UInt8 := [186, 0, 15, 0, 0, 176, 42, 186, 0, 19, 0, 0, 176, 42, 186, 0, 22, 0, 0, 176, 42]
abbrev dktX3_of_2 : List UInt8 := dkwX3_of_2 ++ dktX3_of_3
def dkwX3_of_1 : List UInt8 := [170, 0, 0, 0, 0, 0, 113, 0, 0, 0, 0, 0, 0, 0, 8, 0, 0, 0, 51, 0, 0, 0, 57, 0, 0, 0, 64, 0, 0, 0, 71, 0, 0, 0, 78, 0, 0, 0, 85, 0, 0, 0, 92, 0, 0, 0, 99, 0, 0, 0, 106]
abbrev dktX3_of_1 : List UInt8 := dkwX3_of_1 ++ dktX3_of_2
def dkwX3_of_0 : List UInt8 := [27]
abbrev dktX3_of_0 : List UInt8 := dkwX3_of_0 ++ dktX3_of_1
theorem dksX3_of_0 : cX3_of.data.toList.drop 0 = dktX3_of_0 := by decide +kernel
theorem dksX3_of_1 : cX3_of.data.toList.drop 1 = dktX3_of_1 := dk_seg dksX3_of_0 1 rfl rfl
theorem dksX3_of_2 : cX3_of.data.toList.drop 52 = dktX3_of_2 := dk_seg dksX3_of_1 51 rfl rfl
theorem dksX3_of_3 : cX3_of.data.toList.drop 73 = dktX3_of_3 := dk_seg dksX3_of_2 21 rfl rfl
theorem dksX3_of_4 : cX3_of.data.toList.drop 94 = dktX3_of_4 := dk_seg dksX3_of_3 21 rfl rfl
theorem dksX3_of_5 : cX3_of.data.toList.drop 115 = dktX3_of_5 := dk_seg dksX3_of_4 21 rfl rfl
theorem dX3_of_0 : decode cX3_of 0 = .ok (.iload_n 1, 1) := dk_27 (dk_at dksX3_of_0 0 rfl rfl)
theorem dX3_of_1 : decode cX3_of 1 = .ok (.tableswitch 113 0 8 #[51, 57, 64, 71, 78, 85, 92, 99, 106], 51) := by decide +kernel
theorem dX3_of_52 : decode cX3_of 52 = .ok (.invokedynamic 15, 5) := by decide +kernel
theorem dX3_of_57 : decode cX3_of 57 = .ok (.areturn, 1) := dk_176 (dk_at dksX3_of_2 5 rfl rfl)
theorem dX3_of_58 : decode cX3_of 58 = .ok (.aload_n 0, 1) := dk_42 (dk_at dksX3_of_2 6 rfl rfl)
theorem dX3_of_59 : decode cX3_of 59 = .ok (.invokedynamic 19, 5) := by decide +kernel
theorem dX3_of_64 : decode cX3_of 64 = .ok (.areturn, 1) := dk_176 (dk_at dksX3_of_2 12 rfl rfl)
theorem dX3_of_65 : decode cX3_of 65 = .ok (.aload_n 0, 1) := dk_42 (dk_at dksX3_of_2 13 rfl rfl)
theorem dX3_of_66 : decode cX3_of 66 = .ok (.invokedynamic 22, 5) := by decide +kernel
theorem dX3_of_71 : decode cX3_of 71 = .ok (.areturn, 1) := dk_176 (dk_at dksX3_of_2 19 rfl rfl)
theorem dX3_of_72 : decode cX3_of 72 = .ok (.aload_n 0, 1) := dk_42 (dk_at dksX3_of_2 20 rfl rfl)
theorem dX3_of_73 : decode cX3_of 73 = .ok (.invokedynamic 23, 5) := by decide +kernel
theorem dX3_of_78 : decode cX3_of 78 = .ok (.areturn, 1) := dk_176 (dk_at dksX3_of_3 5 rfl rfl)
theorem dX3_of_79 : decode cX3_of 79 = .ok (.aload_n 0, 1) := dk_42 (dk_at dksX3_of_3 6 rfl rfl)
theorem dX3_of_80 : decode cX3_of 80 = .ok (.invokedynamic 24, 5) := by decide +kernel
theorem dX3_of_85 : decode cX3_of 85 = .ok (.areturn, 1) := dk_176 (dk_at dksX3_of_3 12 rfl rfl)
theorem dX3_of_86 : decode cX3_of 86 = .ok (.aload_n 0, 1) := dk_42 (dk_at dksX3_of_3 13 rfl rfl)
theorem dX3_of_87 : decode cX3_of 87 = .ok (.invokedynamic 25, 5) := by decide +kernel
theorem dX3_of_92 : decode cX3_of 92 = .ok (.areturn, 1) := dk_176 (dk_at dksX3_of_3 19 rfl rfl)
theorem dX3_of_93 : decode cX3_of 93 = .ok (.aload_n 0, 1) := dk_42 (dk_at dksX3_of_3 20 rfl rfl)
theorem dX3_of_94 : decode cX3_of 94 = .ok (.invokedynamic 26, 5) := by decide +kernel
theorem dX3_of_99 : decode cX3_of 99 = .ok (.areturn, 1) := dk_176 (dk_at dksX3_of_4 5 rfl rfl)
theorem dX3_of_100 : decode cX3_of 100 = .ok (.aload_n 0, 1) := dk_42 (dk_at dksX3_of_4 6 rfl rfl)
theorem dX3_of_101 : decode cX3_of 101 = .ok (.invokedynamic 27, 5) := by decide +kernel
theorem dX3_of_106 : decode cX3_of 106 = .ok (.areturn, 1) := dk_176 (dk_at dksX3_of_4 12 rfl rfl)
theorem dX3_of_107 : decode cX3_of 107 = .ok (.aload_n 0, 1) := dk_42 (dk_at dksX3_of_4 13 rfl rfl)
theorem dX3_of_108 : decode cX3_of 108 = .ok (.invokedynamic 28, 5) := by decide +kernel
theorem dX3_of_113 : decode cX3_of 113 = .ok (.areturn, 1) := dk_176 (dk_at dksX3_of_4 19 rfl rfl)
theorem dX3_of_114 : decode cX3_of 114 = .ok (.aload_n 0, 1) := dk_42 (dk_at dksX3_of_4 20 rfl rfl)
theorem dX3_of_115 : decode cX3_of 115 = .ok (.invokedynamic 29, 5) := by decide +kernel
theorem dX3_of_120 : decode cX3_of 120 = .ok (.areturn, 1) := dk_176 (dk_at dksX3_of_5 5 rfl rfl)
abbrev cX3_lambda_of_0 : ByteArray := prog_20_method_13_code
def yX3_lambda_of_0 : MethodName := ⟨RX3, "lambda$of$0", "(LActorTrees$Actor;LActorTrees$Count;)V"⟩
def dkwX3_lambda_of_0_0 : List UInt8 := [42, 89, 180, 0, 87, 43, 180, 0, 54, 96, 181, 0, 87, 177]
abbrev dktX3_lambda_of_0_0 : List UInt8 := dkwX3_lambda_of_0_0 ++ []
theorem dksX3_lambda_of_0_0 : cX3_lambda_of_0.data.toList.drop 0 = dktX3_lambda_of_0_0 := by decide +kernel
theorem dX3_lambda_of_0_0 : decode cX3_lambda_of_0 0 = .ok (.aload_n 0, 1) := dk_42 (dk_at dksX3_lambda_of_0_0 0 rfl rfl)
theorem dX3_lambda_of_0_1 : decode cX3_lambda_of_0 1 = .ok (.dup, 1) := dk_89 (dk_at dksX3_lambda_of_0_0 1 rfl rfl)
theorem dX3_lambda_of_0_2 : decode cX3_lambda_of_0 2 = .ok (.getfield 87, 3) := dk_180 0 87 (dk_at dksX3_lambda_of_0_0 2 rfl rfl)
theorem dX3_lambda_of_0_5 : decode cX3_lambda_of_0 5 = .ok (.aload_n 1, 1) := dk_43 (dk_at dksX3_lambda_of_0_0 5 rfl rfl)
theorem dX3_lambda_of_0_6 : decode cX3_lambda_of_0 6 = .ok (.getfield 54, 3) := dk_180 0 54 (dk_at dksX3_lambda_of_0_0 6 rfl rfl)
theorem dX3_lambda_of_0_9 : decode cX3_lambda_of_0 9 = .ok (.iadd, 1) := dk_96 (dk_at dksX3_lambda_of_0_0 9 rfl rfl)
theorem dX3_lambda_of_0_10 : decode cX3_lambda_of_0 10 = .ok (.putfield 87, 3) := dk_181 0 87 (dk_at dksX3_lambda_of_0_0 10 rfl rfl)
theorem dX3_lambda_of_0_13 : decode cX3_lambda_of_0 13 = .ok (.return_, 1) := dk_177 (dk_at dksX3_lambda_of_0_0 13 rfl rfl)
abbrev cX3_passes : ByteArray := prog_20_method_3_code
def yX3_passes : MethodName := ⟨RX3, "passes", "(LActorTrees$Actor;LActorTrees$Count;)V"⟩
def dkwX3_passes_3 : List UInt8 := [44, 180, 0, 54, 183, 0, 57, 182, 0, 60, 87, 177, 132, 3, 1, 167, 255, 175, 177]
abbrev dktX3_passes_3 : List UInt8 := dkwX3_passes_3 ++ []
def dkwX3_passes_2 : List UInt8 := [153, 0, 36, 42, 180, 0, 3, 42, 180, 0, 3, 180, 0, 36, 29, 50, 187, 0, 52, 89, 43, 180, 0, 45]
abbrev dktX3_passes_2 : List UInt8 := dkwX3_passes_2 ++ dktX3_passes_3
def dkwX3_passes_1 : List UInt8 := [180, 0, 40, 43, 180, 0, 45, 160, 0, 51, 42, 180, 0, 3, 180, 0, 36, 29, 50, 180, 0, 48]
abbrev dktX3_passes_1 : List UInt8 := dkwX3_passes_1 ++ dktX3_passes_2
def dkwX3_passes_0 : List UInt8 := [3, 62, 29, 42, 180, 0, 3, 180, 0, 30, 162, 0, 76, 42, 180, 0, 3, 180, 0, 36, 29, 50]
abbrev dktX3_passes_0 : List UInt8 := dkwX3_passes_0 ++ dktX3_passes_1
theorem dksX3_passes_0 : cX3_passes.data.toList.drop 0 = dktX3_passes_0 := by decide +kernel
theorem dksX3_passes_1 : cX3_passes.data.toList.drop 22 = dktX3_passes_1 := dk_seg dksX3_passes_0 22 rfl rfl
theorem dksX3_passes_2 : cX3_passes.data.toList.drop 44 = dktX3_passes_2 := dk_seg dksX3_passes_1 22 rfl rfl
theorem dksX3_passes_3 : cX3_passes.data.toList.drop 68 = dktX3_passes_3 := dk_seg dksX3_passes_2 24 rfl rfl
theorem dX3_passes_0 : decode cX3_passes 0 = .ok (.iconst 0, 1) := dk_3 (dk_at dksX3_passes_0 0 rfl rfl)
theorem dX3_passes_1 : decode cX3_passes 1 = .ok (.istore_n 3, 1) := dk_62 (dk_at dksX3_passes_0 1 rfl rfl)
theorem dX3_passes_2 : decode cX3_passes 2 = .ok (.iload_n 3, 1) := dk_29 (dk_at dksX3_passes_0 2 rfl rfl)
theorem dX3_passes_3 : decode cX3_passes 3 = .ok (.aload_n 0, 1) := dk_42 (dk_at dksX3_passes_0 3 rfl rfl)
theorem dX3_passes_4 : decode cX3_passes 4 = .ok (.getfield 3, 3) := dk_180 0 3 (dk_at dksX3_passes_0 4 rfl rfl)
theorem dX3_passes_7 : decode cX3_passes 7 = .ok (.getfield 30, 3) := dk_180 0 30 (dk_at dksX3_passes_0 7 rfl rfl)
theorem dX3_passes_10 : decode cX3_passes 10 = .ok (.if_icmp .ge 76, 3) := dk_162 0 76 (dk_at dksX3_passes_0 10 rfl rfl)
theorem dX3_passes_13 : decode cX3_passes 13 = .ok (.aload_n 0, 1) := dk_42 (dk_at dksX3_passes_0 13 rfl rfl)
theorem dX3_passes_14 : decode cX3_passes 14 = .ok (.getfield 3, 3) := dk_180 0 3 (dk_at dksX3_passes_0 14 rfl rfl)
theorem dX3_passes_17 : decode cX3_passes 17 = .ok (.getfield 36, 3) := dk_180 0 36 (dk_at dksX3_passes_0 17 rfl rfl)
theorem dX3_passes_20 : decode cX3_passes 20 = .ok (.iload_n 3, 1) := dk_29 (dk_at dksX3_passes_0 20 rfl rfl)
theorem dX3_passes_21 : decode cX3_passes 21 = .ok (.aaload, 1) := dk_50 (dk_at dksX3_passes_0 21 rfl rfl)
theorem dX3_passes_22 : decode cX3_passes 22 = .ok (.getfield 40, 3) := dk_180 0 40 (dk_at dksX3_passes_1 0 rfl rfl)
theorem dX3_passes_25 : decode cX3_passes 25 = .ok (.aload_n 1, 1) := dk_43 (dk_at dksX3_passes_1 3 rfl rfl)
theorem dX3_passes_26 : decode cX3_passes 26 = .ok (.getfield 45, 3) := dk_180 0 45 (dk_at dksX3_passes_1 4 rfl rfl)
theorem dX3_passes_29 : decode cX3_passes 29 = .ok (.if_icmp .ne 51, 3) := dk_160 0 51 (dk_at dksX3_passes_1 7 rfl rfl)
theorem dX3_passes_32 : decode cX3_passes 32 = .ok (.aload_n 0, 1) := dk_42 (dk_at dksX3_passes_1 10 rfl rfl)
theorem dX3_passes_33 : decode cX3_passes 33 = .ok (.getfield 3, 3) := dk_180 0 3 (dk_at dksX3_passes_1 11 rfl rfl)
theorem dX3_passes_36 : decode cX3_passes 36 = .ok (.getfield 36, 3) := dk_180 0 36 (dk_at dksX3_passes_1 14 rfl rfl)
theorem dX3_passes_39 : decode cX3_passes 39 = .ok (.iload_n 3, 1) := dk_29 (dk_at dksX3_passes_1 17 rfl rfl)
theorem dX3_passes_40 : decode cX3_passes 40 = .ok (.aaload, 1) := dk_50 (dk_at dksX3_passes_1 18 rfl rfl)
theorem dX3_passes_41 : decode cX3_passes 41 = .ok (.getfield 48, 3) := dk_180 0 48 (dk_at dksX3_passes_1 19 rfl rfl)
theorem dX3_passes_44 : decode cX3_passes 44 = .ok (.ifCond .eq 36, 3) := dk_153 0 36 (dk_at dksX3_passes_2 0 rfl rfl)
theorem dX3_passes_47 : decode cX3_passes 47 = .ok (.aload_n 0, 1) := dk_42 (dk_at dksX3_passes_2 3 rfl rfl)
theorem dX3_passes_48 : decode cX3_passes 48 = .ok (.getfield 3, 3) := dk_180 0 3 (dk_at dksX3_passes_2 4 rfl rfl)
theorem dX3_passes_51 : decode cX3_passes 51 = .ok (.aload_n 0, 1) := dk_42 (dk_at dksX3_passes_2 7 rfl rfl)
theorem dX3_passes_52 : decode cX3_passes 52 = .ok (.getfield 3, 3) := dk_180 0 3 (dk_at dksX3_passes_2 8 rfl rfl)
theorem dX3_passes_55 : decode cX3_passes 55 = .ok (.getfield 36, 3) := dk_180 0 36 (dk_at dksX3_passes_2 11 rfl rfl)
theorem dX3_passes_58 : decode cX3_passes 58 = .ok (.iload_n 3, 1) := dk_29 (dk_at dksX3_passes_2 14 rfl rfl)
theorem dX3_passes_59 : decode cX3_passes 59 = .ok (.aaload, 1) := dk_50 (dk_at dksX3_passes_2 15 rfl rfl)
theorem dX3_passes_60 : decode cX3_passes 60 = .ok (.new 52, 3) := dk_187 0 52 (dk_at dksX3_passes_2 16 rfl rfl)
theorem dX3_passes_63 : decode cX3_passes 63 = .ok (.dup, 1) := dk_89 (dk_at dksX3_passes_2 19 rfl rfl)
theorem dX3_passes_64 : decode cX3_passes 64 = .ok (.aload_n 1, 1) := dk_43 (dk_at dksX3_passes_2 20 rfl rfl)
theorem dX3_passes_65 : decode cX3_passes 65 = .ok (.getfield 45, 3) := dk_180 0 45 (dk_at dksX3_passes_2 21 rfl rfl)
theorem dX3_passes_68 : decode cX3_passes 68 = .ok (.aload_n 2, 1) := dk_44 (dk_at dksX3_passes_3 0 rfl rfl)
theorem dX3_passes_69 : decode cX3_passes 69 = .ok (.getfield 54, 3) := dk_180 0 54 (dk_at dksX3_passes_3 1 rfl rfl)
theorem dX3_passes_72 : decode cX3_passes 72 = .ok (.invokespecial 57, 3) := dk_183 0 57 (dk_at dksX3_passes_3 4 rfl rfl)
theorem dX3_passes_75 : decode cX3_passes 75 = .ok (.invokevirtual 60, 3) := dk_182 0 60 (dk_at dksX3_passes_3 7 rfl rfl)
theorem dX3_passes_78 : decode cX3_passes 78 = .ok (.pop, 1) := dk_87 (dk_at dksX3_passes_3 10 rfl rfl)
theorem dX3_passes_79 : decode cX3_passes 79 = .ok (.return_, 1) := dk_177 (dk_at dksX3_passes_3 11 rfl rfl)
theorem dX3_passes_80 : decode cX3_passes 80 = .ok (.iinc 3 1, 3) := dk_132 3 1 (dk_at dksX3_passes_3 12 rfl rfl)
theorem dX3_passes_83 : decode cX3_passes 83 = .ok (.goto (-81), 3) := dk_167 255 175 (dk_at dksX3_passes_3 15 rfl rfl)
theorem dX3_passes_86 : decode cX3_passes 86 = .ok (.return_, 1) := dk_177 (dk_at dksX3_passes_3 18 rfl rfl)
abbrev cX3_echoes : ByteArray := prog_20_method_4_code
def yX3_echoes : MethodName := ⟨RX3, "echoes", "(LActorTrees$Actor;LActorTrees$Count;)V"⟩
def dkwX3_echoes_2 : List UInt8 := [183, 0, 57, 182, 0, 60, 87, 177]
abbrev dktX3_echoes_2 : List UInt8 := dkwX3_echoes_2 ++ []
def dkwX3_echoes_1 : List UInt8 := [180, 0, 3, 180, 0, 36, 29, 50, 187, 0, 52, 89, 43, 180, 0, 45, 44, 180, 0, 54, 4, 100]
abbrev dktX3_echoes_1 : List UInt8 := dkwX3_echoes_1 ++ dktX3_echoes_2
def dkwX3_echoes_0 : List UInt8 := [42, 44, 182, 0, 64, 62, 44, 180, 0, 54, 158, 0, 41, 29, 155, 0, 37, 42, 180, 0, 3, 42]
abbrev dktX3_echoes_0 : List UInt8 := dkwX3_echoes_0 ++ dktX3_echoes_1
theorem dksX3_echoes_0 : cX3_echoes.data.toList.drop 0 = dktX3_echoes_0 := by decide +kernel
theorem dksX3_echoes_1 : cX3_echoes.data.toList.drop 22 = dktX3_echoes_1 := dk_seg dksX3_echoes_0 22 rfl rfl
theorem dksX3_echoes_2 : cX3_echoes.data.toList.drop 44 = dktX3_echoes_2 := dk_seg dksX3_echoes_1 22 rfl rfl
theorem dX3_echoes_0 : decode cX3_echoes 0 = .ok (.aload_n 0, 1) := dk_42 (dk_at dksX3_echoes_0 0 rfl rfl)
theorem dX3_echoes_1 : decode cX3_echoes 1 = .ok (.aload_n 2, 1) := dk_44 (dk_at dksX3_echoes_0 1 rfl rfl)
theorem dX3_echoes_2 : decode cX3_echoes 2 = .ok (.invokevirtual 64, 3) := dk_182 0 64 (dk_at dksX3_echoes_0 2 rfl rfl)
theorem dX3_echoes_5 : decode cX3_echoes 5 = .ok (.istore_n 3, 1) := dk_62 (dk_at dksX3_echoes_0 5 rfl rfl)
theorem dX3_echoes_6 : decode cX3_echoes 6 = .ok (.aload_n 2, 1) := dk_44 (dk_at dksX3_echoes_0 6 rfl rfl)
theorem dX3_echoes_7 : decode cX3_echoes 7 = .ok (.getfield 54, 3) := dk_180 0 54 (dk_at dksX3_echoes_0 7 rfl rfl)
theorem dX3_echoes_10 : decode cX3_echoes 10 = .ok (.ifCond .le 41, 3) := dk_158 0 41 (dk_at dksX3_echoes_0 10 rfl rfl)
theorem dX3_echoes_13 : decode cX3_echoes 13 = .ok (.iload_n 3, 1) := dk_29 (dk_at dksX3_echoes_0 13 rfl rfl)
theorem dX3_echoes_14 : decode cX3_echoes 14 = .ok (.ifCond .lt 37, 3) := dk_155 0 37 (dk_at dksX3_echoes_0 14 rfl rfl)
theorem dX3_echoes_17 : decode cX3_echoes 17 = .ok (.aload_n 0, 1) := dk_42 (dk_at dksX3_echoes_0 17 rfl rfl)
theorem dX3_echoes_18 : decode cX3_echoes 18 = .ok (.getfield 3, 3) := dk_180 0 3 (dk_at dksX3_echoes_0 18 rfl rfl)
theorem dX3_echoes_21 : decode cX3_echoes 21 = .ok (.aload_n 0, 1) := dk_42 (dk_at dksX3_echoes_0 21 rfl rfl)
theorem dX3_echoes_22 : decode cX3_echoes 22 = .ok (.getfield 3, 3) := dk_180 0 3 (dk_at dksX3_echoes_1 0 rfl rfl)
theorem dX3_echoes_25 : decode cX3_echoes 25 = .ok (.getfield 36, 3) := dk_180 0 36 (dk_at dksX3_echoes_1 3 rfl rfl)
theorem dX3_echoes_28 : decode cX3_echoes 28 = .ok (.iload_n 3, 1) := dk_29 (dk_at dksX3_echoes_1 6 rfl rfl)
theorem dX3_echoes_29 : decode cX3_echoes 29 = .ok (.aaload, 1) := dk_50 (dk_at dksX3_echoes_1 7 rfl rfl)
theorem dX3_echoes_30 : decode cX3_echoes 30 = .ok (.new 52, 3) := dk_187 0 52 (dk_at dksX3_echoes_1 8 rfl rfl)
theorem dX3_echoes_33 : decode cX3_echoes 33 = .ok (.dup, 1) := dk_89 (dk_at dksX3_echoes_1 11 rfl rfl)
theorem dX3_echoes_34 : decode cX3_echoes 34 = .ok (.aload_n 1, 1) := dk_43 (dk_at dksX3_echoes_1 12 rfl rfl)
theorem dX3_echoes_35 : decode cX3_echoes 35 = .ok (.getfield 45, 3) := dk_180 0 45 (dk_at dksX3_echoes_1 13 rfl rfl)
theorem dX3_echoes_38 : decode cX3_echoes 38 = .ok (.aload_n 2, 1) := dk_44 (dk_at dksX3_echoes_1 16 rfl rfl)
theorem dX3_echoes_39 : decode cX3_echoes 39 = .ok (.getfield 54, 3) := dk_180 0 54 (dk_at dksX3_echoes_1 17 rfl rfl)
theorem dX3_echoes_42 : decode cX3_echoes 42 = .ok (.iconst 1, 1) := dk_4 (dk_at dksX3_echoes_1 20 rfl rfl)
theorem dX3_echoes_43 : decode cX3_echoes 43 = .ok (.isub, 1) := dk_100 (dk_at dksX3_echoes_1 21 rfl rfl)
theorem dX3_echoes_44 : decode cX3_echoes 44 = .ok (.invokespecial 57, 3) := dk_183 0 57 (dk_at dksX3_echoes_2 0 rfl rfl)
theorem dX3_echoes_47 : decode cX3_echoes 47 = .ok (.invokevirtual 60, 3) := dk_182 0 60 (dk_at dksX3_echoes_2 3 rfl rfl)
theorem dX3_echoes_50 : decode cX3_echoes 50 = .ok (.pop, 1) := dk_87 (dk_at dksX3_echoes_2 6 rfl rfl)
theorem dX3_echoes_51 : decode cX3_echoes 51 = .ok (.return_, 1) := dk_177 (dk_at dksX3_echoes_2 7 rfl rfl)
abbrev cX3_from : ByteArray := prog_20_method_5_code
def yX3_from : MethodName := ⟨RX3, "from", "(LActorTrees$Message;)I"⟩
theorem dX3_from_0 : decode cX3_from 0 = .ok (.aload_n 1, 1) := by decide +kernel
theorem dX3_from_1 : decode cX3_from 1 = .ok (.getfield 68, 3) := by decide +kernel
theorem dX3_from_4 : decode cX3_from 4 = .ok (.ireturn, 1) := by decide +kernel
abbrev cX3_holds : ByteArray := prog_20_method_6_code
def yX3_holds : MethodName := ⟨RX3, "holds", "(LActorTrees$Actor;LActorTrees$Count;)V"⟩
def dkwX3_holds_1 : List UInt8 := [182, 0, 76, 177]
abbrev dktX3_holds_1 : List UInt8 := dkwX3_holds_1 ++ []
def dkwX3_holds_0 : List UInt8 := [44, 180, 0, 54, 5, 112, 153, 0, 11, 43, 44, 182, 0, 72, 167, 0, 11, 42, 180, 0, 3, 43]
abbrev dktX3_holds_0 : List UInt8 := dkwX3_holds_0 ++ dktX3_holds_1
theorem dksX3_holds_0 : cX3_holds.data.toList.drop 0 = dktX3_holds_0 := by decide +kernel
theorem dksX3_holds_1 : cX3_holds.data.toList.drop 22 = dktX3_holds_1 := dk_seg dksX3_holds_0 22 rfl rfl
theorem dX3_holds_0 : decode cX3_holds 0 = .ok (.aload_n 2, 1) := dk_44 (dk_at dksX3_holds_0 0 rfl rfl)
theorem dX3_holds_1 : decode cX3_holds 1 = .ok (.getfield 54, 3) := dk_180 0 54 (dk_at dksX3_holds_0 1 rfl rfl)
theorem dX3_holds_4 : decode cX3_holds 4 = .ok (.iconst 2, 1) := dk_5 (dk_at dksX3_holds_0 4 rfl rfl)
theorem dX3_holds_5 : decode cX3_holds 5 = .ok (.irem, 1) := dk_112 (dk_at dksX3_holds_0 5 rfl rfl)
theorem dX3_holds_6 : decode cX3_holds 6 = .ok (.ifCond .eq 11, 3) := dk_153 0 11 (dk_at dksX3_holds_0 6 rfl rfl)
theorem dX3_holds_9 : decode cX3_holds 9 = .ok (.aload_n 1, 1) := dk_43 (dk_at dksX3_holds_0 9 rfl rfl)
theorem dX3_holds_10 : decode cX3_holds 10 = .ok (.aload_n 2, 1) := dk_44 (dk_at dksX3_holds_0 10 rfl rfl)
theorem dX3_holds_11 : decode cX3_holds 11 = .ok (.invokevirtual 72, 3) := dk_182 0 72 (dk_at dksX3_holds_0 11 rfl rfl)
theorem dX3_holds_14 : decode cX3_holds 14 = .ok (.goto 11, 3) := dk_167 0 11 (dk_at dksX3_holds_0 14 rfl rfl)
theorem dX3_holds_17 : decode cX3_holds 17 = .ok (.aload_n 0, 1) := dk_42 (dk_at dksX3_holds_0 17 rfl rfl)
theorem dX3_holds_18 : decode cX3_holds 18 = .ok (.getfield 3, 3) := dk_180 0 3 (dk_at dksX3_holds_0 18 rfl rfl)
theorem dX3_holds_21 : decode cX3_holds 21 = .ok (.aload_n 1, 1) := dk_43 (dk_at dksX3_holds_0 21 rfl rfl)
theorem dX3_holds_22 : decode cX3_holds 22 = .ok (.invokevirtual 76, 3) := dk_182 0 76 (dk_at dksX3_holds_1 0 rfl rfl)
theorem dX3_holds_25 : decode cX3_holds 25 = .ok (.return_, 1) := dk_177 (dk_at dksX3_holds_1 3 rfl rfl)
abbrev cX3_switches : ByteArray := prog_20_method_7_code
def yX3_switches : MethodName := ⟨RX3, "switches", "(LActorTrees$Actor;LActorTrees$Count;)V"⟩
def dkwX3_switches_1 : List UInt8 := [182, 0, 83, 177]
abbrev dktX3_switches_1 : List UInt8 := dkwX3_switches_1 ++ []
def dkwX3_switches_0 : List UInt8 := [44, 180, 0, 54, 156, 0, 10, 43, 182, 0, 80, 167, 0, 14, 43, 44, 180, 0, 54, 16, 10, 112]
abbrev dktX3_switches_0 : List UInt8 := dkwX3_switches_0 ++ dktX3_switches_1
theorem dksX3_switches_0 : cX3_switches.data.toList.drop 0 = dktX3_switches_0 := by decide +kernel
theorem dksX3_switches_1 : cX3_switches.data.toList.drop 22 = dktX3_switches_1 := dk_seg dksX3_switches_0 22 rfl rfl
theorem dX3_switches_0 : decode cX3_switches 0 = .ok (.aload_n 2, 1) := dk_44 (dk_at dksX3_switches_0 0 rfl rfl)
theorem dX3_switches_1 : decode cX3_switches 1 = .ok (.getfield 54, 3) := dk_180 0 54 (dk_at dksX3_switches_0 1 rfl rfl)
theorem dX3_switches_4 : decode cX3_switches 4 = .ok (.ifCond .ge 10, 3) := dk_156 0 10 (dk_at dksX3_switches_0 4 rfl rfl)
theorem dX3_switches_7 : decode cX3_switches 7 = .ok (.aload_n 1, 1) := dk_43 (dk_at dksX3_switches_0 7 rfl rfl)
theorem dX3_switches_8 : decode cX3_switches 8 = .ok (.invokevirtual 80, 3) := dk_182 0 80 (dk_at dksX3_switches_0 8 rfl rfl)
theorem dX3_switches_11 : decode cX3_switches 11 = .ok (.goto 14, 3) := dk_167 0 14 (dk_at dksX3_switches_0 11 rfl rfl)
theorem dX3_switches_14 : decode cX3_switches 14 = .ok (.aload_n 1, 1) := dk_43 (dk_at dksX3_switches_0 14 rfl rfl)
theorem dX3_switches_15 : decode cX3_switches 15 = .ok (.aload_n 2, 1) := dk_44 (dk_at dksX3_switches_0 15 rfl rfl)
theorem dX3_switches_16 : decode cX3_switches 16 = .ok (.getfield 54, 3) := dk_180 0 54 (dk_at dksX3_switches_0 16 rfl rfl)
theorem dX3_switches_19 : decode cX3_switches 19 = .ok (.bipush 10, 2) := dk_16 10 (dk_at dksX3_switches_0 19 rfl rfl)
theorem dX3_switches_21 : decode cX3_switches 21 = .ok (.irem, 1) := dk_112 (dk_at dksX3_switches_0 21 rfl rfl)
theorem dX3_switches_22 : decode cX3_switches 22 = .ok (.invokevirtual 83, 3) := dk_182 0 83 (dk_at dksX3_switches_1 0 rfl rfl)
theorem dX3_switches_25 : decode cX3_switches 25 = .ok (.return_, 1) := dk_177 (dk_at dksX3_switches_1 3 rfl rfl)
abbrev cX3_risks : ByteArray := prog_20_method_8_code
def yX3_risks : MethodName := ⟨RX3, "risks", "(LActorTrees$Actor;LActorTrees$Count;)V"⟩
def dkwX3_risks_1 : List UInt8 := [43, 44, 180, 0, 54, 181, 0, 87, 177]
abbrev dktX3_risks_1 : List UInt8 := dkwX3_risks_1 ++ []
def dkwX3_risks_0 : List UInt8 := [44, 180, 0, 54, 43, 180, 0, 87, 162, 0, 16, 187, 0, 90, 89, 43, 180, 0, 45, 4, 183, 0, 92, 191]
abbrev dktX3_risks_0 : List UInt8 := dkwX3_risks_0 ++ dktX3_risks_1
theorem dksX3_risks_0 : cX3_risks.data.toList.drop 0 = dktX3_risks_0 := by decide +kernel
theorem dksX3_risks_1 : cX3_risks.data.toList.drop 24 = dktX3_risks_1 := dk_seg dksX3_risks_0 24 rfl rfl
theorem dX3_risks_0 : decode cX3_risks 0 = .ok (.aload_n 2, 1) := dk_44 (dk_at dksX3_risks_0 0 rfl rfl)
theorem dX3_risks_1 : decode cX3_risks 1 = .ok (.getfield 54, 3) := dk_180 0 54 (dk_at dksX3_risks_0 1 rfl rfl)
theorem dX3_risks_4 : decode cX3_risks 4 = .ok (.aload_n 1, 1) := dk_43 (dk_at dksX3_risks_0 4 rfl rfl)
theorem dX3_risks_5 : decode cX3_risks 5 = .ok (.getfield 87, 3) := dk_180 0 87 (dk_at dksX3_risks_0 5 rfl rfl)
theorem dX3_risks_8 : decode cX3_risks 8 = .ok (.if_icmp .ge 16, 3) := dk_162 0 16 (dk_at dksX3_risks_0 8 rfl rfl)
theorem dX3_risks_11 : decode cX3_risks 11 = .ok (.new 90, 3) := dk_187 0 90 (dk_at dksX3_risks_0 11 rfl rfl)
theorem dX3_risks_14 : decode cX3_risks 14 = .ok (.dup, 1) := dk_89 (dk_at dksX3_risks_0 14 rfl rfl)
theorem dX3_risks_15 : decode cX3_risks 15 = .ok (.aload_n 1, 1) := dk_43 (dk_at dksX3_risks_0 15 rfl rfl)
theorem dX3_risks_16 : decode cX3_risks 16 = .ok (.getfield 45, 3) := dk_180 0 45 (dk_at dksX3_risks_0 16 rfl rfl)
theorem dX3_risks_19 : decode cX3_risks 19 = .ok (.iconst 1, 1) := dk_4 (dk_at dksX3_risks_0 19 rfl rfl)
theorem dX3_risks_20 : decode cX3_risks 20 = .ok (.invokespecial 92, 3) := dk_183 0 92 (dk_at dksX3_risks_0 20 rfl rfl)
theorem dX3_risks_23 : decode cX3_risks 23 = .ok (.athrow, 1) := dk_191 (dk_at dksX3_risks_0 23 rfl rfl)
theorem dX3_risks_24 : decode cX3_risks 24 = .ok (.aload_n 1, 1) := dk_43 (dk_at dksX3_risks_1 0 rfl rfl)
theorem dX3_risks_25 : decode cX3_risks 25 = .ok (.aload_n 2, 1) := dk_44 (dk_at dksX3_risks_1 1 rfl rfl)
theorem dX3_risks_26 : decode cX3_risks 26 = .ok (.getfield 54, 3) := dk_180 0 54 (dk_at dksX3_risks_1 2 rfl rfl)
theorem dX3_risks_29 : decode cX3_risks 29 = .ok (.putfield 87, 3) := dk_181 0 87 (dk_at dksX3_risks_1 5 rfl rfl)
theorem dX3_risks_32 : decode cX3_risks 32 = .ok (.return_, 1) := dk_177 (dk_at dksX3_risks_1 8 rfl rfl)
abbrev cX3_delays : ByteArray := prog_20_method_9_code
def yX3_delays : MethodName := ⟨RX3, "delays", "(LActorTrees$Actor;LActorTrees$Count;)V"⟩
def dkwX3_delays_2 : List UInt8 := [182, 0, 101, 177]
abbrev dktX3_delays_2 : List UInt8 := dkwX3_delays_2 ++ []
def dkwX3_delays_1 : List UInt8 := [180, 0, 95, 4, 96, 44, 180, 0, 54, 16, 8, 112, 96, 44, 180, 0, 54, 4, 100, 183, 0, 98]
abbrev dktX3_delays_1 : List UInt8 := dkwX3_delays_1 ++ dktX3_delays_2
def dkwX3_delays_0 : List UInt8 := [44, 180, 0, 54, 158, 0, 44, 42, 180, 0, 3, 187, 0, 93, 89, 43, 180, 0, 45, 42, 180, 0, 3]
abbrev dktX3_delays_0 : List UInt8 := dkwX3_delays_0 ++ dktX3_delays_1
theorem dksX3_delays_0 : cX3_delays.data.toList.drop 0 = dktX3_delays_0 := by decide +kernel
theorem dksX3_delays_1 : cX3_delays.data.toList.drop 23 = dktX3_delays_1 := dk_seg dksX3_delays_0 23 rfl rfl
theorem dksX3_delays_2 : cX3_delays.data.toList.drop 45 = dktX3_delays_2 := dk_seg dksX3_delays_1 22 rfl rfl
theorem dX3_delays_0 : decode cX3_delays 0 = .ok (.aload_n 2, 1) := dk_44 (dk_at dksX3_delays_0 0 rfl rfl)
theorem dX3_delays_1 : decode cX3_delays 1 = .ok (.getfield 54, 3) := dk_180 0 54 (dk_at dksX3_delays_0 1 rfl rfl)
theorem dX3_delays_4 : decode cX3_delays 4 = .ok (.ifCond .le 44, 3) := dk_158 0 44 (dk_at dksX3_delays_0 4 rfl rfl)
theorem dX3_delays_7 : decode cX3_delays 7 = .ok (.aload_n 0, 1) := dk_42 (dk_at dksX3_delays_0 7 rfl rfl)
theorem dX3_delays_8 : decode cX3_delays 8 = .ok (.getfield 3, 3) := dk_180 0 3 (dk_at dksX3_delays_0 8 rfl rfl)
theorem dX3_delays_11 : decode cX3_delays 11 = .ok (.new 93, 3) := dk_187 0 93 (dk_at dksX3_delays_0 11 rfl rfl)
theorem dX3_delays_14 : decode cX3_delays 14 = .ok (.dup, 1) := dk_89 (dk_at dksX3_delays_0 14 rfl rfl)
theorem dX3_delays_15 : decode cX3_delays 15 = .ok (.aload_n 1, 1) := dk_43 (dk_at dksX3_delays_0 15 rfl rfl)
theorem dX3_delays_16 : decode cX3_delays 16 = .ok (.getfield 45, 3) := dk_180 0 45 (dk_at dksX3_delays_0 16 rfl rfl)
theorem dX3_delays_19 : decode cX3_delays 19 = .ok (.aload_n 0, 1) := dk_42 (dk_at dksX3_delays_0 19 rfl rfl)
theorem dX3_delays_20 : decode cX3_delays 20 = .ok (.getfield 3, 3) := dk_180 0 3 (dk_at dksX3_delays_0 20 rfl rfl)
theorem dX3_delays_23 : decode cX3_delays 23 = .ok (.getfield 95, 3) := dk_180 0 95 (dk_at dksX3_delays_1 0 rfl rfl)
theorem dX3_delays_26 : decode cX3_delays 26 = .ok (.iconst 1, 1) := dk_4 (dk_at dksX3_delays_1 3 rfl rfl)
theorem dX3_delays_27 : decode cX3_delays 27 = .ok (.iadd, 1) := dk_96 (dk_at dksX3_delays_1 4 rfl rfl)
theorem dX3_delays_28 : decode cX3_delays 28 = .ok (.aload_n 2, 1) := dk_44 (dk_at dksX3_delays_1 5 rfl rfl)
theorem dX3_delays_29 : decode cX3_delays 29 = .ok (.getfield 54, 3) := dk_180 0 54 (dk_at dksX3_delays_1 6 rfl rfl)
theorem dX3_delays_32 : decode cX3_delays 32 = .ok (.bipush 8, 2) := dk_16 8 (dk_at dksX3_delays_1 9 rfl rfl)
theorem dX3_delays_34 : decode cX3_delays 34 = .ok (.irem, 1) := dk_112 (dk_at dksX3_delays_1 11 rfl rfl)
theorem dX3_delays_35 : decode cX3_delays 35 = .ok (.iadd, 1) := dk_96 (dk_at dksX3_delays_1 12 rfl rfl)
theorem dX3_delays_36 : decode cX3_delays 36 = .ok (.aload_n 2, 1) := dk_44 (dk_at dksX3_delays_1 13 rfl rfl)
theorem dX3_delays_37 : decode cX3_delays 37 = .ok (.getfield 54, 3) := dk_180 0 54 (dk_at dksX3_delays_1 14 rfl rfl)
theorem dX3_delays_40 : decode cX3_delays 40 = .ok (.iconst 1, 1) := dk_4 (dk_at dksX3_delays_1 17 rfl rfl)
theorem dX3_delays_41 : decode cX3_delays 41 = .ok (.isub, 1) := dk_100 (dk_at dksX3_delays_1 18 rfl rfl)
theorem dX3_delays_42 : decode cX3_delays 42 = .ok (.invokespecial 98, 3) := dk_183 0 98 (dk_at dksX3_delays_1 19 rfl rfl)
theorem dX3_delays_45 : decode cX3_delays 45 = .ok (.invokevirtual 101, 3) := dk_182 0 101 (dk_at dksX3_delays_2 0 rfl rfl)
theorem dX3_delays_48 : decode cX3_delays 48 = .ok (.return_, 1) := dk_177 (dk_at dksX3_delays_2 3 rfl rfl)
abbrev cX3_fans : ByteArray := prog_20_method_10_code
def yX3_fans : MethodName := ⟨RX3, "fans", "(LActorTrees$Actor;LActorTrees$Count;)V"⟩
def dkwX3_fans_3 : List UInt8 := [44, 180, 0, 54, 183, 0, 57, 182, 0, 60, 87, 132, 3, 1, 167, 255, 176, 177]
abbrev dktX3_fans_3 : List UInt8 := dkwX3_fans_3 ++ []
def dkwX3_fans_2 : List UInt8 := [153, 0, 35, 42, 180, 0, 3, 42, 180, 0, 3, 180, 0, 36, 29, 50, 187, 0, 52, 89, 43, 180, 0, 45]
abbrev dktX3_fans_2 : List UInt8 := dkwX3_fans_2 ++ dktX3_fans_3
def dkwX3_fans_1 : List UInt8 := [180, 0, 40, 43, 180, 0, 45, 160, 0, 50, 42, 180, 0, 3, 180, 0, 36, 29, 50, 180, 0, 48]
abbrev dktX3_fans_1 : List UInt8 := dkwX3_fans_1 ++ dktX3_fans_2
def dkwX3_fans_0 : List UInt8 := [3, 62, 29, 42, 180, 0, 3, 180, 0, 30, 162, 0, 75, 42, 180, 0, 3, 180, 0, 36, 29, 50]
abbrev dktX3_fans_0 : List UInt8 := dkwX3_fans_0 ++ dktX3_fans_1
theorem dksX3_fans_0 : cX3_fans.data.toList.drop 0 = dktX3_fans_0 := by decide +kernel
theorem dksX3_fans_1 : cX3_fans.data.toList.drop 22 = dktX3_fans_1 := dk_seg dksX3_fans_0 22 rfl rfl
theorem dksX3_fans_2 : cX3_fans.data.toList.drop 44 = dktX3_fans_2 := dk_seg dksX3_fans_1 22 rfl rfl
theorem dksX3_fans_3 : cX3_fans.data.toList.drop 68 = dktX3_fans_3 := dk_seg dksX3_fans_2 24 rfl rfl
theorem dX3_fans_0 : decode cX3_fans 0 = .ok (.iconst 0, 1) := dk_3 (dk_at dksX3_fans_0 0 rfl rfl)
theorem dX3_fans_1 : decode cX3_fans 1 = .ok (.istore_n 3, 1) := dk_62 (dk_at dksX3_fans_0 1 rfl rfl)
theorem dX3_fans_2 : decode cX3_fans 2 = .ok (.iload_n 3, 1) := dk_29 (dk_at dksX3_fans_0 2 rfl rfl)
theorem dX3_fans_3 : decode cX3_fans 3 = .ok (.aload_n 0, 1) := dk_42 (dk_at dksX3_fans_0 3 rfl rfl)
theorem dX3_fans_4 : decode cX3_fans 4 = .ok (.getfield 3, 3) := dk_180 0 3 (dk_at dksX3_fans_0 4 rfl rfl)
theorem dX3_fans_7 : decode cX3_fans 7 = .ok (.getfield 30, 3) := dk_180 0 30 (dk_at dksX3_fans_0 7 rfl rfl)
theorem dX3_fans_10 : decode cX3_fans 10 = .ok (.if_icmp .ge 75, 3) := dk_162 0 75 (dk_at dksX3_fans_0 10 rfl rfl)
theorem dX3_fans_13 : decode cX3_fans 13 = .ok (.aload_n 0, 1) := dk_42 (dk_at dksX3_fans_0 13 rfl rfl)
theorem dX3_fans_14 : decode cX3_fans 14 = .ok (.getfield 3, 3) := dk_180 0 3 (dk_at dksX3_fans_0 14 rfl rfl)
theorem dX3_fans_17 : decode cX3_fans 17 = .ok (.getfield 36, 3) := dk_180 0 36 (dk_at dksX3_fans_0 17 rfl rfl)
theorem dX3_fans_20 : decode cX3_fans 20 = .ok (.iload_n 3, 1) := dk_29 (dk_at dksX3_fans_0 20 rfl rfl)
theorem dX3_fans_21 : decode cX3_fans 21 = .ok (.aaload, 1) := dk_50 (dk_at dksX3_fans_0 21 rfl rfl)
theorem dX3_fans_22 : decode cX3_fans 22 = .ok (.getfield 40, 3) := dk_180 0 40 (dk_at dksX3_fans_1 0 rfl rfl)
theorem dX3_fans_25 : decode cX3_fans 25 = .ok (.aload_n 1, 1) := dk_43 (dk_at dksX3_fans_1 3 rfl rfl)
theorem dX3_fans_26 : decode cX3_fans 26 = .ok (.getfield 45, 3) := dk_180 0 45 (dk_at dksX3_fans_1 4 rfl rfl)
theorem dX3_fans_29 : decode cX3_fans 29 = .ok (.if_icmp .ne 50, 3) := dk_160 0 50 (dk_at dksX3_fans_1 7 rfl rfl)
theorem dX3_fans_32 : decode cX3_fans 32 = .ok (.aload_n 0, 1) := dk_42 (dk_at dksX3_fans_1 10 rfl rfl)
theorem dX3_fans_33 : decode cX3_fans 33 = .ok (.getfield 3, 3) := dk_180 0 3 (dk_at dksX3_fans_1 11 rfl rfl)
theorem dX3_fans_36 : decode cX3_fans 36 = .ok (.getfield 36, 3) := dk_180 0 36 (dk_at dksX3_fans_1 14 rfl rfl)
theorem dX3_fans_39 : decode cX3_fans 39 = .ok (.iload_n 3, 1) := dk_29 (dk_at dksX3_fans_1 17 rfl rfl)
theorem dX3_fans_40 : decode cX3_fans 40 = .ok (.aaload, 1) := dk_50 (dk_at dksX3_fans_1 18 rfl rfl)
theorem dX3_fans_41 : decode cX3_fans 41 = .ok (.getfield 48, 3) := dk_180 0 48 (dk_at dksX3_fans_1 19 rfl rfl)
theorem dX3_fans_44 : decode cX3_fans 44 = .ok (.ifCond .eq 35, 3) := dk_153 0 35 (dk_at dksX3_fans_2 0 rfl rfl)
theorem dX3_fans_47 : decode cX3_fans 47 = .ok (.aload_n 0, 1) := dk_42 (dk_at dksX3_fans_2 3 rfl rfl)
theorem dX3_fans_48 : decode cX3_fans 48 = .ok (.getfield 3, 3) := dk_180 0 3 (dk_at dksX3_fans_2 4 rfl rfl)
theorem dX3_fans_51 : decode cX3_fans 51 = .ok (.aload_n 0, 1) := dk_42 (dk_at dksX3_fans_2 7 rfl rfl)
theorem dX3_fans_52 : decode cX3_fans 52 = .ok (.getfield 3, 3) := dk_180 0 3 (dk_at dksX3_fans_2 8 rfl rfl)
theorem dX3_fans_55 : decode cX3_fans 55 = .ok (.getfield 36, 3) := dk_180 0 36 (dk_at dksX3_fans_2 11 rfl rfl)
theorem dX3_fans_58 : decode cX3_fans 58 = .ok (.iload_n 3, 1) := dk_29 (dk_at dksX3_fans_2 14 rfl rfl)
theorem dX3_fans_59 : decode cX3_fans 59 = .ok (.aaload, 1) := dk_50 (dk_at dksX3_fans_2 15 rfl rfl)
theorem dX3_fans_60 : decode cX3_fans 60 = .ok (.new 52, 3) := dk_187 0 52 (dk_at dksX3_fans_2 16 rfl rfl)
theorem dX3_fans_63 : decode cX3_fans 63 = .ok (.dup, 1) := dk_89 (dk_at dksX3_fans_2 19 rfl rfl)
theorem dX3_fans_64 : decode cX3_fans 64 = .ok (.aload_n 1, 1) := dk_43 (dk_at dksX3_fans_2 20 rfl rfl)
theorem dX3_fans_65 : decode cX3_fans 65 = .ok (.getfield 45, 3) := dk_180 0 45 (dk_at dksX3_fans_2 21 rfl rfl)
theorem dX3_fans_68 : decode cX3_fans 68 = .ok (.aload_n 2, 1) := dk_44 (dk_at dksX3_fans_3 0 rfl rfl)
theorem dX3_fans_69 : decode cX3_fans 69 = .ok (.getfield 54, 3) := dk_180 0 54 (dk_at dksX3_fans_3 1 rfl rfl)
theorem dX3_fans_72 : decode cX3_fans 72 = .ok (.invokespecial 57, 3) := dk_183 0 57 (dk_at dksX3_fans_3 4 rfl rfl)
theorem dX3_fans_75 : decode cX3_fans 75 = .ok (.invokevirtual 60, 3) := dk_182 0 60 (dk_at dksX3_fans_3 7 rfl rfl)
theorem dX3_fans_78 : decode cX3_fans 78 = .ok (.pop, 1) := dk_87 (dk_at dksX3_fans_3 10 rfl rfl)
theorem dX3_fans_79 : decode cX3_fans 79 = .ok (.iinc 3 1, 3) := dk_132 3 1 (dk_at dksX3_fans_3 11 rfl rfl)
theorem dX3_fans_82 : decode cX3_fans 82 = .ok (.goto (-80), 3) := dk_167 255 176 (dk_at dksX3_fans_3 14 rfl rfl)
theorem dX3_fans_85 : decode cX3_fans 85 = .ok (.return_, 1) := dk_177 (dk_at dksX3_fans_3 17 rfl rfl)
abbrev cX3_watches : ByteArray := prog_20_method_11_code
def yX3_watches : MethodName := ⟨RX3, "watches", "(LActorTrees$Actor;LActorTrees$Count;)V"⟩
def dkwX3_watches_4 : List UInt8 := [184, 0, 117, 182, 0, 123, 87, 177]
abbrev dktX3_watches_4 : List UInt8 := dkwX3_watches_4 ++ []
def dkwX3_watches_3 : List UInt8 := [167, 0, 29, 45, 43, 180, 0, 45, 182, 0, 109, 154, 0, 18, 45, 180, 0, 113, 43, 180, 0, 45]
abbrev dktX3_watches_3 : List UInt8 := dkwX3_watches_3 ++ dktX3_watches_4
def dkwX3_watches_2 : List UInt8 := [154, 0, 26, 42, 180, 0, 3, 43, 187, 0, 105, 89, 45, 180, 0, 45, 183, 0, 107, 182, 0, 60, 87]
abbrev dktX3_watches_2 : List UInt8 := dkwX3_watches_2 ++ dktX3_watches_3
def dkwX3_watches_1 : List UInt8 := [44, 180, 0, 54, 42, 180, 0, 3, 180, 0, 30, 112, 50, 78, 45, 43, 166, 0, 4, 177, 45, 180, 0, 48]
abbrev dktX3_watches_1 : List UInt8 := dkwX3_watches_1 ++ dktX3_watches_2
def dkwX3_watches_0 : List UInt8 := [42, 180, 0, 3, 180, 0, 36, 44, 180, 0, 54, 156, 0, 13, 44, 180, 0, 54, 16, 99, 96, 167, 0, 7]
abbrev dktX3_watches_0 : List UInt8 := dkwX3_watches_0 ++ dktX3_watches_1
theorem dksX3_watches_0 : cX3_watches.data.toList.drop 0 = dktX3_watches_0 := by decide +kernel
theorem dksX3_watches_1 : cX3_watches.data.toList.drop 24 = dktX3_watches_1 := dk_seg dksX3_watches_0 24 rfl rfl
theorem dksX3_watches_2 : cX3_watches.data.toList.drop 48 = dktX3_watches_2 := dk_seg dksX3_watches_1 24 rfl rfl
theorem dksX3_watches_3 : cX3_watches.data.toList.drop 71 = dktX3_watches_3 := dk_seg dksX3_watches_2 23 rfl rfl
theorem dksX3_watches_4 : cX3_watches.data.toList.drop 93 = dktX3_watches_4 := dk_seg dksX3_watches_3 22 rfl rfl
theorem dX3_watches_0 : decode cX3_watches 0 = .ok (.aload_n 0, 1) := dk_42 (dk_at dksX3_watches_0 0 rfl rfl)
theorem dX3_watches_1 : decode cX3_watches 1 = .ok (.getfield 3, 3) := dk_180 0 3 (dk_at dksX3_watches_0 1 rfl rfl)
theorem dX3_watches_4 : decode cX3_watches 4 = .ok (.getfield 36, 3) := dk_180 0 36 (dk_at dksX3_watches_0 4 rfl rfl)
theorem dX3_watches_7 : decode cX3_watches 7 = .ok (.aload_n 2, 1) := dk_44 (dk_at dksX3_watches_0 7 rfl rfl)
theorem dX3_watches_8 : decode cX3_watches 8 = .ok (.getfield 54, 3) := dk_180 0 54 (dk_at dksX3_watches_0 8 rfl rfl)
theorem dX3_watches_11 : decode cX3_watches 11 = .ok (.ifCond .ge 13, 3) := dk_156 0 13 (dk_at dksX3_watches_0 11 rfl rfl)
theorem dX3_watches_14 : decode cX3_watches 14 = .ok (.aload_n 2, 1) := dk_44 (dk_at dksX3_watches_0 14 rfl rfl)
theorem dX3_watches_15 : decode cX3_watches 15 = .ok (.getfield 54, 3) := dk_180 0 54 (dk_at dksX3_watches_0 15 rfl rfl)
theorem dX3_watches_18 : decode cX3_watches 18 = .ok (.bipush 99, 2) := dk_16 99 (dk_at dksX3_watches_0 18 rfl rfl)
theorem dX3_watches_20 : decode cX3_watches 20 = .ok (.iadd, 1) := dk_96 (dk_at dksX3_watches_0 20 rfl rfl)
theorem dX3_watches_21 : decode cX3_watches 21 = .ok (.goto 7, 3) := dk_167 0 7 (dk_at dksX3_watches_0 21 rfl rfl)
theorem dX3_watches_24 : decode cX3_watches 24 = .ok (.aload_n 2, 1) := dk_44 (dk_at dksX3_watches_1 0 rfl rfl)
theorem dX3_watches_25 : decode cX3_watches 25 = .ok (.getfield 54, 3) := dk_180 0 54 (dk_at dksX3_watches_1 1 rfl rfl)
theorem dX3_watches_28 : decode cX3_watches 28 = .ok (.aload_n 0, 1) := dk_42 (dk_at dksX3_watches_1 4 rfl rfl)
theorem dX3_watches_29 : decode cX3_watches 29 = .ok (.getfield 3, 3) := dk_180 0 3 (dk_at dksX3_watches_1 5 rfl rfl)
theorem dX3_watches_32 : decode cX3_watches 32 = .ok (.getfield 30, 3) := dk_180 0 30 (dk_at dksX3_watches_1 8 rfl rfl)
theorem dX3_watches_35 : decode cX3_watches 35 = .ok (.irem, 1) := dk_112 (dk_at dksX3_watches_1 11 rfl rfl)
theorem dX3_watches_36 : decode cX3_watches 36 = .ok (.aaload, 1) := dk_50 (dk_at dksX3_watches_1 12 rfl rfl)
theorem dX3_watches_37 : decode cX3_watches 37 = .ok (.astore_n 3, 1) := dk_78 (dk_at dksX3_watches_1 13 rfl rfl)
theorem dX3_watches_38 : decode cX3_watches 38 = .ok (.aload_n 3, 1) := dk_45 (dk_at dksX3_watches_1 14 rfl rfl)
theorem dX3_watches_39 : decode cX3_watches 39 = .ok (.aload_n 1, 1) := dk_43 (dk_at dksX3_watches_1 15 rfl rfl)
theorem dX3_watches_40 : decode cX3_watches 40 = .ok (.if_acmp .ne 4, 3) := dk_166 0 4 (dk_at dksX3_watches_1 16 rfl rfl)
theorem dX3_watches_43 : decode cX3_watches 43 = .ok (.return_, 1) := dk_177 (dk_at dksX3_watches_1 19 rfl rfl)
theorem dX3_watches_44 : decode cX3_watches 44 = .ok (.aload_n 3, 1) := dk_45 (dk_at dksX3_watches_1 20 rfl rfl)
theorem dX3_watches_45 : decode cX3_watches 45 = .ok (.getfield 48, 3) := dk_180 0 48 (dk_at dksX3_watches_1 21 rfl rfl)
theorem dX3_watches_48 : decode cX3_watches 48 = .ok (.ifCond .ne 26, 3) := dk_154 0 26 (dk_at dksX3_watches_2 0 rfl rfl)
theorem dX3_watches_51 : decode cX3_watches 51 = .ok (.aload_n 0, 1) := dk_42 (dk_at dksX3_watches_2 3 rfl rfl)
theorem dX3_watches_52 : decode cX3_watches 52 = .ok (.getfield 3, 3) := dk_180 0 3 (dk_at dksX3_watches_2 4 rfl rfl)
theorem dX3_watches_55 : decode cX3_watches 55 = .ok (.aload_n 1, 1) := dk_43 (dk_at dksX3_watches_2 7 rfl rfl)
theorem dX3_watches_56 : decode cX3_watches 56 = .ok (.new 105, 3) := dk_187 0 105 (dk_at dksX3_watches_2 8 rfl rfl)
theorem dX3_watches_59 : decode cX3_watches 59 = .ok (.dup, 1) := dk_89 (dk_at dksX3_watches_2 11 rfl rfl)
theorem dX3_watches_60 : decode cX3_watches 60 = .ok (.aload_n 3, 1) := dk_45 (dk_at dksX3_watches_2 12 rfl rfl)
theorem dX3_watches_61 : decode cX3_watches 61 = .ok (.getfield 45, 3) := dk_180 0 45 (dk_at dksX3_watches_2 13 rfl rfl)
theorem dX3_watches_64 : decode cX3_watches 64 = .ok (.invokespecial 107, 3) := dk_183 0 107 (dk_at dksX3_watches_2 16 rfl rfl)
theorem dX3_watches_67 : decode cX3_watches 67 = .ok (.invokevirtual 60, 3) := dk_182 0 60 (dk_at dksX3_watches_2 19 rfl rfl)
theorem dX3_watches_70 : decode cX3_watches 70 = .ok (.pop, 1) := dk_87 (dk_at dksX3_watches_2 22 rfl rfl)
theorem dX3_watches_71 : decode cX3_watches 71 = .ok (.goto 29, 3) := dk_167 0 29 (dk_at dksX3_watches_3 0 rfl rfl)
theorem dX3_watches_74 : decode cX3_watches 74 = .ok (.aload_n 3, 1) := dk_45 (dk_at dksX3_watches_3 3 rfl rfl)
theorem dX3_watches_75 : decode cX3_watches 75 = .ok (.aload_n 1, 1) := dk_43 (dk_at dksX3_watches_3 4 rfl rfl)
theorem dX3_watches_76 : decode cX3_watches 76 = .ok (.getfield 45, 3) := dk_180 0 45 (dk_at dksX3_watches_3 5 rfl rfl)
theorem dX3_watches_79 : decode cX3_watches 79 = .ok (.invokevirtual 109, 3) := dk_182 0 109 (dk_at dksX3_watches_3 8 rfl rfl)
theorem dX3_watches_82 : decode cX3_watches 82 = .ok (.ifCond .ne 18, 3) := dk_154 0 18 (dk_at dksX3_watches_3 11 rfl rfl)
theorem dX3_watches_85 : decode cX3_watches 85 = .ok (.aload_n 3, 1) := dk_45 (dk_at dksX3_watches_3 14 rfl rfl)
theorem dX3_watches_86 : decode cX3_watches 86 = .ok (.getfield 113, 3) := dk_180 0 113 (dk_at dksX3_watches_3 15 rfl rfl)
theorem dX3_watches_89 : decode cX3_watches 89 = .ok (.aload_n 1, 1) := dk_43 (dk_at dksX3_watches_3 18 rfl rfl)
theorem dX3_watches_90 : decode cX3_watches 90 = .ok (.getfield 45, 3) := dk_180 0 45 (dk_at dksX3_watches_3 19 rfl rfl)
theorem dX3_watches_93 : decode cX3_watches 93 = .ok (.invokestatic 117, 3) := dk_184 0 117 (dk_at dksX3_watches_4 0 rfl rfl)
theorem dX3_watches_96 : decode cX3_watches 96 = .ok (.invokevirtual 123, 3) := dk_182 0 123 (dk_at dksX3_watches_4 3 rfl rfl)
theorem dX3_watches_99 : decode cX3_watches 99 = .ok (.pop, 1) := dk_87 (dk_at dksX3_watches_4 6 rfl rfl)
theorem dX3_watches_100 : decode cX3_watches 100 = .ok (.return_, 1) := dk_177 (dk_at dksX3_watches_4 7 rfl rfl)
abbrev cX3_lambda_of_1 : ByteArray := prog_20_method_12_code
def yX3_lambda_of_1 : MethodName := ⟨RX3, "lambda$of$1", "(LActorTrees$Actor;LActorTrees$Count;)V"⟩
def dkwX3_lambda_of_1_0 : List UInt8 := [42, 180, 0, 3, 43, 182, 0, 129, 177]
abbrev dktX3_lambda_of_1_0 : List UInt8 := dkwX3_lambda_of_1_0 ++ []
theorem dksX3_lambda_of_1_0 : cX3_lambda_of_1.data.toList.drop 0 = dktX3_lambda_of_1_0 := by decide +kernel
theorem dX3_lambda_of_1_0 : decode cX3_lambda_of_1 0 = .ok (.aload_n 0, 1) := dk_42 (dk_at dksX3_lambda_of_1_0 0 rfl rfl)
theorem dX3_lambda_of_1_1 : decode cX3_lambda_of_1 1 = .ok (.getfield 3, 3) := dk_180 0 3 (dk_at dksX3_lambda_of_1_0 1 rfl rfl)
theorem dX3_lambda_of_1_4 : decode cX3_lambda_of_1 4 = .ok (.aload_n 1, 1) := dk_43 (dk_at dksX3_lambda_of_1_0 4 rfl rfl)
theorem dX3_lambda_of_1_5 : decode cX3_lambda_of_1 5 = .ok (.invokevirtual 129, 3) := dk_182 0 129 (dk_at dksX3_lambda_of_1_0 5 rfl rfl)
theorem dX3_lambda_of_1_8 : decode cX3_lambda_of_1 8 = .ok (.return_, 1) := dk_177 (dk_at dksX3_lambda_of_1_0 8 rfl rfl)
theorem q77 : (Jvm.Cond.initialized "ActorTrees$World$Deeds") ∈ lw_all := lw_g (lw_at lw_m1 4 rfl) rfl
theorem q148 : (Jvm.Cond.instantiable "ActorTrees$World$Deeds" (1 : Nat)) ∈ lw_all := lw_g (lw_at lw_m1 75 rfl) rfl
theorem q150 : (Jvm.Cond.instanceMethod ({ cls := "ActorTrees$World$Deeds", name := "<init>", desc := "(LActorTrees$World;)V" } : Jvm.MethodName)) ∈ lw_all := lw_g (lw_at lw_m1 77 rfl) rfl
theorem q151 : (Jvm.Cond.code ({ cls := "ActorTrees$World$Deeds", name := "<init>", desc := "(LActorTrees$World;)V" } : Jvm.MethodName) prog_20_method_1_code (2 : Nat) (Option.none : Option Jvm.ClassFile.FieldType)) ∈ lw_all := lw_g (lw_at lw_m1 78 rfl) rfl
theorem q152 : (Jvm.Cond.methodLink "ActorTrees$World$Deeds" (9 : Nat) ({ cls := "java/lang/Object", name := "<init>", desc := "()V" } : Jvm.MethodName)) ∈ lw_all := lw_g (lw_at lw_m1 79 rfl) rfl
theorem q153 : (Jvm.Cond.fieldLink "ActorTrees$World$Deeds" (3 : Nat) "ActorTrees$World$Deeds" "this$0" "LActorTrees$World;") ∈ lw_all := lw_g (lw_at lw_m1 80 rfl) rfl
theorem q154 : (Jvm.Cond.laysFinal "ActorTrees$World$Deeds" "ActorTrees$World$Deeds" "this$0" "LActorTrees$World;") ∈ lw_all := lw_g (lw_at lw_m1 81 rfl) rfl
theorem q155 : (Jvm.Cond.soleField "ActorTrees$World$Deeds" "this$0") ∈ lw_all := lw_g (lw_at lw_m1 82 rfl) rfl
theorem q156 : (Jvm.Cond.superclass "ActorTrees$World$Deeds" "java/lang/Object") ∈ lw_all := lw_g (lw_at lw_m1 83 rfl) rfl
theorem q159 : (Jvm.Cond.fieldLinkNest "ActorTrees$World$Deeds" (36 : Nat) "ActorTrees$World" "actors" "[LActorTrees$Actor;" "ActorTrees") ∈ lw_tbl := lw_at lw_m1 86 rfl
theorem q163 : (Jvm.Cond.fieldLinkNest "ActorTrees$World$Deeds" (30 : Nat) "ActorTrees$World" "many" "I" "ActorTrees") ∈ lw_tbl := lw_at lw_m1 90 rfl
theorem q171 : (Jvm.Cond.fieldLinkNest "ActorTrees$World$Deeds" (95 : Nat) "ActorTrees$World" "time" "I" "ActorTrees") ∈ lw_tbl := lw_at lw_m1 98 rfl
theorem q282 : (Jvm.Cond.fieldLinkNest "ActorTrees$World$Deeds" (45 : Nat) "ActorTrees$Actor" "number" "I" "ActorTrees") ∈ lw_tbl := lw_at lw_m1 209 rfl
theorem q285 : (Jvm.Cond.fieldLinkNest "ActorTrees$World$Deeds" (40 : Nat) "ActorTrees$Actor" "parent" "I" "ActorTrees") ∈ lw_tbl := lw_at lw_m1 212 rfl
theorem q301 : (Jvm.Cond.fieldLinkNest "ActorTrees$World$Deeds" (48 : Nat) "ActorTrees$Actor" "live" "Z" "ActorTrees") ∈ lw_tbl := lw_at lw_m1 228 rfl
theorem q304 : (Jvm.Cond.fieldLinkNest "ActorTrees$World$Deeds" (87 : Nat) "ActorTrees$Actor" "count" "I" "ActorTrees") ∈ lw_tbl := lw_at lw_m1 231 rfl
theorem q321 : (Jvm.Cond.fieldLinkNest "ActorTrees$World$Deeds" (113 : Nat) "ActorTrees$Actor" "watchers" "LActorTrees$Queue;" "ActorTrees") ∈ lw_tbl := lw_at lw_m2 8 rfl
theorem q381 : (Jvm.Cond.fieldLinkNest "ActorTrees$World$Deeds" (54 : Nat) "ActorTrees$Count" "n" "I" "ActorTrees") ∈ lw_tbl := lw_at lw_m2 68 rfl
theorem q383 : (Jvm.Cond.fieldLinkNest "ActorTrees$World$Deeds" (68 : Nat) "ActorTrees$Message" "from" "I" "ActorTrees") ∈ lw_tbl := lw_at lw_m2 70 rfl
theorem q762 : (Jvm.Cond.privateMethod ({ cls := "ActorTrees$World$Deeds", name := "of", desc := "(I)LActorTrees$Behaviour;" } : Jvm.MethodName)) ∈ lw_tbl := lw_at lw_m3 209 rfl
theorem q763 : (Jvm.Cond.instanceMethod ({ cls := "ActorTrees$World$Deeds", name := "of", desc := "(I)LActorTrees$Behaviour;" } : Jvm.MethodName)) ∈ lw_all := lw_g (lw_at lw_m3 210 rfl) rfl
theorem q764 : (Jvm.Cond.code ({ cls := "ActorTrees$World$Deeds", name := "of", desc := "(I)LActorTrees$Behaviour;" } : Jvm.MethodName) prog_20_method_2_code (2 : Nat) (Option.some (Jvm.ClassFile.FieldType.object "ActorTrees$Behaviour"))) ∈ lw_all := lw_g (lw_at lw_m3 211 rfl) rfl
theorem q765 : (Jvm.Cond.static ({ cls := "ActorTrees$World$Deeds", name := "lambda$of$0", desc := "(LActorTrees$Actor;LActorTrees$Count;)V" } : Jvm.MethodName)) ∈ lw_all := lw_g (lw_at lw_m3 212 rfl) rfl
theorem q766 : (Jvm.Cond.code ({ cls := "ActorTrees$World$Deeds", name := "lambda$of$0", desc := "(LActorTrees$Actor;LActorTrees$Count;)V" } : Jvm.MethodName) prog_20_method_13_code (2 : Nat) (Option.none : Option Jvm.ClassFile.FieldType)) ∈ lw_all := lw_g (lw_at lw_m3 213 rfl) rfl
theorem q767 : (Jvm.Cond.privateMethod ({ cls := "ActorTrees$World$Deeds", name := "passes", desc := "(LActorTrees$Actor;LActorTrees$Count;)V" } : Jvm.MethodName)) ∈ lw_tbl := lw_at lw_m3 214 rfl
theorem q768 : (Jvm.Cond.instanceMethod ({ cls := "ActorTrees$World$Deeds", name := "passes", desc := "(LActorTrees$Actor;LActorTrees$Count;)V" } : Jvm.MethodName)) ∈ lw_all := lw_g (lw_at lw_m3 215 rfl) rfl
theorem q769 : (Jvm.Cond.code ({ cls := "ActorTrees$World$Deeds", name := "passes", desc := "(LActorTrees$Actor;LActorTrees$Count;)V" } : Jvm.MethodName) prog_20_method_3_code (4 : Nat) (Option.none : Option Jvm.ClassFile.FieldType)) ∈ lw_all := lw_g (lw_at lw_m3 216 rfl) rfl
theorem q770 : (Jvm.Cond.classLink "ActorTrees$World$Deeds" (52 : Nat) "ActorTrees$Count") ∈ lw_all := lw_g (lw_at lw_m3 217 rfl) rfl
theorem q771 : (Jvm.Cond.methodLink "ActorTrees$World$Deeds" (57 : Nat) ({ cls := "ActorTrees$Count", name := "<init>", desc := "(II)V" } : Jvm.MethodName)) ∈ lw_all := lw_g (lw_at lw_m3 218 rfl) rfl
theorem q772 : (Jvm.Cond.methodLink "ActorTrees$World$Deeds" (60 : Nat) ({ cls := "ActorTrees$World", name := "sends", desc := "(LActorTrees$Actor;LActorTrees$Message;)Z" } : Jvm.MethodName)) ∈ lw_all := lw_g (lw_at lw_m3 219 rfl) rfl
theorem q773 : (Jvm.Cond.privateMethod ({ cls := "ActorTrees$World$Deeds", name := "echoes", desc := "(LActorTrees$Actor;LActorTrees$Count;)V" } : Jvm.MethodName)) ∈ lw_tbl := lw_at lw_m3 220 rfl
theorem q774 : (Jvm.Cond.instanceMethod ({ cls := "ActorTrees$World$Deeds", name := "echoes", desc := "(LActorTrees$Actor;LActorTrees$Count;)V" } : Jvm.MethodName)) ∈ lw_all := lw_g (lw_at lw_m3 221 rfl) rfl
theorem q775 : (Jvm.Cond.code ({ cls := "ActorTrees$World$Deeds", name := "echoes", desc := "(LActorTrees$Actor;LActorTrees$Count;)V" } : Jvm.MethodName) prog_20_method_4_code (4 : Nat) (Option.none : Option Jvm.ClassFile.FieldType)) ∈ lw_all := lw_g (lw_at lw_m3 222 rfl) rfl
theorem q776 : (Jvm.Cond.methodLink "ActorTrees$World$Deeds" (64 : Nat) ({ cls := "ActorTrees$World$Deeds", name := "from", desc := "(LActorTrees$Message;)I" } : Jvm.MethodName)) ∈ lw_all := lw_g (lw_at lw_m3 223 rfl) rfl
theorem q777 : (Jvm.Cond.privateMethod ({ cls := "ActorTrees$World$Deeds", name := "from", desc := "(LActorTrees$Message;)I" } : Jvm.MethodName)) ∈ lw_tbl := lw_at lw_m3 224 rfl
theorem q778 : (Jvm.Cond.instanceMethod ({ cls := "ActorTrees$World$Deeds", name := "from", desc := "(LActorTrees$Message;)I" } : Jvm.MethodName)) ∈ lw_all := lw_g (lw_at lw_m3 225 rfl) rfl
theorem q779 : (Jvm.Cond.code ({ cls := "ActorTrees$World$Deeds", name := "from", desc := "(LActorTrees$Message;)I" } : Jvm.MethodName) prog_20_method_5_code (2 : Nat) (Option.some Jvm.ClassFile.FieldType.int)) ∈ lw_all := lw_g (lw_at lw_m3 226 rfl) rfl
theorem q780 : (Jvm.Cond.privateMethod ({ cls := "ActorTrees$World$Deeds", name := "holds", desc := "(LActorTrees$Actor;LActorTrees$Count;)V" } : Jvm.MethodName)) ∈ lw_tbl := lw_at lw_m3 227 rfl
theorem q781 : (Jvm.Cond.instanceMethod ({ cls := "ActorTrees$World$Deeds", name := "holds", desc := "(LActorTrees$Actor;LActorTrees$Count;)V" } : Jvm.MethodName)) ∈ lw_all := lw_g (lw_at lw_m3 228 rfl) rfl
theorem q782 : (Jvm.Cond.code ({ cls := "ActorTrees$World$Deeds", name := "holds", desc := "(LActorTrees$Actor;LActorTrees$Count;)V" } : Jvm.MethodName) prog_20_method_6_code (3 : Nat) (Option.none : Option Jvm.ClassFile.FieldType)) ∈ lw_all := lw_g (lw_at lw_m3 229 rfl) rfl
theorem q783 : (Jvm.Cond.methodLink "ActorTrees$World$Deeds" (72 : Nat) ({ cls := "ActorTrees$Actor", name := "stashes", desc := "(LActorTrees$Message;)V" } : Jvm.MethodName)) ∈ lw_all := lw_g (lw_at lw_m3 230 rfl) rfl
theorem q807 : (Jvm.Cond.methodLink "ActorTrees$World$Deeds" (76 : Nat) ({ cls := "ActorTrees$World", name := "unstashes", desc := "(LActorTrees$Actor;)V" } : Jvm.MethodName)) ∈ lw_all := lw_g (lw_at lw_m4 14 rfl) rfl
theorem q825 : (Jvm.Cond.privateMethod ({ cls := "ActorTrees$World$Deeds", name := "switches", desc := "(LActorTrees$Actor;LActorTrees$Count;)V" } : Jvm.MethodName)) ∈ lw_tbl := lw_at lw_m4 32 rfl
theorem q826 : (Jvm.Cond.instanceMethod ({ cls := "ActorTrees$World$Deeds", name := "switches", desc := "(LActorTrees$Actor;LActorTrees$Count;)V" } : Jvm.MethodName)) ∈ lw_all := lw_g (lw_at lw_m4 33 rfl) rfl
theorem q827 : (Jvm.Cond.code ({ cls := "ActorTrees$World$Deeds", name := "switches", desc := "(LActorTrees$Actor;LActorTrees$Count;)V" } : Jvm.MethodName) prog_20_method_7_code (3 : Nat) (Option.none : Option Jvm.ClassFile.FieldType)) ∈ lw_all := lw_g (lw_at lw_m4 34 rfl) rfl
theorem q828 : (Jvm.Cond.methodLink "ActorTrees$World$Deeds" (80 : Nat) ({ cls := "ActorTrees$Actor", name := "goesBack", desc := "()V" } : Jvm.MethodName)) ∈ lw_all := lw_g (lw_at lw_m4 35 rfl) rfl
theorem q832 : (Jvm.Cond.methodLink "ActorTrees$World$Deeds" (83 : Nat) ({ cls := "ActorTrees$Actor", name := "becomes", desc := "(I)V" } : Jvm.MethodName)) ∈ lw_all := lw_g (lw_at lw_m4 39 rfl) rfl
theorem q883 : (Jvm.Cond.privateMethod ({ cls := "ActorTrees$World$Deeds", name := "risks", desc := "(LActorTrees$Actor;LActorTrees$Count;)V" } : Jvm.MethodName)) ∈ lw_tbl := lw_at lw_m4 90 rfl
theorem q884 : (Jvm.Cond.instanceMethod ({ cls := "ActorTrees$World$Deeds", name := "risks", desc := "(LActorTrees$Actor;LActorTrees$Count;)V" } : Jvm.MethodName)) ∈ lw_all := lw_g (lw_at lw_m4 91 rfl) rfl
theorem q885 : (Jvm.Cond.code ({ cls := "ActorTrees$World$Deeds", name := "risks", desc := "(LActorTrees$Actor;LActorTrees$Count;)V" } : Jvm.MethodName) prog_20_method_8_code (3 : Nat) (Option.none : Option Jvm.ClassFile.FieldType)) ∈ lw_all := lw_g (lw_at lw_m4 92 rfl) rfl
theorem q886 : (Jvm.Cond.classLink "ActorTrees$World$Deeds" (90 : Nat) "ActorTrees$Failure") ∈ lw_all := lw_g (lw_at lw_m4 93 rfl) rfl
theorem q887 : (Jvm.Cond.methodLink "ActorTrees$World$Deeds" (92 : Nat) ({ cls := "ActorTrees$Failure", name := "<init>", desc := "(II)V" } : Jvm.MethodName)) ∈ lw_all := lw_g (lw_at lw_m4 94 rfl) rfl
theorem q888 : (Jvm.Cond.privateMethod ({ cls := "ActorTrees$World$Deeds", name := "delays", desc := "(LActorTrees$Actor;LActorTrees$Count;)V" } : Jvm.MethodName)) ∈ lw_tbl := lw_at lw_m4 95 rfl
theorem q889 : (Jvm.Cond.instanceMethod ({ cls := "ActorTrees$World$Deeds", name := "delays", desc := "(LActorTrees$Actor;LActorTrees$Count;)V" } : Jvm.MethodName)) ∈ lw_all := lw_g (lw_at lw_m4 96 rfl) rfl
theorem q890 : (Jvm.Cond.code ({ cls := "ActorTrees$World$Deeds", name := "delays", desc := "(LActorTrees$Actor;LActorTrees$Count;)V" } : Jvm.MethodName) prog_20_method_9_code (3 : Nat) (Option.none : Option Jvm.ClassFile.FieldType)) ∈ lw_all := lw_g (lw_at lw_m4 97 rfl) rfl
theorem q891 : (Jvm.Cond.classLink "ActorTrees$World$Deeds" (93 : Nat) "ActorTrees$Timer") ∈ lw_all := lw_g (lw_at lw_m4 98 rfl) rfl
theorem q893 : (Jvm.Cond.methodLink "ActorTrees$World$Deeds" (98 : Nat) ({ cls := "ActorTrees$Timer", name := "<init>", desc := "(III)V" } : Jvm.MethodName)) ∈ lw_all := lw_g (lw_at lw_m4 100 rfl) rfl
theorem q914 : (Jvm.Cond.methodLink "ActorTrees$World$Deeds" (101 : Nat) ({ cls := "ActorTrees$World", name := "timed", desc := "(LActorTrees$Timer;)V" } : Jvm.MethodName)) ∈ lw_all := lw_g (lw_at lw_m4 121 rfl) rfl
theorem q924 : (Jvm.Cond.privateMethod ({ cls := "ActorTrees$World$Deeds", name := "fans", desc := "(LActorTrees$Actor;LActorTrees$Count;)V" } : Jvm.MethodName)) ∈ lw_tbl := lw_at lw_m4 131 rfl
theorem q925 : (Jvm.Cond.instanceMethod ({ cls := "ActorTrees$World$Deeds", name := "fans", desc := "(LActorTrees$Actor;LActorTrees$Count;)V" } : Jvm.MethodName)) ∈ lw_all := lw_g (lw_at lw_m4 132 rfl) rfl
theorem q926 : (Jvm.Cond.code ({ cls := "ActorTrees$World$Deeds", name := "fans", desc := "(LActorTrees$Actor;LActorTrees$Count;)V" } : Jvm.MethodName) prog_20_method_10_code (4 : Nat) (Option.none : Option Jvm.ClassFile.FieldType)) ∈ lw_all := lw_g (lw_at lw_m4 133 rfl) rfl
theorem q927 : (Jvm.Cond.privateMethod ({ cls := "ActorTrees$World$Deeds", name := "watches", desc := "(LActorTrees$Actor;LActorTrees$Count;)V" } : Jvm.MethodName)) ∈ lw_tbl := lw_at lw_m4 134 rfl
theorem q928 : (Jvm.Cond.instanceMethod ({ cls := "ActorTrees$World$Deeds", name := "watches", desc := "(LActorTrees$Actor;LActorTrees$Count;)V" } : Jvm.MethodName)) ∈ lw_all := lw_g (lw_at lw_m4 135 rfl) rfl
theorem q929 : (Jvm.Cond.code ({ cls := "ActorTrees$World$Deeds", name := "watches", desc := "(LActorTrees$Actor;LActorTrees$Count;)V" } : Jvm.MethodName) prog_20_method_11_code (4 : Nat) (Option.none : Option Jvm.ClassFile.FieldType)) ∈ lw_all := lw_g (lw_at lw_m4 136 rfl) rfl
theorem q930 : (Jvm.Cond.classLink "ActorTrees$World$Deeds" (105 : Nat) "ActorTrees$Death") ∈ lw_all := lw_g (lw_at lw_m4 137 rfl) rfl
theorem q931 : (Jvm.Cond.methodLink "ActorTrees$World$Deeds" (107 : Nat) ({ cls := "ActorTrees$Death", name := "<init>", desc := "(I)V" } : Jvm.MethodName)) ∈ lw_all := lw_g (lw_at lw_m4 138 rfl) rfl
theorem q932 : (Jvm.Cond.methodLink "ActorTrees$World$Deeds" (109 : Nat) ({ cls := "ActorTrees$Actor", name := "isWatchedBy", desc := "(I)Z" } : Jvm.MethodName)) ∈ lw_all := lw_g (lw_at lw_m4 139 rfl) rfl
theorem q936 : (Jvm.Cond.methodLink "ActorTrees$World$Deeds" (117 : Nat) ({ cls := "java/lang/Integer", name := "valueOf", desc := "(I)Ljava/lang/Integer;" } : Jvm.MethodName)) ∈ lw_all := lw_g (lw_at lw_m4 143 rfl) rfl
theorem q956 : (Jvm.Cond.methodLink "ActorTrees$World$Deeds" (123 : Nat) ({ cls := "ActorTrees$Queue", name := "puts", desc := "(Ljava/lang/Object;)Z" } : Jvm.MethodName)) ∈ lw_all := lw_g (lw_at lw_m4 163 rfl) rfl
theorem q957 : (Jvm.Cond.privateMethod ({ cls := "ActorTrees$World$Deeds", name := "lambda$of$1", desc := "(LActorTrees$Actor;LActorTrees$Count;)V" } : Jvm.MethodName)) ∈ lw_tbl := lw_at lw_m4 164 rfl
theorem q958 : (Jvm.Cond.instanceMethod ({ cls := "ActorTrees$World$Deeds", name := "lambda$of$1", desc := "(LActorTrees$Actor;LActorTrees$Count;)V" } : Jvm.MethodName)) ∈ lw_all := lw_g (lw_at lw_m4 165 rfl) rfl
theorem q959 : (Jvm.Cond.code ({ cls := "ActorTrees$World$Deeds", name := "lambda$of$1", desc := "(LActorTrees$Actor;LActorTrees$Count;)V" } : Jvm.MethodName) prog_20_method_12_code (3 : Nat) (Option.none : Option Jvm.ClassFile.FieldType)) ∈ lw_all := lw_g (lw_at lw_m4 166 rfl) rfl
theorem q960 : (Jvm.Cond.methodLink "ActorTrees$World$Deeds" (129 : Nat) ({ cls := "ActorTrees$World", name := "stops", desc := "(LActorTrees$Actor;)V" } : Jvm.MethodName)) ∈ lw_all := lw_g (lw_at lw_m4 167 rfl) rfl
theorem q1683 : (Jvm.Cond.castable "ActorTrees$World$Deeds" "java/lang/Object") ∈ lw_tbl := lw_at lw_m7 170 rfl
theorem in_X3 : ∀ w ∈ wsX30, w ∈ lw_all := lw_in wsX30 [154] (by decide +kernel) (by decide +kernel)

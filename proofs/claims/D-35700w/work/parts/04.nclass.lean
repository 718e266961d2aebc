/-! Twinphase -/
set_option maxRecDepth 100000
def RX1 : String := "Twinphase"
def TX1 : u_T := fun k => match k with
  | 0 => ("Twinphase", "time", "I", false)
  | 1 => ("Twinphase", "nodes", "[LTwinphase$Node;", true)
  | 2 => ("Twinphase", "keys", "[LTwinphase$Key;", true)
  | 3 => ("Twinphase", "ranges", "Ljava/util/List;", true)
  | 4 => ("Twinphase", "trades", "Ljava/util/List;", true)
  | _ => ("Twinphase", "committed", "Ljava/util/List;", true)
def tyX1 : Nat → FieldType := fun k => match k with
  | 0 => .int
  | 1 => .array (.object "Twinphase$Node")
  | 2 => .array (.object "Twinphase$Key")
  | 3 => .object "java/util/List"
  | 4 => .object "java/util/List"
  | _ => .object "java/util/List"
abbrev wsX10 : List Cond := u_ws RX1 TX1 6
theorem nmX1 : ∀ a, a < 6 → ∀ b, b < 6 → a ≠ b → (TX1 a).2.1 ≠ (TX1 b).2.1 := by decide +kernel
theorem tyX1_ok : ∀ k, k < 6 → parseFieldDescriptor (TX1 k).2.2.1 = some (tyX1 k) := by decide +kernel
abbrev cX1_init : ByteArray := prog_1_method_1_code
def yX1_init : MethodName := ⟨RX1, "<init>", "()V"⟩
def dkwX1_init_5 : List UInt8 := [187, 0, 40, 89, 3, 42, 180, 0, 11, 3, 50, 183, 0, 42, 185, 0, 45, 2, 0, 87, 177]
abbrev dktX1_init_5 : List UInt8 := dkwX1_init_5 ++ []
def dkwX1_init_4 : List UInt8 := [180, 0, 17, 27, 187, 0, 15, 89, 27, 183, 0, 37, 83, 132, 1, 1, 167, 255, 233, 42, 180, 0, 24]
abbrev dktX1_init_4 : List UInt8 := dkwX1_init_4 ++ dktX1_init_5
def dkwX1_init_3 : List UInt8 := [187, 0, 9, 89, 42, 183, 0, 34, 83, 132, 1, 1, 167, 255, 234, 3, 60, 27, 16, 32, 162, 0, 23, 42]
abbrev dktX1_init_3 : List UInt8 := dkwX1_init_3 ++ dktX1_init_4
def dkwX1_init_2 : List UInt8 := [187, 0, 21, 89, 183, 0, 23, 181, 0, 31, 3, 60, 27, 7, 162, 0, 23, 42, 180, 0, 11, 27]
abbrev dktX1_init_2 : List UInt8 := dkwX1_init_2 ++ dktX1_init_3
def dkwX1_init_1 : List UInt8 := [187, 0, 21, 89, 183, 0, 23, 181, 0, 24, 42, 187, 0, 21, 89, 183, 0, 23, 181, 0, 28, 42]
abbrev dktX1_init_1 : List UInt8 := dkwX1_init_1 ++ dktX1_init_2
def dkwX1_init_0 : List UInt8 := [42, 183, 0, 1, 42, 7, 189, 0, 9, 181, 0, 11, 42, 16, 32, 189, 0, 15, 181, 0, 17, 42]
abbrev dktX1_init_0 : List UInt8 := dkwX1_init_0 ++ dktX1_init_1
theorem dksX1_init_0 : cX1_init.data.toList.drop 0 = dktX1_init_0 := by decide +kernel
theorem dksX1_init_1 : cX1_init.data.toList.drop 22 = dktX1_init_1 := dk_seg dksX1_init_0 22 rfl rfl
theorem dksX1_init_2 : cX1_init.data.toList.drop 44 = dktX1_init_2 := dk_seg dksX1_init_1 22 rfl rfl
theorem dksX1_init_3 : cX1_init.data.toList.drop 66 = dktX1_init_3 := dk_seg dksX1_init_2 22 rfl rfl
theorem dksX1_init_4 : cX1_init.data.toList.drop 90 = dktX1_init_4 := dk_seg dksX1_init_3 24 rfl rfl
theorem dksX1_init_5 : cX1_init.data.toList.drop 113 = dktX1_init_5 := dk_seg dksX1_init_4 23 rfl rfl
theorem dX1_init_0 : decode cX1_init 0 = .ok (.aload_n 0, 1) := dk_42 (dk_at dksX1_init_0 0 rfl rfl)
theorem dX1_init_1 : decode cX1_init 1 = .ok (.invokespecial 1, 3) := dk_183 0 1 (dk_at dksX1_init_0 1 rfl rfl)
theorem dX1_init_4 : decode cX1_init 4 = .ok (.aload_n 0, 1) := dk_42 (dk_at dksX1_init_0 4 rfl rfl)
theorem dX1_init_5 : decode cX1_init 5 = .ok (.iconst 4, 1) := dk_7 (dk_at dksX1_init_0 5 rfl rfl)
theorem dX1_init_6 : decode cX1_init 6 = .ok (.anewarray 9, 3) := dk_189 0 9 (dk_at dksX1_init_0 6 rfl rfl)
theorem dX1_init_9 : decode cX1_init 9 = .ok (.putfield 11, 3) := dk_181 0 11 (dk_at dksX1_init_0 9 rfl rfl)
theorem dX1_init_12 : decode cX1_init 12 = .ok (.aload_n 0, 1) := dk_42 (dk_at dksX1_init_0 12 rfl rfl)
theorem dX1_init_13 : decode cX1_init 13 = .ok (.bipush 32, 2) := dk_16 32 (dk_at dksX1_init_0 13 rfl rfl)
theorem dX1_init_15 : decode cX1_init 15 = .ok (.anewarray 15, 3) := dk_189 0 15 (dk_at dksX1_init_0 15 rfl rfl)
theorem dX1_init_18 : decode cX1_init 18 = .ok (.putfield 17, 3) := dk_181 0 17 (dk_at dksX1_init_0 18 rfl rfl)
theorem dX1_init_21 : decode cX1_init 21 = .ok (.aload_n 0, 1) := dk_42 (dk_at dksX1_init_0 21 rfl rfl)
theorem dX1_init_22 : decode cX1_init 22 = .ok (.new 21, 3) := dk_187 0 21 (dk_at dksX1_init_1 0 rfl rfl)
theorem dX1_init_25 : decode cX1_init 25 = .ok (.dup, 1) := dk_89 (dk_at dksX1_init_1 3 rfl rfl)
theorem dX1_init_26 : decode cX1_init 26 = .ok (.invokespecial 23, 3) := dk_183 0 23 (dk_at dksX1_init_1 4 rfl rfl)
theorem dX1_init_29 : decode cX1_init 29 = .ok (.putfield 24, 3) := dk_181 0 24 (dk_at dksX1_init_1 7 rfl rfl)
theorem dX1_init_32 : decode cX1_init 32 = .ok (.aload_n 0, 1) := dk_42 (dk_at dksX1_init_1 10 rfl rfl)
theorem dX1_init_33 : decode cX1_init 33 = .ok (.new 21, 3) := dk_187 0 21 (dk_at dksX1_init_1 11 rfl rfl)
theorem dX1_init_36 : decode cX1_init 36 = .ok (.dup, 1) := dk_89 (dk_at dksX1_init_1 14 rfl rfl)
theorem dX1_init_37 : decode cX1_init 37 = .ok (.invokespecial 23, 3) := dk_183 0 23 (dk_at dksX1_init_1 15 rfl rfl)
theorem dX1_init_40 : decode cX1_init 40 = .ok (.putfield 28, 3) := dk_181 0 28 (dk_at dksX1_init_1 18 rfl rfl)
theorem dX1_init_43 : decode cX1_init 43 = .ok (.aload_n 0, 1) := dk_42 (dk_at dksX1_init_1 21 rfl rfl)
theorem dX1_init_44 : decode cX1_init 44 = .ok (.new 21, 3) := dk_187 0 21 (dk_at dksX1_init_2 0 rfl rfl)
theorem dX1_init_47 : decode cX1_init 47 = .ok (.dup, 1) := dk_89 (dk_at dksX1_init_2 3 rfl rfl)
theorem dX1_init_48 : decode cX1_init 48 = .ok (.invokespecial 23, 3) := dk_183 0 23 (dk_at dksX1_init_2 4 rfl rfl)
theorem dX1_init_51 : decode cX1_init 51 = .ok (.putfield 31, 3) := dk_181 0 31 (dk_at dksX1_init_2 7 rfl rfl)
theorem dX1_init_54 : decode cX1_init 54 = .ok (.iconst 0, 1) := dk_3 (dk_at dksX1_init_2 10 rfl rfl)
theorem dX1_init_55 : decode cX1_init 55 = .ok (.istore_n 1, 1) := dk_60 (dk_at dksX1_init_2 11 rfl rfl)
theorem dX1_init_56 : decode cX1_init 56 = .ok (.iload_n 1, 1) := dk_27 (dk_at dksX1_init_2 12 rfl rfl)
theorem dX1_init_57 : decode cX1_init 57 = .ok (.iconst 4, 1) := dk_7 (dk_at dksX1_init_2 13 rfl rfl)
theorem dX1_init_58 : decode cX1_init 58 = .ok (.if_icmp .ge 23, 3) := dk_162 0 23 (dk_at dksX1_init_2 14 rfl rfl)
theorem dX1_init_61 : decode cX1_init 61 = .ok (.aload_n 0, 1) := dk_42 (dk_at dksX1_init_2 17 rfl rfl)
theorem dX1_init_62 : decode cX1_init 62 = .ok (.getfield 11, 3) := dk_180 0 11 (dk_at dksX1_init_2 18 rfl rfl)
theorem dX1_init_65 : decode cX1_init 65 = .ok (.iload_n 1, 1) := dk_27 (dk_at dksX1_init_2 21 rfl rfl)
theorem dX1_init_66 : decode cX1_init 66 = .ok (.new 9, 3) := dk_187 0 9 (dk_at dksX1_init_3 0 rfl rfl)
theorem dX1_init_69 : decode cX1_init 69 = .ok (.dup, 1) := dk_89 (dk_at dksX1_init_3 3 rfl rfl)
theorem dX1_init_70 : decode cX1_init 70 = .ok (.aload_n 0, 1) := dk_42 (dk_at dksX1_init_3 4 rfl rfl)
theorem dX1_init_71 : decode cX1_init 71 = .ok (.invokespecial 34, 3) := dk_183 0 34 (dk_at dksX1_init_3 5 rfl rfl)
theorem dX1_init_74 : decode cX1_init 74 = .ok (.aastore, 1) := dk_83 (dk_at dksX1_init_3 8 rfl rfl)
theorem dX1_init_75 : decode cX1_init 75 = .ok (.iinc 1 1, 3) := dk_132 1 1 (dk_at dksX1_init_3 9 rfl rfl)
theorem dX1_init_78 : decode cX1_init 78 = .ok (.goto (-22), 3) := dk_167 255 234 (dk_at dksX1_init_3 12 rfl rfl)
theorem dX1_init_81 : decode cX1_init 81 = .ok (.iconst 0, 1) := dk_3 (dk_at dksX1_init_3 15 rfl rfl)
theorem dX1_init_82 : decode cX1_init 82 = .ok (.istore_n 1, 1) := dk_60 (dk_at dksX1_init_3 16 rfl rfl)
theorem dX1_init_83 : decode cX1_init 83 = .ok (.iload_n 1, 1) := dk_27 (dk_at dksX1_init_3 17 rfl rfl)
theorem dX1_init_84 : decode cX1_init 84 = .ok (.bipush 32, 2) := dk_16 32 (dk_at dksX1_init_3 18 rfl rfl)
theorem dX1_init_86 : decode cX1_init 86 = .ok (.if_icmp .ge 23, 3) := dk_162 0 23 (dk_at dksX1_init_3 20 rfl rfl)
theorem dX1_init_89 : decode cX1_init 89 = .ok (.aload_n 0, 1) := dk_42 (dk_at dksX1_init_3 23 rfl rfl)
theorem dX1_init_90 : decode cX1_init 90 = .ok (.getfield 17, 3) := dk_180 0 17 (dk_at dksX1_init_4 0 rfl rfl)
theorem dX1_init_93 : decode cX1_init 93 = .ok (.iload_n 1, 1) := dk_27 (dk_at dksX1_init_4 3 rfl rfl)
theorem dX1_init_94 : decode cX1_init 94 = .ok (.new 15, 3) := dk_187 0 15 (dk_at dksX1_init_4 4 rfl rfl)
theorem dX1_init_97 : decode cX1_init 97 = .ok (.dup, 1) := dk_89 (dk_at dksX1_init_4 7 rfl rfl)
theorem dX1_init_98 : decode cX1_init 98 = .ok (.iload_n 1, 1) := dk_27 (dk_at dksX1_init_4 8 rfl rfl)
theorem dX1_init_99 : decode cX1_init 99 = .ok (.invokespecial 37, 3) := dk_183 0 37 (dk_at dksX1_init_4 9 rfl rfl)
theorem dX1_init_102 : decode cX1_init 102 = .ok (.aastore, 1) := dk_83 (dk_at dksX1_init_4 12 rfl rfl)
theorem dX1_init_103 : decode cX1_init 103 = .ok (.iinc 1 1, 3) := dk_132 1 1 (dk_at dksX1_init_4 13 rfl rfl)
theorem dX1_init_106 : decode cX1_init 106 = .ok (.goto (-23), 3) := dk_167 255 233 (dk_at dksX1_init_4 16 rfl rfl)
theorem dX1_init_109 : decode cX1_init 109 = .ok (.aload_n 0, 1) := dk_42 (dk_at dksX1_init_4 19 rfl rfl)
theorem dX1_init_110 : decode cX1_init 110 = .ok (.getfield 24, 3) := dk_180 0 24 (dk_at dksX1_init_4 20 rfl rfl)
theorem dX1_init_113 : decode cX1_init 113 = .ok (.new 40, 3) := dk_187 0 40 (dk_at dksX1_init_5 0 rfl rfl)
theorem dX1_init_116 : decode cX1_init 116 = .ok (.dup, 1) := dk_89 (dk_at dksX1_init_5 3 rfl rfl)
theorem dX1_init_117 : decode cX1_init 117 = .ok (.iconst 0, 1) := dk_3 (dk_at dksX1_init_5 4 rfl rfl)
theorem dX1_init_118 : decode cX1_init 118 = .ok (.aload_n 0, 1) := dk_42 (dk_at dksX1_init_5 5 rfl rfl)
theorem dX1_init_119 : decode cX1_init 119 = .ok (.getfield 11, 3) := dk_180 0 11 (dk_at dksX1_init_5 6 rfl rfl)
theorem dX1_init_122 : decode cX1_init 122 = .ok (.iconst 0, 1) := dk_3 (dk_at dksX1_init_5 9 rfl rfl)
theorem dX1_init_123 : decode cX1_init 123 = .ok (.aaload, 1) := dk_50 (dk_at dksX1_init_5 10 rfl rfl)
theorem dX1_init_124 : decode cX1_init 124 = .ok (.invokespecial 42, 3) := dk_183 0 42 (dk_at dksX1_init_5 11 rfl rfl)
theorem dX1_init_127 : decode cX1_init 127 = .ok (.invokeinterface 45 2, 5) := by decide +kernel
theorem dX1_init_132 : decode cX1_init 132 = .ok (.pop, 1) := dk_87 (dk_at dksX1_init_5 19 rfl rfl)
theorem dX1_init_133 : decode cX1_init 133 = .ok (.return_, 1) := dk_177 (dk_at dksX1_init_5 20 rfl rfl)
abbrev cX1_closed : ByteArray := prog_1_method_14_code
def yX1_closed : MethodName := ⟨RX1, "closed", "()I"⟩
theorem dX1_closed_0 : decode cX1_closed 0 = .ok (.aload_n 0, 1) := by decide +kernel
theorem dX1_closed_1 : decode cX1_closed 1 = .ok (.invokevirtual 113, 3) := by decide +kernel
theorem dX1_closed_4 : decode cX1_closed 4 = .ok (.ireturn, 1) := by decide +kernel
abbrev cX1_closedStamp : ByteArray := prog_1_method_13_code
def yX1_closedStamp : MethodName := ⟨RX1, "closedStamp", "()I"⟩
def dkwX1_closedStamp_0 : List UInt8 := [3, 16, 10, 42, 180, 0, 86, 16, 15, 100, 104, 184, 0, 107, 172]
abbrev dktX1_closedStamp_0 : List UInt8 := dkwX1_closedStamp_0 ++ []
theorem dksX1_closedStamp_0 : cX1_closedStamp.data.toList.drop 0 = dktX1_closedStamp_0 := by decide +kernel
theorem dX1_closedStamp_0 : decode cX1_closedStamp 0 = .ok (.iconst 0, 1) := dk_3 (dk_at dksX1_closedStamp_0 0 rfl rfl)
theorem dX1_closedStamp_1 : decode cX1_closedStamp 1 = .ok (.bipush 10, 2) := dk_16 10 (dk_at dksX1_closedStamp_0 1 rfl rfl)
theorem dX1_closedStamp_3 : decode cX1_closedStamp 3 = .ok (.aload_n 0, 1) := dk_42 (dk_at dksX1_closedStamp_0 3 rfl rfl)
theorem dX1_closedStamp_4 : decode cX1_closedStamp 4 = .ok (.getfield 86, 3) := dk_180 0 86 (dk_at dksX1_closedStamp_0 4 rfl rfl)
theorem dX1_closedStamp_7 : decode cX1_closedStamp 7 = .ok (.bipush 15, 2) := dk_16 15 (dk_at dksX1_closedStamp_0 7 rfl rfl)
theorem dX1_closedStamp_9 : decode cX1_closedStamp 9 = .ok (.isub, 1) := dk_100 (dk_at dksX1_closedStamp_0 9 rfl rfl)
theorem dX1_closedStamp_10 : decode cX1_closedStamp 10 = .ok (.imul, 1) := dk_104 (dk_at dksX1_closedStamp_0 10 rfl rfl)
theorem dX1_closedStamp_11 : decode cX1_closedStamp 11 = .ok (.invokestatic 107, 3) := dk_184 0 107 (dk_at dksX1_closedStamp_0 11 rfl rfl)
theorem dX1_closedStamp_14 : decode cX1_closedStamp 14 = .ok (.ireturn, 1) := dk_172 (dk_at dksX1_closedStamp_0 14 rfl rfl)
abbrev cX1_resolved : ByteArray := prog_1_method_40_code
def yX1_resolved : MethodName := ⟨RX1, "resolved", "()I"⟩
theorem dX1_resolved_0 : decode cX1_resolved 0 = .ok (.aload_n 0, 1) := by decide +kernel
theorem dX1_resolved_1 : decode cX1_resolved 1 = .ok (.invokevirtual 324, 3) := by decide +kernel
theorem dX1_resolved_4 : decode cX1_resolved 4 = .ok (.ireturn, 1) := by decide +kernel
abbrev cX1_resolvedStamp : ByteArray := prog_1_method_39_code
def yX1_resolvedStamp : MethodName := ⟨RX1, "resolvedStamp", "()I"⟩
def dkwX1_resolvedStamp_2 : List UInt8 := [100, 184, 1, 65, 167, 0, 4, 27, 60, 167, 255, 214, 27, 172]
abbrev dktX1_resolvedStamp_2 : List UInt8 := dkwX1_resolvedStamp_2 ++ []
def dkwX1_resolvedStamp_1 : List UInt8 := [44, 185, 1, 43, 1, 0, 192, 0, 72, 78, 45, 180, 0, 156, 4, 160, 0, 16, 27, 45, 180, 0, 221, 4]
abbrev dktX1_resolvedStamp_1 : List UInt8 := dkwX1_resolvedStamp_1 ++ dktX1_resolvedStamp_2
def dkwX1_resolvedStamp_0 : List UInt8 := [42, 182, 0, 113, 60, 42, 180, 0, 28, 185, 1, 64, 1, 0, 77, 44, 185, 1, 38, 1, 0, 153, 0, 39]
abbrev dktX1_resolvedStamp_0 : List UInt8 := dkwX1_resolvedStamp_0 ++ dktX1_resolvedStamp_1
theorem dksX1_resolvedStamp_0 : cX1_resolvedStamp.data.toList.drop 0 = dktX1_resolvedStamp_0 := by decide +kernel
theorem dksX1_resolvedStamp_1 : cX1_resolvedStamp.data.toList.drop 24 = dktX1_resolvedStamp_1 := dk_seg dksX1_resolvedStamp_0 24 rfl rfl
theorem dksX1_resolvedStamp_2 : cX1_resolvedStamp.data.toList.drop 48 = dktX1_resolvedStamp_2 := dk_seg dksX1_resolvedStamp_1 24 rfl rfl
theorem dX1_resolvedStamp_0 : decode cX1_resolvedStamp 0 = .ok (.aload_n 0, 1) := dk_42 (dk_at dksX1_resolvedStamp_0 0 rfl rfl)
theorem dX1_resolvedStamp_1 : decode cX1_resolvedStamp 1 = .ok (.invokevirtual 113, 3) := dk_182 0 113 (dk_at dksX1_resolvedStamp_0 1 rfl rfl)
theorem dX1_resolvedStamp_4 : decode cX1_resolvedStamp 4 = .ok (.istore_n 1, 1) := dk_60 (dk_at dksX1_resolvedStamp_0 4 rfl rfl)
theorem dX1_resolvedStamp_5 : decode cX1_resolvedStamp 5 = .ok (.aload_n 0, 1) := dk_42 (dk_at dksX1_resolvedStamp_0 5 rfl rfl)
theorem dX1_resolvedStamp_6 : decode cX1_resolvedStamp 6 = .ok (.getfield 28, 3) := dk_180 0 28 (dk_at dksX1_resolvedStamp_0 6 rfl rfl)
theorem dX1_resolvedStamp_9 : decode cX1_resolvedStamp 9 = .ok (.invokeinterface 320 1, 5) := by decide +kernel
theorem dX1_resolvedStamp_14 : decode cX1_resolvedStamp 14 = .ok (.astore_n 2, 1) := dk_77 (dk_at dksX1_resolvedStamp_0 14 rfl rfl)
theorem dX1_resolvedStamp_15 : decode cX1_resolvedStamp 15 = .ok (.aload_n 2, 1) := dk_44 (dk_at dksX1_resolvedStamp_0 15 rfl rfl)
theorem dX1_resolvedStamp_16 : decode cX1_resolvedStamp 16 = .ok (.invokeinterface 294 1, 5) := by decide +kernel
theorem dX1_resolvedStamp_21 : decode cX1_resolvedStamp 21 = .ok (.ifCond .eq 39, 3) := dk_153 0 39 (dk_at dksX1_resolvedStamp_0 21 rfl rfl)
theorem dX1_resolvedStamp_24 : decode cX1_resolvedStamp 24 = .ok (.aload_n 2, 1) := dk_44 (dk_at dksX1_resolvedStamp_1 0 rfl rfl)
theorem dX1_resolvedStamp_25 : decode cX1_resolvedStamp 25 = .ok (.invokeinterface 299 1, 5) := by decide +kernel
theorem dX1_resolvedStamp_30 : decode cX1_resolvedStamp 30 = .ok (.checkcast 72, 3) := dk_192 0 72 (dk_at dksX1_resolvedStamp_1 6 rfl rfl)
theorem dX1_resolvedStamp_33 : decode cX1_resolvedStamp 33 = .ok (.astore_n 3, 1) := dk_78 (dk_at dksX1_resolvedStamp_1 9 rfl rfl)
theorem dX1_resolvedStamp_34 : decode cX1_resolvedStamp 34 = .ok (.aload_n 3, 1) := dk_45 (dk_at dksX1_resolvedStamp_1 10 rfl rfl)
theorem dX1_resolvedStamp_35 : decode cX1_resolvedStamp 35 = .ok (.getfield 156, 3) := dk_180 0 156 (dk_at dksX1_resolvedStamp_1 11 rfl rfl)
theorem dX1_resolvedStamp_38 : decode cX1_resolvedStamp 38 = .ok (.iconst 1, 1) := dk_4 (dk_at dksX1_resolvedStamp_1 14 rfl rfl)
theorem dX1_resolvedStamp_39 : decode cX1_resolvedStamp 39 = .ok (.if_icmp .ne 16, 3) := dk_160 0 16 (dk_at dksX1_resolvedStamp_1 15 rfl rfl)
theorem dX1_resolvedStamp_42 : decode cX1_resolvedStamp 42 = .ok (.iload_n 1, 1) := dk_27 (dk_at dksX1_resolvedStamp_1 18 rfl rfl)
theorem dX1_resolvedStamp_43 : decode cX1_resolvedStamp 43 = .ok (.aload_n 3, 1) := dk_45 (dk_at dksX1_resolvedStamp_1 19 rfl rfl)
theorem dX1_resolvedStamp_44 : decode cX1_resolvedStamp 44 = .ok (.getfield 221, 3) := dk_180 0 221 (dk_at dksX1_resolvedStamp_1 20 rfl rfl)
theorem dX1_resolvedStamp_47 : decode cX1_resolvedStamp 47 = .ok (.iconst 1, 1) := dk_4 (dk_at dksX1_resolvedStamp_1 23 rfl rfl)
theorem dX1_resolvedStamp_48 : decode cX1_resolvedStamp 48 = .ok (.isub, 1) := dk_100 (dk_at dksX1_resolvedStamp_2 0 rfl rfl)
theorem dX1_resolvedStamp_49 : decode cX1_resolvedStamp 49 = .ok (.invokestatic 321, 3) := dk_184 1 65 (dk_at dksX1_resolvedStamp_2 1 rfl rfl)
theorem dX1_resolvedStamp_52 : decode cX1_resolvedStamp 52 = .ok (.goto 4, 3) := dk_167 0 4 (dk_at dksX1_resolvedStamp_2 4 rfl rfl)
theorem dX1_resolvedStamp_55 : decode cX1_resolvedStamp 55 = .ok (.iload_n 1, 1) := dk_27 (dk_at dksX1_resolvedStamp_2 7 rfl rfl)
theorem dX1_resolvedStamp_56 : decode cX1_resolvedStamp 56 = .ok (.istore_n 1, 1) := dk_60 (dk_at dksX1_resolvedStamp_2 8 rfl rfl)
theorem dX1_resolvedStamp_57 : decode cX1_resolvedStamp 57 = .ok (.goto (-42), 3) := dk_167 255 214 (dk_at dksX1_resolvedStamp_2 9 rfl rfl)
theorem dX1_resolvedStamp_60 : decode cX1_resolvedStamp 60 = .ok (.iload_n 1, 1) := dk_27 (dk_at dksX1_resolvedStamp_2 12 rfl rfl)
theorem dX1_resolvedStamp_61 : decode cX1_resolvedStamp 61 = .ok (.ireturn, 1) := dk_172 (dk_at dksX1_resolvedStamp_2 13 rfl rfl)
abbrev cX1_judged : ByteArray := prog_1_method_44_code
def yX1_judged : MethodName := ⟨RX1, "judged", "()I"⟩
def dkwX1_judged_6 : List UInt8 := [43, 25, 4, 180, 0, 197, 185, 1, 92, 2, 0, 167, 255, 125, 28, 172]
abbrev dktX1_judged_6 : List UInt8 := dkwX1_judged_6 ++ []
def dkwX1_judged_5 : List UInt8 := [185, 1, 89, 1, 0, 192, 0, 209, 182, 0, 211, 160, 0, 7, 3, 167, 0, 4, 4, 96, 61, 167, 255, 176]
abbrev dktX1_judged_5 : List UInt8 := dkwX1_judged_5 ++ dktX1_judged_6
def dkwX1_judged_4 : List UInt8 := [192, 0, 209, 58, 7, 28, 25, 7, 199, 0, 9, 17, 3, 232, 167, 0, 8, 25, 7, 182, 0, 211, 25, 6]
abbrev dktX1_judged_4 : List UInt8 := dkwX1_judged_4 ++ dktX1_judged_5
def dkwX1_judged_3 : List UInt8 := [185, 1, 43, 1, 0, 192, 1, 84, 58, 6, 43, 25, 6, 185, 1, 86, 1, 0, 185, 0, 204, 2, 0]
abbrev dktX1_judged_3 : List UInt8 := dkwX1_judged_3 ++ dktX1_judged_4
def dkwX1_judged_2 : List UInt8 := [185, 1, 81, 1, 0, 185, 1, 32, 1, 0, 58, 5, 25, 5, 185, 1, 38, 1, 0, 153, 0, 76, 25, 5]
abbrev dktX1_judged_2 : List UInt8 := dkwX1_judged_2 ++ dktX1_judged_3
def dkwX1_judged_1 : List UInt8 := [185, 1, 38, 1, 0, 153, 0, 128, 45, 185, 1, 43, 1, 0, 192, 0, 72, 58, 4, 25, 4, 180, 1, 5]
abbrev dktX1_judged_1 : List UInt8 := dkwX1_judged_1 ++ dktX1_judged_2
def dkwX1_judged_0 : List UInt8 := [187, 1, 78, 89, 183, 1, 80, 76, 3, 61, 42, 182, 1, 74, 185, 1, 64, 1, 0, 78, 45]
abbrev dktX1_judged_0 : List UInt8 := dkwX1_judged_0 ++ dktX1_judged_1
theorem dksX1_judged_0 : cX1_judged.data.toList.drop 0 = dktX1_judged_0 := by decide +kernel
theorem dksX1_judged_1 : cX1_judged.data.toList.drop 21 = dktX1_judged_1 := dk_seg dksX1_judged_0 21 rfl rfl
theorem dksX1_judged_2 : cX1_judged.data.toList.drop 45 = dktX1_judged_2 := dk_seg dksX1_judged_1 24 rfl rfl
theorem dksX1_judged_3 : cX1_judged.data.toList.drop 69 = dktX1_judged_3 := dk_seg dksX1_judged_2 24 rfl rfl
theorem dksX1_judged_4 : cX1_judged.data.toList.drop 92 = dktX1_judged_4 := dk_seg dksX1_judged_3 23 rfl rfl
theorem dksX1_judged_5 : cX1_judged.data.toList.drop 116 = dktX1_judged_5 := dk_seg dksX1_judged_4 24 rfl rfl
theorem dksX1_judged_6 : cX1_judged.data.toList.drop 140 = dktX1_judged_6 := dk_seg dksX1_judged_5 24 rfl rfl
theorem dX1_judged_0 : decode cX1_judged 0 = .ok (.new 334, 3) := dk_187 1 78 (dk_at dksX1_judged_0 0 rfl rfl)
theorem dX1_judged_3 : decode cX1_judged 3 = .ok (.dup, 1) := dk_89 (dk_at dksX1_judged_0 3 rfl rfl)
theorem dX1_judged_4 : decode cX1_judged 4 = .ok (.invokespecial 336, 3) := dk_183 1 80 (dk_at dksX1_judged_0 4 rfl rfl)
theorem dX1_judged_7 : decode cX1_judged 7 = .ok (.astore_n 1, 1) := dk_76 (dk_at dksX1_judged_0 7 rfl rfl)
theorem dX1_judged_8 : decode cX1_judged 8 = .ok (.iconst 0, 1) := dk_3 (dk_at dksX1_judged_0 8 rfl rfl)
theorem dX1_judged_9 : decode cX1_judged 9 = .ok (.istore_n 2, 1) := dk_61 (dk_at dksX1_judged_0 9 rfl rfl)
theorem dX1_judged_10 : decode cX1_judged 10 = .ok (.aload_n 0, 1) := dk_42 (dk_at dksX1_judged_0 10 rfl rfl)
theorem dX1_judged_11 : decode cX1_judged 11 = .ok (.invokevirtual 330, 3) := dk_182 1 74 (dk_at dksX1_judged_0 11 rfl rfl)
theorem dX1_judged_14 : decode cX1_judged 14 = .ok (.invokeinterface 320 1, 5) := by decide +kernel
theorem dX1_judged_19 : decode cX1_judged 19 = .ok (.astore_n 3, 1) := dk_78 (dk_at dksX1_judged_0 19 rfl rfl)
theorem dX1_judged_20 : decode cX1_judged 20 = .ok (.aload_n 3, 1) := dk_45 (dk_at dksX1_judged_0 20 rfl rfl)
theorem dX1_judged_21 : decode cX1_judged 21 = .ok (.invokeinterface 294 1, 5) := by decide +kernel
theorem dX1_judged_26 : decode cX1_judged 26 = .ok (.ifCond .eq 128, 3) := dk_153 0 128 (dk_at dksX1_judged_1 5 rfl rfl)
theorem dX1_judged_29 : decode cX1_judged 29 = .ok (.aload_n 3, 1) := dk_45 (dk_at dksX1_judged_1 8 rfl rfl)
theorem dX1_judged_30 : decode cX1_judged 30 = .ok (.invokeinterface 299 1, 5) := by decide +kernel
theorem dX1_judged_35 : decode cX1_judged 35 = .ok (.checkcast 72, 3) := dk_192 0 72 (dk_at dksX1_judged_1 14 rfl rfl)
theorem dX1_judged_38 : decode cX1_judged 38 = .ok (.astore 4, 2) := dk_58 4 (dk_at dksX1_judged_1 17 rfl rfl)
theorem dX1_judged_40 : decode cX1_judged 40 = .ok (.aload 4, 2) := dk_25 4 (dk_at dksX1_judged_1 19 rfl rfl)
theorem dX1_judged_42 : decode cX1_judged 42 = .ok (.getfield 261, 3) := dk_180 1 5 (dk_at dksX1_judged_1 21 rfl rfl)
theorem dX1_judged_45 : decode cX1_judged 45 = .ok (.invokeinterface 337 1, 5) := by decide +kernel
theorem dX1_judged_50 : decode cX1_judged 50 = .ok (.invokeinterface 288 1, 5) := by decide +kernel
theorem dX1_judged_55 : decode cX1_judged 55 = .ok (.astore 5, 2) := dk_58 5 (dk_at dksX1_judged_2 10 rfl rfl)
theorem dX1_judged_57 : decode cX1_judged 57 = .ok (.aload 5, 2) := dk_25 5 (dk_at dksX1_judged_2 12 rfl rfl)
theorem dX1_judged_59 : decode cX1_judged 59 = .ok (.invokeinterface 294 1, 5) := by decide +kernel
theorem dX1_judged_64 : decode cX1_judged 64 = .ok (.ifCond .eq 76, 3) := dk_153 0 76 (dk_at dksX1_judged_2 19 rfl rfl)
theorem dX1_judged_67 : decode cX1_judged 67 = .ok (.aload 5, 2) := dk_25 5 (dk_at dksX1_judged_2 22 rfl rfl)
theorem dX1_judged_69 : decode cX1_judged 69 = .ok (.invokeinterface 299 1, 5) := by decide +kernel
theorem dX1_judged_74 : decode cX1_judged 74 = .ok (.checkcast 340, 3) := dk_192 1 84 (dk_at dksX1_judged_3 5 rfl rfl)
theorem dX1_judged_77 : decode cX1_judged 77 = .ok (.astore 6, 2) := dk_58 6 (dk_at dksX1_judged_3 8 rfl rfl)
theorem dX1_judged_79 : decode cX1_judged 79 = .ok (.aload_n 1, 1) := dk_43 (dk_at dksX1_judged_3 10 rfl rfl)
theorem dX1_judged_80 : decode cX1_judged 80 = .ok (.aload 6, 2) := dk_25 6 (dk_at dksX1_judged_3 11 rfl rfl)
theorem dX1_judged_82 : decode cX1_judged 82 = .ok (.invokeinterface 342 1, 5) := by decide +kernel
theorem dX1_judged_87 : decode cX1_judged 87 = .ok (.invokeinterface 204 2, 5) := by decide +kernel
theorem dX1_judged_92 : decode cX1_judged 92 = .ok (.checkcast 209, 3) := dk_192 0 209 (dk_at dksX1_judged_4 0 rfl rfl)
theorem dX1_judged_95 : decode cX1_judged 95 = .ok (.astore 7, 2) := dk_58 7 (dk_at dksX1_judged_4 3 rfl rfl)
theorem dX1_judged_97 : decode cX1_judged 97 = .ok (.iload_n 2, 1) := dk_28 (dk_at dksX1_judged_4 5 rfl rfl)
theorem dX1_judged_98 : decode cX1_judged 98 = .ok (.aload 7, 2) := dk_25 7 (dk_at dksX1_judged_4 6 rfl rfl)
theorem dX1_judged_100 : decode cX1_judged 100 = .ok (.ifnonnull 9, 3) := dk_199 0 9 (dk_at dksX1_judged_4 8 rfl rfl)
theorem dX1_judged_103 : decode cX1_judged 103 = .ok (.sipush 1000, 3) := dk_17 3 232 (dk_at dksX1_judged_4 11 rfl rfl)
theorem dX1_judged_106 : decode cX1_judged 106 = .ok (.goto 8, 3) := dk_167 0 8 (dk_at dksX1_judged_4 14 rfl rfl)
theorem dX1_judged_109 : decode cX1_judged 109 = .ok (.aload 7, 2) := dk_25 7 (dk_at dksX1_judged_4 17 rfl rfl)
theorem dX1_judged_111 : decode cX1_judged 111 = .ok (.invokevirtual 211, 3) := dk_182 0 211 (dk_at dksX1_judged_4 19 rfl rfl)
theorem dX1_judged_114 : decode cX1_judged 114 = .ok (.aload 6, 2) := dk_25 6 (dk_at dksX1_judged_4 22 rfl rfl)
theorem dX1_judged_116 : decode cX1_judged 116 = .ok (.invokeinterface 345 1, 5) := by decide +kernel
theorem dX1_judged_121 : decode cX1_judged 121 = .ok (.checkcast 209, 3) := dk_192 0 209 (dk_at dksX1_judged_5 5 rfl rfl)
theorem dX1_judged_124 : decode cX1_judged 124 = .ok (.invokevirtual 211, 3) := dk_182 0 211 (dk_at dksX1_judged_5 8 rfl rfl)
theorem dX1_judged_127 : decode cX1_judged 127 = .ok (.if_icmp .ne 7, 3) := dk_160 0 7 (dk_at dksX1_judged_5 11 rfl rfl)
theorem dX1_judged_130 : decode cX1_judged 130 = .ok (.iconst 0, 1) := dk_3 (dk_at dksX1_judged_5 14 rfl rfl)
theorem dX1_judged_131 : decode cX1_judged 131 = .ok (.goto 4, 3) := dk_167 0 4 (dk_at dksX1_judged_5 15 rfl rfl)
theorem dX1_judged_134 : decode cX1_judged 134 = .ok (.iconst 1, 1) := dk_4 (dk_at dksX1_judged_5 18 rfl rfl)
theorem dX1_judged_135 : decode cX1_judged 135 = .ok (.iadd, 1) := dk_96 (dk_at dksX1_judged_5 19 rfl rfl)
theorem dX1_judged_136 : decode cX1_judged 136 = .ok (.istore_n 2, 1) := dk_61 (dk_at dksX1_judged_5 20 rfl rfl)
theorem dX1_judged_137 : decode cX1_judged 137 = .ok (.goto (-80), 3) := dk_167 255 176 (dk_at dksX1_judged_5 21 rfl rfl)
theorem dX1_judged_140 : decode cX1_judged 140 = .ok (.aload_n 1, 1) := dk_43 (dk_at dksX1_judged_6 0 rfl rfl)
theorem dX1_judged_141 : decode cX1_judged 141 = .ok (.aload 4, 2) := dk_25 4 (dk_at dksX1_judged_6 1 rfl rfl)
theorem dX1_judged_143 : decode cX1_judged 143 = .ok (.getfield 197, 3) := dk_180 0 197 (dk_at dksX1_judged_6 3 rfl rfl)
theorem dX1_judged_146 : decode cX1_judged 146 = .ok (.invokeinterface 348 2, 5) := by decide +kernel
theorem dX1_judged_151 : decode cX1_judged 151 = .ok (.goto (-131), 3) := dk_167 255 125 (dk_at dksX1_judged_6 11 rfl rfl)
theorem dX1_judged_154 : decode cX1_judged 154 = .ok (.iload_n 2, 1) := dk_28 (dk_at dksX1_judged_6 14 rfl rfl)
theorem dX1_judged_155 : decode cX1_judged 155 = .ok (.ireturn, 1) := dk_172 (dk_at dksX1_judged_6 15 rfl rfl)
abbrev cX1_ordered : ByteArray := prog_1_method_42_code
def yX1_ordered : MethodName := ⟨RX1, "ordered", "()Ljava/util/List;"⟩
def dkwX1_ordered_5 : List UInt8 := [43, 21, 4, 45, 185, 0, 143, 3, 0, 167, 255, 145, 43, 176]
abbrev dktX1_ordered_5 : List UInt8 := dkwX1_ordered_5 ++ []
def dkwX1_ordered_4 : List UInt8 := [185, 0, 68, 2, 0, 192, 0, 72, 180, 1, 71, 45, 180, 1, 71, 162, 0, 9, 132, 4, 1, 167, 255, 179]
abbrev dktX1_ordered_4 : List UInt8 := dkwX1_ordered_4 ++ dktX1_ordered_5
def dkwX1_ordered_3 : List UInt8 := [43, 21, 4, 185, 0, 68, 2, 0, 192, 0, 72, 180, 0, 221, 45, 180, 0, 221, 160, 0, 30, 43, 21, 4]
abbrev dktX1_ordered_3 : List UInt8 := dkwX1_ordered_3 ++ dktX1_ordered_4
def dkwX1_ordered_2 : List UInt8 := [162, 0, 72, 43, 21, 4, 185, 0, 68, 2, 0, 192, 0, 72, 180, 0, 221, 45, 180, 0, 221, 161, 0, 45]
abbrev dktX1_ordered_2 : List UInt8 := dkwX1_ordered_2 ++ dktX1_ordered_3
def dkwX1_ordered_1 : List UInt8 := [153, 0, 108, 44, 185, 1, 43, 1, 0, 192, 0, 72, 78, 3, 54, 4, 21, 4, 43, 185, 0, 64, 1, 0]
abbrev dktX1_ordered_1 : List UInt8 := dkwX1_ordered_1 ++ dktX1_ordered_2
def dkwX1_ordered_0 : List UInt8 := [187, 0, 21, 89, 183, 0, 23, 76, 42, 180, 0, 31, 185, 1, 64, 1, 0, 77, 44, 185, 1, 38, 1, 0]
abbrev dktX1_ordered_0 : List UInt8 := dkwX1_ordered_0 ++ dktX1_ordered_1
theorem dksX1_ordered_0 : cX1_ordered.data.toList.drop 0 = dktX1_ordered_0 := by decide +kernel
theorem dksX1_ordered_1 : cX1_ordered.data.toList.drop 24 = dktX1_ordered_1 := dk_seg dksX1_ordered_0 24 rfl rfl
theorem dksX1_ordered_2 : cX1_ordered.data.toList.drop 48 = dktX1_ordered_2 := dk_seg dksX1_ordered_1 24 rfl rfl
theorem dksX1_ordered_3 : cX1_ordered.data.toList.drop 72 = dktX1_ordered_3 := dk_seg dksX1_ordered_2 24 rfl rfl
theorem dksX1_ordered_4 : cX1_ordered.data.toList.drop 96 = dktX1_ordered_4 := dk_seg dksX1_ordered_3 24 rfl rfl
theorem dksX1_ordered_5 : cX1_ordered.data.toList.drop 120 = dktX1_ordered_5 := dk_seg dksX1_ordered_4 24 rfl rfl
theorem dX1_ordered_0 : decode cX1_ordered 0 = .ok (.new 21, 3) := dk_187 0 21 (dk_at dksX1_ordered_0 0 rfl rfl)
theorem dX1_ordered_3 : decode cX1_ordered 3 = .ok (.dup, 1) := dk_89 (dk_at dksX1_ordered_0 3 rfl rfl)
theorem dX1_ordered_4 : decode cX1_ordered 4 = .ok (.invokespecial 23, 3) := dk_183 0 23 (dk_at dksX1_ordered_0 4 rfl rfl)
theorem dX1_ordered_7 : decode cX1_ordered 7 = .ok (.astore_n 1, 1) := dk_76 (dk_at dksX1_ordered_0 7 rfl rfl)
theorem dX1_ordered_8 : decode cX1_ordered 8 = .ok (.aload_n 0, 1) := dk_42 (dk_at dksX1_ordered_0 8 rfl rfl)
theorem dX1_ordered_9 : decode cX1_ordered 9 = .ok (.getfield 31, 3) := dk_180 0 31 (dk_at dksX1_ordered_0 9 rfl rfl)
theorem dX1_ordered_12 : decode cX1_ordered 12 = .ok (.invokeinterface 320 1, 5) := by decide +kernel
theorem dX1_ordered_17 : decode cX1_ordered 17 = .ok (.astore_n 2, 1) := dk_77 (dk_at dksX1_ordered_0 17 rfl rfl)
theorem dX1_ordered_18 : decode cX1_ordered 18 = .ok (.aload_n 2, 1) := dk_44 (dk_at dksX1_ordered_0 18 rfl rfl)
theorem dX1_ordered_19 : decode cX1_ordered 19 = .ok (.invokeinterface 294 1, 5) := by decide +kernel
theorem dX1_ordered_24 : decode cX1_ordered 24 = .ok (.ifCond .eq 108, 3) := dk_153 0 108 (dk_at dksX1_ordered_1 0 rfl rfl)
theorem dX1_ordered_27 : decode cX1_ordered 27 = .ok (.aload_n 2, 1) := dk_44 (dk_at dksX1_ordered_1 3 rfl rfl)
theorem dX1_ordered_28 : decode cX1_ordered 28 = .ok (.invokeinterface 299 1, 5) := by decide +kernel
theorem dX1_ordered_33 : decode cX1_ordered 33 = .ok (.checkcast 72, 3) := dk_192 0 72 (dk_at dksX1_ordered_1 9 rfl rfl)
theorem dX1_ordered_36 : decode cX1_ordered 36 = .ok (.astore_n 3, 1) := dk_78 (dk_at dksX1_ordered_1 12 rfl rfl)
theorem dX1_ordered_37 : decode cX1_ordered 37 = .ok (.iconst 0, 1) := dk_3 (dk_at dksX1_ordered_1 13 rfl rfl)
theorem dX1_ordered_38 : decode cX1_ordered 38 = .ok (.istore 4, 2) := dk_54 4 (dk_at dksX1_ordered_1 14 rfl rfl)
theorem dX1_ordered_40 : decode cX1_ordered 40 = .ok (.iload 4, 2) := dk_21 4 (dk_at dksX1_ordered_1 16 rfl rfl)
theorem dX1_ordered_42 : decode cX1_ordered 42 = .ok (.aload_n 1, 1) := dk_43 (dk_at dksX1_ordered_1 18 rfl rfl)
theorem dX1_ordered_43 : decode cX1_ordered 43 = .ok (.invokeinterface 64 1, 5) := by decide +kernel
theorem dX1_ordered_48 : decode cX1_ordered 48 = .ok (.if_icmp .ge 72, 3) := dk_162 0 72 (dk_at dksX1_ordered_2 0 rfl rfl)
theorem dX1_ordered_51 : decode cX1_ordered 51 = .ok (.aload_n 1, 1) := dk_43 (dk_at dksX1_ordered_2 3 rfl rfl)
theorem dX1_ordered_52 : decode cX1_ordered 52 = .ok (.iload 4, 2) := dk_21 4 (dk_at dksX1_ordered_2 4 rfl rfl)
theorem dX1_ordered_54 : decode cX1_ordered 54 = .ok (.invokeinterface 68 2, 5) := by decide +kernel
theorem dX1_ordered_59 : decode cX1_ordered 59 = .ok (.checkcast 72, 3) := dk_192 0 72 (dk_at dksX1_ordered_2 11 rfl rfl)
theorem dX1_ordered_62 : decode cX1_ordered 62 = .ok (.getfield 221, 3) := dk_180 0 221 (dk_at dksX1_ordered_2 14 rfl rfl)
theorem dX1_ordered_65 : decode cX1_ordered 65 = .ok (.aload_n 3, 1) := dk_45 (dk_at dksX1_ordered_2 17 rfl rfl)
theorem dX1_ordered_66 : decode cX1_ordered 66 = .ok (.getfield 221, 3) := dk_180 0 221 (dk_at dksX1_ordered_2 18 rfl rfl)
theorem dX1_ordered_69 : decode cX1_ordered 69 = .ok (.if_icmp .lt 45, 3) := dk_161 0 45 (dk_at dksX1_ordered_2 21 rfl rfl)
theorem dX1_ordered_72 : decode cX1_ordered 72 = .ok (.aload_n 1, 1) := dk_43 (dk_at dksX1_ordered_3 0 rfl rfl)
theorem dX1_ordered_73 : decode cX1_ordered 73 = .ok (.iload 4, 2) := dk_21 4 (dk_at dksX1_ordered_3 1 rfl rfl)
theorem dX1_ordered_75 : decode cX1_ordered 75 = .ok (.invokeinterface 68 2, 5) := by decide +kernel
theorem dX1_ordered_80 : decode cX1_ordered 80 = .ok (.checkcast 72, 3) := dk_192 0 72 (dk_at dksX1_ordered_3 8 rfl rfl)
theorem dX1_ordered_83 : decode cX1_ordered 83 = .ok (.getfield 221, 3) := dk_180 0 221 (dk_at dksX1_ordered_3 11 rfl rfl)
theorem dX1_ordered_86 : decode cX1_ordered 86 = .ok (.aload_n 3, 1) := dk_45 (dk_at dksX1_ordered_3 14 rfl rfl)
theorem dX1_ordered_87 : decode cX1_ordered 87 = .ok (.getfield 221, 3) := dk_180 0 221 (dk_at dksX1_ordered_3 15 rfl rfl)
theorem dX1_ordered_90 : decode cX1_ordered 90 = .ok (.if_icmp .ne 30, 3) := dk_160 0 30 (dk_at dksX1_ordered_3 18 rfl rfl)
theorem dX1_ordered_93 : decode cX1_ordered 93 = .ok (.aload_n 1, 1) := dk_43 (dk_at dksX1_ordered_3 21 rfl rfl)
theorem dX1_ordered_94 : decode cX1_ordered 94 = .ok (.iload 4, 2) := dk_21 4 (dk_at dksX1_ordered_3 22 rfl rfl)
theorem dX1_ordered_96 : decode cX1_ordered 96 = .ok (.invokeinterface 68 2, 5) := by decide +kernel
theorem dX1_ordered_101 : decode cX1_ordered 101 = .ok (.checkcast 72, 3) := dk_192 0 72 (dk_at dksX1_ordered_4 5 rfl rfl)
theorem dX1_ordered_104 : decode cX1_ordered 104 = .ok (.getfield 327, 3) := dk_180 1 71 (dk_at dksX1_ordered_4 8 rfl rfl)
theorem dX1_ordered_107 : decode cX1_ordered 107 = .ok (.aload_n 3, 1) := dk_45 (dk_at dksX1_ordered_4 11 rfl rfl)
theorem dX1_ordered_108 : decode cX1_ordered 108 = .ok (.getfield 327, 3) := dk_180 1 71 (dk_at dksX1_ordered_4 12 rfl rfl)
theorem dX1_ordered_111 : decode cX1_ordered 111 = .ok (.if_icmp .ge 9, 3) := dk_162 0 9 (dk_at dksX1_ordered_4 15 rfl rfl)
theorem dX1_ordered_114 : decode cX1_ordered 114 = .ok (.iinc 4 1, 3) := dk_132 4 1 (dk_at dksX1_ordered_4 18 rfl rfl)
theorem dX1_ordered_117 : decode cX1_ordered 117 = .ok (.goto (-77), 3) := dk_167 255 179 (dk_at dksX1_ordered_4 21 rfl rfl)
theorem dX1_ordered_120 : decode cX1_ordered 120 = .ok (.aload_n 1, 1) := dk_43 (dk_at dksX1_ordered_5 0 rfl rfl)
theorem dX1_ordered_121 : decode cX1_ordered 121 = .ok (.iload 4, 2) := dk_21 4 (dk_at dksX1_ordered_5 1 rfl rfl)
theorem dX1_ordered_123 : decode cX1_ordered 123 = .ok (.aload_n 3, 1) := dk_45 (dk_at dksX1_ordered_5 3 rfl rfl)
theorem dX1_ordered_124 : decode cX1_ordered 124 = .ok (.invokeinterface 143 3, 5) := by decide +kernel
theorem dX1_ordered_129 : decode cX1_ordered 129 = .ok (.goto (-111), 3) := dk_167 255 145 (dk_at dksX1_ordered_5 9 rfl rfl)
theorem dX1_ordered_132 : decode cX1_ordered 132 = .ok (.aload_n 1, 1) := dk_43 (dk_at dksX1_ordered_5 12 rfl rfl)
theorem dX1_ordered_133 : decode cX1_ordered 133 = .ok (.areturn, 1) := dk_176 (dk_at dksX1_ordered_5 13 rfl rfl)
abbrev cX1_pass : ByteArray := prog_1_method_10_code
def yX1_pass : MethodName := ⟨RX1, "pass", "(I)I"⟩
def dkwX1_pass_1 : List UInt8 := [184, 0, 89, 42, 89, 180, 0, 86, 27, 96, 181, 0, 86, 42, 180, 0, 86, 172]
abbrev dktX1_pass_1 : List UInt8 := dkwX1_pass_1 ++ []
def dkwX1_pass_0 : List UInt8 := [27, 4, 16, 50, 184, 0, 82, 42, 180, 0, 86, 27, 96, 17, 7, 208, 163, 0, 7, 4, 167, 0, 4, 3]
abbrev dktX1_pass_0 : List UInt8 := dkwX1_pass_0 ++ dktX1_pass_1
theorem dksX1_pass_0 : cX1_pass.data.toList.drop 0 = dktX1_pass_0 := by decide +kernel
theorem dksX1_pass_1 : cX1_pass.data.toList.drop 24 = dktX1_pass_1 := dk_seg dksX1_pass_0 24 rfl rfl
theorem dX1_pass_0 : decode cX1_pass 0 = .ok (.iload_n 1, 1) := dk_27 (dk_at dksX1_pass_0 0 rfl rfl)
theorem dX1_pass_1 : decode cX1_pass 1 = .ok (.iconst 1, 1) := dk_4 (dk_at dksX1_pass_0 1 rfl rfl)
theorem dX1_pass_2 : decode cX1_pass 2 = .ok (.bipush 50, 2) := dk_16 50 (dk_at dksX1_pass_0 2 rfl rfl)
theorem dX1_pass_4 : decode cX1_pass 4 = .ok (.invokestatic 82, 3) := dk_184 0 82 (dk_at dksX1_pass_0 4 rfl rfl)
theorem dX1_pass_7 : decode cX1_pass 7 = .ok (.aload_n 0, 1) := dk_42 (dk_at dksX1_pass_0 7 rfl rfl)
theorem dX1_pass_8 : decode cX1_pass 8 = .ok (.getfield 86, 3) := dk_180 0 86 (dk_at dksX1_pass_0 8 rfl rfl)
theorem dX1_pass_11 : decode cX1_pass 11 = .ok (.iload_n 1, 1) := dk_27 (dk_at dksX1_pass_0 11 rfl rfl)
theorem dX1_pass_12 : decode cX1_pass 12 = .ok (.iadd, 1) := dk_96 (dk_at dksX1_pass_0 12 rfl rfl)
theorem dX1_pass_13 : decode cX1_pass 13 = .ok (.sipush 2000, 3) := dk_17 7 208 (dk_at dksX1_pass_0 13 rfl rfl)
theorem dX1_pass_16 : decode cX1_pass 16 = .ok (.if_icmp .gt 7, 3) := dk_163 0 7 (dk_at dksX1_pass_0 16 rfl rfl)
theorem dX1_pass_19 : decode cX1_pass 19 = .ok (.iconst 1, 1) := dk_4 (dk_at dksX1_pass_0 19 rfl rfl)
theorem dX1_pass_20 : decode cX1_pass 20 = .ok (.goto 4, 3) := dk_167 0 4 (dk_at dksX1_pass_0 20 rfl rfl)
theorem dX1_pass_23 : decode cX1_pass 23 = .ok (.iconst 0, 1) := dk_3 (dk_at dksX1_pass_0 23 rfl rfl)
theorem dX1_pass_24 : decode cX1_pass 24 = .ok (.invokestatic 89, 3) := dk_184 0 89 (dk_at dksX1_pass_1 0 rfl rfl)
theorem dX1_pass_27 : decode cX1_pass 27 = .ok (.aload_n 0, 1) := dk_42 (dk_at dksX1_pass_1 3 rfl rfl)
theorem dX1_pass_28 : decode cX1_pass 28 = .ok (.dup, 1) := dk_89 (dk_at dksX1_pass_1 4 rfl rfl)
theorem dX1_pass_29 : decode cX1_pass 29 = .ok (.getfield 86, 3) := dk_180 0 86 (dk_at dksX1_pass_1 5 rfl rfl)
theorem dX1_pass_32 : decode cX1_pass 32 = .ok (.iload_n 1, 1) := dk_27 (dk_at dksX1_pass_1 8 rfl rfl)
theorem dX1_pass_33 : decode cX1_pass 33 = .ok (.iadd, 1) := dk_96 (dk_at dksX1_pass_1 9 rfl rfl)
theorem dX1_pass_34 : decode cX1_pass 34 = .ok (.putfield 86, 3) := dk_181 0 86 (dk_at dksX1_pass_1 10 rfl rfl)
theorem dX1_pass_37 : decode cX1_pass 37 = .ok (.aload_n 0, 1) := dk_42 (dk_at dksX1_pass_1 13 rfl rfl)
theorem dX1_pass_38 : decode cX1_pass 38 = .ok (.getfield 86, 3) := dk_180 0 86 (dk_at dksX1_pass_1 14 rfl rfl)
theorem dX1_pass_41 : decode cX1_pass 41 = .ok (.ireturn, 1) := dk_172 (dk_at dksX1_pass_1 17 rfl rfl)
abbrev cX1_fit : ByteArray := prog_1_method_2_code
def yX1_fit : MethodName := ⟨RX1, "fit", "(III)V"⟩
def dkwX1_fit_0 : List UInt8 := [26, 27, 161, 0, 8, 26, 28, 164, 0, 11, 187, 0, 51, 89, 183, 0, 53, 191, 177]
abbrev dktX1_fit_0 : List UInt8 := dkwX1_fit_0 ++ []
theorem dksX1_fit_0 : cX1_fit.data.toList.drop 0 = dktX1_fit_0 := by decide +kernel
theorem dX1_fit_0 : decode cX1_fit 0 = .ok (.iload_n 0, 1) := dk_26 (dk_at dksX1_fit_0 0 rfl rfl)
theorem dX1_fit_1 : decode cX1_fit 1 = .ok (.iload_n 1, 1) := dk_27 (dk_at dksX1_fit_0 1 rfl rfl)
theorem dX1_fit_2 : decode cX1_fit 2 = .ok (.if_icmp .lt 8, 3) := dk_161 0 8 (dk_at dksX1_fit_0 2 rfl rfl)
theorem dX1_fit_5 : decode cX1_fit 5 = .ok (.iload_n 0, 1) := dk_26 (dk_at dksX1_fit_0 5 rfl rfl)
theorem dX1_fit_6 : decode cX1_fit 6 = .ok (.iload_n 2, 1) := dk_28 (dk_at dksX1_fit_0 6 rfl rfl)
theorem dX1_fit_7 : decode cX1_fit 7 = .ok (.if_icmp .le 11, 3) := dk_164 0 11 (dk_at dksX1_fit_0 7 rfl rfl)
theorem dX1_fit_10 : decode cX1_fit 10 = .ok (.new 51, 3) := dk_187 0 51 (dk_at dksX1_fit_0 10 rfl rfl)
theorem dX1_fit_13 : decode cX1_fit 13 = .ok (.dup, 1) := dk_89 (dk_at dksX1_fit_0 13 rfl rfl)
theorem dX1_fit_14 : decode cX1_fit 14 = .ok (.invokespecial 53, 3) := dk_183 0 53 (dk_at dksX1_fit_0 14 rfl rfl)
theorem dX1_fit_17 : decode cX1_fit 17 = .ok (.athrow, 1) := dk_191 (dk_at dksX1_fit_0 17 rfl rfl)
theorem dX1_fit_18 : decode cX1_fit 18 = .ok (.return_, 1) := dk_177 (dk_at dksX1_fit_0 18 rfl rfl)
abbrev cX1_can : ByteArray := prog_1_method_4_code
def yX1_can : MethodName := ⟨RX1, "can", "(Z)V"⟩
def dkwX1_can_0 : List UInt8 := [26, 154, 0, 11, 187, 0, 57, 89, 183, 0, 59, 191, 177]
abbrev dktX1_can_0 : List UInt8 := dkwX1_can_0 ++ []
theorem dksX1_can_0 : cX1_can.data.toList.drop 0 = dktX1_can_0 := by decide +kernel
theorem dX1_can_0 : decode cX1_can 0 = .ok (.iload_n 0, 1) := dk_26 (dk_at dksX1_can_0 0 rfl rfl)
theorem dX1_can_1 : decode cX1_can 1 = .ok (.ifCond .ne 11, 3) := dk_154 0 11 (dk_at dksX1_can_0 1 rfl rfl)
theorem dX1_can_4 : decode cX1_can 4 = .ok (.new 57, 3) := dk_187 0 57 (dk_at dksX1_can_0 4 rfl rfl)
theorem dX1_can_7 : decode cX1_can 7 = .ok (.dup, 1) := dk_89 (dk_at dksX1_can_0 7 rfl rfl)
theorem dX1_can_8 : decode cX1_can 8 = .ok (.invokespecial 59, 3) := dk_183 0 59 (dk_at dksX1_can_0 8 rfl rfl)
theorem dX1_can_11 : decode cX1_can 11 = .ok (.athrow, 1) := dk_191 (dk_at dksX1_can_0 11 rfl rfl)
theorem dX1_can_12 : decode cX1_can 12 = .ok (.return_, 1) := dk_177 (dk_at dksX1_can_0 12 rfl rfl)
abbrev cX1_skew : ByteArray := prog_1_method_11_code
def yX1_skew : MethodName := ⟨RX1, "skew", "(II)I"⟩
def dkwX1_skew_1 : List UInt8 := [21, 4, 172]
abbrev dktX1_skew_1 : List UInt8 := dkwX1_skew_1 ++ []
def dkwX1_skew_0 : List UInt8 := [42, 27, 182, 0, 93, 78, 28, 16, 251, 8, 184, 0, 82, 45, 180, 0, 97, 54, 4, 45, 28, 181, 0, 97]
abbrev dktX1_skew_0 : List UInt8 := dkwX1_skew_0 ++ dktX1_skew_1
theorem dksX1_skew_0 : cX1_skew.data.toList.drop 0 = dktX1_skew_0 := by decide +kernel
theorem dksX1_skew_1 : cX1_skew.data.toList.drop 24 = dktX1_skew_1 := dk_seg dksX1_skew_0 24 rfl rfl
theorem dX1_skew_0 : decode cX1_skew 0 = .ok (.aload_n 0, 1) := dk_42 (dk_at dksX1_skew_0 0 rfl rfl)
theorem dX1_skew_1 : decode cX1_skew 1 = .ok (.iload_n 1, 1) := dk_27 (dk_at dksX1_skew_0 1 rfl rfl)
theorem dX1_skew_2 : decode cX1_skew 2 = .ok (.invokevirtual 93, 3) := dk_182 0 93 (dk_at dksX1_skew_0 2 rfl rfl)
theorem dX1_skew_5 : decode cX1_skew 5 = .ok (.astore_n 3, 1) := dk_78 (dk_at dksX1_skew_0 5 rfl rfl)
theorem dX1_skew_6 : decode cX1_skew 6 = .ok (.iload_n 2, 1) := dk_28 (dk_at dksX1_skew_0 6 rfl rfl)
theorem dX1_skew_7 : decode cX1_skew 7 = .ok (.bipush (-5), 2) := dk_16 251 (dk_at dksX1_skew_0 7 rfl rfl)
theorem dX1_skew_9 : decode cX1_skew 9 = .ok (.iconst 5, 1) := dk_8 (dk_at dksX1_skew_0 9 rfl rfl)
theorem dX1_skew_10 : decode cX1_skew 10 = .ok (.invokestatic 82, 3) := dk_184 0 82 (dk_at dksX1_skew_0 10 rfl rfl)
theorem dX1_skew_13 : decode cX1_skew 13 = .ok (.aload_n 3, 1) := dk_45 (dk_at dksX1_skew_0 13 rfl rfl)
theorem dX1_skew_14 : decode cX1_skew 14 = .ok (.getfield 97, 3) := dk_180 0 97 (dk_at dksX1_skew_0 14 rfl rfl)
theorem dX1_skew_17 : decode cX1_skew 17 = .ok (.istore 4, 2) := dk_54 4 (dk_at dksX1_skew_0 17 rfl rfl)
theorem dX1_skew_19 : decode cX1_skew 19 = .ok (.aload_n 3, 1) := dk_45 (dk_at dksX1_skew_0 19 rfl rfl)
theorem dX1_skew_20 : decode cX1_skew 20 = .ok (.iload_n 2, 1) := dk_28 (dk_at dksX1_skew_0 20 rfl rfl)
theorem dX1_skew_21 : decode cX1_skew 21 = .ok (.putfield 97, 3) := dk_181 0 97 (dk_at dksX1_skew_0 21 rfl rfl)
theorem dX1_skew_24 : decode cX1_skew 24 = .ok (.iload 4, 2) := dk_21 4 (dk_at dksX1_skew_1 0 rfl rfl)
theorem dX1_skew_26 : decode cX1_skew 26 = .ok (.ireturn, 1) := dk_172 (dk_at dksX1_skew_1 2 rfl rfl)
abbrev cX1_nodeAt : ByteArray := prog_1_method_5_code
def yX1_nodeAt : MethodName := ⟨RX1, "nodeAt", "(I)LTwinphase$Node;"⟩
def dkwX1_nodeAt_0 : List UInt8 := [27, 7, 184, 0, 60, 42, 180, 0, 11, 27, 50, 176]
abbrev dktX1_nodeAt_0 : List UInt8 := dkwX1_nodeAt_0 ++ []
theorem dksX1_nodeAt_0 : cX1_nodeAt.data.toList.drop 0 = dktX1_nodeAt_0 := by decide +kernel
theorem dX1_nodeAt_0 : decode cX1_nodeAt 0 = .ok (.iload_n 1, 1) := dk_27 (dk_at dksX1_nodeAt_0 0 rfl rfl)
theorem dX1_nodeAt_1 : decode cX1_nodeAt 1 = .ok (.iconst 4, 1) := dk_7 (dk_at dksX1_nodeAt_0 1 rfl rfl)
theorem dX1_nodeAt_2 : decode cX1_nodeAt 2 = .ok (.invokestatic 60, 3) := dk_184 0 60 (dk_at dksX1_nodeAt_0 2 rfl rfl)
theorem dX1_nodeAt_5 : decode cX1_nodeAt 5 = .ok (.aload_n 0, 1) := dk_42 (dk_at dksX1_nodeAt_0 5 rfl rfl)
theorem dX1_nodeAt_6 : decode cX1_nodeAt 6 = .ok (.getfield 11, 3) := dk_180 0 11 (dk_at dksX1_nodeAt_0 6 rfl rfl)
theorem dX1_nodeAt_9 : decode cX1_nodeAt 9 = .ok (.iload_n 1, 1) := dk_27 (dk_at dksX1_nodeAt_0 9 rfl rfl)
theorem dX1_nodeAt_10 : decode cX1_nodeAt 10 = .ok (.aaload, 1) := dk_50 (dk_at dksX1_nodeAt_0 10 rfl rfl)
theorem dX1_nodeAt_11 : decode cX1_nodeAt 11 = .ok (.areturn, 1) := dk_176 (dk_at dksX1_nodeAt_0 11 rfl rfl)
abbrev cX1_there : ByteArray := prog_1_method_3_code
def yX1_there : MethodName := ⟨RX1, "there", "(II)V"⟩
def dkwX1_there_0 : List UInt8 := [26, 155, 0, 8, 26, 27, 161, 0, 11, 187, 0, 54, 89, 183, 0, 56, 191, 177]
abbrev dktX1_there_0 : List UInt8 := dkwX1_there_0 ++ []
theorem dksX1_there_0 : cX1_there.data.toList.drop 0 = dktX1_there_0 := by decide +kernel
theorem dX1_there_0 : decode cX1_there 0 = .ok (.iload_n 0, 1) := dk_26 (dk_at dksX1_there_0 0 rfl rfl)
theorem dX1_there_1 : decode cX1_there 1 = .ok (.ifCond .lt 8, 3) := dk_155 0 8 (dk_at dksX1_there_0 1 rfl rfl)
theorem dX1_there_4 : decode cX1_there 4 = .ok (.iload_n 0, 1) := dk_26 (dk_at dksX1_there_0 4 rfl rfl)
theorem dX1_there_5 : decode cX1_there 5 = .ok (.iload_n 1, 1) := dk_27 (dk_at dksX1_there_0 5 rfl rfl)
theorem dX1_there_6 : decode cX1_there 6 = .ok (.if_icmp .lt 11, 3) := dk_161 0 11 (dk_at dksX1_there_0 6 rfl rfl)
theorem dX1_there_9 : decode cX1_there 9 = .ok (.new 54, 3) := dk_187 0 54 (dk_at dksX1_there_0 9 rfl rfl)
theorem dX1_there_12 : decode cX1_there 12 = .ok (.dup, 1) := dk_89 (dk_at dksX1_there_0 12 rfl rfl)
theorem dX1_there_13 : decode cX1_there 13 = .ok (.invokespecial 56, 3) := dk_183 0 56 (dk_at dksX1_there_0 13 rfl rfl)
theorem dX1_there_16 : decode cX1_there 16 = .ok (.athrow, 1) := dk_191 (dk_at dksX1_there_0 16 rfl rfl)
theorem dX1_there_17 : decode cX1_there 17 = .ok (.return_, 1) := dk_177 (dk_at dksX1_there_0 17 rfl rfl)
abbrev cX1_clock : ByteArray := prog_1_method_12_code
def yX1_clock : MethodName := ⟨RX1, "clock", "(I)I"⟩
def dkwX1_clock_1 : List UInt8 := [182, 0, 104, 172]
abbrev dktX1_clock_1 : List UInt8 := dkwX1_clock_1 ++ []
def dkwX1_clock_0 : List UInt8 := [42, 27, 182, 0, 93, 77, 44, 180, 0, 100, 154, 0, 7, 4, 167, 0, 4, 3, 184, 0, 89, 44]
abbrev dktX1_clock_0 : List UInt8 := dkwX1_clock_0 ++ dktX1_clock_1
theorem dksX1_clock_0 : cX1_clock.data.toList.drop 0 = dktX1_clock_0 := by decide +kernel
theorem dksX1_clock_1 : cX1_clock.data.toList.drop 22 = dktX1_clock_1 := dk_seg dksX1_clock_0 22 rfl rfl
theorem dX1_clock_0 : decode cX1_clock 0 = .ok (.aload_n 0, 1) := dk_42 (dk_at dksX1_clock_0 0 rfl rfl)
theorem dX1_clock_1 : decode cX1_clock 1 = .ok (.iload_n 1, 1) := dk_27 (dk_at dksX1_clock_0 1 rfl rfl)
theorem dX1_clock_2 : decode cX1_clock 2 = .ok (.invokevirtual 93, 3) := dk_182 0 93 (dk_at dksX1_clock_0 2 rfl rfl)
theorem dX1_clock_5 : decode cX1_clock 5 = .ok (.astore_n 2, 1) := dk_77 (dk_at dksX1_clock_0 5 rfl rfl)
theorem dX1_clock_6 : decode cX1_clock 6 = .ok (.aload_n 2, 1) := dk_44 (dk_at dksX1_clock_0 6 rfl rfl)
theorem dX1_clock_7 : decode cX1_clock 7 = .ok (.getfield 100, 3) := dk_180 0 100 (dk_at dksX1_clock_0 7 rfl rfl)
theorem dX1_clock_10 : decode cX1_clock 10 = .ok (.ifCond .ne 7, 3) := dk_154 0 7 (dk_at dksX1_clock_0 10 rfl rfl)
theorem dX1_clock_13 : decode cX1_clock 13 = .ok (.iconst 1, 1) := dk_4 (dk_at dksX1_clock_0 13 rfl rfl)
theorem dX1_clock_14 : decode cX1_clock 14 = .ok (.goto 4, 3) := dk_167 0 4 (dk_at dksX1_clock_0 14 rfl rfl)
theorem dX1_clock_17 : decode cX1_clock 17 = .ok (.iconst 0, 1) := dk_3 (dk_at dksX1_clock_0 17 rfl rfl)
theorem dX1_clock_18 : decode cX1_clock 18 = .ok (.invokestatic 89, 3) := dk_184 0 89 (dk_at dksX1_clock_0 18 rfl rfl)
theorem dX1_clock_21 : decode cX1_clock 21 = .ok (.aload_n 2, 1) := dk_44 (dk_at dksX1_clock_0 21 rfl rfl)
theorem dX1_clock_22 : decode cX1_clock 22 = .ok (.invokevirtual 104, 3) := dk_182 0 104 (dk_at dksX1_clock_1 0 rfl rfl)
theorem dX1_clock_25 : decode cX1_clock 25 = .ok (.ireturn, 1) := dk_172 (dk_at dksX1_clock_1 3 rfl rfl)
abbrev cX1_down : ByteArray := prog_1_method_15_code
def yX1_down : MethodName := ⟨RX1, "down", "(I)I"⟩
def dkwX1_down_4 : List UInt8 := [1, 181, 0, 127, 132, 3, 1, 132, 6, 1, 167, 255, 195, 29, 172]
abbrev dktX1_down_4 : List UInt8 := dkwX1_down_4 ++ []
def dkwX1_down_3 : List UInt8 := [166, 0, 31, 25, 7, 180, 0, 127, 198, 0, 23, 25, 7, 180, 0, 127, 180, 0, 131, 154, 0, 12, 25, 7]
abbrev dktX1_down_3 : List UInt8 := dkwX1_down_3 ++ dktX1_down_4
def dkwX1_down_2 : List UInt8 := [162, 0, 60, 25, 4, 21, 6, 50, 58, 7, 42, 25, 7, 180, 0, 116, 182, 0, 119, 180, 0, 123, 44]
abbrev dktX1_down_2 : List UInt8 := dkwX1_down_2 ++ dktX1_down_3
def dkwX1_down_1 : List UInt8 := [181, 0, 100, 3, 62, 42, 180, 0, 17, 58, 4, 25, 4, 190, 54, 5, 3, 54, 6, 21, 6, 21, 5]
abbrev dktX1_down_1 : List UInt8 := dkwX1_down_1 ++ dktX1_down_2
def dkwX1_down_0 : List UInt8 := [42, 27, 182, 0, 93, 77, 44, 180, 0, 100, 154, 0, 7, 4, 167, 0, 4, 3, 184, 0, 89, 44, 4]
abbrev dktX1_down_0 : List UInt8 := dkwX1_down_0 ++ dktX1_down_1
theorem dksX1_down_0 : cX1_down.data.toList.drop 0 = dktX1_down_0 := by decide +kernel
theorem dksX1_down_1 : cX1_down.data.toList.drop 23 = dktX1_down_1 := dk_seg dksX1_down_0 23 rfl rfl
theorem dksX1_down_2 : cX1_down.data.toList.drop 46 = dktX1_down_2 := dk_seg dksX1_down_1 23 rfl rfl
theorem dksX1_down_3 : cX1_down.data.toList.drop 69 = dktX1_down_3 := dk_seg dksX1_down_2 23 rfl rfl
theorem dksX1_down_4 : cX1_down.data.toList.drop 93 = dktX1_down_4 := dk_seg dksX1_down_3 24 rfl rfl
theorem dX1_down_0 : decode cX1_down 0 = .ok (.aload_n 0, 1) := dk_42 (dk_at dksX1_down_0 0 rfl rfl)
theorem dX1_down_1 : decode cX1_down 1 = .ok (.iload_n 1, 1) := dk_27 (dk_at dksX1_down_0 1 rfl rfl)
theorem dX1_down_2 : decode cX1_down 2 = .ok (.invokevirtual 93, 3) := dk_182 0 93 (dk_at dksX1_down_0 2 rfl rfl)
theorem dX1_down_5 : decode cX1_down 5 = .ok (.astore_n 2, 1) := dk_77 (dk_at dksX1_down_0 5 rfl rfl)
theorem dX1_down_6 : decode cX1_down 6 = .ok (.aload_n 2, 1) := dk_44 (dk_at dksX1_down_0 6 rfl rfl)
theorem dX1_down_7 : decode cX1_down 7 = .ok (.getfield 100, 3) := dk_180 0 100 (dk_at dksX1_down_0 7 rfl rfl)
theorem dX1_down_10 : decode cX1_down 10 = .ok (.ifCond .ne 7, 3) := dk_154 0 7 (dk_at dksX1_down_0 10 rfl rfl)
theorem dX1_down_13 : decode cX1_down 13 = .ok (.iconst 1, 1) := dk_4 (dk_at dksX1_down_0 13 rfl rfl)
theorem dX1_down_14 : decode cX1_down 14 = .ok (.goto 4, 3) := dk_167 0 4 (dk_at dksX1_down_0 14 rfl rfl)
theorem dX1_down_17 : decode cX1_down 17 = .ok (.iconst 0, 1) := dk_3 (dk_at dksX1_down_0 17 rfl rfl)
theorem dX1_down_18 : decode cX1_down 18 = .ok (.invokestatic 89, 3) := dk_184 0 89 (dk_at dksX1_down_0 18 rfl rfl)
theorem dX1_down_21 : decode cX1_down 21 = .ok (.aload_n 2, 1) := dk_44 (dk_at dksX1_down_0 21 rfl rfl)
theorem dX1_down_22 : decode cX1_down 22 = .ok (.iconst 1, 1) := dk_4 (dk_at dksX1_down_0 22 rfl rfl)
theorem dX1_down_23 : decode cX1_down 23 = .ok (.putfield 100, 3) := dk_181 0 100 (dk_at dksX1_down_1 0 rfl rfl)
theorem dX1_down_26 : decode cX1_down 26 = .ok (.iconst 0, 1) := dk_3 (dk_at dksX1_down_1 3 rfl rfl)
theorem dX1_down_27 : decode cX1_down 27 = .ok (.istore_n 3, 1) := dk_62 (dk_at dksX1_down_1 4 rfl rfl)
theorem dX1_down_28 : decode cX1_down 28 = .ok (.aload_n 0, 1) := dk_42 (dk_at dksX1_down_1 5 rfl rfl)
theorem dX1_down_29 : decode cX1_down 29 = .ok (.getfield 17, 3) := dk_180 0 17 (dk_at dksX1_down_1 6 rfl rfl)
theorem dX1_down_32 : decode cX1_down 32 = .ok (.astore 4, 2) := dk_58 4 (dk_at dksX1_down_1 9 rfl rfl)
theorem dX1_down_34 : decode cX1_down 34 = .ok (.aload 4, 2) := dk_25 4 (dk_at dksX1_down_1 11 rfl rfl)
theorem dX1_down_36 : decode cX1_down 36 = .ok (.arraylength, 1) := dk_190 (dk_at dksX1_down_1 13 rfl rfl)
theorem dX1_down_37 : decode cX1_down 37 = .ok (.istore 5, 2) := dk_54 5 (dk_at dksX1_down_1 14 rfl rfl)
theorem dX1_down_39 : decode cX1_down 39 = .ok (.iconst 0, 1) := dk_3 (dk_at dksX1_down_1 16 rfl rfl)
theorem dX1_down_40 : decode cX1_down 40 = .ok (.istore 6, 2) := dk_54 6 (dk_at dksX1_down_1 17 rfl rfl)
theorem dX1_down_42 : decode cX1_down 42 = .ok (.iload 6, 2) := dk_21 6 (dk_at dksX1_down_1 19 rfl rfl)
theorem dX1_down_44 : decode cX1_down 44 = .ok (.iload 5, 2) := dk_21 5 (dk_at dksX1_down_1 21 rfl rfl)
theorem dX1_down_46 : decode cX1_down 46 = .ok (.if_icmp .ge 60, 3) := dk_162 0 60 (dk_at dksX1_down_2 0 rfl rfl)
theorem dX1_down_49 : decode cX1_down 49 = .ok (.aload 4, 2) := dk_25 4 (dk_at dksX1_down_2 3 rfl rfl)
theorem dX1_down_51 : decode cX1_down 51 = .ok (.iload 6, 2) := dk_21 6 (dk_at dksX1_down_2 5 rfl rfl)
theorem dX1_down_53 : decode cX1_down 53 = .ok (.aaload, 1) := dk_50 (dk_at dksX1_down_2 7 rfl rfl)
theorem dX1_down_54 : decode cX1_down 54 = .ok (.astore 7, 2) := dk_58 7 (dk_at dksX1_down_2 8 rfl rfl)
theorem dX1_down_56 : decode cX1_down 56 = .ok (.aload_n 0, 1) := dk_42 (dk_at dksX1_down_2 10 rfl rfl)
theorem dX1_down_57 : decode cX1_down 57 = .ok (.aload 7, 2) := dk_25 7 (dk_at dksX1_down_2 11 rfl rfl)
theorem dX1_down_59 : decode cX1_down 59 = .ok (.getfield 116, 3) := dk_180 0 116 (dk_at dksX1_down_2 13 rfl rfl)
theorem dX1_down_62 : decode cX1_down 62 = .ok (.invokevirtual 119, 3) := dk_182 0 119 (dk_at dksX1_down_2 16 rfl rfl)
theorem dX1_down_65 : decode cX1_down 65 = .ok (.getfield 123, 3) := dk_180 0 123 (dk_at dksX1_down_2 19 rfl rfl)
theorem dX1_down_68 : decode cX1_down 68 = .ok (.aload_n 2, 1) := dk_44 (dk_at dksX1_down_2 22 rfl rfl)
theorem dX1_down_69 : decode cX1_down 69 = .ok (.if_acmp .ne 31, 3) := dk_166 0 31 (dk_at dksX1_down_3 0 rfl rfl)
theorem dX1_down_72 : decode cX1_down 72 = .ok (.aload 7, 2) := dk_25 7 (dk_at dksX1_down_3 3 rfl rfl)
theorem dX1_down_74 : decode cX1_down 74 = .ok (.getfield 127, 3) := dk_180 0 127 (dk_at dksX1_down_3 5 rfl rfl)
theorem dX1_down_77 : decode cX1_down 77 = .ok (.ifnull 23, 3) := dk_198 0 23 (dk_at dksX1_down_3 8 rfl rfl)
theorem dX1_down_80 : decode cX1_down 80 = .ok (.aload 7, 2) := dk_25 7 (dk_at dksX1_down_3 11 rfl rfl)
theorem dX1_down_82 : decode cX1_down 82 = .ok (.getfield 127, 3) := dk_180 0 127 (dk_at dksX1_down_3 13 rfl rfl)
theorem dX1_down_85 : decode cX1_down 85 = .ok (.getfield 131, 3) := dk_180 0 131 (dk_at dksX1_down_3 16 rfl rfl)
theorem dX1_down_88 : decode cX1_down 88 = .ok (.ifCond .ne 12, 3) := dk_154 0 12 (dk_at dksX1_down_3 19 rfl rfl)
theorem dX1_down_91 : decode cX1_down 91 = .ok (.aload 7, 2) := dk_25 7 (dk_at dksX1_down_3 22 rfl rfl)
theorem dX1_down_93 : decode cX1_down 93 = .ok (.aconst_null, 1) := dk_1 (dk_at dksX1_down_4 0 rfl rfl)
theorem dX1_down_94 : decode cX1_down 94 = .ok (.putfield 127, 3) := dk_181 0 127 (dk_at dksX1_down_4 1 rfl rfl)
theorem dX1_down_97 : decode cX1_down 97 = .ok (.iinc 3 1, 3) := dk_132 3 1 (dk_at dksX1_down_4 4 rfl rfl)
theorem dX1_down_100 : decode cX1_down 100 = .ok (.iinc 6 1, 3) := dk_132 6 1 (dk_at dksX1_down_4 7 rfl rfl)
theorem dX1_down_103 : decode cX1_down 103 = .ok (.goto (-61), 3) := dk_167 255 195 (dk_at dksX1_down_4 10 rfl rfl)
theorem dX1_down_106 : decode cX1_down 106 = .ok (.iload_n 3, 1) := dk_29 (dk_at dksX1_down_4 13 rfl rfl)
theorem dX1_down_107 : decode cX1_down 107 = .ok (.ireturn, 1) := dk_172 (dk_at dksX1_down_4 14 rfl rfl)
abbrev cX1_rangeOf : ByteArray := prog_1_method_8_code
def yX1_rangeOf : MethodName := ⟨RX1, "rangeOf", "(I)LTwinphase$Range;"⟩
def dkwX1_rangeOf_0 : List UInt8 := [42, 180, 0, 24, 42, 27, 182, 0, 78, 185, 0, 68, 2, 0, 192, 0, 40, 176]
abbrev dktX1_rangeOf_0 : List UInt8 := dkwX1_rangeOf_0 ++ []
theorem dksX1_rangeOf_0 : cX1_rangeOf.data.toList.drop 0 = dktX1_rangeOf_0 := by decide +kernel
theorem dX1_rangeOf_0 : decode cX1_rangeOf 0 = .ok (.aload_n 0, 1) := dk_42 (dk_at dksX1_rangeOf_0 0 rfl rfl)
theorem dX1_rangeOf_1 : decode cX1_rangeOf 1 = .ok (.getfield 24, 3) := dk_180 0 24 (dk_at dksX1_rangeOf_0 1 rfl rfl)
theorem dX1_rangeOf_4 : decode cX1_rangeOf 4 = .ok (.aload_n 0, 1) := dk_42 (dk_at dksX1_rangeOf_0 4 rfl rfl)
theorem dX1_rangeOf_5 : decode cX1_rangeOf 5 = .ok (.iload_n 1, 1) := dk_27 (dk_at dksX1_rangeOf_0 5 rfl rfl)
theorem dX1_rangeOf_6 : decode cX1_rangeOf 6 = .ok (.invokevirtual 78, 3) := dk_182 0 78 (dk_at dksX1_rangeOf_0 6 rfl rfl)
theorem dX1_rangeOf_9 : decode cX1_rangeOf 9 = .ok (.invokeinterface 68 2, 5) := by decide +kernel
theorem dX1_rangeOf_14 : decode cX1_rangeOf 14 = .ok (.checkcast 40, 3) := dk_192 0 40 (dk_at dksX1_rangeOf_0 14 rfl rfl)
theorem dX1_rangeOf_17 : decode cX1_rangeOf 17 = .ok (.areturn, 1) := dk_176 (dk_at dksX1_rangeOf_0 17 rfl rfl)
abbrev cX1_placeOf : ByteArray := prog_1_method_7_code
def yX1_placeOf : MethodName := ⟨RX1, "placeOf", "(I)I"⟩
def dkwX1_placeOf_1 : List UInt8 := [185, 0, 68, 2, 0, 192, 0, 40, 180, 0, 74, 27, 163, 0, 9, 132, 2, 1, 167, 255, 216, 28, 172]
abbrev dktX1_placeOf_1 : List UInt8 := dkwX1_placeOf_1 ++ []
def dkwX1_placeOf_0 : List UInt8 := [3, 61, 28, 4, 96, 42, 180, 0, 24, 185, 0, 64, 1, 0, 162, 0, 31, 42, 180, 0, 24, 28, 4, 96]
abbrev dktX1_placeOf_0 : List UInt8 := dkwX1_placeOf_0 ++ dktX1_placeOf_1
theorem dksX1_placeOf_0 : cX1_placeOf.data.toList.drop 0 = dktX1_placeOf_0 := by decide +kernel
theorem dksX1_placeOf_1 : cX1_placeOf.data.toList.drop 24 = dktX1_placeOf_1 := dk_seg dksX1_placeOf_0 24 rfl rfl
theorem dX1_placeOf_0 : decode cX1_placeOf 0 = .ok (.iconst 0, 1) := dk_3 (dk_at dksX1_placeOf_0 0 rfl rfl)
theorem dX1_placeOf_1 : decode cX1_placeOf 1 = .ok (.istore_n 2, 1) := dk_61 (dk_at dksX1_placeOf_0 1 rfl rfl)
theorem dX1_placeOf_2 : decode cX1_placeOf 2 = .ok (.iload_n 2, 1) := dk_28 (dk_at dksX1_placeOf_0 2 rfl rfl)
theorem dX1_placeOf_3 : decode cX1_placeOf 3 = .ok (.iconst 1, 1) := dk_4 (dk_at dksX1_placeOf_0 3 rfl rfl)
theorem dX1_placeOf_4 : decode cX1_placeOf 4 = .ok (.iadd, 1) := dk_96 (dk_at dksX1_placeOf_0 4 rfl rfl)
theorem dX1_placeOf_5 : decode cX1_placeOf 5 = .ok (.aload_n 0, 1) := dk_42 (dk_at dksX1_placeOf_0 5 rfl rfl)
theorem dX1_placeOf_6 : decode cX1_placeOf 6 = .ok (.getfield 24, 3) := dk_180 0 24 (dk_at dksX1_placeOf_0 6 rfl rfl)
theorem dX1_placeOf_9 : decode cX1_placeOf 9 = .ok (.invokeinterface 64 1, 5) := by decide +kernel
theorem dX1_placeOf_14 : decode cX1_placeOf 14 = .ok (.if_icmp .ge 31, 3) := dk_162 0 31 (dk_at dksX1_placeOf_0 14 rfl rfl)
theorem dX1_placeOf_17 : decode cX1_placeOf 17 = .ok (.aload_n 0, 1) := dk_42 (dk_at dksX1_placeOf_0 17 rfl rfl)
theorem dX1_placeOf_18 : decode cX1_placeOf 18 = .ok (.getfield 24, 3) := dk_180 0 24 (dk_at dksX1_placeOf_0 18 rfl rfl)
theorem dX1_placeOf_21 : decode cX1_placeOf 21 = .ok (.iload_n 2, 1) := dk_28 (dk_at dksX1_placeOf_0 21 rfl rfl)
theorem dX1_placeOf_22 : decode cX1_placeOf 22 = .ok (.iconst 1, 1) := dk_4 (dk_at dksX1_placeOf_0 22 rfl rfl)
theorem dX1_placeOf_23 : decode cX1_placeOf 23 = .ok (.iadd, 1) := dk_96 (dk_at dksX1_placeOf_0 23 rfl rfl)
theorem dX1_placeOf_24 : decode cX1_placeOf 24 = .ok (.invokeinterface 68 2, 5) := by decide +kernel
theorem dX1_placeOf_29 : decode cX1_placeOf 29 = .ok (.checkcast 40, 3) := dk_192 0 40 (dk_at dksX1_placeOf_1 5 rfl rfl)
theorem dX1_placeOf_32 : decode cX1_placeOf 32 = .ok (.getfield 74, 3) := dk_180 0 74 (dk_at dksX1_placeOf_1 8 rfl rfl)
theorem dX1_placeOf_35 : decode cX1_placeOf 35 = .ok (.iload_n 1, 1) := dk_27 (dk_at dksX1_placeOf_1 11 rfl rfl)
theorem dX1_placeOf_36 : decode cX1_placeOf 36 = .ok (.if_icmp .gt 9, 3) := dk_163 0 9 (dk_at dksX1_placeOf_1 12 rfl rfl)
theorem dX1_placeOf_39 : decode cX1_placeOf 39 = .ok (.iinc 2 1, 3) := dk_132 2 1 (dk_at dksX1_placeOf_1 15 rfl rfl)
theorem dX1_placeOf_42 : decode cX1_placeOf 42 = .ok (.goto (-40), 3) := dk_167 255 216 (dk_at dksX1_placeOf_1 18 rfl rfl)
theorem dX1_placeOf_45 : decode cX1_placeOf 45 = .ok (.iload_n 2, 1) := dk_28 (dk_at dksX1_placeOf_1 21 rfl rfl)
theorem dX1_placeOf_46 : decode cX1_placeOf 46 = .ok (.ireturn, 1) := dk_172 (dk_at dksX1_placeOf_1 22 rfl rfl)
abbrev cX1_up : ByteArray := prog_1_method_17_code
def yX1_up : MethodName := ⟨RX1, "up", "(I)I"⟩
def dkwX1_up_1 : List UInt8 := [44, 3, 16, 32, 29, 182, 0, 139, 29, 172]
abbrev dktX1_up_1 : List UInt8 := dkwX1_up_1 ++ []
def dkwX1_up_0 : List UInt8 := [42, 27, 182, 0, 93, 77, 44, 180, 0, 100, 184, 0, 89, 44, 3, 181, 0, 100, 44, 182, 0, 104, 62, 42]
abbrev dktX1_up_0 : List UInt8 := dkwX1_up_0 ++ dktX1_up_1
theorem dksX1_up_0 : cX1_up.data.toList.drop 0 = dktX1_up_0 := by decide +kernel
theorem dksX1_up_1 : cX1_up.data.toList.drop 24 = dktX1_up_1 := dk_seg dksX1_up_0 24 rfl rfl
theorem dX1_up_0 : decode cX1_up 0 = .ok (.aload_n 0, 1) := dk_42 (dk_at dksX1_up_0 0 rfl rfl)
theorem dX1_up_1 : decode cX1_up 1 = .ok (.iload_n 1, 1) := dk_27 (dk_at dksX1_up_0 1 rfl rfl)
theorem dX1_up_2 : decode cX1_up 2 = .ok (.invokevirtual 93, 3) := dk_182 0 93 (dk_at dksX1_up_0 2 rfl rfl)
theorem dX1_up_5 : decode cX1_up 5 = .ok (.astore_n 2, 1) := dk_77 (dk_at dksX1_up_0 5 rfl rfl)
theorem dX1_up_6 : decode cX1_up 6 = .ok (.aload_n 2, 1) := dk_44 (dk_at dksX1_up_0 6 rfl rfl)
theorem dX1_up_7 : decode cX1_up 7 = .ok (.getfield 100, 3) := dk_180 0 100 (dk_at dksX1_up_0 7 rfl rfl)
theorem dX1_up_10 : decode cX1_up 10 = .ok (.invokestatic 89, 3) := dk_184 0 89 (dk_at dksX1_up_0 10 rfl rfl)
theorem dX1_up_13 : decode cX1_up 13 = .ok (.aload_n 2, 1) := dk_44 (dk_at dksX1_up_0 13 rfl rfl)
theorem dX1_up_14 : decode cX1_up 14 = .ok (.iconst 0, 1) := dk_3 (dk_at dksX1_up_0 14 rfl rfl)
theorem dX1_up_15 : decode cX1_up 15 = .ok (.putfield 100, 3) := dk_181 0 100 (dk_at dksX1_up_0 15 rfl rfl)
theorem dX1_up_18 : decode cX1_up 18 = .ok (.aload_n 2, 1) := dk_44 (dk_at dksX1_up_0 18 rfl rfl)
theorem dX1_up_19 : decode cX1_up 19 = .ok (.invokevirtual 104, 3) := dk_182 0 104 (dk_at dksX1_up_0 19 rfl rfl)
theorem dX1_up_22 : decode cX1_up 22 = .ok (.istore_n 3, 1) := dk_62 (dk_at dksX1_up_0 22 rfl rfl)
theorem dX1_up_23 : decode cX1_up 23 = .ok (.aload_n 0, 1) := dk_42 (dk_at dksX1_up_0 23 rfl rfl)
theorem dX1_up_24 : decode cX1_up 24 = .ok (.aload_n 2, 1) := dk_44 (dk_at dksX1_up_1 0 rfl rfl)
theorem dX1_up_25 : decode cX1_up 25 = .ok (.iconst 0, 1) := dk_3 (dk_at dksX1_up_1 1 rfl rfl)
theorem dX1_up_26 : decode cX1_up 26 = .ok (.bipush 32, 2) := dk_16 32 (dk_at dksX1_up_1 2 rfl rfl)
theorem dX1_up_28 : decode cX1_up 28 = .ok (.iload_n 3, 1) := dk_29 (dk_at dksX1_up_1 4 rfl rfl)
theorem dX1_up_29 : decode cX1_up 29 = .ok (.invokevirtual 139, 3) := dk_182 0 139 (dk_at dksX1_up_1 5 rfl rfl)
theorem dX1_up_32 : decode cX1_up 32 = .ok (.iload_n 3, 1) := dk_29 (dk_at dksX1_up_1 8 rfl rfl)
theorem dX1_up_33 : decode cX1_up 33 = .ok (.ireturn, 1) := dk_172 (dk_at dksX1_up_1 9 rfl rfl)
abbrev cX1_leases : ByteArray := prog_1_method_16_code
def yX1_leases : MethodName := ⟨RX1, "leases", "(LTwinphase$Node;III)V"⟩
def dkwX1_leases_1 : List UInt8 := [180, 0, 17, 21, 5, 50, 21, 4, 182, 0, 136, 132, 5, 1, 167, 255, 222, 177]
abbrev dktX1_leases_1 : List UInt8 := dkwX1_leases_1 ++ []
def dkwX1_leases_0 : List UInt8 := [28, 54, 5, 21, 5, 29, 162, 0, 34, 42, 21, 5, 182, 0, 119, 180, 0, 123, 43, 166, 0, 15, 42]
abbrev dktX1_leases_0 : List UInt8 := dkwX1_leases_0 ++ dktX1_leases_1
theorem dksX1_leases_0 : cX1_leases.data.toList.drop 0 = dktX1_leases_0 := by decide +kernel
theorem dksX1_leases_1 : cX1_leases.data.toList.drop 23 = dktX1_leases_1 := dk_seg dksX1_leases_0 23 rfl rfl
theorem dX1_leases_0 : decode cX1_leases 0 = .ok (.iload_n 2, 1) := dk_28 (dk_at dksX1_leases_0 0 rfl rfl)
theorem dX1_leases_1 : decode cX1_leases 1 = .ok (.istore 5, 2) := dk_54 5 (dk_at dksX1_leases_0 1 rfl rfl)
theorem dX1_leases_3 : decode cX1_leases 3 = .ok (.iload 5, 2) := dk_21 5 (dk_at dksX1_leases_0 3 rfl rfl)
theorem dX1_leases_5 : decode cX1_leases 5 = .ok (.iload_n 3, 1) := dk_29 (dk_at dksX1_leases_0 5 rfl rfl)
theorem dX1_leases_6 : decode cX1_leases 6 = .ok (.if_icmp .ge 34, 3) := dk_162 0 34 (dk_at dksX1_leases_0 6 rfl rfl)
theorem dX1_leases_9 : decode cX1_leases 9 = .ok (.aload_n 0, 1) := dk_42 (dk_at dksX1_leases_0 9 rfl rfl)
theorem dX1_leases_10 : decode cX1_leases 10 = .ok (.iload 5, 2) := dk_21 5 (dk_at dksX1_leases_0 10 rfl rfl)
theorem dX1_leases_12 : decode cX1_leases 12 = .ok (.invokevirtual 119, 3) := dk_182 0 119 (dk_at dksX1_leases_0 12 rfl rfl)
theorem dX1_leases_15 : decode cX1_leases 15 = .ok (.getfield 123, 3) := dk_180 0 123 (dk_at dksX1_leases_0 15 rfl rfl)
theorem dX1_leases_18 : decode cX1_leases 18 = .ok (.aload_n 1, 1) := dk_43 (dk_at dksX1_leases_0 18 rfl rfl)
theorem dX1_leases_19 : decode cX1_leases 19 = .ok (.if_acmp .ne 15, 3) := dk_166 0 15 (dk_at dksX1_leases_0 19 rfl rfl)
theorem dX1_leases_22 : decode cX1_leases 22 = .ok (.aload_n 0, 1) := dk_42 (dk_at dksX1_leases_0 22 rfl rfl)
theorem dX1_leases_23 : decode cX1_leases 23 = .ok (.getfield 17, 3) := dk_180 0 17 (dk_at dksX1_leases_1 0 rfl rfl)
theorem dX1_leases_26 : decode cX1_leases 26 = .ok (.iload 5, 2) := dk_21 5 (dk_at dksX1_leases_1 3 rfl rfl)
theorem dX1_leases_28 : decode cX1_leases 28 = .ok (.aaload, 1) := dk_50 (dk_at dksX1_leases_1 5 rfl rfl)
theorem dX1_leases_29 : decode cX1_leases 29 = .ok (.iload 4, 2) := dk_21 4 (dk_at dksX1_leases_1 6 rfl rfl)
theorem dX1_leases_31 : decode cX1_leases 31 = .ok (.invokevirtual 136, 3) := dk_182 0 136 (dk_at dksX1_leases_1 8 rfl rfl)
theorem dX1_leases_34 : decode cX1_leases 34 = .ok (.iinc 5 1, 3) := dk_132 5 1 (dk_at dksX1_leases_1 11 rfl rfl)
theorem dX1_leases_37 : decode cX1_leases 37 = .ok (.goto (-34), 3) := dk_167 255 222 (dk_at dksX1_leases_1 14 rfl rfl)
theorem dX1_leases_40 : decode cX1_leases 40 = .ok (.return_, 1) := dk_177 (dk_at dksX1_leases_1 17 rfl rfl)
abbrev cX1_sync : ByteArray := prog_1_method_18_code
def yX1_sync : MethodName := ⟨RX1, "sync", "(I)I"⟩
def dkwX1_sync_4 : List UInt8 := [132, 3, 1, 132, 6, 1, 167, 255, 192, 29, 172]
abbrev dktX1_sync_4 : List UInt8 := dkwX1_sync_4 ++ []
def dkwX1_sync_3 : List UInt8 := [198, 0, 26, 25, 7, 180, 0, 127, 180, 0, 131, 154, 0, 15, 25, 7, 180, 0, 127, 4, 181, 0, 131]
abbrev dktX1_sync_3 : List UInt8 := dkwX1_sync_3 ++ dktX1_sync_4
def dkwX1_sync_2 : List UInt8 := [50, 58, 7, 42, 25, 7, 180, 0, 116, 182, 0, 119, 180, 0, 123, 44, 166, 0, 34, 25, 7, 180, 0, 127]
abbrev dktX1_sync_2 : List UInt8 := dkwX1_sync_2 ++ dktX1_sync_3
def dkwX1_sync_1 : List UInt8 := [180, 0, 17, 58, 4, 25, 4, 190, 54, 5, 3, 54, 6, 21, 6, 21, 5, 162, 0, 63, 25, 4, 21, 6]
abbrev dktX1_sync_1 : List UInt8 := dkwX1_sync_1 ++ dktX1_sync_2
def dkwX1_sync_0 : List UInt8 := [42, 27, 182, 0, 93, 77, 44, 180, 0, 100, 154, 0, 7, 4, 167, 0, 4, 3, 184, 0, 89, 3, 62, 42]
abbrev dktX1_sync_0 : List UInt8 := dkwX1_sync_0 ++ dktX1_sync_1
theorem dksX1_sync_0 : cX1_sync.data.toList.drop 0 = dktX1_sync_0 := by decide +kernel
theorem dksX1_sync_1 : cX1_sync.data.toList.drop 24 = dktX1_sync_1 := dk_seg dksX1_sync_0 24 rfl rfl
theorem dksX1_sync_2 : cX1_sync.data.toList.drop 48 = dktX1_sync_2 := dk_seg dksX1_sync_1 24 rfl rfl
theorem dksX1_sync_3 : cX1_sync.data.toList.drop 72 = dktX1_sync_3 := dk_seg dksX1_sync_2 24 rfl rfl
theorem dksX1_sync_4 : cX1_sync.data.toList.drop 95 = dktX1_sync_4 := dk_seg dksX1_sync_3 23 rfl rfl
theorem dX1_sync_0 : decode cX1_sync 0 = .ok (.aload_n 0, 1) := dk_42 (dk_at dksX1_sync_0 0 rfl rfl)
theorem dX1_sync_1 : decode cX1_sync 1 = .ok (.iload_n 1, 1) := dk_27 (dk_at dksX1_sync_0 1 rfl rfl)
theorem dX1_sync_2 : decode cX1_sync 2 = .ok (.invokevirtual 93, 3) := dk_182 0 93 (dk_at dksX1_sync_0 2 rfl rfl)
theorem dX1_sync_5 : decode cX1_sync 5 = .ok (.astore_n 2, 1) := dk_77 (dk_at dksX1_sync_0 5 rfl rfl)
theorem dX1_sync_6 : decode cX1_sync 6 = .ok (.aload_n 2, 1) := dk_44 (dk_at dksX1_sync_0 6 rfl rfl)
theorem dX1_sync_7 : decode cX1_sync 7 = .ok (.getfield 100, 3) := dk_180 0 100 (dk_at dksX1_sync_0 7 rfl rfl)
theorem dX1_sync_10 : decode cX1_sync 10 = .ok (.ifCond .ne 7, 3) := dk_154 0 7 (dk_at dksX1_sync_0 10 rfl rfl)
theorem dX1_sync_13 : decode cX1_sync 13 = .ok (.iconst 1, 1) := dk_4 (dk_at dksX1_sync_0 13 rfl rfl)
theorem dX1_sync_14 : decode cX1_sync 14 = .ok (.goto 4, 3) := dk_167 0 4 (dk_at dksX1_sync_0 14 rfl rfl)
theorem dX1_sync_17 : decode cX1_sync 17 = .ok (.iconst 0, 1) := dk_3 (dk_at dksX1_sync_0 17 rfl rfl)
theorem dX1_sync_18 : decode cX1_sync 18 = .ok (.invokestatic 89, 3) := dk_184 0 89 (dk_at dksX1_sync_0 18 rfl rfl)
theorem dX1_sync_21 : decode cX1_sync 21 = .ok (.iconst 0, 1) := dk_3 (dk_at dksX1_sync_0 21 rfl rfl)
theorem dX1_sync_22 : decode cX1_sync 22 = .ok (.istore_n 3, 1) := dk_62 (dk_at dksX1_sync_0 22 rfl rfl)
theorem dX1_sync_23 : decode cX1_sync 23 = .ok (.aload_n 0, 1) := dk_42 (dk_at dksX1_sync_0 23 rfl rfl)
theorem dX1_sync_24 : decode cX1_sync 24 = .ok (.getfield 17, 3) := dk_180 0 17 (dk_at dksX1_sync_1 0 rfl rfl)
theorem dX1_sync_27 : decode cX1_sync 27 = .ok (.astore 4, 2) := dk_58 4 (dk_at dksX1_sync_1 3 rfl rfl)
theorem dX1_sync_29 : decode cX1_sync 29 = .ok (.aload 4, 2) := dk_25 4 (dk_at dksX1_sync_1 5 rfl rfl)
theorem dX1_sync_31 : decode cX1_sync 31 = .ok (.arraylength, 1) := dk_190 (dk_at dksX1_sync_1 7 rfl rfl)
theorem dX1_sync_32 : decode cX1_sync 32 = .ok (.istore 5, 2) := dk_54 5 (dk_at dksX1_sync_1 8 rfl rfl)
theorem dX1_sync_34 : decode cX1_sync 34 = .ok (.iconst 0, 1) := dk_3 (dk_at dksX1_sync_1 10 rfl rfl)
theorem dX1_sync_35 : decode cX1_sync 35 = .ok (.istore 6, 2) := dk_54 6 (dk_at dksX1_sync_1 11 rfl rfl)
theorem dX1_sync_37 : decode cX1_sync 37 = .ok (.iload 6, 2) := dk_21 6 (dk_at dksX1_sync_1 13 rfl rfl)
theorem dX1_sync_39 : decode cX1_sync 39 = .ok (.iload 5, 2) := dk_21 5 (dk_at dksX1_sync_1 15 rfl rfl)
theorem dX1_sync_41 : decode cX1_sync 41 = .ok (.if_icmp .ge 63, 3) := dk_162 0 63 (dk_at dksX1_sync_1 17 rfl rfl)
theorem dX1_sync_44 : decode cX1_sync 44 = .ok (.aload 4, 2) := dk_25 4 (dk_at dksX1_sync_1 20 rfl rfl)
theorem dX1_sync_46 : decode cX1_sync 46 = .ok (.iload 6, 2) := dk_21 6 (dk_at dksX1_sync_1 22 rfl rfl)
theorem dX1_sync_48 : decode cX1_sync 48 = .ok (.aaload, 1) := dk_50 (dk_at dksX1_sync_2 0 rfl rfl)
theorem dX1_sync_49 : decode cX1_sync 49 = .ok (.astore 7, 2) := dk_58 7 (dk_at dksX1_sync_2 1 rfl rfl)
theorem dX1_sync_51 : decode cX1_sync 51 = .ok (.aload_n 0, 1) := dk_42 (dk_at dksX1_sync_2 3 rfl rfl)
theorem dX1_sync_52 : decode cX1_sync 52 = .ok (.aload 7, 2) := dk_25 7 (dk_at dksX1_sync_2 4 rfl rfl)
theorem dX1_sync_54 : decode cX1_sync 54 = .ok (.getfield 116, 3) := dk_180 0 116 (dk_at dksX1_sync_2 6 rfl rfl)
theorem dX1_sync_57 : decode cX1_sync 57 = .ok (.invokevirtual 119, 3) := dk_182 0 119 (dk_at dksX1_sync_2 9 rfl rfl)
theorem dX1_sync_60 : decode cX1_sync 60 = .ok (.getfield 123, 3) := dk_180 0 123 (dk_at dksX1_sync_2 12 rfl rfl)
theorem dX1_sync_63 : decode cX1_sync 63 = .ok (.aload_n 2, 1) := dk_44 (dk_at dksX1_sync_2 15 rfl rfl)
theorem dX1_sync_64 : decode cX1_sync 64 = .ok (.if_acmp .ne 34, 3) := dk_166 0 34 (dk_at dksX1_sync_2 16 rfl rfl)
theorem dX1_sync_67 : decode cX1_sync 67 = .ok (.aload 7, 2) := dk_25 7 (dk_at dksX1_sync_2 19 rfl rfl)
theorem dX1_sync_69 : decode cX1_sync 69 = .ok (.getfield 127, 3) := dk_180 0 127 (dk_at dksX1_sync_2 21 rfl rfl)
theorem dX1_sync_72 : decode cX1_sync 72 = .ok (.ifnull 26, 3) := dk_198 0 26 (dk_at dksX1_sync_3 0 rfl rfl)
theorem dX1_sync_75 : decode cX1_sync 75 = .ok (.aload 7, 2) := dk_25 7 (dk_at dksX1_sync_3 3 rfl rfl)
theorem dX1_sync_77 : decode cX1_sync 77 = .ok (.getfield 127, 3) := dk_180 0 127 (dk_at dksX1_sync_3 5 rfl rfl)
theorem dX1_sync_80 : decode cX1_sync 80 = .ok (.getfield 131, 3) := dk_180 0 131 (dk_at dksX1_sync_3 8 rfl rfl)
theorem dX1_sync_83 : decode cX1_sync 83 = .ok (.ifCond .ne 15, 3) := dk_154 0 15 (dk_at dksX1_sync_3 11 rfl rfl)
theorem dX1_sync_86 : decode cX1_sync 86 = .ok (.aload 7, 2) := dk_25 7 (dk_at dksX1_sync_3 14 rfl rfl)
theorem dX1_sync_88 : decode cX1_sync 88 = .ok (.getfield 127, 3) := dk_180 0 127 (dk_at dksX1_sync_3 16 rfl rfl)
theorem dX1_sync_91 : decode cX1_sync 91 = .ok (.iconst 1, 1) := dk_4 (dk_at dksX1_sync_3 19 rfl rfl)
theorem dX1_sync_92 : decode cX1_sync 92 = .ok (.putfield 131, 3) := dk_181 0 131 (dk_at dksX1_sync_3 20 rfl rfl)
theorem dX1_sync_95 : decode cX1_sync 95 = .ok (.iinc 3 1, 3) := dk_132 3 1 (dk_at dksX1_sync_4 0 rfl rfl)
theorem dX1_sync_98 : decode cX1_sync 98 = .ok (.iinc 6 1, 3) := dk_132 6 1 (dk_at dksX1_sync_4 3 rfl rfl)
theorem dX1_sync_101 : decode cX1_sync 101 = .ok (.goto (-64), 3) := dk_167 255 192 (dk_at dksX1_sync_4 6 rfl rfl)
theorem dX1_sync_104 : decode cX1_sync 104 = .ok (.iload_n 3, 1) := dk_29 (dk_at dksX1_sync_4 9 rfl rfl)
theorem dX1_sync_105 : decode cX1_sync 105 = .ok (.ireturn, 1) := dk_172 (dk_at dksX1_sync_4 10 rfl rfl)
abbrev cX1_split : ByteArray := prog_1_method_19_code
def yX1_split : MethodName := ⟨RX1, "split", "(I)I"⟩
def dkwX1_split_2 : List UInt8 := [180, 0, 123, 183, 0, 42, 185, 0, 143, 3, 0, 42, 180, 0, 24, 185, 0, 64, 1, 0, 172]
abbrev dktX1_split_2 : List UInt8 := dkwX1_split_2 ++ []
def dkwX1_split_1 : List UInt8 := [167, 0, 4, 3, 184, 0, 89, 42, 180, 0, 24, 42, 27, 182, 0, 78, 4, 96, 187, 0, 40, 89, 27, 44]
abbrev dktX1_split_1 : List UInt8 := dkwX1_split_1 ++ dktX1_split_2
def dkwX1_split_0 : List UInt8 := [27, 4, 100, 16, 31, 184, 0, 60, 42, 27, 182, 0, 119, 77, 44, 180, 0, 74, 27, 159, 0, 7, 4]
abbrev dktX1_split_0 : List UInt8 := dkwX1_split_0 ++ dktX1_split_1
theorem dksX1_split_0 : cX1_split.data.toList.drop 0 = dktX1_split_0 := by decide +kernel
theorem dksX1_split_1 : cX1_split.data.toList.drop 23 = dktX1_split_1 := dk_seg dksX1_split_0 23 rfl rfl
theorem dksX1_split_2 : cX1_split.data.toList.drop 47 = dktX1_split_2 := dk_seg dksX1_split_1 24 rfl rfl
theorem dX1_split_0 : decode cX1_split 0 = .ok (.iload_n 1, 1) := dk_27 (dk_at dksX1_split_0 0 rfl rfl)
theorem dX1_split_1 : decode cX1_split 1 = .ok (.iconst 1, 1) := dk_4 (dk_at dksX1_split_0 1 rfl rfl)
theorem dX1_split_2 : decode cX1_split 2 = .ok (.isub, 1) := dk_100 (dk_at dksX1_split_0 2 rfl rfl)
theorem dX1_split_3 : decode cX1_split 3 = .ok (.bipush 31, 2) := dk_16 31 (dk_at dksX1_split_0 3 rfl rfl)
theorem dX1_split_5 : decode cX1_split 5 = .ok (.invokestatic 60, 3) := dk_184 0 60 (dk_at dksX1_split_0 5 rfl rfl)
theorem dX1_split_8 : decode cX1_split 8 = .ok (.aload_n 0, 1) := dk_42 (dk_at dksX1_split_0 8 rfl rfl)
theorem dX1_split_9 : decode cX1_split 9 = .ok (.iload_n 1, 1) := dk_27 (dk_at dksX1_split_0 9 rfl rfl)
theorem dX1_split_10 : decode cX1_split 10 = .ok (.invokevirtual 119, 3) := dk_182 0 119 (dk_at dksX1_split_0 10 rfl rfl)
theorem dX1_split_13 : decode cX1_split 13 = .ok (.astore_n 2, 1) := dk_77 (dk_at dksX1_split_0 13 rfl rfl)
theorem dX1_split_14 : decode cX1_split 14 = .ok (.aload_n 2, 1) := dk_44 (dk_at dksX1_split_0 14 rfl rfl)
theorem dX1_split_15 : decode cX1_split 15 = .ok (.getfield 74, 3) := dk_180 0 74 (dk_at dksX1_split_0 15 rfl rfl)
theorem dX1_split_18 : decode cX1_split 18 = .ok (.iload_n 1, 1) := dk_27 (dk_at dksX1_split_0 18 rfl rfl)
theorem dX1_split_19 : decode cX1_split 19 = .ok (.if_icmp .eq 7, 3) := dk_159 0 7 (dk_at dksX1_split_0 19 rfl rfl)
theorem dX1_split_22 : decode cX1_split 22 = .ok (.iconst 1, 1) := dk_4 (dk_at dksX1_split_0 22 rfl rfl)
theorem dX1_split_23 : decode cX1_split 23 = .ok (.goto 4, 3) := dk_167 0 4 (dk_at dksX1_split_1 0 rfl rfl)
theorem dX1_split_26 : decode cX1_split 26 = .ok (.iconst 0, 1) := dk_3 (dk_at dksX1_split_1 3 rfl rfl)
theorem dX1_split_27 : decode cX1_split 27 = .ok (.invokestatic 89, 3) := dk_184 0 89 (dk_at dksX1_split_1 4 rfl rfl)
theorem dX1_split_30 : decode cX1_split 30 = .ok (.aload_n 0, 1) := dk_42 (dk_at dksX1_split_1 7 rfl rfl)
theorem dX1_split_31 : decode cX1_split 31 = .ok (.getfield 24, 3) := dk_180 0 24 (dk_at dksX1_split_1 8 rfl rfl)
theorem dX1_split_34 : decode cX1_split 34 = .ok (.aload_n 0, 1) := dk_42 (dk_at dksX1_split_1 11 rfl rfl)
theorem dX1_split_35 : decode cX1_split 35 = .ok (.iload_n 1, 1) := dk_27 (dk_at dksX1_split_1 12 rfl rfl)
theorem dX1_split_36 : decode cX1_split 36 = .ok (.invokevirtual 78, 3) := dk_182 0 78 (dk_at dksX1_split_1 13 rfl rfl)
theorem dX1_split_39 : decode cX1_split 39 = .ok (.iconst 1, 1) := dk_4 (dk_at dksX1_split_1 16 rfl rfl)
theorem dX1_split_40 : decode cX1_split 40 = .ok (.iadd, 1) := dk_96 (dk_at dksX1_split_1 17 rfl rfl)
theorem dX1_split_41 : decode cX1_split 41 = .ok (.new 40, 3) := dk_187 0 40 (dk_at dksX1_split_1 18 rfl rfl)
theorem dX1_split_44 : decode cX1_split 44 = .ok (.dup, 1) := dk_89 (dk_at dksX1_split_1 21 rfl rfl)
theorem dX1_split_45 : decode cX1_split 45 = .ok (.iload_n 1, 1) := dk_27 (dk_at dksX1_split_1 22 rfl rfl)
theorem dX1_split_46 : decode cX1_split 46 = .ok (.aload_n 2, 1) := dk_44 (dk_at dksX1_split_1 23 rfl rfl)
theorem dX1_split_47 : decode cX1_split 47 = .ok (.getfield 123, 3) := dk_180 0 123 (dk_at dksX1_split_2 0 rfl rfl)
theorem dX1_split_50 : decode cX1_split 50 = .ok (.invokespecial 42, 3) := dk_183 0 42 (dk_at dksX1_split_2 3 rfl rfl)
theorem dX1_split_53 : decode cX1_split 53 = .ok (.invokeinterface 143 3, 5) := by decide +kernel
theorem dX1_split_58 : decode cX1_split 58 = .ok (.aload_n 0, 1) := dk_42 (dk_at dksX1_split_2 11 rfl rfl)
theorem dX1_split_59 : decode cX1_split 59 = .ok (.getfield 24, 3) := dk_180 0 24 (dk_at dksX1_split_2 12 rfl rfl)
theorem dX1_split_62 : decode cX1_split 62 = .ok (.invokeinterface 64 1, 5) := by decide +kernel
theorem dX1_split_67 : decode cX1_split 67 = .ok (.ireturn, 1) := dk_172 (dk_at dksX1_split_2 20 rfl rfl)
abbrev cX1_merge : ByteArray := prog_1_method_20_code
def yX1_merge : MethodName := ⟨RX1, "merge", "(I)I"⟩
def dkwX1_merge_3 : List UInt8 := [185, 0, 146, 2, 0, 87, 42, 180, 0, 24, 185, 0, 64, 1, 0, 172]
abbrev dktX1_merge_3 : List UInt8 := dkwX1_merge_3 ++ []
def dkwX1_merge_2 : List UInt8 := [192, 0, 40, 180, 0, 123, 166, 0, 7, 4, 167, 0, 4, 3, 184, 0, 89, 42, 180, 0, 24, 27, 4, 96]
abbrev dktX1_merge_2 : List UInt8 := dkwX1_merge_2 ++ dktX1_merge_3
def dkwX1_merge_1 : List UInt8 := [185, 0, 68, 2, 0, 192, 0, 40, 180, 0, 123, 42, 180, 0, 24, 27, 4, 96, 185, 0, 68, 2, 0]
abbrev dktX1_merge_1 : List UInt8 := dkwX1_merge_1 ++ dktX1_merge_2
def dkwX1_merge_0 : List UInt8 := [27, 42, 180, 0, 24, 185, 0, 64, 1, 0, 4, 100, 184, 0, 60, 42, 180, 0, 24, 27]
abbrev dktX1_merge_0 : List UInt8 := dkwX1_merge_0 ++ dktX1_merge_1
theorem dksX1_merge_0 : cX1_merge.data.toList.drop 0 = dktX1_merge_0 := by decide +kernel
theorem dksX1_merge_1 : cX1_merge.data.toList.drop 20 = dktX1_merge_1 := dk_seg dksX1_merge_0 20 rfl rfl
theorem dksX1_merge_2 : cX1_merge.data.toList.drop 43 = dktX1_merge_2 := dk_seg dksX1_merge_1 23 rfl rfl
theorem dksX1_merge_3 : cX1_merge.data.toList.drop 67 = dktX1_merge_3 := dk_seg dksX1_merge_2 24 rfl rfl
theorem dX1_merge_0 : decode cX1_merge 0 = .ok (.iload_n 1, 1) := dk_27 (dk_at dksX1_merge_0 0 rfl rfl)
theorem dX1_merge_1 : decode cX1_merge 1 = .ok (.aload_n 0, 1) := dk_42 (dk_at dksX1_merge_0 1 rfl rfl)
theorem dX1_merge_2 : decode cX1_merge 2 = .ok (.getfield 24, 3) := dk_180 0 24 (dk_at dksX1_merge_0 2 rfl rfl)
theorem dX1_merge_5 : decode cX1_merge 5 = .ok (.invokeinterface 64 1, 5) := by decide +kernel
theorem dX1_merge_10 : decode cX1_merge 10 = .ok (.iconst 1, 1) := dk_4 (dk_at dksX1_merge_0 10 rfl rfl)
theorem dX1_merge_11 : decode cX1_merge 11 = .ok (.isub, 1) := dk_100 (dk_at dksX1_merge_0 11 rfl rfl)
theorem dX1_merge_12 : decode cX1_merge 12 = .ok (.invokestatic 60, 3) := dk_184 0 60 (dk_at dksX1_merge_0 12 rfl rfl)
theorem dX1_merge_15 : decode cX1_merge 15 = .ok (.aload_n 0, 1) := dk_42 (dk_at dksX1_merge_0 15 rfl rfl)
theorem dX1_merge_16 : decode cX1_merge 16 = .ok (.getfield 24, 3) := dk_180 0 24 (dk_at dksX1_merge_0 16 rfl rfl)
theorem dX1_merge_19 : decode cX1_merge 19 = .ok (.iload_n 1, 1) := dk_27 (dk_at dksX1_merge_0 19 rfl rfl)
theorem dX1_merge_20 : decode cX1_merge 20 = .ok (.invokeinterface 68 2, 5) := by decide +kernel
theorem dX1_merge_25 : decode cX1_merge 25 = .ok (.checkcast 40, 3) := dk_192 0 40 (dk_at dksX1_merge_1 5 rfl rfl)
theorem dX1_merge_28 : decode cX1_merge 28 = .ok (.getfield 123, 3) := dk_180 0 123 (dk_at dksX1_merge_1 8 rfl rfl)
theorem dX1_merge_31 : decode cX1_merge 31 = .ok (.aload_n 0, 1) := dk_42 (dk_at dksX1_merge_1 11 rfl rfl)
theorem dX1_merge_32 : decode cX1_merge 32 = .ok (.getfield 24, 3) := dk_180 0 24 (dk_at dksX1_merge_1 12 rfl rfl)
theorem dX1_merge_35 : decode cX1_merge 35 = .ok (.iload_n 1, 1) := dk_27 (dk_at dksX1_merge_1 15 rfl rfl)
theorem dX1_merge_36 : decode cX1_merge 36 = .ok (.iconst 1, 1) := dk_4 (dk_at dksX1_merge_1 16 rfl rfl)
theorem dX1_merge_37 : decode cX1_merge 37 = .ok (.iadd, 1) := dk_96 (dk_at dksX1_merge_1 17 rfl rfl)
theorem dX1_merge_38 : decode cX1_merge 38 = .ok (.invokeinterface 68 2, 5) := by decide +kernel
theorem dX1_merge_43 : decode cX1_merge 43 = .ok (.checkcast 40, 3) := dk_192 0 40 (dk_at dksX1_merge_2 0 rfl rfl)
theorem dX1_merge_46 : decode cX1_merge 46 = .ok (.getfield 123, 3) := dk_180 0 123 (dk_at dksX1_merge_2 3 rfl rfl)
theorem dX1_merge_49 : decode cX1_merge 49 = .ok (.if_acmp .ne 7, 3) := dk_166 0 7 (dk_at dksX1_merge_2 6 rfl rfl)
theorem dX1_merge_52 : decode cX1_merge 52 = .ok (.iconst 1, 1) := dk_4 (dk_at dksX1_merge_2 9 rfl rfl)
theorem dX1_merge_53 : decode cX1_merge 53 = .ok (.goto 4, 3) := dk_167 0 4 (dk_at dksX1_merge_2 10 rfl rfl)
theorem dX1_merge_56 : decode cX1_merge 56 = .ok (.iconst 0, 1) := dk_3 (dk_at dksX1_merge_2 13 rfl rfl)
theorem dX1_merge_57 : decode cX1_merge 57 = .ok (.invokestatic 89, 3) := dk_184 0 89 (dk_at dksX1_merge_2 14 rfl rfl)
theorem dX1_merge_60 : decode cX1_merge 60 = .ok (.aload_n 0, 1) := dk_42 (dk_at dksX1_merge_2 17 rfl rfl)
theorem dX1_merge_61 : decode cX1_merge 61 = .ok (.getfield 24, 3) := dk_180 0 24 (dk_at dksX1_merge_2 18 rfl rfl)
theorem dX1_merge_64 : decode cX1_merge 64 = .ok (.iload_n 1, 1) := dk_27 (dk_at dksX1_merge_2 21 rfl rfl)
theorem dX1_merge_65 : decode cX1_merge 65 = .ok (.iconst 1, 1) := dk_4 (dk_at dksX1_merge_2 22 rfl rfl)
theorem dX1_merge_66 : decode cX1_merge 66 = .ok (.iadd, 1) := dk_96 (dk_at dksX1_merge_2 23 rfl rfl)
theorem dX1_merge_67 : decode cX1_merge 67 = .ok (.invokeinterface 146 2, 5) := by decide +kernel
theorem dX1_merge_72 : decode cX1_merge 72 = .ok (.pop, 1) := dk_87 (dk_at dksX1_merge_3 5 rfl rfl)
theorem dX1_merge_73 : decode cX1_merge 73 = .ok (.aload_n 0, 1) := dk_42 (dk_at dksX1_merge_3 6 rfl rfl)
theorem dX1_merge_74 : decode cX1_merge 74 = .ok (.getfield 24, 3) := dk_180 0 24 (dk_at dksX1_merge_3 7 rfl rfl)
theorem dX1_merge_77 : decode cX1_merge 77 = .ok (.invokeinterface 64 1, 5) := by decide +kernel
theorem dX1_merge_82 : decode cX1_merge 82 = .ok (.ireturn, 1) := dk_172 (dk_at dksX1_merge_3 15 rfl rfl)
abbrev cX1_move : ByteArray := prog_1_method_21_code
def yX1_move : MethodName := ⟨RX1, "move", "(II)I"⟩
def dkwX1_move_5 : List UInt8 := [25, 5, 182, 0, 104, 182, 0, 139, 25, 4, 45, 181, 0, 123, 42, 25, 5, 182, 0, 149, 172]
abbrev dktX1_move_5 : List UInt8 := dkwX1_move_5 ++ []
def dkwX1_move_4 : List UInt8 := [192, 0, 40, 180, 0, 74, 167, 0, 5, 16, 32, 54, 6, 42, 25, 5, 25, 4, 180, 0, 74, 21, 6]
abbrev dktX1_move_4 : List UInt8 := dkwX1_move_4 ++ dktX1_move_5
def dkwX1_move_3 : List UInt8 := [180, 0, 24, 185, 0, 64, 1, 0, 162, 0, 24, 42, 180, 0, 24, 27, 4, 96, 185, 0, 68, 2, 0]
abbrev dktX1_move_3 : List UInt8 := dkwX1_move_3 ++ dktX1_move_4
def dkwX1_move_2 : List UInt8 := [154, 0, 14, 45, 180, 0, 100, 154, 0, 7, 4, 167, 0, 4, 3, 184, 0, 89, 27, 4, 96, 42]
abbrev dktX1_move_2 : List UInt8 := dkwX1_move_2 ++ dktX1_move_3
def dkwX1_move_1 : List UInt8 := [185, 0, 68, 2, 0, 192, 0, 40, 58, 4, 25, 4, 180, 0, 123, 58, 5, 25, 5, 180, 0, 100]
abbrev dktX1_move_1 : List UInt8 := dkwX1_move_1 ++ dktX1_move_2
def dkwX1_move_0 : List UInt8 := [27, 42, 180, 0, 24, 185, 0, 64, 1, 0, 184, 0, 60, 42, 28, 182, 0, 93, 78, 42, 180, 0, 24, 27]
abbrev dktX1_move_0 : List UInt8 := dkwX1_move_0 ++ dktX1_move_1
theorem dksX1_move_0 : cX1_move.data.toList.drop 0 = dktX1_move_0 := by decide +kernel
theorem dksX1_move_1 : cX1_move.data.toList.drop 24 = dktX1_move_1 := dk_seg dksX1_move_0 24 rfl rfl
theorem dksX1_move_2 : cX1_move.data.toList.drop 46 = dktX1_move_2 := dk_seg dksX1_move_1 22 rfl rfl
theorem dksX1_move_3 : cX1_move.data.toList.drop 68 = dktX1_move_3 := dk_seg dksX1_move_2 22 rfl rfl
theorem dksX1_move_4 : cX1_move.data.toList.drop 91 = dktX1_move_4 := dk_seg dksX1_move_3 23 rfl rfl
theorem dksX1_move_5 : cX1_move.data.toList.drop 114 = dktX1_move_5 := dk_seg dksX1_move_4 23 rfl rfl
theorem dX1_move_0 : decode cX1_move 0 = .ok (.iload_n 1, 1) := dk_27 (dk_at dksX1_move_0 0 rfl rfl)
theorem dX1_move_1 : decode cX1_move 1 = .ok (.aload_n 0, 1) := dk_42 (dk_at dksX1_move_0 1 rfl rfl)
theorem dX1_move_2 : decode cX1_move 2 = .ok (.getfield 24, 3) := dk_180 0 24 (dk_at dksX1_move_0 2 rfl rfl)
theorem dX1_move_5 : decode cX1_move 5 = .ok (.invokeinterface 64 1, 5) := by decide +kernel
theorem dX1_move_10 : decode cX1_move 10 = .ok (.invokestatic 60, 3) := dk_184 0 60 (dk_at dksX1_move_0 10 rfl rfl)
theorem dX1_move_13 : decode cX1_move 13 = .ok (.aload_n 0, 1) := dk_42 (dk_at dksX1_move_0 13 rfl rfl)
theorem dX1_move_14 : decode cX1_move 14 = .ok (.iload_n 2, 1) := dk_28 (dk_at dksX1_move_0 14 rfl rfl)
theorem dX1_move_15 : decode cX1_move 15 = .ok (.invokevirtual 93, 3) := dk_182 0 93 (dk_at dksX1_move_0 15 rfl rfl)
theorem dX1_move_18 : decode cX1_move 18 = .ok (.astore_n 3, 1) := dk_78 (dk_at dksX1_move_0 18 rfl rfl)
theorem dX1_move_19 : decode cX1_move 19 = .ok (.aload_n 0, 1) := dk_42 (dk_at dksX1_move_0 19 rfl rfl)
theorem dX1_move_20 : decode cX1_move 20 = .ok (.getfield 24, 3) := dk_180 0 24 (dk_at dksX1_move_0 20 rfl rfl)
theorem dX1_move_23 : decode cX1_move 23 = .ok (.iload_n 1, 1) := dk_27 (dk_at dksX1_move_0 23 rfl rfl)
theorem dX1_move_24 : decode cX1_move 24 = .ok (.invokeinterface 68 2, 5) := by decide +kernel
theorem dX1_move_29 : decode cX1_move 29 = .ok (.checkcast 40, 3) := dk_192 0 40 (dk_at dksX1_move_1 5 rfl rfl)
theorem dX1_move_32 : decode cX1_move 32 = .ok (.astore 4, 2) := dk_58 4 (dk_at dksX1_move_1 8 rfl rfl)
theorem dX1_move_34 : decode cX1_move 34 = .ok (.aload 4, 2) := dk_25 4 (dk_at dksX1_move_1 10 rfl rfl)
theorem dX1_move_36 : decode cX1_move 36 = .ok (.getfield 123, 3) := dk_180 0 123 (dk_at dksX1_move_1 12 rfl rfl)
theorem dX1_move_39 : decode cX1_move 39 = .ok (.astore 5, 2) := dk_58 5 (dk_at dksX1_move_1 15 rfl rfl)
theorem dX1_move_41 : decode cX1_move 41 = .ok (.aload 5, 2) := dk_25 5 (dk_at dksX1_move_1 17 rfl rfl)
theorem dX1_move_43 : decode cX1_move 43 = .ok (.getfield 100, 3) := dk_180 0 100 (dk_at dksX1_move_1 19 rfl rfl)
theorem dX1_move_46 : decode cX1_move 46 = .ok (.ifCond .ne 14, 3) := dk_154 0 14 (dk_at dksX1_move_2 0 rfl rfl)
theorem dX1_move_49 : decode cX1_move 49 = .ok (.aload_n 3, 1) := dk_45 (dk_at dksX1_move_2 3 rfl rfl)
theorem dX1_move_50 : decode cX1_move 50 = .ok (.getfield 100, 3) := dk_180 0 100 (dk_at dksX1_move_2 4 rfl rfl)
theorem dX1_move_53 : decode cX1_move 53 = .ok (.ifCond .ne 7, 3) := dk_154 0 7 (dk_at dksX1_move_2 7 rfl rfl)
theorem dX1_move_56 : decode cX1_move 56 = .ok (.iconst 1, 1) := dk_4 (dk_at dksX1_move_2 10 rfl rfl)
theorem dX1_move_57 : decode cX1_move 57 = .ok (.goto 4, 3) := dk_167 0 4 (dk_at dksX1_move_2 11 rfl rfl)
theorem dX1_move_60 : decode cX1_move 60 = .ok (.iconst 0, 1) := dk_3 (dk_at dksX1_move_2 14 rfl rfl)
theorem dX1_move_61 : decode cX1_move 61 = .ok (.invokestatic 89, 3) := dk_184 0 89 (dk_at dksX1_move_2 15 rfl rfl)
theorem dX1_move_64 : decode cX1_move 64 = .ok (.iload_n 1, 1) := dk_27 (dk_at dksX1_move_2 18 rfl rfl)
theorem dX1_move_65 : decode cX1_move 65 = .ok (.iconst 1, 1) := dk_4 (dk_at dksX1_move_2 19 rfl rfl)
theorem dX1_move_66 : decode cX1_move 66 = .ok (.iadd, 1) := dk_96 (dk_at dksX1_move_2 20 rfl rfl)
theorem dX1_move_67 : decode cX1_move 67 = .ok (.aload_n 0, 1) := dk_42 (dk_at dksX1_move_2 21 rfl rfl)
theorem dX1_move_68 : decode cX1_move 68 = .ok (.getfield 24, 3) := dk_180 0 24 (dk_at dksX1_move_3 0 rfl rfl)
theorem dX1_move_71 : decode cX1_move 71 = .ok (.invokeinterface 64 1, 5) := by decide +kernel
theorem dX1_move_76 : decode cX1_move 76 = .ok (.if_icmp .ge 24, 3) := dk_162 0 24 (dk_at dksX1_move_3 8 rfl rfl)
theorem dX1_move_79 : decode cX1_move 79 = .ok (.aload_n 0, 1) := dk_42 (dk_at dksX1_move_3 11 rfl rfl)
theorem dX1_move_80 : decode cX1_move 80 = .ok (.getfield 24, 3) := dk_180 0 24 (dk_at dksX1_move_3 12 rfl rfl)
theorem dX1_move_83 : decode cX1_move 83 = .ok (.iload_n 1, 1) := dk_27 (dk_at dksX1_move_3 15 rfl rfl)
theorem dX1_move_84 : decode cX1_move 84 = .ok (.iconst 1, 1) := dk_4 (dk_at dksX1_move_3 16 rfl rfl)
theorem dX1_move_85 : decode cX1_move 85 = .ok (.iadd, 1) := dk_96 (dk_at dksX1_move_3 17 rfl rfl)
theorem dX1_move_86 : decode cX1_move 86 = .ok (.invokeinterface 68 2, 5) := by decide +kernel
theorem dX1_move_91 : decode cX1_move 91 = .ok (.checkcast 40, 3) := dk_192 0 40 (dk_at dksX1_move_4 0 rfl rfl)
theorem dX1_move_94 : decode cX1_move 94 = .ok (.getfield 74, 3) := dk_180 0 74 (dk_at dksX1_move_4 3 rfl rfl)
theorem dX1_move_97 : decode cX1_move 97 = .ok (.goto 5, 3) := dk_167 0 5 (dk_at dksX1_move_4 6 rfl rfl)
theorem dX1_move_100 : decode cX1_move 100 = .ok (.bipush 32, 2) := dk_16 32 (dk_at dksX1_move_4 9 rfl rfl)
theorem dX1_move_102 : decode cX1_move 102 = .ok (.istore 6, 2) := dk_54 6 (dk_at dksX1_move_4 11 rfl rfl)
theorem dX1_move_104 : decode cX1_move 104 = .ok (.aload_n 0, 1) := dk_42 (dk_at dksX1_move_4 13 rfl rfl)
theorem dX1_move_105 : decode cX1_move 105 = .ok (.aload 5, 2) := dk_25 5 (dk_at dksX1_move_4 14 rfl rfl)
theorem dX1_move_107 : decode cX1_move 107 = .ok (.aload 4, 2) := dk_25 4 (dk_at dksX1_move_4 16 rfl rfl)
theorem dX1_move_109 : decode cX1_move 109 = .ok (.getfield 74, 3) := dk_180 0 74 (dk_at dksX1_move_4 18 rfl rfl)
theorem dX1_move_112 : decode cX1_move 112 = .ok (.iload 6, 2) := dk_21 6 (dk_at dksX1_move_4 21 rfl rfl)
theorem dX1_move_114 : decode cX1_move 114 = .ok (.aload 5, 2) := dk_25 5 (dk_at dksX1_move_5 0 rfl rfl)
theorem dX1_move_116 : decode cX1_move 116 = .ok (.invokevirtual 104, 3) := dk_182 0 104 (dk_at dksX1_move_5 2 rfl rfl)
theorem dX1_move_119 : decode cX1_move 119 = .ok (.invokevirtual 139, 3) := dk_182 0 139 (dk_at dksX1_move_5 5 rfl rfl)
theorem dX1_move_122 : decode cX1_move 122 = .ok (.aload 4, 2) := dk_25 4 (dk_at dksX1_move_5 8 rfl rfl)
theorem dX1_move_124 : decode cX1_move 124 = .ok (.aload_n 3, 1) := dk_45 (dk_at dksX1_move_5 10 rfl rfl)
theorem dX1_move_125 : decode cX1_move 125 = .ok (.putfield 123, 3) := dk_181 0 123 (dk_at dksX1_move_5 11 rfl rfl)
theorem dX1_move_128 : decode cX1_move 128 = .ok (.aload_n 0, 1) := dk_42 (dk_at dksX1_move_5 14 rfl rfl)
theorem dX1_move_129 : decode cX1_move 129 = .ok (.aload 5, 2) := dk_25 5 (dk_at dksX1_move_5 15 rfl rfl)
theorem dX1_move_131 : decode cX1_move 131 = .ok (.invokevirtual 149, 3) := dk_182 0 149 (dk_at dksX1_move_5 17 rfl rfl)
theorem dX1_move_134 : decode cX1_move 134 = .ok (.ireturn, 1) := dk_172 (dk_at dksX1_move_5 20 rfl rfl)
abbrev cX1_numberOf : ByteArray := prog_1_method_9_code
def yX1_numberOf : MethodName := ⟨RX1, "numberOf", "(LTwinphase$Node;)I"⟩
def dkwX1_numberOf_0 : List UInt8 := [3, 61, 42, 180, 0, 11, 28, 50, 43, 165, 0, 9, 132, 2, 1, 167, 255, 243, 28, 172]
abbrev dktX1_numberOf_0 : List UInt8 := dkwX1_numberOf_0 ++ []
theorem dksX1_numberOf_0 : cX1_numberOf.data.toList.drop 0 = dktX1_numberOf_0 := by decide +kernel
theorem dX1_numberOf_0 : decode cX1_numberOf 0 = .ok (.iconst 0, 1) := dk_3 (dk_at dksX1_numberOf_0 0 rfl rfl)
theorem dX1_numberOf_1 : decode cX1_numberOf 1 = .ok (.istore_n 2, 1) := dk_61 (dk_at dksX1_numberOf_0 1 rfl rfl)
theorem dX1_numberOf_2 : decode cX1_numberOf 2 = .ok (.aload_n 0, 1) := dk_42 (dk_at dksX1_numberOf_0 2 rfl rfl)
theorem dX1_numberOf_3 : decode cX1_numberOf 3 = .ok (.getfield 11, 3) := dk_180 0 11 (dk_at dksX1_numberOf_0 3 rfl rfl)
theorem dX1_numberOf_6 : decode cX1_numberOf 6 = .ok (.iload_n 2, 1) := dk_28 (dk_at dksX1_numberOf_0 6 rfl rfl)
theorem dX1_numberOf_7 : decode cX1_numberOf 7 = .ok (.aaload, 1) := dk_50 (dk_at dksX1_numberOf_0 7 rfl rfl)
theorem dX1_numberOf_8 : decode cX1_numberOf 8 = .ok (.aload_n 1, 1) := dk_43 (dk_at dksX1_numberOf_0 8 rfl rfl)
theorem dX1_numberOf_9 : decode cX1_numberOf 9 = .ok (.if_acmp .eq 9, 3) := dk_165 0 9 (dk_at dksX1_numberOf_0 9 rfl rfl)
theorem dX1_numberOf_12 : decode cX1_numberOf 12 = .ok (.iinc 2 1, 3) := dk_132 2 1 (dk_at dksX1_numberOf_0 12 rfl rfl)
theorem dX1_numberOf_15 : decode cX1_numberOf 15 = .ok (.goto (-13), 3) := dk_167 255 243 (dk_at dksX1_numberOf_0 15 rfl rfl)
theorem dX1_numberOf_18 : decode cX1_numberOf 18 = .ok (.iload_n 2, 1) := dk_28 (dk_at dksX1_numberOf_0 18 rfl rfl)
theorem dX1_numberOf_19 : decode cX1_numberOf 19 = .ok (.ireturn, 1) := dk_172 (dk_at dksX1_numberOf_0 19 rfl rfl)
abbrev cX1_begin : ByteArray := prog_1_method_22_code
def yX1_begin : MethodName := ⟨RX1, "begin", "(II)I"⟩
def dkwX1_begin_3 : List UInt8 := [185, 0, 45, 2, 0, 87, 42, 180, 0, 28, 185, 0, 64, 1, 0, 4, 100, 172]
abbrev dktX1_begin_3 : List UInt8 := dkwX1_begin_3 ++ []
def dkwX1_begin_2 : List UInt8 := [187, 0, 72, 89, 42, 42, 180, 0, 28, 185, 0, 64, 1, 0, 45, 28, 45, 182, 0, 104, 183, 0, 153]
abbrev dktX1_begin_2 : List UInt8 := dkwX1_begin_2 ++ dktX1_begin_3
def dkwX1_begin_1 : List UInt8 := [185, 0, 64, 1, 0, 16, 40, 162, 0, 7, 4, 167, 0, 4, 3, 184, 0, 89, 42, 180, 0, 28]
abbrev dktX1_begin_1 : List UInt8 := dkwX1_begin_1 ++ dktX1_begin_2
def dkwX1_begin_0 : List UInt8 := [42, 27, 182, 0, 93, 78, 28, 3, 16, 9, 184, 0, 82, 45, 180, 0, 100, 154, 0, 21, 42, 180, 0, 28]
abbrev dktX1_begin_0 : List UInt8 := dkwX1_begin_0 ++ dktX1_begin_1
theorem dksX1_begin_0 : cX1_begin.data.toList.drop 0 = dktX1_begin_0 := by decide +kernel
theorem dksX1_begin_1 : cX1_begin.data.toList.drop 24 = dktX1_begin_1 := dk_seg dksX1_begin_0 24 rfl rfl
theorem dksX1_begin_2 : cX1_begin.data.toList.drop 46 = dktX1_begin_2 := dk_seg dksX1_begin_1 22 rfl rfl
theorem dksX1_begin_3 : cX1_begin.data.toList.drop 69 = dktX1_begin_3 := dk_seg dksX1_begin_2 23 rfl rfl
theorem dX1_begin_0 : decode cX1_begin 0 = .ok (.aload_n 0, 1) := dk_42 (dk_at dksX1_begin_0 0 rfl rfl)
theorem dX1_begin_1 : decode cX1_begin 1 = .ok (.iload_n 1, 1) := dk_27 (dk_at dksX1_begin_0 1 rfl rfl)
theorem dX1_begin_2 : decode cX1_begin 2 = .ok (.invokevirtual 93, 3) := dk_182 0 93 (dk_at dksX1_begin_0 2 rfl rfl)
theorem dX1_begin_5 : decode cX1_begin 5 = .ok (.astore_n 3, 1) := dk_78 (dk_at dksX1_begin_0 5 rfl rfl)
theorem dX1_begin_6 : decode cX1_begin 6 = .ok (.iload_n 2, 1) := dk_28 (dk_at dksX1_begin_0 6 rfl rfl)
theorem dX1_begin_7 : decode cX1_begin 7 = .ok (.iconst 0, 1) := dk_3 (dk_at dksX1_begin_0 7 rfl rfl)
theorem dX1_begin_8 : decode cX1_begin 8 = .ok (.bipush 9, 2) := dk_16 9 (dk_at dksX1_begin_0 8 rfl rfl)
theorem dX1_begin_10 : decode cX1_begin 10 = .ok (.invokestatic 82, 3) := dk_184 0 82 (dk_at dksX1_begin_0 10 rfl rfl)
theorem dX1_begin_13 : decode cX1_begin 13 = .ok (.aload_n 3, 1) := dk_45 (dk_at dksX1_begin_0 13 rfl rfl)
theorem dX1_begin_14 : decode cX1_begin 14 = .ok (.getfield 100, 3) := dk_180 0 100 (dk_at dksX1_begin_0 14 rfl rfl)
theorem dX1_begin_17 : decode cX1_begin 17 = .ok (.ifCond .ne 21, 3) := dk_154 0 21 (dk_at dksX1_begin_0 17 rfl rfl)
theorem dX1_begin_20 : decode cX1_begin 20 = .ok (.aload_n 0, 1) := dk_42 (dk_at dksX1_begin_0 20 rfl rfl)
theorem dX1_begin_21 : decode cX1_begin 21 = .ok (.getfield 28, 3) := dk_180 0 28 (dk_at dksX1_begin_0 21 rfl rfl)
theorem dX1_begin_24 : decode cX1_begin 24 = .ok (.invokeinterface 64 1, 5) := by decide +kernel
theorem dX1_begin_29 : decode cX1_begin 29 = .ok (.bipush 40, 2) := dk_16 40 (dk_at dksX1_begin_1 5 rfl rfl)
theorem dX1_begin_31 : decode cX1_begin 31 = .ok (.if_icmp .ge 7, 3) := dk_162 0 7 (dk_at dksX1_begin_1 7 rfl rfl)
theorem dX1_begin_34 : decode cX1_begin 34 = .ok (.iconst 1, 1) := dk_4 (dk_at dksX1_begin_1 10 rfl rfl)
theorem dX1_begin_35 : decode cX1_begin 35 = .ok (.goto 4, 3) := dk_167 0 4 (dk_at dksX1_begin_1 11 rfl rfl)
theorem dX1_begin_38 : decode cX1_begin 38 = .ok (.iconst 0, 1) := dk_3 (dk_at dksX1_begin_1 14 rfl rfl)
theorem dX1_begin_39 : decode cX1_begin 39 = .ok (.invokestatic 89, 3) := dk_184 0 89 (dk_at dksX1_begin_1 15 rfl rfl)
theorem dX1_begin_42 : decode cX1_begin 42 = .ok (.aload_n 0, 1) := dk_42 (dk_at dksX1_begin_1 18 rfl rfl)
theorem dX1_begin_43 : decode cX1_begin 43 = .ok (.getfield 28, 3) := dk_180 0 28 (dk_at dksX1_begin_1 19 rfl rfl)
theorem dX1_begin_46 : decode cX1_begin 46 = .ok (.new 72, 3) := dk_187 0 72 (dk_at dksX1_begin_2 0 rfl rfl)
theorem dX1_begin_49 : decode cX1_begin 49 = .ok (.dup, 1) := dk_89 (dk_at dksX1_begin_2 3 rfl rfl)
theorem dX1_begin_50 : decode cX1_begin 50 = .ok (.aload_n 0, 1) := dk_42 (dk_at dksX1_begin_2 4 rfl rfl)
theorem dX1_begin_51 : decode cX1_begin 51 = .ok (.aload_n 0, 1) := dk_42 (dk_at dksX1_begin_2 5 rfl rfl)
theorem dX1_begin_52 : decode cX1_begin 52 = .ok (.getfield 28, 3) := dk_180 0 28 (dk_at dksX1_begin_2 6 rfl rfl)
theorem dX1_begin_55 : decode cX1_begin 55 = .ok (.invokeinterface 64 1, 5) := by decide +kernel
theorem dX1_begin_60 : decode cX1_begin 60 = .ok (.aload_n 3, 1) := dk_45 (dk_at dksX1_begin_2 14 rfl rfl)
theorem dX1_begin_61 : decode cX1_begin 61 = .ok (.iload_n 2, 1) := dk_28 (dk_at dksX1_begin_2 15 rfl rfl)
theorem dX1_begin_62 : decode cX1_begin 62 = .ok (.aload_n 3, 1) := dk_45 (dk_at dksX1_begin_2 16 rfl rfl)
theorem dX1_begin_63 : decode cX1_begin 63 = .ok (.invokevirtual 104, 3) := dk_182 0 104 (dk_at dksX1_begin_2 17 rfl rfl)
theorem dX1_begin_66 : decode cX1_begin 66 = .ok (.invokespecial 153, 3) := dk_183 0 153 (dk_at dksX1_begin_2 20 rfl rfl)
theorem dX1_begin_69 : decode cX1_begin 69 = .ok (.invokeinterface 45 2, 5) := by decide +kernel
theorem dX1_begin_74 : decode cX1_begin 74 = .ok (.pop, 1) := dk_87 (dk_at dksX1_begin_3 5 rfl rfl)
theorem dX1_begin_75 : decode cX1_begin 75 = .ok (.aload_n 0, 1) := dk_42 (dk_at dksX1_begin_3 6 rfl rfl)
theorem dX1_begin_76 : decode cX1_begin 76 = .ok (.getfield 28, 3) := dk_180 0 28 (dk_at dksX1_begin_3 7 rfl rfl)
theorem dX1_begin_79 : decode cX1_begin 79 = .ok (.invokeinterface 64 1, 5) := by decide +kernel
theorem dX1_begin_84 : decode cX1_begin 84 = .ok (.iconst 1, 1) := dk_4 (dk_at dksX1_begin_3 15 rfl rfl)
theorem dX1_begin_85 : decode cX1_begin 85 = .ok (.isub, 1) := dk_100 (dk_at dksX1_begin_3 16 rfl rfl)
theorem dX1_begin_86 : decode cX1_begin 86 = .ok (.ireturn, 1) := dk_172 (dk_at dksX1_begin_3 17 rfl rfl)
abbrev cX1_get : ByteArray := prog_1_method_28_code
def yX1_get : MethodName := ⟨RX1, "get", "(II)I"⟩
def dkwX1_get_11 : List UInt8 := [167, 255, 96]
abbrev dktX1_get_11 : List UInt8 := dkwX1_get_11 ++ []
def dkwX1_get_10 : List UInt8 := [16, 244, 172, 45, 21, 10, 181, 0, 218, 45, 45, 180, 0, 221, 21, 10, 184, 0, 107, 181, 0, 221]
abbrev dktX1_get_10 : List UInt8 := dkwX1_get_10 ++ dktX1_get_11
def dkwX1_get_9 : List UInt8 := [182, 0, 239, 180, 0, 243, 54, 10, 45, 21, 10, 182, 0, 248, 154, 0, 12, 45, 21, 10, 182, 0, 252]
abbrev dktX1_get_9 : List UInt8 := dkwX1_get_9 ++ dktX1_get_10
def dkwX1_get_8 : List UInt8 := [154, 0, 14, 45, 42, 180, 0, 17, 28, 50, 184, 0, 236, 172, 42, 180, 0, 17, 28, 50, 21, 6]
abbrev dktX1_get_8 : List UInt8 := dkwX1_get_8 ++ dktX1_get_9
def dkwX1_get_7 : List UInt8 := [154, 255, 186, 45, 184, 0, 228, 172, 42, 180, 0, 17, 28, 50, 45, 180, 0, 218, 21, 6, 182, 0, 232]
abbrev dktX1_get_7 : List UInt8 := dkwX1_get_7 ++ dktX1_get_8
def dkwX1_get_6 : List UInt8 := [164, 0, 15, 25, 8, 21, 9, 4, 96, 181, 0, 221, 167, 255, 196, 42, 45, 25, 8, 182, 0, 224]
abbrev dktX1_get_6 : List UInt8 := dkwX1_get_6 ++ dktX1_get_7
def dkwX1_get_5 : List UInt8 := [198, 0, 52, 25, 8, 180, 0, 221, 21, 9, 163, 0, 42, 45, 180, 0, 180, 25, 8, 180, 0, 180]
abbrev dktX1_get_5 : List UInt8 := dkwX1_get_5 ++ dktX1_get_6
def dkwX1_get_4 : List UInt8 := [180, 0, 17, 28, 50, 45, 182, 0, 214, 58, 8, 45, 180, 0, 218, 21, 6, 184, 0, 107, 54, 9, 25, 8]
abbrev dktX1_get_4 : List UInt8 := dkwX1_get_4 ++ dktX1_get_5
def dkwX1_get_3 : List UInt8 := [185, 0, 204, 2, 0, 192, 0, 209, 58, 7, 25, 7, 198, 0, 9, 25, 7, 182, 0, 211, 172, 42, 42]
abbrev dktX1_get_3 : List UInt8 := dkwX1_get_3 ++ dktX1_get_4
def dkwX1_get_2 : List UInt8 := [182, 0, 149, 182, 0, 194, 54, 6, 45, 180, 0, 197, 187, 0, 201, 89, 28, 183, 0, 203]
abbrev dktX1_get_2 : List UInt8 := dkwX1_get_2 ++ dktX1_get_3
def dkwX1_get_1 : List UInt8 := [25, 4, 182, 0, 190, 54, 5, 21, 5, 153, 0, 6, 21, 5, 172, 45, 1, 181, 0, 177, 45, 42, 25, 4]
abbrev dktX1_get_1 : List UInt8 := dkwX1_get_1 ++ dktX1_get_2
def dkwX1_get_0 : List UInt8 := [42, 27, 182, 0, 186, 78, 28, 16, 32, 184, 0, 60, 42, 28, 182, 0, 119, 180, 0, 123, 58, 4, 42, 45]
abbrev dktX1_get_0 : List UInt8 := dkwX1_get_0 ++ dktX1_get_1
theorem dksX1_get_0 : cX1_get.data.toList.drop 0 = dktX1_get_0 := by decide +kernel
theorem dksX1_get_1 : cX1_get.data.toList.drop 24 = dktX1_get_1 := dk_seg dksX1_get_0 24 rfl rfl
theorem dksX1_get_2 : cX1_get.data.toList.drop 48 = dktX1_get_2 := dk_seg dksX1_get_1 24 rfl rfl
theorem dksX1_get_3 : cX1_get.data.toList.drop 68 = dktX1_get_3 := dk_seg dksX1_get_2 20 rfl rfl
theorem dksX1_get_4 : cX1_get.data.toList.drop 91 = dktX1_get_4 := dk_seg dksX1_get_3 23 rfl rfl
theorem dksX1_get_5 : cX1_get.data.toList.drop 115 = dktX1_get_5 := dk_seg dksX1_get_4 24 rfl rfl
theorem dksX1_get_6 : cX1_get.data.toList.drop 137 = dktX1_get_6 := dk_seg dksX1_get_5 22 rfl rfl
theorem dksX1_get_7 : cX1_get.data.toList.drop 159 = dktX1_get_7 := dk_seg dksX1_get_6 22 rfl rfl
theorem dksX1_get_8 : cX1_get.data.toList.drop 182 = dktX1_get_8 := dk_seg dksX1_get_7 23 rfl rfl
theorem dksX1_get_9 : cX1_get.data.toList.drop 204 = dktX1_get_9 := dk_seg dksX1_get_8 22 rfl rfl
theorem dksX1_get_10 : cX1_get.data.toList.drop 227 = dktX1_get_10 := dk_seg dksX1_get_9 23 rfl rfl
theorem dksX1_get_11 : cX1_get.data.toList.drop 249 = dktX1_get_11 := dk_seg dksX1_get_10 22 rfl rfl
theorem dX1_get_0 : decode cX1_get 0 = .ok (.aload_n 0, 1) := dk_42 (dk_at dksX1_get_0 0 rfl rfl)
theorem dX1_get_1 : decode cX1_get 1 = .ok (.iload_n 1, 1) := dk_27 (dk_at dksX1_get_0 1 rfl rfl)
theorem dX1_get_2 : decode cX1_get 2 = .ok (.invokevirtual 186, 3) := dk_182 0 186 (dk_at dksX1_get_0 2 rfl rfl)
theorem dX1_get_5 : decode cX1_get 5 = .ok (.astore_n 3, 1) := dk_78 (dk_at dksX1_get_0 5 rfl rfl)
theorem dX1_get_6 : decode cX1_get 6 = .ok (.iload_n 2, 1) := dk_28 (dk_at dksX1_get_0 6 rfl rfl)
theorem dX1_get_7 : decode cX1_get 7 = .ok (.bipush 32, 2) := dk_16 32 (dk_at dksX1_get_0 7 rfl rfl)
theorem dX1_get_9 : decode cX1_get 9 = .ok (.invokestatic 60, 3) := dk_184 0 60 (dk_at dksX1_get_0 9 rfl rfl)
theorem dX1_get_12 : decode cX1_get 12 = .ok (.aload_n 0, 1) := dk_42 (dk_at dksX1_get_0 12 rfl rfl)
theorem dX1_get_13 : decode cX1_get 13 = .ok (.iload_n 2, 1) := dk_28 (dk_at dksX1_get_0 13 rfl rfl)
theorem dX1_get_14 : decode cX1_get 14 = .ok (.invokevirtual 119, 3) := dk_182 0 119 (dk_at dksX1_get_0 14 rfl rfl)
theorem dX1_get_17 : decode cX1_get 17 = .ok (.getfield 123, 3) := dk_180 0 123 (dk_at dksX1_get_0 17 rfl rfl)
theorem dX1_get_20 : decode cX1_get 20 = .ok (.astore 4, 2) := dk_58 4 (dk_at dksX1_get_0 20 rfl rfl)
theorem dX1_get_22 : decode cX1_get 22 = .ok (.aload_n 0, 1) := dk_42 (dk_at dksX1_get_0 22 rfl rfl)
theorem dX1_get_23 : decode cX1_get 23 = .ok (.aload_n 3, 1) := dk_45 (dk_at dksX1_get_0 23 rfl rfl)
theorem dX1_get_24 : decode cX1_get 24 = .ok (.aload 4, 2) := dk_25 4 (dk_at dksX1_get_1 0 rfl rfl)
theorem dX1_get_26 : decode cX1_get 26 = .ok (.invokevirtual 190, 3) := dk_182 0 190 (dk_at dksX1_get_1 2 rfl rfl)
theorem dX1_get_29 : decode cX1_get 29 = .ok (.istore 5, 2) := dk_54 5 (dk_at dksX1_get_1 5 rfl rfl)
theorem dX1_get_31 : decode cX1_get 31 = .ok (.iload 5, 2) := dk_21 5 (dk_at dksX1_get_1 7 rfl rfl)
theorem dX1_get_33 : decode cX1_get 33 = .ok (.ifCond .eq 6, 3) := dk_153 0 6 (dk_at dksX1_get_1 9 rfl rfl)
theorem dX1_get_36 : decode cX1_get 36 = .ok (.iload 5, 2) := dk_21 5 (dk_at dksX1_get_1 12 rfl rfl)
theorem dX1_get_38 : decode cX1_get 38 = .ok (.ireturn, 1) := dk_172 (dk_at dksX1_get_1 14 rfl rfl)
theorem dX1_get_39 : decode cX1_get 39 = .ok (.aload_n 3, 1) := dk_45 (dk_at dksX1_get_1 15 rfl rfl)
theorem dX1_get_40 : decode cX1_get 40 = .ok (.aconst_null, 1) := dk_1 (dk_at dksX1_get_1 16 rfl rfl)
theorem dX1_get_41 : decode cX1_get 41 = .ok (.putfield 177, 3) := dk_181 0 177 (dk_at dksX1_get_1 17 rfl rfl)
theorem dX1_get_44 : decode cX1_get 44 = .ok (.aload_n 3, 1) := dk_45 (dk_at dksX1_get_1 20 rfl rfl)
theorem dX1_get_45 : decode cX1_get 45 = .ok (.aload_n 0, 1) := dk_42 (dk_at dksX1_get_1 21 rfl rfl)
theorem dX1_get_46 : decode cX1_get 46 = .ok (.aload 4, 2) := dk_25 4 (dk_at dksX1_get_1 22 rfl rfl)
theorem dX1_get_48 : decode cX1_get 48 = .ok (.invokevirtual 149, 3) := dk_182 0 149 (dk_at dksX1_get_2 0 rfl rfl)
theorem dX1_get_51 : decode cX1_get 51 = .ok (.invokevirtual 194, 3) := dk_182 0 194 (dk_at dksX1_get_2 3 rfl rfl)
theorem dX1_get_54 : decode cX1_get 54 = .ok (.istore 6, 2) := dk_54 6 (dk_at dksX1_get_2 6 rfl rfl)
theorem dX1_get_56 : decode cX1_get 56 = .ok (.aload_n 3, 1) := dk_45 (dk_at dksX1_get_2 8 rfl rfl)
theorem dX1_get_57 : decode cX1_get 57 = .ok (.getfield 197, 3) := dk_180 0 197 (dk_at dksX1_get_2 9 rfl rfl)
theorem dX1_get_60 : decode cX1_get 60 = .ok (.new 201, 3) := dk_187 0 201 (dk_at dksX1_get_2 12 rfl rfl)
theorem dX1_get_63 : decode cX1_get 63 = .ok (.dup, 1) := dk_89 (dk_at dksX1_get_2 15 rfl rfl)
theorem dX1_get_64 : decode cX1_get 64 = .ok (.iload_n 2, 1) := dk_28 (dk_at dksX1_get_2 16 rfl rfl)
theorem dX1_get_65 : decode cX1_get 65 = .ok (.invokespecial 203, 3) := dk_183 0 203 (dk_at dksX1_get_2 17 rfl rfl)
theorem dX1_get_68 : decode cX1_get 68 = .ok (.invokeinterface 204 2, 5) := by decide +kernel
theorem dX1_get_73 : decode cX1_get 73 = .ok (.checkcast 209, 3) := dk_192 0 209 (dk_at dksX1_get_3 5 rfl rfl)
theorem dX1_get_76 : decode cX1_get 76 = .ok (.astore 7, 2) := dk_58 7 (dk_at dksX1_get_3 8 rfl rfl)
theorem dX1_get_78 : decode cX1_get 78 = .ok (.aload 7, 2) := dk_25 7 (dk_at dksX1_get_3 10 rfl rfl)
theorem dX1_get_80 : decode cX1_get 80 = .ok (.ifnull 9, 3) := dk_198 0 9 (dk_at dksX1_get_3 12 rfl rfl)
theorem dX1_get_83 : decode cX1_get 83 = .ok (.aload 7, 2) := dk_25 7 (dk_at dksX1_get_3 15 rfl rfl)
theorem dX1_get_85 : decode cX1_get 85 = .ok (.invokevirtual 211, 3) := dk_182 0 211 (dk_at dksX1_get_3 17 rfl rfl)
theorem dX1_get_88 : decode cX1_get 88 = .ok (.ireturn, 1) := dk_172 (dk_at dksX1_get_3 20 rfl rfl)
theorem dX1_get_89 : decode cX1_get 89 = .ok (.aload_n 0, 1) := dk_42 (dk_at dksX1_get_3 21 rfl rfl)
theorem dX1_get_90 : decode cX1_get 90 = .ok (.aload_n 0, 1) := dk_42 (dk_at dksX1_get_3 22 rfl rfl)
theorem dX1_get_91 : decode cX1_get 91 = .ok (.getfield 17, 3) := dk_180 0 17 (dk_at dksX1_get_4 0 rfl rfl)
theorem dX1_get_94 : decode cX1_get 94 = .ok (.iload_n 2, 1) := dk_28 (dk_at dksX1_get_4 3 rfl rfl)
theorem dX1_get_95 : decode cX1_get 95 = .ok (.aaload, 1) := dk_50 (dk_at dksX1_get_4 4 rfl rfl)
theorem dX1_get_96 : decode cX1_get 96 = .ok (.aload_n 3, 1) := dk_45 (dk_at dksX1_get_4 5 rfl rfl)
theorem dX1_get_97 : decode cX1_get 97 = .ok (.invokevirtual 214, 3) := dk_182 0 214 (dk_at dksX1_get_4 6 rfl rfl)
theorem dX1_get_100 : decode cX1_get 100 = .ok (.astore 8, 2) := dk_58 8 (dk_at dksX1_get_4 9 rfl rfl)
theorem dX1_get_102 : decode cX1_get 102 = .ok (.aload_n 3, 1) := dk_45 (dk_at dksX1_get_4 11 rfl rfl)
theorem dX1_get_103 : decode cX1_get 103 = .ok (.getfield 218, 3) := dk_180 0 218 (dk_at dksX1_get_4 12 rfl rfl)
theorem dX1_get_106 : decode cX1_get 106 = .ok (.iload 6, 2) := dk_21 6 (dk_at dksX1_get_4 15 rfl rfl)
theorem dX1_get_108 : decode cX1_get 108 = .ok (.invokestatic 107, 3) := dk_184 0 107 (dk_at dksX1_get_4 17 rfl rfl)
theorem dX1_get_111 : decode cX1_get 111 = .ok (.istore 9, 2) := dk_54 9 (dk_at dksX1_get_4 20 rfl rfl)
theorem dX1_get_113 : decode cX1_get 113 = .ok (.aload 8, 2) := dk_25 8 (dk_at dksX1_get_4 22 rfl rfl)
theorem dX1_get_115 : decode cX1_get 115 = .ok (.ifnull 52, 3) := dk_198 0 52 (dk_at dksX1_get_5 0 rfl rfl)
theorem dX1_get_118 : decode cX1_get 118 = .ok (.aload 8, 2) := dk_25 8 (dk_at dksX1_get_5 3 rfl rfl)
theorem dX1_get_120 : decode cX1_get 120 = .ok (.getfield 221, 3) := dk_180 0 221 (dk_at dksX1_get_5 5 rfl rfl)
theorem dX1_get_123 : decode cX1_get 123 = .ok (.iload 9, 2) := dk_21 9 (dk_at dksX1_get_5 8 rfl rfl)
theorem dX1_get_125 : decode cX1_get 125 = .ok (.if_icmp .gt 42, 3) := dk_163 0 42 (dk_at dksX1_get_5 10 rfl rfl)
theorem dX1_get_128 : decode cX1_get 128 = .ok (.aload_n 3, 1) := dk_45 (dk_at dksX1_get_5 13 rfl rfl)
theorem dX1_get_129 : decode cX1_get 129 = .ok (.getfield 180, 3) := dk_180 0 180 (dk_at dksX1_get_5 14 rfl rfl)
theorem dX1_get_132 : decode cX1_get 132 = .ok (.aload 8, 2) := dk_25 8 (dk_at dksX1_get_5 17 rfl rfl)
theorem dX1_get_134 : decode cX1_get 134 = .ok (.getfield 180, 3) := dk_180 0 180 (dk_at dksX1_get_5 19 rfl rfl)
theorem dX1_get_137 : decode cX1_get 137 = .ok (.if_icmp .le 15, 3) := dk_164 0 15 (dk_at dksX1_get_6 0 rfl rfl)
theorem dX1_get_140 : decode cX1_get 140 = .ok (.aload 8, 2) := dk_25 8 (dk_at dksX1_get_6 3 rfl rfl)
theorem dX1_get_142 : decode cX1_get 142 = .ok (.iload 9, 2) := dk_21 9 (dk_at dksX1_get_6 5 rfl rfl)
theorem dX1_get_144 : decode cX1_get 144 = .ok (.iconst 1, 1) := dk_4 (dk_at dksX1_get_6 7 rfl rfl)
theorem dX1_get_145 : decode cX1_get 145 = .ok (.iadd, 1) := dk_96 (dk_at dksX1_get_6 8 rfl rfl)
theorem dX1_get_146 : decode cX1_get 146 = .ok (.putfield 221, 3) := dk_181 0 221 (dk_at dksX1_get_6 9 rfl rfl)
theorem dX1_get_149 : decode cX1_get 149 = .ok (.goto (-60), 3) := dk_167 255 196 (dk_at dksX1_get_6 12 rfl rfl)
theorem dX1_get_152 : decode cX1_get 152 = .ok (.aload_n 0, 1) := dk_42 (dk_at dksX1_get_6 15 rfl rfl)
theorem dX1_get_153 : decode cX1_get 153 = .ok (.aload_n 3, 1) := dk_45 (dk_at dksX1_get_6 16 rfl rfl)
theorem dX1_get_154 : decode cX1_get 154 = .ok (.aload 8, 2) := dk_25 8 (dk_at dksX1_get_6 17 rfl rfl)
theorem dX1_get_156 : decode cX1_get 156 = .ok (.invokevirtual 224, 3) := dk_182 0 224 (dk_at dksX1_get_6 19 rfl rfl)
theorem dX1_get_159 : decode cX1_get 159 = .ok (.ifCond .ne (-70), 3) := dk_154 255 186 (dk_at dksX1_get_7 0 rfl rfl)
theorem dX1_get_162 : decode cX1_get 162 = .ok (.aload_n 3, 1) := dk_45 (dk_at dksX1_get_7 3 rfl rfl)
theorem dX1_get_163 : decode cX1_get 163 = .ok (.invokestatic 228, 3) := dk_184 0 228 (dk_at dksX1_get_7 4 rfl rfl)
theorem dX1_get_166 : decode cX1_get 166 = .ok (.ireturn, 1) := dk_172 (dk_at dksX1_get_7 7 rfl rfl)
theorem dX1_get_167 : decode cX1_get 167 = .ok (.aload_n 0, 1) := dk_42 (dk_at dksX1_get_7 8 rfl rfl)
theorem dX1_get_168 : decode cX1_get 168 = .ok (.getfield 17, 3) := dk_180 0 17 (dk_at dksX1_get_7 9 rfl rfl)
theorem dX1_get_171 : decode cX1_get 171 = .ok (.iload_n 2, 1) := dk_28 (dk_at dksX1_get_7 12 rfl rfl)
theorem dX1_get_172 : decode cX1_get 172 = .ok (.aaload, 1) := dk_50 (dk_at dksX1_get_7 13 rfl rfl)
theorem dX1_get_173 : decode cX1_get 173 = .ok (.aload_n 3, 1) := dk_45 (dk_at dksX1_get_7 14 rfl rfl)
theorem dX1_get_174 : decode cX1_get 174 = .ok (.getfield 218, 3) := dk_180 0 218 (dk_at dksX1_get_7 15 rfl rfl)
theorem dX1_get_177 : decode cX1_get 177 = .ok (.iload 6, 2) := dk_21 6 (dk_at dksX1_get_7 18 rfl rfl)
theorem dX1_get_179 : decode cX1_get 179 = .ok (.invokevirtual 232, 3) := dk_182 0 232 (dk_at dksX1_get_7 20 rfl rfl)
theorem dX1_get_182 : decode cX1_get 182 = .ok (.ifCond .ne 14, 3) := dk_154 0 14 (dk_at dksX1_get_8 0 rfl rfl)
theorem dX1_get_185 : decode cX1_get 185 = .ok (.aload_n 3, 1) := dk_45 (dk_at dksX1_get_8 3 rfl rfl)
theorem dX1_get_186 : decode cX1_get 186 = .ok (.aload_n 0, 1) := dk_42 (dk_at dksX1_get_8 4 rfl rfl)
theorem dX1_get_187 : decode cX1_get 187 = .ok (.getfield 17, 3) := dk_180 0 17 (dk_at dksX1_get_8 5 rfl rfl)
theorem dX1_get_190 : decode cX1_get 190 = .ok (.iload_n 2, 1) := dk_28 (dk_at dksX1_get_8 8 rfl rfl)
theorem dX1_get_191 : decode cX1_get 191 = .ok (.aaload, 1) := dk_50 (dk_at dksX1_get_8 9 rfl rfl)
theorem dX1_get_192 : decode cX1_get 192 = .ok (.invokestatic 236, 3) := dk_184 0 236 (dk_at dksX1_get_8 10 rfl rfl)
theorem dX1_get_195 : decode cX1_get 195 = .ok (.ireturn, 1) := dk_172 (dk_at dksX1_get_8 13 rfl rfl)
theorem dX1_get_196 : decode cX1_get 196 = .ok (.aload_n 0, 1) := dk_42 (dk_at dksX1_get_8 14 rfl rfl)
theorem dX1_get_197 : decode cX1_get 197 = .ok (.getfield 17, 3) := dk_180 0 17 (dk_at dksX1_get_8 15 rfl rfl)
theorem dX1_get_200 : decode cX1_get 200 = .ok (.iload_n 2, 1) := dk_28 (dk_at dksX1_get_8 18 rfl rfl)
theorem dX1_get_201 : decode cX1_get 201 = .ok (.aaload, 1) := dk_50 (dk_at dksX1_get_8 19 rfl rfl)
theorem dX1_get_202 : decode cX1_get 202 = .ok (.iload 6, 2) := dk_21 6 (dk_at dksX1_get_8 20 rfl rfl)
theorem dX1_get_204 : decode cX1_get 204 = .ok (.invokevirtual 239, 3) := dk_182 0 239 (dk_at dksX1_get_9 0 rfl rfl)
theorem dX1_get_207 : decode cX1_get 207 = .ok (.getfield 243, 3) := dk_180 0 243 (dk_at dksX1_get_9 3 rfl rfl)
theorem dX1_get_210 : decode cX1_get 210 = .ok (.istore 10, 2) := dk_54 10 (dk_at dksX1_get_9 6 rfl rfl)
theorem dX1_get_212 : decode cX1_get 212 = .ok (.aload_n 3, 1) := dk_45 (dk_at dksX1_get_9 8 rfl rfl)
theorem dX1_get_213 : decode cX1_get 213 = .ok (.iload 10, 2) := dk_21 10 (dk_at dksX1_get_9 9 rfl rfl)
theorem dX1_get_215 : decode cX1_get 215 = .ok (.invokevirtual 248, 3) := dk_182 0 248 (dk_at dksX1_get_9 11 rfl rfl)
theorem dX1_get_218 : decode cX1_get 218 = .ok (.ifCond .ne 12, 3) := dk_154 0 12 (dk_at dksX1_get_9 14 rfl rfl)
theorem dX1_get_221 : decode cX1_get 221 = .ok (.aload_n 3, 1) := dk_45 (dk_at dksX1_get_9 17 rfl rfl)
theorem dX1_get_222 : decode cX1_get 222 = .ok (.iload 10, 2) := dk_21 10 (dk_at dksX1_get_9 18 rfl rfl)
theorem dX1_get_224 : decode cX1_get 224 = .ok (.invokevirtual 252, 3) := dk_182 0 252 (dk_at dksX1_get_9 20 rfl rfl)
theorem dX1_get_227 : decode cX1_get 227 = .ok (.bipush (-12), 2) := dk_16 244 (dk_at dksX1_get_10 0 rfl rfl)
theorem dX1_get_229 : decode cX1_get 229 = .ok (.ireturn, 1) := dk_172 (dk_at dksX1_get_10 2 rfl rfl)
theorem dX1_get_230 : decode cX1_get 230 = .ok (.aload_n 3, 1) := dk_45 (dk_at dksX1_get_10 3 rfl rfl)
theorem dX1_get_231 : decode cX1_get 231 = .ok (.iload 10, 2) := dk_21 10 (dk_at dksX1_get_10 4 rfl rfl)
theorem dX1_get_233 : decode cX1_get 233 = .ok (.putfield 218, 3) := dk_181 0 218 (dk_at dksX1_get_10 6 rfl rfl)
theorem dX1_get_236 : decode cX1_get 236 = .ok (.aload_n 3, 1) := dk_45 (dk_at dksX1_get_10 9 rfl rfl)
theorem dX1_get_237 : decode cX1_get 237 = .ok (.aload_n 3, 1) := dk_45 (dk_at dksX1_get_10 10 rfl rfl)
theorem dX1_get_238 : decode cX1_get 238 = .ok (.getfield 221, 3) := dk_180 0 221 (dk_at dksX1_get_10 11 rfl rfl)
theorem dX1_get_241 : decode cX1_get 241 = .ok (.iload 10, 2) := dk_21 10 (dk_at dksX1_get_10 14 rfl rfl)
theorem dX1_get_243 : decode cX1_get 243 = .ok (.invokestatic 107, 3) := dk_184 0 107 (dk_at dksX1_get_10 16 rfl rfl)
theorem dX1_get_246 : decode cX1_get 246 = .ok (.putfield 221, 3) := dk_181 0 221 (dk_at dksX1_get_10 19 rfl rfl)
theorem dX1_get_249 : decode cX1_get 249 = .ok (.goto (-160), 3) := dk_167 255 96 (dk_at dksX1_get_11 0 rfl rfl)
abbrev cX1_tradeAt : ByteArray := prog_1_method_6_code
def yX1_tradeAt : MethodName := ⟨RX1, "tradeAt", "(I)LTwinphase$Trade;"⟩
def dkwX1_tradeAt_1 : List UInt8 := [192, 0, 72, 176]
abbrev dktX1_tradeAt_1 : List UInt8 := dkwX1_tradeAt_1 ++ []
def dkwX1_tradeAt_0 : List UInt8 := [27, 42, 180, 0, 28, 185, 0, 64, 1, 0, 184, 0, 60, 42, 180, 0, 28, 27, 185, 0, 68, 2, 0]
abbrev dktX1_tradeAt_0 : List UInt8 := dkwX1_tradeAt_0 ++ dktX1_tradeAt_1
theorem dksX1_tradeAt_0 : cX1_tradeAt.data.toList.drop 0 = dktX1_tradeAt_0 := by decide +kernel
theorem dksX1_tradeAt_1 : cX1_tradeAt.data.toList.drop 23 = dktX1_tradeAt_1 := dk_seg dksX1_tradeAt_0 23 rfl rfl
theorem dX1_tradeAt_0 : decode cX1_tradeAt 0 = .ok (.iload_n 1, 1) := dk_27 (dk_at dksX1_tradeAt_0 0 rfl rfl)
theorem dX1_tradeAt_1 : decode cX1_tradeAt 1 = .ok (.aload_n 0, 1) := dk_42 (dk_at dksX1_tradeAt_0 1 rfl rfl)
theorem dX1_tradeAt_2 : decode cX1_tradeAt 2 = .ok (.getfield 28, 3) := dk_180 0 28 (dk_at dksX1_tradeAt_0 2 rfl rfl)
theorem dX1_tradeAt_5 : decode cX1_tradeAt 5 = .ok (.invokeinterface 64 1, 5) := by decide +kernel
theorem dX1_tradeAt_10 : decode cX1_tradeAt 10 = .ok (.invokestatic 60, 3) := dk_184 0 60 (dk_at dksX1_tradeAt_0 10 rfl rfl)
theorem dX1_tradeAt_13 : decode cX1_tradeAt 13 = .ok (.aload_n 0, 1) := dk_42 (dk_at dksX1_tradeAt_0 13 rfl rfl)
theorem dX1_tradeAt_14 : decode cX1_tradeAt 14 = .ok (.getfield 28, 3) := dk_180 0 28 (dk_at dksX1_tradeAt_0 14 rfl rfl)
theorem dX1_tradeAt_17 : decode cX1_tradeAt 17 = .ok (.iload_n 1, 1) := dk_27 (dk_at dksX1_tradeAt_0 17 rfl rfl)
theorem dX1_tradeAt_18 : decode cX1_tradeAt 18 = .ok (.invokeinterface 68 2, 5) := by decide +kernel
theorem dX1_tradeAt_23 : decode cX1_tradeAt 23 = .ok (.checkcast 72, 3) := dk_192 0 72 (dk_at dksX1_tradeAt_1 0 rfl rfl)
theorem dX1_tradeAt_26 : decode cX1_tradeAt 26 = .ok (.areturn, 1) := dk_176 (dk_at dksX1_tradeAt_1 3 rfl rfl)
abbrev cX1_answersFirst : ByteArray := prog_1_method_26_code
def yX1_answersFirst : MethodName := ⟨RX1, "answersFirst", "(LTwinphase$Trade;LTwinphase$Node;)I"⟩
def dkwX1_answersFirst_1 : List UInt8 := [153, 0, 8, 16, 242, 167, 0, 4, 3, 172]
abbrev dktX1_answersFirst_1 : List UInt8 := dkwX1_answersFirst_1 ++ []
def dkwX1_answersFirst_0 : List UInt8 := [43, 180, 0, 156, 153, 0, 8, 16, 243, 167, 0, 23, 43, 182, 0, 184, 154, 0, 10, 44, 180, 0, 100]
abbrev dktX1_answersFirst_0 : List UInt8 := dkwX1_answersFirst_0 ++ dktX1_answersFirst_1
theorem dksX1_answersFirst_0 : cX1_answersFirst.data.toList.drop 0 = dktX1_answersFirst_0 := by decide +kernel
theorem dksX1_answersFirst_1 : cX1_answersFirst.data.toList.drop 23 = dktX1_answersFirst_1 := dk_seg dksX1_answersFirst_0 23 rfl rfl
theorem dX1_answersFirst_0 : decode cX1_answersFirst 0 = .ok (.aload_n 1, 1) := dk_43 (dk_at dksX1_answersFirst_0 0 rfl rfl)
theorem dX1_answersFirst_1 : decode cX1_answersFirst 1 = .ok (.getfield 156, 3) := dk_180 0 156 (dk_at dksX1_answersFirst_0 1 rfl rfl)
theorem dX1_answersFirst_4 : decode cX1_answersFirst 4 = .ok (.ifCond .eq 8, 3) := dk_153 0 8 (dk_at dksX1_answersFirst_0 4 rfl rfl)
theorem dX1_answersFirst_7 : decode cX1_answersFirst 7 = .ok (.bipush (-13), 2) := dk_16 243 (dk_at dksX1_answersFirst_0 7 rfl rfl)
theorem dX1_answersFirst_9 : decode cX1_answersFirst 9 = .ok (.goto 23, 3) := dk_167 0 23 (dk_at dksX1_answersFirst_0 9 rfl rfl)
theorem dX1_answersFirst_12 : decode cX1_answersFirst 12 = .ok (.aload_n 1, 1) := dk_43 (dk_at dksX1_answersFirst_0 12 rfl rfl)
theorem dX1_answersFirst_13 : decode cX1_answersFirst 13 = .ok (.invokevirtual 184, 3) := dk_182 0 184 (dk_at dksX1_answersFirst_0 13 rfl rfl)
theorem dX1_answersFirst_16 : decode cX1_answersFirst 16 = .ok (.ifCond .ne 10, 3) := dk_154 0 10 (dk_at dksX1_answersFirst_0 16 rfl rfl)
theorem dX1_answersFirst_19 : decode cX1_answersFirst 19 = .ok (.aload_n 2, 1) := dk_44 (dk_at dksX1_answersFirst_0 19 rfl rfl)
theorem dX1_answersFirst_20 : decode cX1_answersFirst 20 = .ok (.getfield 100, 3) := dk_180 0 100 (dk_at dksX1_answersFirst_0 20 rfl rfl)
theorem dX1_answersFirst_23 : decode cX1_answersFirst 23 = .ok (.ifCond .eq 8, 3) := dk_153 0 8 (dk_at dksX1_answersFirst_1 0 rfl rfl)
theorem dX1_answersFirst_26 : decode cX1_answersFirst 26 = .ok (.bipush (-14), 2) := dk_16 242 (dk_at dksX1_answersFirst_1 3 rfl rfl)
theorem dX1_answersFirst_28 : decode cX1_answersFirst 28 = .ok (.goto 4, 3) := dk_167 0 4 (dk_at dksX1_answersFirst_1 5 rfl rfl)
theorem dX1_answersFirst_31 : decode cX1_answersFirst 31 = .ok (.iconst 0, 1) := dk_3 (dk_at dksX1_answersFirst_1 8 rfl rfl)
theorem dX1_answersFirst_32 : decode cX1_answersFirst 32 = .ok (.ireturn, 1) := dk_172 (dk_at dksX1_answersFirst_1 9 rfl rfl)
abbrev cX1_inTheWay : ByteArray := prog_1_method_24_code
def yX1_inTheWay : MethodName := ⟨RX1, "inTheWay", "(LTwinphase$Key;LTwinphase$Trade;)LTwinphase$Trade;"⟩
def dkwX1_inTheWay_3 : List UInt8 := [45, 167, 0, 4, 1, 176]
abbrev dktX1_inTheWay_3 : List UInt8 := dkwX1_inTheWay_3 ++ []
def dkwX1_inTheWay_2 : List UInt8 := [6, 182, 0, 163, 45, 180, 0, 156, 6, 160, 0, 8, 43, 1, 181, 0, 127, 45, 180, 0, 156, 154, 0, 7]
abbrev dktX1_inTheWay_2 : List UInt8 := dkwX1_inTheWay_2 ++ dktX1_inTheWay_3
def dkwX1_inTheWay_1 : List UInt8 := [180, 0, 166, 78, 42, 45, 182, 0, 170, 45, 180, 0, 156, 154, 0, 15, 45, 182, 0, 174, 153, 0, 8, 45]
abbrev dktX1_inTheWay_1 : List UInt8 := dkwX1_inTheWay_1 ++ dktX1_inTheWay_2
def dkwX1_inTheWay_0 : List UInt8 := [43, 180, 0, 127, 198, 0, 14, 43, 180, 0, 127, 180, 0, 166, 44, 166, 0, 5, 1, 176, 43, 180, 0, 127]
abbrev dktX1_inTheWay_0 : List UInt8 := dkwX1_inTheWay_0 ++ dktX1_inTheWay_1
theorem dksX1_inTheWay_0 : cX1_inTheWay.data.toList.drop 0 = dktX1_inTheWay_0 := by decide +kernel
theorem dksX1_inTheWay_1 : cX1_inTheWay.data.toList.drop 24 = dktX1_inTheWay_1 := dk_seg dksX1_inTheWay_0 24 rfl rfl
theorem dksX1_inTheWay_2 : cX1_inTheWay.data.toList.drop 48 = dktX1_inTheWay_2 := dk_seg dksX1_inTheWay_1 24 rfl rfl
theorem dksX1_inTheWay_3 : cX1_inTheWay.data.toList.drop 72 = dktX1_inTheWay_3 := dk_seg dksX1_inTheWay_2 24 rfl rfl
theorem dX1_inTheWay_0 : decode cX1_inTheWay 0 = .ok (.aload_n 1, 1) := dk_43 (dk_at dksX1_inTheWay_0 0 rfl rfl)
theorem dX1_inTheWay_1 : decode cX1_inTheWay 1 = .ok (.getfield 127, 3) := dk_180 0 127 (dk_at dksX1_inTheWay_0 1 rfl rfl)
theorem dX1_inTheWay_4 : decode cX1_inTheWay 4 = .ok (.ifnull 14, 3) := dk_198 0 14 (dk_at dksX1_inTheWay_0 4 rfl rfl)
theorem dX1_inTheWay_7 : decode cX1_inTheWay 7 = .ok (.aload_n 1, 1) := dk_43 (dk_at dksX1_inTheWay_0 7 rfl rfl)
theorem dX1_inTheWay_8 : decode cX1_inTheWay 8 = .ok (.getfield 127, 3) := dk_180 0 127 (dk_at dksX1_inTheWay_0 8 rfl rfl)
theorem dX1_inTheWay_11 : decode cX1_inTheWay 11 = .ok (.getfield 166, 3) := dk_180 0 166 (dk_at dksX1_inTheWay_0 11 rfl rfl)
theorem dX1_inTheWay_14 : decode cX1_inTheWay 14 = .ok (.aload_n 2, 1) := dk_44 (dk_at dksX1_inTheWay_0 14 rfl rfl)
theorem dX1_inTheWay_15 : decode cX1_inTheWay 15 = .ok (.if_acmp .ne 5, 3) := dk_166 0 5 (dk_at dksX1_inTheWay_0 15 rfl rfl)
theorem dX1_inTheWay_18 : decode cX1_inTheWay 18 = .ok (.aconst_null, 1) := dk_1 (dk_at dksX1_inTheWay_0 18 rfl rfl)
theorem dX1_inTheWay_19 : decode cX1_inTheWay 19 = .ok (.areturn, 1) := dk_176 (dk_at dksX1_inTheWay_0 19 rfl rfl)
theorem dX1_inTheWay_20 : decode cX1_inTheWay 20 = .ok (.aload_n 1, 1) := dk_43 (dk_at dksX1_inTheWay_0 20 rfl rfl)
theorem dX1_inTheWay_21 : decode cX1_inTheWay 21 = .ok (.getfield 127, 3) := dk_180 0 127 (dk_at dksX1_inTheWay_0 21 rfl rfl)
theorem dX1_inTheWay_24 : decode cX1_inTheWay 24 = .ok (.getfield 166, 3) := dk_180 0 166 (dk_at dksX1_inTheWay_1 0 rfl rfl)
theorem dX1_inTheWay_27 : decode cX1_inTheWay 27 = .ok (.astore_n 3, 1) := dk_78 (dk_at dksX1_inTheWay_1 3 rfl rfl)
theorem dX1_inTheWay_28 : decode cX1_inTheWay 28 = .ok (.aload_n 0, 1) := dk_42 (dk_at dksX1_inTheWay_1 4 rfl rfl)
theorem dX1_inTheWay_29 : decode cX1_inTheWay 29 = .ok (.aload_n 3, 1) := dk_45 (dk_at dksX1_inTheWay_1 5 rfl rfl)
theorem dX1_inTheWay_30 : decode cX1_inTheWay 30 = .ok (.invokevirtual 170, 3) := dk_182 0 170 (dk_at dksX1_inTheWay_1 6 rfl rfl)
theorem dX1_inTheWay_33 : decode cX1_inTheWay 33 = .ok (.aload_n 3, 1) := dk_45 (dk_at dksX1_inTheWay_1 9 rfl rfl)
theorem dX1_inTheWay_34 : decode cX1_inTheWay 34 = .ok (.getfield 156, 3) := dk_180 0 156 (dk_at dksX1_inTheWay_1 10 rfl rfl)
theorem dX1_inTheWay_37 : decode cX1_inTheWay 37 = .ok (.ifCond .ne 15, 3) := dk_154 0 15 (dk_at dksX1_inTheWay_1 13 rfl rfl)
theorem dX1_inTheWay_40 : decode cX1_inTheWay 40 = .ok (.aload_n 3, 1) := dk_45 (dk_at dksX1_inTheWay_1 16 rfl rfl)
theorem dX1_inTheWay_41 : decode cX1_inTheWay 41 = .ok (.invokevirtual 174, 3) := dk_182 0 174 (dk_at dksX1_inTheWay_1 17 rfl rfl)
theorem dX1_inTheWay_44 : decode cX1_inTheWay 44 = .ok (.ifCond .eq 8, 3) := dk_153 0 8 (dk_at dksX1_inTheWay_1 20 rfl rfl)
theorem dX1_inTheWay_47 : decode cX1_inTheWay 47 = .ok (.aload_n 3, 1) := dk_45 (dk_at dksX1_inTheWay_1 23 rfl rfl)
theorem dX1_inTheWay_48 : decode cX1_inTheWay 48 = .ok (.iconst 3, 1) := dk_6 (dk_at dksX1_inTheWay_2 0 rfl rfl)
theorem dX1_inTheWay_49 : decode cX1_inTheWay 49 = .ok (.invokevirtual 163, 3) := dk_182 0 163 (dk_at dksX1_inTheWay_2 1 rfl rfl)
theorem dX1_inTheWay_52 : decode cX1_inTheWay 52 = .ok (.aload_n 3, 1) := dk_45 (dk_at dksX1_inTheWay_2 4 rfl rfl)
theorem dX1_inTheWay_53 : decode cX1_inTheWay 53 = .ok (.getfield 156, 3) := dk_180 0 156 (dk_at dksX1_inTheWay_2 5 rfl rfl)
theorem dX1_inTheWay_56 : decode cX1_inTheWay 56 = .ok (.iconst 3, 1) := dk_6 (dk_at dksX1_inTheWay_2 8 rfl rfl)
theorem dX1_inTheWay_57 : decode cX1_inTheWay 57 = .ok (.if_icmp .ne 8, 3) := dk_160 0 8 (dk_at dksX1_inTheWay_2 9 rfl rfl)
theorem dX1_inTheWay_60 : decode cX1_inTheWay 60 = .ok (.aload_n 1, 1) := dk_43 (dk_at dksX1_inTheWay_2 12 rfl rfl)
theorem dX1_inTheWay_61 : decode cX1_inTheWay 61 = .ok (.aconst_null, 1) := dk_1 (dk_at dksX1_inTheWay_2 13 rfl rfl)
theorem dX1_inTheWay_62 : decode cX1_inTheWay 62 = .ok (.putfield 127, 3) := dk_181 0 127 (dk_at dksX1_inTheWay_2 14 rfl rfl)
theorem dX1_inTheWay_65 : decode cX1_inTheWay 65 = .ok (.aload_n 3, 1) := dk_45 (dk_at dksX1_inTheWay_2 17 rfl rfl)
theorem dX1_inTheWay_66 : decode cX1_inTheWay 66 = .ok (.getfield 156, 3) := dk_180 0 156 (dk_at dksX1_inTheWay_2 18 rfl rfl)
theorem dX1_inTheWay_69 : decode cX1_inTheWay 69 = .ok (.ifCond .ne 7, 3) := dk_154 0 7 (dk_at dksX1_inTheWay_2 21 rfl rfl)
theorem dX1_inTheWay_72 : decode cX1_inTheWay 72 = .ok (.aload_n 3, 1) := dk_45 (dk_at dksX1_inTheWay_3 0 rfl rfl)
theorem dX1_inTheWay_73 : decode cX1_inTheWay 73 = .ok (.goto 4, 3) := dk_167 0 4 (dk_at dksX1_inTheWay_3 1 rfl rfl)
theorem dX1_inTheWay_76 : decode cX1_inTheWay 76 = .ok (.aconst_null, 1) := dk_1 (dk_at dksX1_inTheWay_3 4 rfl rfl)
theorem dX1_inTheWay_77 : decode cX1_inTheWay 77 = .ok (.areturn, 1) := dk_176 (dk_at dksX1_inTheWay_3 5 rfl rfl)
abbrev cX1_recovers : ByteArray := prog_1_method_23_code
def yX1_recovers : MethodName := ⟨RX1, "recovers", "(LTwinphase$Trade;)V"⟩
def dkwX1_recovers_1 : List UInt8 := [177]
abbrev dktX1_recovers_1 : List UInt8 := dkwX1_recovers_1 ++ []
def dkwX1_recovers_0 : List UInt8 := [43, 180, 0, 156, 4, 160, 0, 19, 43, 43, 182, 0, 159, 153, 0, 7, 5, 167, 0, 4, 6, 182, 0, 163]
abbrev dktX1_recovers_0 : List UInt8 := dkwX1_recovers_0 ++ dktX1_recovers_1
theorem dksX1_recovers_0 : cX1_recovers.data.toList.drop 0 = dktX1_recovers_0 := by decide +kernel
theorem dksX1_recovers_1 : cX1_recovers.data.toList.drop 24 = dktX1_recovers_1 := dk_seg dksX1_recovers_0 24 rfl rfl
theorem dX1_recovers_0 : decode cX1_recovers 0 = .ok (.aload_n 1, 1) := dk_43 (dk_at dksX1_recovers_0 0 rfl rfl)
theorem dX1_recovers_1 : decode cX1_recovers 1 = .ok (.getfield 156, 3) := dk_180 0 156 (dk_at dksX1_recovers_0 1 rfl rfl)
theorem dX1_recovers_4 : decode cX1_recovers 4 = .ok (.iconst 1, 1) := dk_4 (dk_at dksX1_recovers_0 4 rfl rfl)
theorem dX1_recovers_5 : decode cX1_recovers 5 = .ok (.if_icmp .ne 19, 3) := dk_160 0 19 (dk_at dksX1_recovers_0 5 rfl rfl)
theorem dX1_recovers_8 : decode cX1_recovers 8 = .ok (.aload_n 1, 1) := dk_43 (dk_at dksX1_recovers_0 8 rfl rfl)
theorem dX1_recovers_9 : decode cX1_recovers 9 = .ok (.aload_n 1, 1) := dk_43 (dk_at dksX1_recovers_0 9 rfl rfl)
theorem dX1_recovers_10 : decode cX1_recovers 10 = .ok (.invokevirtual 159, 3) := dk_182 0 159 (dk_at dksX1_recovers_0 10 rfl rfl)
theorem dX1_recovers_13 : decode cX1_recovers 13 = .ok (.ifCond .eq 7, 3) := dk_153 0 7 (dk_at dksX1_recovers_0 13 rfl rfl)
theorem dX1_recovers_16 : decode cX1_recovers 16 = .ok (.iconst 2, 1) := dk_5 (dk_at dksX1_recovers_0 16 rfl rfl)
theorem dX1_recovers_17 : decode cX1_recovers 17 = .ok (.goto 4, 3) := dk_167 0 4 (dk_at dksX1_recovers_0 17 rfl rfl)
theorem dX1_recovers_20 : decode cX1_recovers 20 = .ok (.iconst 3, 1) := dk_6 (dk_at dksX1_recovers_0 20 rfl rfl)
theorem dX1_recovers_21 : decode cX1_recovers 21 = .ok (.invokevirtual 163, 3) := dk_182 0 163 (dk_at dksX1_recovers_0 21 rfl rfl)
theorem dX1_recovers_24 : decode cX1_recovers 24 = .ok (.return_, 1) := dk_177 (dk_at dksX1_recovers_1 0 rfl rfl)
abbrev cX1_goesOnFrom : ByteArray := prog_1_method_25_code
def yX1_goesOnFrom : MethodName := ⟨RX1, "goesOnFrom", "(LTwinphase$Trade;LTwinphase$Trade;)Z"⟩
def dkwX1_goesOnFrom_5 : List UInt8 := [167, 0, 4, 3, 172]
abbrev dktX1_goesOnFrom_5 : List UInt8 := dkwX1_goesOnFrom_5 ++ []
def dkwX1_goesOnFrom_4 : List UInt8 := [25, 4, 43, 165, 0, 5, 3, 172, 45, 6, 182, 0, 163, 43, 1, 181, 0, 177, 45, 43, 165, 0, 7, 4]
abbrev dktX1_goesOnFrom_4 : List UInt8 := dkwX1_goesOnFrom_4 ++ dktX1_goesOnFrom_5
def dkwX1_goesOnFrom_3 : List UInt8 := [54, 5, 21, 5, 153, 0, 8, 25, 4, 167, 0, 4, 45, 78, 25, 4, 180, 0, 177, 58, 4, 167, 255, 175]
abbrev dktX1_goesOnFrom_3 : List UInt8 := dkwX1_goesOnFrom_3 ++ dktX1_goesOnFrom_4
def dkwX1_goesOnFrom_2 : List UInt8 := [180, 0, 180, 160, 0, 19, 25, 4, 180, 0, 183, 45, 180, 0, 183, 164, 0, 7, 4, 167, 0, 4, 3]
abbrev dktX1_goesOnFrom_2 : List UInt8 := dkwX1_goesOnFrom_2 ++ dktX1_goesOnFrom_3
def dkwX1_goesOnFrom_1 : List UInt8 := [180, 0, 156, 154, 0, 68, 25, 4, 180, 0, 180, 45, 180, 0, 180, 161, 0, 27, 25, 4, 180, 0, 180, 45]
abbrev dktX1_goesOnFrom_1 : List UInt8 := dkwX1_goesOnFrom_1 ++ dktX1_goesOnFrom_2
def dkwX1_goesOnFrom_0 : List UInt8 := [43, 44, 181, 0, 177, 43, 78, 44, 58, 4, 25, 4, 198, 0, 82, 25, 4, 43, 165, 0, 76, 25, 4]
abbrev dktX1_goesOnFrom_0 : List UInt8 := dkwX1_goesOnFrom_0 ++ dktX1_goesOnFrom_1
theorem dksX1_goesOnFrom_0 : cX1_goesOnFrom.data.toList.drop 0 = dktX1_goesOnFrom_0 := by decide +kernel
theorem dksX1_goesOnFrom_1 : cX1_goesOnFrom.data.toList.drop 23 = dktX1_goesOnFrom_1 := dk_seg dksX1_goesOnFrom_0 23 rfl rfl
theorem dksX1_goesOnFrom_2 : cX1_goesOnFrom.data.toList.drop 47 = dktX1_goesOnFrom_2 := dk_seg dksX1_goesOnFrom_1 24 rfl rfl
theorem dksX1_goesOnFrom_3 : cX1_goesOnFrom.data.toList.drop 70 = dktX1_goesOnFrom_3 := dk_seg dksX1_goesOnFrom_2 23 rfl rfl
theorem dksX1_goesOnFrom_4 : cX1_goesOnFrom.data.toList.drop 94 = dktX1_goesOnFrom_4 := dk_seg dksX1_goesOnFrom_3 24 rfl rfl
theorem dksX1_goesOnFrom_5 : cX1_goesOnFrom.data.toList.drop 118 = dktX1_goesOnFrom_5 := dk_seg dksX1_goesOnFrom_4 24 rfl rfl
theorem dX1_goesOnFrom_0 : decode cX1_goesOnFrom 0 = .ok (.aload_n 1, 1) := dk_43 (dk_at dksX1_goesOnFrom_0 0 rfl rfl)
theorem dX1_goesOnFrom_1 : decode cX1_goesOnFrom 1 = .ok (.aload_n 2, 1) := dk_44 (dk_at dksX1_goesOnFrom_0 1 rfl rfl)
theorem dX1_goesOnFrom_2 : decode cX1_goesOnFrom 2 = .ok (.putfield 177, 3) := dk_181 0 177 (dk_at dksX1_goesOnFrom_0 2 rfl rfl)
theorem dX1_goesOnFrom_5 : decode cX1_goesOnFrom 5 = .ok (.aload_n 1, 1) := dk_43 (dk_at dksX1_goesOnFrom_0 5 rfl rfl)
theorem dX1_goesOnFrom_6 : decode cX1_goesOnFrom 6 = .ok (.astore_n 3, 1) := dk_78 (dk_at dksX1_goesOnFrom_0 6 rfl rfl)
theorem dX1_goesOnFrom_7 : decode cX1_goesOnFrom 7 = .ok (.aload_n 2, 1) := dk_44 (dk_at dksX1_goesOnFrom_0 7 rfl rfl)
theorem dX1_goesOnFrom_8 : decode cX1_goesOnFrom 8 = .ok (.astore 4, 2) := dk_58 4 (dk_at dksX1_goesOnFrom_0 8 rfl rfl)
theorem dX1_goesOnFrom_10 : decode cX1_goesOnFrom 10 = .ok (.aload 4, 2) := dk_25 4 (dk_at dksX1_goesOnFrom_0 10 rfl rfl)
theorem dX1_goesOnFrom_12 : decode cX1_goesOnFrom 12 = .ok (.ifnull 82, 3) := dk_198 0 82 (dk_at dksX1_goesOnFrom_0 12 rfl rfl)
theorem dX1_goesOnFrom_15 : decode cX1_goesOnFrom 15 = .ok (.aload 4, 2) := dk_25 4 (dk_at dksX1_goesOnFrom_0 15 rfl rfl)
theorem dX1_goesOnFrom_17 : decode cX1_goesOnFrom 17 = .ok (.aload_n 1, 1) := dk_43 (dk_at dksX1_goesOnFrom_0 17 rfl rfl)
theorem dX1_goesOnFrom_18 : decode cX1_goesOnFrom 18 = .ok (.if_acmp .eq 76, 3) := dk_165 0 76 (dk_at dksX1_goesOnFrom_0 18 rfl rfl)
theorem dX1_goesOnFrom_21 : decode cX1_goesOnFrom 21 = .ok (.aload 4, 2) := dk_25 4 (dk_at dksX1_goesOnFrom_0 21 rfl rfl)
theorem dX1_goesOnFrom_23 : decode cX1_goesOnFrom 23 = .ok (.getfield 156, 3) := dk_180 0 156 (dk_at dksX1_goesOnFrom_1 0 rfl rfl)
theorem dX1_goesOnFrom_26 : decode cX1_goesOnFrom 26 = .ok (.ifCond .ne 68, 3) := dk_154 0 68 (dk_at dksX1_goesOnFrom_1 3 rfl rfl)
theorem dX1_goesOnFrom_29 : decode cX1_goesOnFrom 29 = .ok (.aload 4, 2) := dk_25 4 (dk_at dksX1_goesOnFrom_1 6 rfl rfl)
theorem dX1_goesOnFrom_31 : decode cX1_goesOnFrom 31 = .ok (.getfield 180, 3) := dk_180 0 180 (dk_at dksX1_goesOnFrom_1 8 rfl rfl)
theorem dX1_goesOnFrom_34 : decode cX1_goesOnFrom 34 = .ok (.aload_n 3, 1) := dk_45 (dk_at dksX1_goesOnFrom_1 11 rfl rfl)
theorem dX1_goesOnFrom_35 : decode cX1_goesOnFrom 35 = .ok (.getfield 180, 3) := dk_180 0 180 (dk_at dksX1_goesOnFrom_1 12 rfl rfl)
theorem dX1_goesOnFrom_38 : decode cX1_goesOnFrom 38 = .ok (.if_icmp .lt 27, 3) := dk_161 0 27 (dk_at dksX1_goesOnFrom_1 15 rfl rfl)
theorem dX1_goesOnFrom_41 : decode cX1_goesOnFrom 41 = .ok (.aload 4, 2) := dk_25 4 (dk_at dksX1_goesOnFrom_1 18 rfl rfl)
theorem dX1_goesOnFrom_43 : decode cX1_goesOnFrom 43 = .ok (.getfield 180, 3) := dk_180 0 180 (dk_at dksX1_goesOnFrom_1 20 rfl rfl)
theorem dX1_goesOnFrom_46 : decode cX1_goesOnFrom 46 = .ok (.aload_n 3, 1) := dk_45 (dk_at dksX1_goesOnFrom_1 23 rfl rfl)
theorem dX1_goesOnFrom_47 : decode cX1_goesOnFrom 47 = .ok (.getfield 180, 3) := dk_180 0 180 (dk_at dksX1_goesOnFrom_2 0 rfl rfl)
theorem dX1_goesOnFrom_50 : decode cX1_goesOnFrom 50 = .ok (.if_icmp .ne 19, 3) := dk_160 0 19 (dk_at dksX1_goesOnFrom_2 3 rfl rfl)
theorem dX1_goesOnFrom_53 : decode cX1_goesOnFrom 53 = .ok (.aload 4, 2) := dk_25 4 (dk_at dksX1_goesOnFrom_2 6 rfl rfl)
theorem dX1_goesOnFrom_55 : decode cX1_goesOnFrom 55 = .ok (.getfield 183, 3) := dk_180 0 183 (dk_at dksX1_goesOnFrom_2 8 rfl rfl)
theorem dX1_goesOnFrom_58 : decode cX1_goesOnFrom 58 = .ok (.aload_n 3, 1) := dk_45 (dk_at dksX1_goesOnFrom_2 11 rfl rfl)
theorem dX1_goesOnFrom_59 : decode cX1_goesOnFrom 59 = .ok (.getfield 183, 3) := dk_180 0 183 (dk_at dksX1_goesOnFrom_2 12 rfl rfl)
theorem dX1_goesOnFrom_62 : decode cX1_goesOnFrom 62 = .ok (.if_icmp .le 7, 3) := dk_164 0 7 (dk_at dksX1_goesOnFrom_2 15 rfl rfl)
theorem dX1_goesOnFrom_65 : decode cX1_goesOnFrom 65 = .ok (.iconst 1, 1) := dk_4 (dk_at dksX1_goesOnFrom_2 18 rfl rfl)
theorem dX1_goesOnFrom_66 : decode cX1_goesOnFrom 66 = .ok (.goto 4, 3) := dk_167 0 4 (dk_at dksX1_goesOnFrom_2 19 rfl rfl)
theorem dX1_goesOnFrom_69 : decode cX1_goesOnFrom 69 = .ok (.iconst 0, 1) := dk_3 (dk_at dksX1_goesOnFrom_2 22 rfl rfl)
theorem dX1_goesOnFrom_70 : decode cX1_goesOnFrom 70 = .ok (.istore 5, 2) := dk_54 5 (dk_at dksX1_goesOnFrom_3 0 rfl rfl)
theorem dX1_goesOnFrom_72 : decode cX1_goesOnFrom 72 = .ok (.iload 5, 2) := dk_21 5 (dk_at dksX1_goesOnFrom_3 2 rfl rfl)
theorem dX1_goesOnFrom_74 : decode cX1_goesOnFrom 74 = .ok (.ifCond .eq 8, 3) := dk_153 0 8 (dk_at dksX1_goesOnFrom_3 4 rfl rfl)
theorem dX1_goesOnFrom_77 : decode cX1_goesOnFrom 77 = .ok (.aload 4, 2) := dk_25 4 (dk_at dksX1_goesOnFrom_3 7 rfl rfl)
theorem dX1_goesOnFrom_79 : decode cX1_goesOnFrom 79 = .ok (.goto 4, 3) := dk_167 0 4 (dk_at dksX1_goesOnFrom_3 9 rfl rfl)
theorem dX1_goesOnFrom_82 : decode cX1_goesOnFrom 82 = .ok (.aload_n 3, 1) := dk_45 (dk_at dksX1_goesOnFrom_3 12 rfl rfl)
theorem dX1_goesOnFrom_83 : decode cX1_goesOnFrom 83 = .ok (.astore_n 3, 1) := dk_78 (dk_at dksX1_goesOnFrom_3 13 rfl rfl)
theorem dX1_goesOnFrom_84 : decode cX1_goesOnFrom 84 = .ok (.aload 4, 2) := dk_25 4 (dk_at dksX1_goesOnFrom_3 14 rfl rfl)
theorem dX1_goesOnFrom_86 : decode cX1_goesOnFrom 86 = .ok (.getfield 177, 3) := dk_180 0 177 (dk_at dksX1_goesOnFrom_3 16 rfl rfl)
theorem dX1_goesOnFrom_89 : decode cX1_goesOnFrom 89 = .ok (.astore 4, 2) := dk_58 4 (dk_at dksX1_goesOnFrom_3 19 rfl rfl)
theorem dX1_goesOnFrom_91 : decode cX1_goesOnFrom 91 = .ok (.goto (-81), 3) := dk_167 255 175 (dk_at dksX1_goesOnFrom_3 21 rfl rfl)
theorem dX1_goesOnFrom_94 : decode cX1_goesOnFrom 94 = .ok (.aload 4, 2) := dk_25 4 (dk_at dksX1_goesOnFrom_4 0 rfl rfl)
theorem dX1_goesOnFrom_96 : decode cX1_goesOnFrom 96 = .ok (.aload_n 1, 1) := dk_43 (dk_at dksX1_goesOnFrom_4 2 rfl rfl)
theorem dX1_goesOnFrom_97 : decode cX1_goesOnFrom 97 = .ok (.if_acmp .eq 5, 3) := dk_165 0 5 (dk_at dksX1_goesOnFrom_4 3 rfl rfl)
theorem dX1_goesOnFrom_100 : decode cX1_goesOnFrom 100 = .ok (.iconst 0, 1) := dk_3 (dk_at dksX1_goesOnFrom_4 6 rfl rfl)
theorem dX1_goesOnFrom_101 : decode cX1_goesOnFrom 101 = .ok (.ireturn, 1) := dk_172 (dk_at dksX1_goesOnFrom_4 7 rfl rfl)
theorem dX1_goesOnFrom_102 : decode cX1_goesOnFrom 102 = .ok (.aload_n 3, 1) := dk_45 (dk_at dksX1_goesOnFrom_4 8 rfl rfl)
theorem dX1_goesOnFrom_103 : decode cX1_goesOnFrom 103 = .ok (.iconst 3, 1) := dk_6 (dk_at dksX1_goesOnFrom_4 9 rfl rfl)
theorem dX1_goesOnFrom_104 : decode cX1_goesOnFrom 104 = .ok (.invokevirtual 163, 3) := dk_182 0 163 (dk_at dksX1_goesOnFrom_4 10 rfl rfl)
theorem dX1_goesOnFrom_107 : decode cX1_goesOnFrom 107 = .ok (.aload_n 1, 1) := dk_43 (dk_at dksX1_goesOnFrom_4 13 rfl rfl)
theorem dX1_goesOnFrom_108 : decode cX1_goesOnFrom 108 = .ok (.aconst_null, 1) := dk_1 (dk_at dksX1_goesOnFrom_4 14 rfl rfl)
theorem dX1_goesOnFrom_109 : decode cX1_goesOnFrom 109 = .ok (.putfield 177, 3) := dk_181 0 177 (dk_at dksX1_goesOnFrom_4 15 rfl rfl)
theorem dX1_goesOnFrom_112 : decode cX1_goesOnFrom 112 = .ok (.aload_n 3, 1) := dk_45 (dk_at dksX1_goesOnFrom_4 18 rfl rfl)
theorem dX1_goesOnFrom_113 : decode cX1_goesOnFrom 113 = .ok (.aload_n 1, 1) := dk_43 (dk_at dksX1_goesOnFrom_4 19 rfl rfl)
theorem dX1_goesOnFrom_114 : decode cX1_goesOnFrom 114 = .ok (.if_acmp .eq 7, 3) := dk_165 0 7 (dk_at dksX1_goesOnFrom_4 20 rfl rfl)
theorem dX1_goesOnFrom_117 : decode cX1_goesOnFrom 117 = .ok (.iconst 1, 1) := dk_4 (dk_at dksX1_goesOnFrom_4 23 rfl rfl)
theorem dX1_goesOnFrom_118 : decode cX1_goesOnFrom 118 = .ok (.goto 4, 3) := dk_167 0 4 (dk_at dksX1_goesOnFrom_5 0 rfl rfl)
theorem dX1_goesOnFrom_121 : decode cX1_goesOnFrom 121 = .ok (.iconst 0, 1) := dk_3 (dk_at dksX1_goesOnFrom_5 3 rfl rfl)
theorem dX1_goesOnFrom_122 : decode cX1_goesOnFrom 122 = .ok (.ireturn, 1) := dk_172 (dk_at dksX1_goesOnFrom_5 4 rfl rfl)
abbrev cX1_waitsOrEnded : ByteArray := prog_1_method_27_code
def yX1_waitsOrEnded : MethodName := ⟨RX1, "waitsOrEnded", "(LTwinphase$Trade;)I"⟩
def dkwX1_waitsOrEnded_0 : List UInt8 := [42, 180, 0, 156, 154, 0, 8, 16, 245, 167, 0, 5, 16, 243, 172]
abbrev dktX1_waitsOrEnded_0 : List UInt8 := dkwX1_waitsOrEnded_0 ++ []
theorem dksX1_waitsOrEnded_0 : cX1_waitsOrEnded.data.toList.drop 0 = dktX1_waitsOrEnded_0 := by decide +kernel
theorem dX1_waitsOrEnded_0 : decode cX1_waitsOrEnded 0 = .ok (.aload_n 0, 1) := dk_42 (dk_at dksX1_waitsOrEnded_0 0 rfl rfl)
theorem dX1_waitsOrEnded_1 : decode cX1_waitsOrEnded 1 = .ok (.getfield 156, 3) := dk_180 0 156 (dk_at dksX1_waitsOrEnded_0 1 rfl rfl)
theorem dX1_waitsOrEnded_4 : decode cX1_waitsOrEnded 4 = .ok (.ifCond .ne 8, 3) := dk_154 0 8 (dk_at dksX1_waitsOrEnded_0 4 rfl rfl)
theorem dX1_waitsOrEnded_7 : decode cX1_waitsOrEnded 7 = .ok (.bipush (-11), 2) := dk_16 245 (dk_at dksX1_waitsOrEnded_0 7 rfl rfl)
theorem dX1_waitsOrEnded_9 : decode cX1_waitsOrEnded 9 = .ok (.goto 5, 3) := dk_167 0 5 (dk_at dksX1_waitsOrEnded_0 9 rfl rfl)
theorem dX1_waitsOrEnded_12 : decode cX1_waitsOrEnded 12 = .ok (.bipush (-13), 2) := dk_16 243 (dk_at dksX1_waitsOrEnded_0 12 rfl rfl)
theorem dX1_waitsOrEnded_14 : decode cX1_waitsOrEnded 14 = .ok (.ireturn, 1) := dk_172 (dk_at dksX1_waitsOrEnded_0 14 rfl rfl)
abbrev cX1_reads : ByteArray := prog_1_method_29_code
def yX1_reads : MethodName := ⟨RX1, "reads", "(LTwinphase$Trade;LTwinphase$Key;)I"⟩
def dkwX1_reads_2 : List UInt8 := [183, 0, 203, 29, 184, 1, 8, 185, 1, 12, 3, 0, 87, 29, 172]
abbrev dktX1_reads_2 : List UInt8 := dkwX1_reads_2 ++ []
def dkwX1_reads_1 : List UInt8 := [43, 42, 180, 0, 218, 42, 180, 0, 183, 182, 1, 2, 42, 180, 1, 5, 187, 0, 201, 89, 43, 180, 0, 116]
abbrev dktX1_reads_1 : List UInt8 := dkwX1_reads_1 ++ dktX1_reads_2
def dkwX1_reads_0 : List UInt8 := [43, 42, 180, 0, 218, 182, 0, 239, 77, 44, 199, 0, 9, 17, 3, 232, 167, 0, 7, 44, 180, 0, 255, 62]
abbrev dktX1_reads_0 : List UInt8 := dkwX1_reads_0 ++ dktX1_reads_1
theorem dksX1_reads_0 : cX1_reads.data.toList.drop 0 = dktX1_reads_0 := by decide +kernel
theorem dksX1_reads_1 : cX1_reads.data.toList.drop 24 = dktX1_reads_1 := dk_seg dksX1_reads_0 24 rfl rfl
theorem dksX1_reads_2 : cX1_reads.data.toList.drop 48 = dktX1_reads_2 := dk_seg dksX1_reads_1 24 rfl rfl
theorem dX1_reads_0 : decode cX1_reads 0 = .ok (.aload_n 1, 1) := dk_43 (dk_at dksX1_reads_0 0 rfl rfl)
theorem dX1_reads_1 : decode cX1_reads 1 = .ok (.aload_n 0, 1) := dk_42 (dk_at dksX1_reads_0 1 rfl rfl)
theorem dX1_reads_2 : decode cX1_reads 2 = .ok (.getfield 218, 3) := dk_180 0 218 (dk_at dksX1_reads_0 2 rfl rfl)
theorem dX1_reads_5 : decode cX1_reads 5 = .ok (.invokevirtual 239, 3) := dk_182 0 239 (dk_at dksX1_reads_0 5 rfl rfl)
theorem dX1_reads_8 : decode cX1_reads 8 = .ok (.astore_n 2, 1) := dk_77 (dk_at dksX1_reads_0 8 rfl rfl)
theorem dX1_reads_9 : decode cX1_reads 9 = .ok (.aload_n 2, 1) := dk_44 (dk_at dksX1_reads_0 9 rfl rfl)
theorem dX1_reads_10 : decode cX1_reads 10 = .ok (.ifnonnull 9, 3) := dk_199 0 9 (dk_at dksX1_reads_0 10 rfl rfl)
theorem dX1_reads_13 : decode cX1_reads 13 = .ok (.sipush 1000, 3) := dk_17 3 232 (dk_at dksX1_reads_0 13 rfl rfl)
theorem dX1_reads_16 : decode cX1_reads 16 = .ok (.goto 7, 3) := dk_167 0 7 (dk_at dksX1_reads_0 16 rfl rfl)
theorem dX1_reads_19 : decode cX1_reads 19 = .ok (.aload_n 2, 1) := dk_44 (dk_at dksX1_reads_0 19 rfl rfl)
theorem dX1_reads_20 : decode cX1_reads 20 = .ok (.getfield 255, 3) := dk_180 0 255 (dk_at dksX1_reads_0 20 rfl rfl)
theorem dX1_reads_23 : decode cX1_reads 23 = .ok (.istore_n 3, 1) := dk_62 (dk_at dksX1_reads_0 23 rfl rfl)
theorem dX1_reads_24 : decode cX1_reads 24 = .ok (.aload_n 1, 1) := dk_43 (dk_at dksX1_reads_1 0 rfl rfl)
theorem dX1_reads_25 : decode cX1_reads 25 = .ok (.aload_n 0, 1) := dk_42 (dk_at dksX1_reads_1 1 rfl rfl)
theorem dX1_reads_26 : decode cX1_reads 26 = .ok (.getfield 218, 3) := dk_180 0 218 (dk_at dksX1_reads_1 2 rfl rfl)
theorem dX1_reads_29 : decode cX1_reads 29 = .ok (.aload_n 0, 1) := dk_42 (dk_at dksX1_reads_1 5 rfl rfl)
theorem dX1_reads_30 : decode cX1_reads 30 = .ok (.getfield 183, 3) := dk_180 0 183 (dk_at dksX1_reads_1 6 rfl rfl)
theorem dX1_reads_33 : decode cX1_reads 33 = .ok (.invokevirtual 258, 3) := dk_182 1 2 (dk_at dksX1_reads_1 9 rfl rfl)
theorem dX1_reads_36 : decode cX1_reads 36 = .ok (.aload_n 0, 1) := dk_42 (dk_at dksX1_reads_1 12 rfl rfl)
theorem dX1_reads_37 : decode cX1_reads 37 = .ok (.getfield 261, 3) := dk_180 1 5 (dk_at dksX1_reads_1 13 rfl rfl)
theorem dX1_reads_40 : decode cX1_reads 40 = .ok (.new 201, 3) := dk_187 0 201 (dk_at dksX1_reads_1 16 rfl rfl)
theorem dX1_reads_43 : decode cX1_reads 43 = .ok (.dup, 1) := dk_89 (dk_at dksX1_reads_1 19 rfl rfl)
theorem dX1_reads_44 : decode cX1_reads 44 = .ok (.aload_n 1, 1) := dk_43 (dk_at dksX1_reads_1 20 rfl rfl)
theorem dX1_reads_45 : decode cX1_reads 45 = .ok (.getfield 116, 3) := dk_180 0 116 (dk_at dksX1_reads_1 21 rfl rfl)
theorem dX1_reads_48 : decode cX1_reads 48 = .ok (.invokespecial 203, 3) := dk_183 0 203 (dk_at dksX1_reads_2 0 rfl rfl)
theorem dX1_reads_51 : decode cX1_reads 51 = .ok (.iload_n 3, 1) := dk_29 (dk_at dksX1_reads_2 3 rfl rfl)
theorem dX1_reads_52 : decode cX1_reads 52 = .ok (.invokestatic 264, 3) := dk_184 1 8 (dk_at dksX1_reads_2 4 rfl rfl)
theorem dX1_reads_55 : decode cX1_reads 55 = .ok (.invokeinterface 268 3, 5) := by decide +kernel
theorem dX1_reads_60 : decode cX1_reads 60 = .ok (.pop, 1) := dk_87 (dk_at dksX1_reads_2 12 rfl rfl)
theorem dX1_reads_61 : decode cX1_reads 61 = .ok (.iload_n 3, 1) := dk_29 (dk_at dksX1_reads_2 13 rfl rfl)
theorem dX1_reads_62 : decode cX1_reads 62 = .ok (.ireturn, 1) := dk_172 (dk_at dksX1_reads_2 14 rfl rfl)
abbrev cX1_put : ByteArray := prog_1_method_30_code
def yX1_put : MethodName := ⟨RX1, "put", "(III)I"⟩
def dkwX1_put_10 : List UInt8 := [185, 1, 12, 3, 0, 87, 3, 172]
abbrev dktX1_put_10 : List UInt8 := dkwX1_put_10 ++ []
def dkwX1_put_9 : List UInt8 := [183, 1, 25, 181, 0, 127, 25, 4, 180, 0, 197, 187, 0, 201, 89, 28, 183, 0, 203, 29, 184, 1, 8]
abbrev dktX1_put_9 : List UInt8 := dkwX1_put_9 ++ dktX1_put_10
def dkwX1_put_8 : List UInt8 := [25, 7, 180, 1, 22, 4, 96, 184, 0, 107, 181, 0, 221, 25, 7, 187, 0, 132, 89, 25, 4, 29]
abbrev dktX1_put_8 : List UInt8 := dkwX1_put_8 ++ dktX1_put_9
def dkwX1_put_7 : List UInt8 := [25, 4, 25, 4, 180, 0, 221, 25, 7, 180, 1, 19, 25, 4, 180, 0, 183, 160, 0, 7, 3, 167, 0, 10]
abbrev dktX1_put_7 : List UInt8 := dkwX1_put_7 ++ dktX1_put_8
def dkwX1_put_6 : List UInt8 := [167, 255, 202, 25, 4, 25, 4, 180, 0, 221, 25, 7, 182, 1, 16, 4, 96, 184, 0, 107, 181, 0, 221]
abbrev dktX1_put_6 : List UInt8 := dkwX1_put_6 ++ dktX1_put_7
def dkwX1_put_5 : List UInt8 := [25, 8, 182, 0, 224, 154, 0, 9, 25, 4, 184, 0, 228, 172, 42, 25, 7, 25, 4, 182, 0, 214, 58, 8]
abbrev dktX1_put_5 : List UInt8 := dkwX1_put_5 ++ dktX1_put_6
def dkwX1_put_4 : List UInt8 := [180, 0, 180, 25, 8, 180, 0, 180, 164, 0, 12, 25, 8, 6, 182, 0, 163, 167, 0, 20, 42, 25, 4]
abbrev dktX1_put_4 : List UInt8 := dkwX1_put_4 ++ dktX1_put_5
def dkwX1_put_3 : List UInt8 := [180, 0, 17, 28, 50, 58, 7, 42, 25, 7, 25, 4, 182, 0, 214, 58, 8, 25, 8, 198, 0, 55, 25, 4]
abbrev dktX1_put_3 : List UInt8 := dkwX1_put_3 ++ dktX1_put_4
def dkwX1_put_2 : List UInt8 := [21, 6, 172, 25, 4, 1, 181, 0, 177, 25, 4, 42, 25, 5, 182, 0, 149, 182, 0, 194, 87, 42]
abbrev dktX1_put_2 : List UInt8 := dkwX1_put_2 ++ dktX1_put_3
def dkwX1_put_1 : List UInt8 := [182, 0, 119, 180, 0, 123, 58, 5, 42, 25, 4, 25, 5, 182, 0, 190, 54, 6, 21, 6, 153, 0, 6]
abbrev dktX1_put_1 : List UInt8 := dkwX1_put_1 ++ dktX1_put_2
def dkwX1_put_0 : List UInt8 := [42, 27, 182, 0, 186, 58, 4, 28, 16, 32, 184, 0, 60, 29, 3, 17, 3, 232, 184, 0, 82, 42, 28]
abbrev dktX1_put_0 : List UInt8 := dkwX1_put_0 ++ dktX1_put_1
theorem dksX1_put_0 : cX1_put.data.toList.drop 0 = dktX1_put_0 := by decide +kernel
theorem dksX1_put_1 : cX1_put.data.toList.drop 23 = dktX1_put_1 := dk_seg dksX1_put_0 23 rfl rfl
theorem dksX1_put_2 : cX1_put.data.toList.drop 46 = dktX1_put_2 := dk_seg dksX1_put_1 23 rfl rfl
theorem dksX1_put_3 : cX1_put.data.toList.drop 68 = dktX1_put_3 := dk_seg dksX1_put_2 22 rfl rfl
theorem dksX1_put_4 : cX1_put.data.toList.drop 92 = dktX1_put_4 := dk_seg dksX1_put_3 24 rfl rfl
theorem dksX1_put_5 : cX1_put.data.toList.drop 115 = dktX1_put_5 := dk_seg dksX1_put_4 23 rfl rfl
theorem dksX1_put_6 : cX1_put.data.toList.drop 139 = dktX1_put_6 := dk_seg dksX1_put_5 24 rfl rfl
theorem dksX1_put_7 : cX1_put.data.toList.drop 162 = dktX1_put_7 := dk_seg dksX1_put_6 23 rfl rfl
theorem dksX1_put_8 : cX1_put.data.toList.drop 186 = dktX1_put_8 := dk_seg dksX1_put_7 24 rfl rfl
theorem dksX1_put_9 : cX1_put.data.toList.drop 208 = dktX1_put_9 := dk_seg dksX1_put_8 22 rfl rfl
theorem dksX1_put_10 : cX1_put.data.toList.drop 231 = dktX1_put_10 := dk_seg dksX1_put_9 23 rfl rfl
theorem dX1_put_0 : decode cX1_put 0 = .ok (.aload_n 0, 1) := dk_42 (dk_at dksX1_put_0 0 rfl rfl)
theorem dX1_put_1 : decode cX1_put 1 = .ok (.iload_n 1, 1) := dk_27 (dk_at dksX1_put_0 1 rfl rfl)
theorem dX1_put_2 : decode cX1_put 2 = .ok (.invokevirtual 186, 3) := dk_182 0 186 (dk_at dksX1_put_0 2 rfl rfl)
theorem dX1_put_5 : decode cX1_put 5 = .ok (.astore 4, 2) := dk_58 4 (dk_at dksX1_put_0 5 rfl rfl)
theorem dX1_put_7 : decode cX1_put 7 = .ok (.iload_n 2, 1) := dk_28 (dk_at dksX1_put_0 7 rfl rfl)
theorem dX1_put_8 : decode cX1_put 8 = .ok (.bipush 32, 2) := dk_16 32 (dk_at dksX1_put_0 8 rfl rfl)
theorem dX1_put_10 : decode cX1_put 10 = .ok (.invokestatic 60, 3) := dk_184 0 60 (dk_at dksX1_put_0 10 rfl rfl)
theorem dX1_put_13 : decode cX1_put 13 = .ok (.iload_n 3, 1) := dk_29 (dk_at dksX1_put_0 13 rfl rfl)
theorem dX1_put_14 : decode cX1_put 14 = .ok (.iconst 0, 1) := dk_3 (dk_at dksX1_put_0 14 rfl rfl)
theorem dX1_put_15 : decode cX1_put 15 = .ok (.sipush 1000, 3) := dk_17 3 232 (dk_at dksX1_put_0 15 rfl rfl)
theorem dX1_put_18 : decode cX1_put 18 = .ok (.invokestatic 82, 3) := dk_184 0 82 (dk_at dksX1_put_0 18 rfl rfl)
theorem dX1_put_21 : decode cX1_put 21 = .ok (.aload_n 0, 1) := dk_42 (dk_at dksX1_put_0 21 rfl rfl)
theorem dX1_put_22 : decode cX1_put 22 = .ok (.iload_n 2, 1) := dk_28 (dk_at dksX1_put_0 22 rfl rfl)
theorem dX1_put_23 : decode cX1_put 23 = .ok (.invokevirtual 119, 3) := dk_182 0 119 (dk_at dksX1_put_1 0 rfl rfl)
theorem dX1_put_26 : decode cX1_put 26 = .ok (.getfield 123, 3) := dk_180 0 123 (dk_at dksX1_put_1 3 rfl rfl)
theorem dX1_put_29 : decode cX1_put 29 = .ok (.astore 5, 2) := dk_58 5 (dk_at dksX1_put_1 6 rfl rfl)
theorem dX1_put_31 : decode cX1_put 31 = .ok (.aload_n 0, 1) := dk_42 (dk_at dksX1_put_1 8 rfl rfl)
theorem dX1_put_32 : decode cX1_put 32 = .ok (.aload 4, 2) := dk_25 4 (dk_at dksX1_put_1 9 rfl rfl)
theorem dX1_put_34 : decode cX1_put 34 = .ok (.aload 5, 2) := dk_25 5 (dk_at dksX1_put_1 11 rfl rfl)
theorem dX1_put_36 : decode cX1_put 36 = .ok (.invokevirtual 190, 3) := dk_182 0 190 (dk_at dksX1_put_1 13 rfl rfl)
theorem dX1_put_39 : decode cX1_put 39 = .ok (.istore 6, 2) := dk_54 6 (dk_at dksX1_put_1 16 rfl rfl)
theorem dX1_put_41 : decode cX1_put 41 = .ok (.iload 6, 2) := dk_21 6 (dk_at dksX1_put_1 18 rfl rfl)
theorem dX1_put_43 : decode cX1_put 43 = .ok (.ifCond .eq 6, 3) := dk_153 0 6 (dk_at dksX1_put_1 20 rfl rfl)
theorem dX1_put_46 : decode cX1_put 46 = .ok (.iload 6, 2) := dk_21 6 (dk_at dksX1_put_2 0 rfl rfl)
theorem dX1_put_48 : decode cX1_put 48 = .ok (.ireturn, 1) := dk_172 (dk_at dksX1_put_2 2 rfl rfl)
theorem dX1_put_49 : decode cX1_put 49 = .ok (.aload 4, 2) := dk_25 4 (dk_at dksX1_put_2 3 rfl rfl)
theorem dX1_put_51 : decode cX1_put 51 = .ok (.aconst_null, 1) := dk_1 (dk_at dksX1_put_2 5 rfl rfl)
theorem dX1_put_52 : decode cX1_put 52 = .ok (.putfield 177, 3) := dk_181 0 177 (dk_at dksX1_put_2 6 rfl rfl)
theorem dX1_put_55 : decode cX1_put 55 = .ok (.aload 4, 2) := dk_25 4 (dk_at dksX1_put_2 9 rfl rfl)
theorem dX1_put_57 : decode cX1_put 57 = .ok (.aload_n 0, 1) := dk_42 (dk_at dksX1_put_2 11 rfl rfl)
theorem dX1_put_58 : decode cX1_put 58 = .ok (.aload 5, 2) := dk_25 5 (dk_at dksX1_put_2 12 rfl rfl)
theorem dX1_put_60 : decode cX1_put 60 = .ok (.invokevirtual 149, 3) := dk_182 0 149 (dk_at dksX1_put_2 14 rfl rfl)
theorem dX1_put_63 : decode cX1_put 63 = .ok (.invokevirtual 194, 3) := dk_182 0 194 (dk_at dksX1_put_2 17 rfl rfl)
theorem dX1_put_66 : decode cX1_put 66 = .ok (.pop, 1) := dk_87 (dk_at dksX1_put_2 20 rfl rfl)
theorem dX1_put_67 : decode cX1_put 67 = .ok (.aload_n 0, 1) := dk_42 (dk_at dksX1_put_2 21 rfl rfl)
theorem dX1_put_68 : decode cX1_put 68 = .ok (.getfield 17, 3) := dk_180 0 17 (dk_at dksX1_put_3 0 rfl rfl)
theorem dX1_put_71 : decode cX1_put 71 = .ok (.iload_n 2, 1) := dk_28 (dk_at dksX1_put_3 3 rfl rfl)
theorem dX1_put_72 : decode cX1_put 72 = .ok (.aaload, 1) := dk_50 (dk_at dksX1_put_3 4 rfl rfl)
theorem dX1_put_73 : decode cX1_put 73 = .ok (.astore 7, 2) := dk_58 7 (dk_at dksX1_put_3 5 rfl rfl)
theorem dX1_put_75 : decode cX1_put 75 = .ok (.aload_n 0, 1) := dk_42 (dk_at dksX1_put_3 7 rfl rfl)
theorem dX1_put_76 : decode cX1_put 76 = .ok (.aload 7, 2) := dk_25 7 (dk_at dksX1_put_3 8 rfl rfl)
theorem dX1_put_78 : decode cX1_put 78 = .ok (.aload 4, 2) := dk_25 4 (dk_at dksX1_put_3 10 rfl rfl)
theorem dX1_put_80 : decode cX1_put 80 = .ok (.invokevirtual 214, 3) := dk_182 0 214 (dk_at dksX1_put_3 12 rfl rfl)
theorem dX1_put_83 : decode cX1_put 83 = .ok (.astore 8, 2) := dk_58 8 (dk_at dksX1_put_3 15 rfl rfl)
theorem dX1_put_85 : decode cX1_put 85 = .ok (.aload 8, 2) := dk_25 8 (dk_at dksX1_put_3 17 rfl rfl)
theorem dX1_put_87 : decode cX1_put 87 = .ok (.ifnull 55, 3) := dk_198 0 55 (dk_at dksX1_put_3 19 rfl rfl)
theorem dX1_put_90 : decode cX1_put 90 = .ok (.aload 4, 2) := dk_25 4 (dk_at dksX1_put_3 22 rfl rfl)
theorem dX1_put_92 : decode cX1_put 92 = .ok (.getfield 180, 3) := dk_180 0 180 (dk_at dksX1_put_4 0 rfl rfl)
theorem dX1_put_95 : decode cX1_put 95 = .ok (.aload 8, 2) := dk_25 8 (dk_at dksX1_put_4 3 rfl rfl)
theorem dX1_put_97 : decode cX1_put 97 = .ok (.getfield 180, 3) := dk_180 0 180 (dk_at dksX1_put_4 5 rfl rfl)
theorem dX1_put_100 : decode cX1_put 100 = .ok (.if_icmp .le 12, 3) := dk_164 0 12 (dk_at dksX1_put_4 8 rfl rfl)
theorem dX1_put_103 : decode cX1_put 103 = .ok (.aload 8, 2) := dk_25 8 (dk_at dksX1_put_4 11 rfl rfl)
theorem dX1_put_105 : decode cX1_put 105 = .ok (.iconst 3, 1) := dk_6 (dk_at dksX1_put_4 13 rfl rfl)
theorem dX1_put_106 : decode cX1_put 106 = .ok (.invokevirtual 163, 3) := dk_182 0 163 (dk_at dksX1_put_4 14 rfl rfl)
theorem dX1_put_109 : decode cX1_put 109 = .ok (.goto 20, 3) := dk_167 0 20 (dk_at dksX1_put_4 17 rfl rfl)
theorem dX1_put_112 : decode cX1_put 112 = .ok (.aload_n 0, 1) := dk_42 (dk_at dksX1_put_4 20 rfl rfl)
theorem dX1_put_113 : decode cX1_put 113 = .ok (.aload 4, 2) := dk_25 4 (dk_at dksX1_put_4 21 rfl rfl)
theorem dX1_put_115 : decode cX1_put 115 = .ok (.aload 8, 2) := dk_25 8 (dk_at dksX1_put_5 0 rfl rfl)
theorem dX1_put_117 : decode cX1_put 117 = .ok (.invokevirtual 224, 3) := dk_182 0 224 (dk_at dksX1_put_5 2 rfl rfl)
theorem dX1_put_120 : decode cX1_put 120 = .ok (.ifCond .ne 9, 3) := dk_154 0 9 (dk_at dksX1_put_5 5 rfl rfl)
theorem dX1_put_123 : decode cX1_put 123 = .ok (.aload 4, 2) := dk_25 4 (dk_at dksX1_put_5 8 rfl rfl)
theorem dX1_put_125 : decode cX1_put 125 = .ok (.invokestatic 228, 3) := dk_184 0 228 (dk_at dksX1_put_5 10 rfl rfl)
theorem dX1_put_128 : decode cX1_put 128 = .ok (.ireturn, 1) := dk_172 (dk_at dksX1_put_5 13 rfl rfl)
theorem dX1_put_129 : decode cX1_put 129 = .ok (.aload_n 0, 1) := dk_42 (dk_at dksX1_put_5 14 rfl rfl)
theorem dX1_put_130 : decode cX1_put 130 = .ok (.aload 7, 2) := dk_25 7 (dk_at dksX1_put_5 15 rfl rfl)
theorem dX1_put_132 : decode cX1_put 132 = .ok (.aload 4, 2) := dk_25 4 (dk_at dksX1_put_5 17 rfl rfl)
theorem dX1_put_134 : decode cX1_put 134 = .ok (.invokevirtual 214, 3) := dk_182 0 214 (dk_at dksX1_put_5 19 rfl rfl)
theorem dX1_put_137 : decode cX1_put 137 = .ok (.astore 8, 2) := dk_58 8 (dk_at dksX1_put_5 22 rfl rfl)
theorem dX1_put_139 : decode cX1_put 139 = .ok (.goto (-54), 3) := dk_167 255 202 (dk_at dksX1_put_6 0 rfl rfl)
theorem dX1_put_142 : decode cX1_put 142 = .ok (.aload 4, 2) := dk_25 4 (dk_at dksX1_put_6 3 rfl rfl)
theorem dX1_put_144 : decode cX1_put 144 = .ok (.aload 4, 2) := dk_25 4 (dk_at dksX1_put_6 5 rfl rfl)
theorem dX1_put_146 : decode cX1_put 146 = .ok (.getfield 221, 3) := dk_180 0 221 (dk_at dksX1_put_6 7 rfl rfl)
theorem dX1_put_149 : decode cX1_put 149 = .ok (.aload 7, 2) := dk_25 7 (dk_at dksX1_put_6 10 rfl rfl)
theorem dX1_put_151 : decode cX1_put 151 = .ok (.invokevirtual 272, 3) := dk_182 1 16 (dk_at dksX1_put_6 12 rfl rfl)
theorem dX1_put_154 : decode cX1_put 154 = .ok (.iconst 1, 1) := dk_4 (dk_at dksX1_put_6 15 rfl rfl)
theorem dX1_put_155 : decode cX1_put 155 = .ok (.iadd, 1) := dk_96 (dk_at dksX1_put_6 16 rfl rfl)
theorem dX1_put_156 : decode cX1_put 156 = .ok (.invokestatic 107, 3) := dk_184 0 107 (dk_at dksX1_put_6 17 rfl rfl)
theorem dX1_put_159 : decode cX1_put 159 = .ok (.putfield 221, 3) := dk_181 0 221 (dk_at dksX1_put_6 20 rfl rfl)
theorem dX1_put_162 : decode cX1_put 162 = .ok (.aload 4, 2) := dk_25 4 (dk_at dksX1_put_7 0 rfl rfl)
theorem dX1_put_164 : decode cX1_put 164 = .ok (.aload 4, 2) := dk_25 4 (dk_at dksX1_put_7 2 rfl rfl)
theorem dX1_put_166 : decode cX1_put 166 = .ok (.getfield 221, 3) := dk_180 0 221 (dk_at dksX1_put_7 4 rfl rfl)
theorem dX1_put_169 : decode cX1_put 169 = .ok (.aload 7, 2) := dk_25 7 (dk_at dksX1_put_7 7 rfl rfl)
theorem dX1_put_171 : decode cX1_put 171 = .ok (.getfield 275, 3) := dk_180 1 19 (dk_at dksX1_put_7 9 rfl rfl)
theorem dX1_put_174 : decode cX1_put 174 = .ok (.aload 4, 2) := dk_25 4 (dk_at dksX1_put_7 12 rfl rfl)
theorem dX1_put_176 : decode cX1_put 176 = .ok (.getfield 183, 3) := dk_180 0 183 (dk_at dksX1_put_7 14 rfl rfl)
theorem dX1_put_179 : decode cX1_put 179 = .ok (.if_icmp .ne 7, 3) := dk_160 0 7 (dk_at dksX1_put_7 17 rfl rfl)
theorem dX1_put_182 : decode cX1_put 182 = .ok (.iconst 0, 1) := dk_3 (dk_at dksX1_put_7 20 rfl rfl)
theorem dX1_put_183 : decode cX1_put 183 = .ok (.goto 10, 3) := dk_167 0 10 (dk_at dksX1_put_7 21 rfl rfl)
theorem dX1_put_186 : decode cX1_put 186 = .ok (.aload 7, 2) := dk_25 7 (dk_at dksX1_put_8 0 rfl rfl)
theorem dX1_put_188 : decode cX1_put 188 = .ok (.getfield 278, 3) := dk_180 1 22 (dk_at dksX1_put_8 2 rfl rfl)
theorem dX1_put_191 : decode cX1_put 191 = .ok (.iconst 1, 1) := dk_4 (dk_at dksX1_put_8 5 rfl rfl)
theorem dX1_put_192 : decode cX1_put 192 = .ok (.iadd, 1) := dk_96 (dk_at dksX1_put_8 6 rfl rfl)
theorem dX1_put_193 : decode cX1_put 193 = .ok (.invokestatic 107, 3) := dk_184 0 107 (dk_at dksX1_put_8 7 rfl rfl)
theorem dX1_put_196 : decode cX1_put 196 = .ok (.putfield 221, 3) := dk_181 0 221 (dk_at dksX1_put_8 10 rfl rfl)
theorem dX1_put_199 : decode cX1_put 199 = .ok (.aload 7, 2) := dk_25 7 (dk_at dksX1_put_8 13 rfl rfl)
theorem dX1_put_201 : decode cX1_put 201 = .ok (.new 132, 3) := dk_187 0 132 (dk_at dksX1_put_8 15 rfl rfl)
theorem dX1_put_204 : decode cX1_put 204 = .ok (.dup, 1) := dk_89 (dk_at dksX1_put_8 18 rfl rfl)
theorem dX1_put_205 : decode cX1_put 205 = .ok (.aload 4, 2) := dk_25 4 (dk_at dksX1_put_8 19 rfl rfl)
theorem dX1_put_207 : decode cX1_put 207 = .ok (.iload_n 3, 1) := dk_29 (dk_at dksX1_put_8 21 rfl rfl)
theorem dX1_put_208 : decode cX1_put 208 = .ok (.invokespecial 281, 3) := dk_183 1 25 (dk_at dksX1_put_9 0 rfl rfl)
theorem dX1_put_211 : decode cX1_put 211 = .ok (.putfield 127, 3) := dk_181 0 127 (dk_at dksX1_put_9 3 rfl rfl)
theorem dX1_put_214 : decode cX1_put 214 = .ok (.aload 4, 2) := dk_25 4 (dk_at dksX1_put_9 6 rfl rfl)
theorem dX1_put_216 : decode cX1_put 216 = .ok (.getfield 197, 3) := dk_180 0 197 (dk_at dksX1_put_9 8 rfl rfl)
theorem dX1_put_219 : decode cX1_put 219 = .ok (.new 201, 3) := dk_187 0 201 (dk_at dksX1_put_9 11 rfl rfl)
theorem dX1_put_222 : decode cX1_put 222 = .ok (.dup, 1) := dk_89 (dk_at dksX1_put_9 14 rfl rfl)
theorem dX1_put_223 : decode cX1_put 223 = .ok (.iload_n 2, 1) := dk_28 (dk_at dksX1_put_9 15 rfl rfl)
theorem dX1_put_224 : decode cX1_put 224 = .ok (.invokespecial 203, 3) := dk_183 0 203 (dk_at dksX1_put_9 16 rfl rfl)
theorem dX1_put_227 : decode cX1_put 227 = .ok (.iload_n 3, 1) := dk_29 (dk_at dksX1_put_9 19 rfl rfl)
theorem dX1_put_228 : decode cX1_put 228 = .ok (.invokestatic 264, 3) := dk_184 1 8 (dk_at dksX1_put_9 20 rfl rfl)
theorem dX1_put_231 : decode cX1_put 231 = .ok (.invokeinterface 268 3, 5) := by decide +kernel
theorem dX1_put_236 : decode cX1_put 236 = .ok (.pop, 1) := dk_87 (dk_at dksX1_put_10 5 rfl rfl)
theorem dX1_put_237 : decode cX1_put 237 = .ok (.iconst 0, 1) := dk_3 (dk_at dksX1_put_10 6 rfl rfl)
theorem dX1_put_238 : decode cX1_put 238 = .ok (.ireturn, 1) := dk_172 (dk_at dksX1_put_10 7 rfl rfl)
abbrev cX1_commit : ByteArray := prog_1_method_32_code
def yX1_commit : MethodName := ⟨RX1, "commit", "(IZ)I"⟩
def dkwX1_commit_7 : List UInt8 := [167, 0, 8, 45, 5, 182, 0, 163, 3, 172]
abbrev dktX1_commit_7 : List UInt8 := dkwX1_commit_7 ++ []
def dkwX1_commit_6 : List UInt8 := [45, 6, 182, 0, 163, 16, 243, 172, 21, 4, 153, 0, 15, 28, 153, 0, 11, 45, 4, 181, 0, 156]
abbrev dktX1_commit_6 : List UInt8 := dkwX1_commit_6 ++ dktX1_commit_7
def dkwX1_commit_5 : List UInt8 := [180, 0, 221, 182, 0, 252, 16, 244, 172, 45, 45, 180, 0, 221, 181, 0, 218, 45, 182, 0, 159, 154, 0, 11]
abbrev dktX1_commit_5 : List UInt8 := dkwX1_commit_5 ++ dktX1_commit_6
def dkwX1_commit_4 : List UInt8 := [180, 0, 221, 45, 180, 0, 218, 164, 0, 25, 45, 45, 180, 0, 221, 182, 0, 248, 154, 0, 14, 45, 45]
abbrev dktX1_commit_4 : List UInt8 := dkwX1_commit_4 ++ dktX1_commit_5
def dkwX1_commit_3 : List UInt8 := [180, 0, 221, 42, 182, 0, 113, 4, 96, 184, 0, 107, 167, 0, 7, 45, 180, 0, 221, 181, 0, 221, 45]
abbrev dktX1_commit_3 : List UInt8 := dkwX1_commit_3 ++ dktX1_commit_4
def dkwX1_commit_2 : List UInt8 := [185, 1, 54, 1, 0, 154, 0, 7, 4, 167, 0, 4, 3, 54, 4, 45, 21, 4, 153, 0, 19, 45]
abbrev dktX1_commit_2 : List UInt8 := dkwX1_commit_2 ++ dktX1_commit_3
def dkwX1_commit_1 : List UInt8 := [180, 0, 156, 153, 0, 8, 16, 243, 167, 0, 5, 16, 242, 172, 45, 1, 181, 0, 177, 45, 180, 0, 197]
abbrev dktX1_commit_1 : List UInt8 := dkwX1_commit_1 ++ dktX1_commit_2
def dkwX1_commit_0 : List UInt8 := [42, 27, 182, 0, 186, 78, 45, 180, 0, 156, 154, 0, 11, 42, 45, 182, 1, 50, 153, 0, 18, 45]
abbrev dktX1_commit_0 : List UInt8 := dkwX1_commit_0 ++ dktX1_commit_1
theorem dksX1_commit_0 : cX1_commit.data.toList.drop 0 = dktX1_commit_0 := by decide +kernel
theorem dksX1_commit_1 : cX1_commit.data.toList.drop 22 = dktX1_commit_1 := dk_seg dksX1_commit_0 22 rfl rfl
theorem dksX1_commit_2 : cX1_commit.data.toList.drop 45 = dktX1_commit_2 := dk_seg dksX1_commit_1 23 rfl rfl
theorem dksX1_commit_3 : cX1_commit.data.toList.drop 67 = dktX1_commit_3 := dk_seg dksX1_commit_2 22 rfl rfl
theorem dksX1_commit_4 : cX1_commit.data.toList.drop 90 = dktX1_commit_4 := dk_seg dksX1_commit_3 23 rfl rfl
theorem dksX1_commit_5 : cX1_commit.data.toList.drop 113 = dktX1_commit_5 := dk_seg dksX1_commit_4 23 rfl rfl
theorem dksX1_commit_6 : cX1_commit.data.toList.drop 137 = dktX1_commit_6 := dk_seg dksX1_commit_5 24 rfl rfl
theorem dksX1_commit_7 : cX1_commit.data.toList.drop 159 = dktX1_commit_7 := dk_seg dksX1_commit_6 22 rfl rfl
theorem dX1_commit_0 : decode cX1_commit 0 = .ok (.aload_n 0, 1) := dk_42 (dk_at dksX1_commit_0 0 rfl rfl)
theorem dX1_commit_1 : decode cX1_commit 1 = .ok (.iload_n 1, 1) := dk_27 (dk_at dksX1_commit_0 1 rfl rfl)
theorem dX1_commit_2 : decode cX1_commit 2 = .ok (.invokevirtual 186, 3) := dk_182 0 186 (dk_at dksX1_commit_0 2 rfl rfl)
theorem dX1_commit_5 : decode cX1_commit 5 = .ok (.astore_n 3, 1) := dk_78 (dk_at dksX1_commit_0 5 rfl rfl)
theorem dX1_commit_6 : decode cX1_commit 6 = .ok (.aload_n 3, 1) := dk_45 (dk_at dksX1_commit_0 6 rfl rfl)
theorem dX1_commit_7 : decode cX1_commit 7 = .ok (.getfield 156, 3) := dk_180 0 156 (dk_at dksX1_commit_0 7 rfl rfl)
theorem dX1_commit_10 : decode cX1_commit 10 = .ok (.ifCond .ne 11, 3) := dk_154 0 11 (dk_at dksX1_commit_0 10 rfl rfl)
theorem dX1_commit_13 : decode cX1_commit 13 = .ok (.aload_n 0, 1) := dk_42 (dk_at dksX1_commit_0 13 rfl rfl)
theorem dX1_commit_14 : decode cX1_commit 14 = .ok (.aload_n 3, 1) := dk_45 (dk_at dksX1_commit_0 14 rfl rfl)
theorem dX1_commit_15 : decode cX1_commit 15 = .ok (.invokevirtual 306, 3) := dk_182 1 50 (dk_at dksX1_commit_0 15 rfl rfl)
theorem dX1_commit_18 : decode cX1_commit 18 = .ok (.ifCond .eq 18, 3) := dk_153 0 18 (dk_at dksX1_commit_0 18 rfl rfl)
theorem dX1_commit_21 : decode cX1_commit 21 = .ok (.aload_n 3, 1) := dk_45 (dk_at dksX1_commit_0 21 rfl rfl)
theorem dX1_commit_22 : decode cX1_commit 22 = .ok (.getfield 156, 3) := dk_180 0 156 (dk_at dksX1_commit_1 0 rfl rfl)
theorem dX1_commit_25 : decode cX1_commit 25 = .ok (.ifCond .eq 8, 3) := dk_153 0 8 (dk_at dksX1_commit_1 3 rfl rfl)
theorem dX1_commit_28 : decode cX1_commit 28 = .ok (.bipush (-13), 2) := dk_16 243 (dk_at dksX1_commit_1 6 rfl rfl)
theorem dX1_commit_30 : decode cX1_commit 30 = .ok (.goto 5, 3) := dk_167 0 5 (dk_at dksX1_commit_1 8 rfl rfl)
theorem dX1_commit_33 : decode cX1_commit 33 = .ok (.bipush (-14), 2) := dk_16 242 (dk_at dksX1_commit_1 11 rfl rfl)
theorem dX1_commit_35 : decode cX1_commit 35 = .ok (.ireturn, 1) := dk_172 (dk_at dksX1_commit_1 13 rfl rfl)
theorem dX1_commit_36 : decode cX1_commit 36 = .ok (.aload_n 3, 1) := dk_45 (dk_at dksX1_commit_1 14 rfl rfl)
theorem dX1_commit_37 : decode cX1_commit 37 = .ok (.aconst_null, 1) := dk_1 (dk_at dksX1_commit_1 15 rfl rfl)
theorem dX1_commit_38 : decode cX1_commit 38 = .ok (.putfield 177, 3) := dk_181 0 177 (dk_at dksX1_commit_1 16 rfl rfl)
theorem dX1_commit_41 : decode cX1_commit 41 = .ok (.aload_n 3, 1) := dk_45 (dk_at dksX1_commit_1 19 rfl rfl)
theorem dX1_commit_42 : decode cX1_commit 42 = .ok (.getfield 197, 3) := dk_180 0 197 (dk_at dksX1_commit_1 20 rfl rfl)
theorem dX1_commit_45 : decode cX1_commit 45 = .ok (.invokeinterface 310 1, 5) := by decide +kernel
theorem dX1_commit_50 : decode cX1_commit 50 = .ok (.ifCond .ne 7, 3) := dk_154 0 7 (dk_at dksX1_commit_2 5 rfl rfl)
theorem dX1_commit_53 : decode cX1_commit 53 = .ok (.iconst 1, 1) := dk_4 (dk_at dksX1_commit_2 8 rfl rfl)
theorem dX1_commit_54 : decode cX1_commit 54 = .ok (.goto 4, 3) := dk_167 0 4 (dk_at dksX1_commit_2 9 rfl rfl)
theorem dX1_commit_57 : decode cX1_commit 57 = .ok (.iconst 0, 1) := dk_3 (dk_at dksX1_commit_2 12 rfl rfl)
theorem dX1_commit_58 : decode cX1_commit 58 = .ok (.istore 4, 2) := dk_54 4 (dk_at dksX1_commit_2 13 rfl rfl)
theorem dX1_commit_60 : decode cX1_commit 60 = .ok (.aload_n 3, 1) := dk_45 (dk_at dksX1_commit_2 15 rfl rfl)
theorem dX1_commit_61 : decode cX1_commit 61 = .ok (.iload 4, 2) := dk_21 4 (dk_at dksX1_commit_2 16 rfl rfl)
theorem dX1_commit_63 : decode cX1_commit 63 = .ok (.ifCond .eq 19, 3) := dk_153 0 19 (dk_at dksX1_commit_2 18 rfl rfl)
theorem dX1_commit_66 : decode cX1_commit 66 = .ok (.aload_n 3, 1) := dk_45 (dk_at dksX1_commit_2 21 rfl rfl)
theorem dX1_commit_67 : decode cX1_commit 67 = .ok (.getfield 221, 3) := dk_180 0 221 (dk_at dksX1_commit_3 0 rfl rfl)
theorem dX1_commit_70 : decode cX1_commit 70 = .ok (.aload_n 0, 1) := dk_42 (dk_at dksX1_commit_3 3 rfl rfl)
theorem dX1_commit_71 : decode cX1_commit 71 = .ok (.invokevirtual 113, 3) := dk_182 0 113 (dk_at dksX1_commit_3 4 rfl rfl)
theorem dX1_commit_74 : decode cX1_commit 74 = .ok (.iconst 1, 1) := dk_4 (dk_at dksX1_commit_3 7 rfl rfl)
theorem dX1_commit_75 : decode cX1_commit 75 = .ok (.iadd, 1) := dk_96 (dk_at dksX1_commit_3 8 rfl rfl)
theorem dX1_commit_76 : decode cX1_commit 76 = .ok (.invokestatic 107, 3) := dk_184 0 107 (dk_at dksX1_commit_3 9 rfl rfl)
theorem dX1_commit_79 : decode cX1_commit 79 = .ok (.goto 7, 3) := dk_167 0 7 (dk_at dksX1_commit_3 12 rfl rfl)
theorem dX1_commit_82 : decode cX1_commit 82 = .ok (.aload_n 3, 1) := dk_45 (dk_at dksX1_commit_3 15 rfl rfl)
theorem dX1_commit_83 : decode cX1_commit 83 = .ok (.getfield 221, 3) := dk_180 0 221 (dk_at dksX1_commit_3 16 rfl rfl)
theorem dX1_commit_86 : decode cX1_commit 86 = .ok (.putfield 221, 3) := dk_181 0 221 (dk_at dksX1_commit_3 19 rfl rfl)
theorem dX1_commit_89 : decode cX1_commit 89 = .ok (.aload_n 3, 1) := dk_45 (dk_at dksX1_commit_3 22 rfl rfl)
theorem dX1_commit_90 : decode cX1_commit 90 = .ok (.getfield 221, 3) := dk_180 0 221 (dk_at dksX1_commit_4 0 rfl rfl)
theorem dX1_commit_93 : decode cX1_commit 93 = .ok (.aload_n 3, 1) := dk_45 (dk_at dksX1_commit_4 3 rfl rfl)
theorem dX1_commit_94 : decode cX1_commit 94 = .ok (.getfield 218, 3) := dk_180 0 218 (dk_at dksX1_commit_4 4 rfl rfl)
theorem dX1_commit_97 : decode cX1_commit 97 = .ok (.if_icmp .le 25, 3) := dk_164 0 25 (dk_at dksX1_commit_4 7 rfl rfl)
theorem dX1_commit_100 : decode cX1_commit 100 = .ok (.aload_n 3, 1) := dk_45 (dk_at dksX1_commit_4 10 rfl rfl)
theorem dX1_commit_101 : decode cX1_commit 101 = .ok (.aload_n 3, 1) := dk_45 (dk_at dksX1_commit_4 11 rfl rfl)
theorem dX1_commit_102 : decode cX1_commit 102 = .ok (.getfield 221, 3) := dk_180 0 221 (dk_at dksX1_commit_4 12 rfl rfl)
theorem dX1_commit_105 : decode cX1_commit 105 = .ok (.invokevirtual 248, 3) := dk_182 0 248 (dk_at dksX1_commit_4 15 rfl rfl)
theorem dX1_commit_108 : decode cX1_commit 108 = .ok (.ifCond .ne 14, 3) := dk_154 0 14 (dk_at dksX1_commit_4 18 rfl rfl)
theorem dX1_commit_111 : decode cX1_commit 111 = .ok (.aload_n 3, 1) := dk_45 (dk_at dksX1_commit_4 21 rfl rfl)
theorem dX1_commit_112 : decode cX1_commit 112 = .ok (.aload_n 3, 1) := dk_45 (dk_at dksX1_commit_4 22 rfl rfl)
theorem dX1_commit_113 : decode cX1_commit 113 = .ok (.getfield 221, 3) := dk_180 0 221 (dk_at dksX1_commit_5 0 rfl rfl)
theorem dX1_commit_116 : decode cX1_commit 116 = .ok (.invokevirtual 252, 3) := dk_182 0 252 (dk_at dksX1_commit_5 3 rfl rfl)
theorem dX1_commit_119 : decode cX1_commit 119 = .ok (.bipush (-12), 2) := dk_16 244 (dk_at dksX1_commit_5 6 rfl rfl)
theorem dX1_commit_121 : decode cX1_commit 121 = .ok (.ireturn, 1) := dk_172 (dk_at dksX1_commit_5 8 rfl rfl)
theorem dX1_commit_122 : decode cX1_commit 122 = .ok (.aload_n 3, 1) := dk_45 (dk_at dksX1_commit_5 9 rfl rfl)
theorem dX1_commit_123 : decode cX1_commit 123 = .ok (.aload_n 3, 1) := dk_45 (dk_at dksX1_commit_5 10 rfl rfl)
theorem dX1_commit_124 : decode cX1_commit 124 = .ok (.getfield 221, 3) := dk_180 0 221 (dk_at dksX1_commit_5 11 rfl rfl)
theorem dX1_commit_127 : decode cX1_commit 127 = .ok (.putfield 218, 3) := dk_181 0 218 (dk_at dksX1_commit_5 14 rfl rfl)
theorem dX1_commit_130 : decode cX1_commit 130 = .ok (.aload_n 3, 1) := dk_45 (dk_at dksX1_commit_5 17 rfl rfl)
theorem dX1_commit_131 : decode cX1_commit 131 = .ok (.invokevirtual 159, 3) := dk_182 0 159 (dk_at dksX1_commit_5 18 rfl rfl)
theorem dX1_commit_134 : decode cX1_commit 134 = .ok (.ifCond .ne 11, 3) := dk_154 0 11 (dk_at dksX1_commit_5 21 rfl rfl)
theorem dX1_commit_137 : decode cX1_commit 137 = .ok (.aload_n 3, 1) := dk_45 (dk_at dksX1_commit_6 0 rfl rfl)
theorem dX1_commit_138 : decode cX1_commit 138 = .ok (.iconst 3, 1) := dk_6 (dk_at dksX1_commit_6 1 rfl rfl)
theorem dX1_commit_139 : decode cX1_commit 139 = .ok (.invokevirtual 163, 3) := dk_182 0 163 (dk_at dksX1_commit_6 2 rfl rfl)
theorem dX1_commit_142 : decode cX1_commit 142 = .ok (.bipush (-13), 2) := dk_16 243 (dk_at dksX1_commit_6 5 rfl rfl)
theorem dX1_commit_144 : decode cX1_commit 144 = .ok (.ireturn, 1) := dk_172 (dk_at dksX1_commit_6 7 rfl rfl)
theorem dX1_commit_145 : decode cX1_commit 145 = .ok (.iload 4, 2) := dk_21 4 (dk_at dksX1_commit_6 8 rfl rfl)
theorem dX1_commit_147 : decode cX1_commit 147 = .ok (.ifCond .eq 15, 3) := dk_153 0 15 (dk_at dksX1_commit_6 10 rfl rfl)
theorem dX1_commit_150 : decode cX1_commit 150 = .ok (.iload_n 2, 1) := dk_28 (dk_at dksX1_commit_6 13 rfl rfl)
theorem dX1_commit_151 : decode cX1_commit 151 = .ok (.ifCond .eq 11, 3) := dk_153 0 11 (dk_at dksX1_commit_6 14 rfl rfl)
theorem dX1_commit_154 : decode cX1_commit 154 = .ok (.aload_n 3, 1) := dk_45 (dk_at dksX1_commit_6 17 rfl rfl)
theorem dX1_commit_155 : decode cX1_commit 155 = .ok (.iconst 1, 1) := dk_4 (dk_at dksX1_commit_6 18 rfl rfl)
theorem dX1_commit_156 : decode cX1_commit 156 = .ok (.putfield 156, 3) := dk_181 0 156 (dk_at dksX1_commit_6 19 rfl rfl)
theorem dX1_commit_159 : decode cX1_commit 159 = .ok (.goto 8, 3) := dk_167 0 8 (dk_at dksX1_commit_7 0 rfl rfl)
theorem dX1_commit_162 : decode cX1_commit 162 = .ok (.aload_n 3, 1) := dk_45 (dk_at dksX1_commit_7 3 rfl rfl)
theorem dX1_commit_163 : decode cX1_commit 163 = .ok (.iconst 2, 1) := dk_5 (dk_at dksX1_commit_7 4 rfl rfl)
theorem dX1_commit_164 : decode cX1_commit 164 = .ok (.invokevirtual 163, 3) := dk_182 0 163 (dk_at dksX1_commit_7 5 rfl rfl)
theorem dX1_commit_167 : decode cX1_commit 167 = .ok (.iconst 0, 1) := dk_3 (dk_at dksX1_commit_7 8 rfl rfl)
theorem dX1_commit_168 : decode cX1_commit 168 = .ok (.ireturn, 1) := dk_172 (dk_at dksX1_commit_7 9 rfl rfl)
abbrev cX1_hasDown : ByteArray := prog_1_method_31_code
def yX1_hasDown : MethodName := ⟨RX1, "hasDown", "(LTwinphase$Trade;)Z"⟩
def dkwX1_hasDown_2 : List UInt8 := [180, 1, 47, 182, 0, 119, 180, 0, 123, 180, 0, 100, 128, 61, 167, 255, 218, 28, 172]
abbrev dktX1_hasDown_2 : List UInt8 := dkwX1_hasDown_2 ++ []
def dkwX1_hasDown_1 : List UInt8 := [185, 1, 38, 1, 0, 153, 0, 35, 45, 185, 1, 43, 1, 0, 192, 0, 201, 58, 4, 28, 42, 25, 4]
abbrev dktX1_hasDown_1 : List UInt8 := dkwX1_hasDown_1 ++ dktX1_hasDown_2
def dkwX1_hasDown_0 : List UInt8 := [43, 182, 0, 184, 61, 43, 180, 0, 197, 185, 1, 28, 1, 0, 185, 1, 32, 1, 0, 78, 45]
abbrev dktX1_hasDown_0 : List UInt8 := dkwX1_hasDown_0 ++ dktX1_hasDown_1
theorem dksX1_hasDown_0 : cX1_hasDown.data.toList.drop 0 = dktX1_hasDown_0 := by decide +kernel
theorem dksX1_hasDown_1 : cX1_hasDown.data.toList.drop 21 = dktX1_hasDown_1 := dk_seg dksX1_hasDown_0 21 rfl rfl
theorem dksX1_hasDown_2 : cX1_hasDown.data.toList.drop 44 = dktX1_hasDown_2 := dk_seg dksX1_hasDown_1 23 rfl rfl
theorem dX1_hasDown_0 : decode cX1_hasDown 0 = .ok (.aload_n 1, 1) := dk_43 (dk_at dksX1_hasDown_0 0 rfl rfl)
theorem dX1_hasDown_1 : decode cX1_hasDown 1 = .ok (.invokevirtual 184, 3) := dk_182 0 184 (dk_at dksX1_hasDown_0 1 rfl rfl)
theorem dX1_hasDown_4 : decode cX1_hasDown 4 = .ok (.istore_n 2, 1) := dk_61 (dk_at dksX1_hasDown_0 4 rfl rfl)
theorem dX1_hasDown_5 : decode cX1_hasDown 5 = .ok (.aload_n 1, 1) := dk_43 (dk_at dksX1_hasDown_0 5 rfl rfl)
theorem dX1_hasDown_6 : decode cX1_hasDown 6 = .ok (.getfield 197, 3) := dk_180 0 197 (dk_at dksX1_hasDown_0 6 rfl rfl)
theorem dX1_hasDown_9 : decode cX1_hasDown 9 = .ok (.invokeinterface 284 1, 5) := by decide +kernel
theorem dX1_hasDown_14 : decode cX1_hasDown 14 = .ok (.invokeinterface 288 1, 5) := by decide +kernel
theorem dX1_hasDown_19 : decode cX1_hasDown 19 = .ok (.astore_n 3, 1) := dk_78 (dk_at dksX1_hasDown_0 19 rfl rfl)
theorem dX1_hasDown_20 : decode cX1_hasDown 20 = .ok (.aload_n 3, 1) := dk_45 (dk_at dksX1_hasDown_0 20 rfl rfl)
theorem dX1_hasDown_21 : decode cX1_hasDown 21 = .ok (.invokeinterface 294 1, 5) := by decide +kernel
theorem dX1_hasDown_26 : decode cX1_hasDown 26 = .ok (.ifCond .eq 35, 3) := dk_153 0 35 (dk_at dksX1_hasDown_1 5 rfl rfl)
theorem dX1_hasDown_29 : decode cX1_hasDown 29 = .ok (.aload_n 3, 1) := dk_45 (dk_at dksX1_hasDown_1 8 rfl rfl)
theorem dX1_hasDown_30 : decode cX1_hasDown 30 = .ok (.invokeinterface 299 1, 5) := by decide +kernel
theorem dX1_hasDown_35 : decode cX1_hasDown 35 = .ok (.checkcast 201, 3) := dk_192 0 201 (dk_at dksX1_hasDown_1 14 rfl rfl)
theorem dX1_hasDown_38 : decode cX1_hasDown 38 = .ok (.astore 4, 2) := dk_58 4 (dk_at dksX1_hasDown_1 17 rfl rfl)
theorem dX1_hasDown_40 : decode cX1_hasDown 40 = .ok (.iload_n 2, 1) := dk_28 (dk_at dksX1_hasDown_1 19 rfl rfl)
theorem dX1_hasDown_41 : decode cX1_hasDown 41 = .ok (.aload_n 0, 1) := dk_42 (dk_at dksX1_hasDown_1 20 rfl rfl)
theorem dX1_hasDown_42 : decode cX1_hasDown 42 = .ok (.aload 4, 2) := dk_25 4 (dk_at dksX1_hasDown_1 21 rfl rfl)
theorem dX1_hasDown_44 : decode cX1_hasDown 44 = .ok (.getfield 303, 3) := dk_180 1 47 (dk_at dksX1_hasDown_2 0 rfl rfl)
theorem dX1_hasDown_47 : decode cX1_hasDown 47 = .ok (.invokevirtual 119, 3) := dk_182 0 119 (dk_at dksX1_hasDown_2 3 rfl rfl)
theorem dX1_hasDown_50 : decode cX1_hasDown 50 = .ok (.getfield 123, 3) := dk_180 0 123 (dk_at dksX1_hasDown_2 6 rfl rfl)
theorem dX1_hasDown_53 : decode cX1_hasDown 53 = .ok (.getfield 100, 3) := dk_180 0 100 (dk_at dksX1_hasDown_2 9 rfl rfl)
theorem dX1_hasDown_56 : decode cX1_hasDown 56 = .ok (.ior, 1) := dk_128 (dk_at dksX1_hasDown_2 12 rfl rfl)
theorem dX1_hasDown_57 : decode cX1_hasDown 57 = .ok (.istore_n 2, 1) := dk_61 (dk_at dksX1_hasDown_2 13 rfl rfl)
theorem dX1_hasDown_58 : decode cX1_hasDown 58 = .ok (.goto (-38), 3) := dk_167 255 218 (dk_at dksX1_hasDown_2 14 rfl rfl)
theorem dX1_hasDown_61 : decode cX1_hasDown 61 = .ok (.iload_n 2, 1) := dk_28 (dk_at dksX1_hasDown_2 17 rfl rfl)
theorem dX1_hasDown_62 : decode cX1_hasDown 62 = .ok (.ireturn, 1) := dk_172 (dk_at dksX1_hasDown_2 18 rfl rfl)
abbrev cX1_abort : ByteArray := prog_1_method_33_code
def yX1_abort : MethodName := ⟨RX1, "abort", "(I)I"⟩
def dkwX1_abort_0 : List UInt8 := [42, 27, 182, 0, 186, 77, 44, 180, 0, 156, 153, 0, 6, 16, 243, 172, 44, 6, 182, 0, 163, 3, 172]
abbrev dktX1_abort_0 : List UInt8 := dkwX1_abort_0 ++ []
theorem dksX1_abort_0 : cX1_abort.data.toList.drop 0 = dktX1_abort_0 := by decide +kernel
theorem dX1_abort_0 : decode cX1_abort 0 = .ok (.aload_n 0, 1) := dk_42 (dk_at dksX1_abort_0 0 rfl rfl)
theorem dX1_abort_1 : decode cX1_abort 1 = .ok (.iload_n 1, 1) := dk_27 (dk_at dksX1_abort_0 1 rfl rfl)
theorem dX1_abort_2 : decode cX1_abort 2 = .ok (.invokevirtual 186, 3) := dk_182 0 186 (dk_at dksX1_abort_0 2 rfl rfl)
theorem dX1_abort_5 : decode cX1_abort 5 = .ok (.astore_n 2, 1) := dk_77 (dk_at dksX1_abort_0 5 rfl rfl)
theorem dX1_abort_6 : decode cX1_abort 6 = .ok (.aload_n 2, 1) := dk_44 (dk_at dksX1_abort_0 6 rfl rfl)
theorem dX1_abort_7 : decode cX1_abort 7 = .ok (.getfield 156, 3) := dk_180 0 156 (dk_at dksX1_abort_0 7 rfl rfl)
theorem dX1_abort_10 : decode cX1_abort 10 = .ok (.ifCond .eq 6, 3) := dk_153 0 6 (dk_at dksX1_abort_0 10 rfl rfl)
theorem dX1_abort_13 : decode cX1_abort 13 = .ok (.bipush (-13), 2) := dk_16 243 (dk_at dksX1_abort_0 13 rfl rfl)
theorem dX1_abort_15 : decode cX1_abort 15 = .ok (.ireturn, 1) := dk_172 (dk_at dksX1_abort_0 15 rfl rfl)
theorem dX1_abort_16 : decode cX1_abort 16 = .ok (.aload_n 2, 1) := dk_44 (dk_at dksX1_abort_0 16 rfl rfl)
theorem dX1_abort_17 : decode cX1_abort 17 = .ok (.iconst 3, 1) := dk_6 (dk_at dksX1_abort_0 17 rfl rfl)
theorem dX1_abort_18 : decode cX1_abort 18 = .ok (.invokevirtual 163, 3) := dk_182 0 163 (dk_at dksX1_abort_0 18 rfl rfl)
theorem dX1_abort_21 : decode cX1_abort 21 = .ok (.iconst 0, 1) := dk_3 (dk_at dksX1_abort_0 21 rfl rfl)
theorem dX1_abort_22 : decode cX1_abort 22 = .ok (.ireturn, 1) := dk_172 (dk_at dksX1_abort_0 22 rfl rfl)
abbrev cX1_recover : ByteArray := prog_1_method_34_code
def yX1_recover : MethodName := ⟨RX1, "recover", "(I)I"⟩
def dkwX1_recover_0 : List UInt8 := [42, 27, 182, 0, 186, 77, 42, 44, 182, 0, 170, 44, 180, 0, 156, 172]
abbrev dktX1_recover_0 : List UInt8 := dkwX1_recover_0 ++ []
theorem dksX1_recover_0 : cX1_recover.data.toList.drop 0 = dktX1_recover_0 := by decide +kernel
theorem dX1_recover_0 : decode cX1_recover 0 = .ok (.aload_n 0, 1) := dk_42 (dk_at dksX1_recover_0 0 rfl rfl)
theorem dX1_recover_1 : decode cX1_recover 1 = .ok (.iload_n 1, 1) := dk_27 (dk_at dksX1_recover_0 1 rfl rfl)
theorem dX1_recover_2 : decode cX1_recover 2 = .ok (.invokevirtual 186, 3) := dk_182 0 186 (dk_at dksX1_recover_0 2 rfl rfl)
theorem dX1_recover_5 : decode cX1_recover 5 = .ok (.astore_n 2, 1) := dk_77 (dk_at dksX1_recover_0 5 rfl rfl)
theorem dX1_recover_6 : decode cX1_recover 6 = .ok (.aload_n 0, 1) := dk_42 (dk_at dksX1_recover_0 6 rfl rfl)
theorem dX1_recover_7 : decode cX1_recover 7 = .ok (.aload_n 2, 1) := dk_44 (dk_at dksX1_recover_0 7 rfl rfl)
theorem dX1_recover_8 : decode cX1_recover 8 = .ok (.invokevirtual 170, 3) := dk_182 0 170 (dk_at dksX1_recover_0 8 rfl rfl)
theorem dX1_recover_11 : decode cX1_recover 11 = .ok (.aload_n 2, 1) := dk_44 (dk_at dksX1_recover_0 11 rfl rfl)
theorem dX1_recover_12 : decode cX1_recover 12 = .ok (.getfield 156, 3) := dk_180 0 156 (dk_at dksX1_recover_0 12 rfl rfl)
theorem dX1_recover_15 : decode cX1_recover 15 = .ok (.ireturn, 1) := dk_172 (dk_at dksX1_recover_0 15 rfl rfl)
abbrev cX1_beat : ByteArray := prog_1_method_35_code
def yX1_beat : MethodName := ⟨RX1, "beat", "(I)I"⟩
def dkwX1_beat_1 : List UInt8 := [3, 172]
abbrev dktX1_beat_1 : List UInt8 := dkwX1_beat_1 ++ []
def dkwX1_beat_0 : List UInt8 := [42, 27, 182, 0, 186, 77, 44, 180, 0, 156, 153, 0, 6, 16, 243, 172, 44, 42, 180, 0, 86, 181, 1, 57]
abbrev dktX1_beat_0 : List UInt8 := dkwX1_beat_0 ++ dktX1_beat_1
theorem dksX1_beat_0 : cX1_beat.data.toList.drop 0 = dktX1_beat_0 := by decide +kernel
theorem dksX1_beat_1 : cX1_beat.data.toList.drop 24 = dktX1_beat_1 := dk_seg dksX1_beat_0 24 rfl rfl
theorem dX1_beat_0 : decode cX1_beat 0 = .ok (.aload_n 0, 1) := dk_42 (dk_at dksX1_beat_0 0 rfl rfl)
theorem dX1_beat_1 : decode cX1_beat 1 = .ok (.iload_n 1, 1) := dk_27 (dk_at dksX1_beat_0 1 rfl rfl)
theorem dX1_beat_2 : decode cX1_beat 2 = .ok (.invokevirtual 186, 3) := dk_182 0 186 (dk_at dksX1_beat_0 2 rfl rfl)
theorem dX1_beat_5 : decode cX1_beat 5 = .ok (.astore_n 2, 1) := dk_77 (dk_at dksX1_beat_0 5 rfl rfl)
theorem dX1_beat_6 : decode cX1_beat 6 = .ok (.aload_n 2, 1) := dk_44 (dk_at dksX1_beat_0 6 rfl rfl)
theorem dX1_beat_7 : decode cX1_beat 7 = .ok (.getfield 156, 3) := dk_180 0 156 (dk_at dksX1_beat_0 7 rfl rfl)
theorem dX1_beat_10 : decode cX1_beat 10 = .ok (.ifCond .eq 6, 3) := dk_153 0 6 (dk_at dksX1_beat_0 10 rfl rfl)
theorem dX1_beat_13 : decode cX1_beat 13 = .ok (.bipush (-13), 2) := dk_16 243 (dk_at dksX1_beat_0 13 rfl rfl)
theorem dX1_beat_15 : decode cX1_beat 15 = .ok (.ireturn, 1) := dk_172 (dk_at dksX1_beat_0 15 rfl rfl)
theorem dX1_beat_16 : decode cX1_beat 16 = .ok (.aload_n 2, 1) := dk_44 (dk_at dksX1_beat_0 16 rfl rfl)
theorem dX1_beat_17 : decode cX1_beat 17 = .ok (.aload_n 0, 1) := dk_42 (dk_at dksX1_beat_0 17 rfl rfl)
theorem dX1_beat_18 : decode cX1_beat 18 = .ok (.getfield 86, 3) := dk_180 0 86 (dk_at dksX1_beat_0 18 rfl rfl)
theorem dX1_beat_21 : decode cX1_beat 21 = .ok (.putfield 313, 3) := dk_181 1 57 (dk_at dksX1_beat_0 21 rfl rfl)
theorem dX1_beat_24 : decode cX1_beat 24 = .ok (.iconst 0, 1) := dk_3 (dk_at dksX1_beat_1 0 rfl rfl)
theorem dX1_beat_25 : decode cX1_beat 25 = .ok (.ireturn, 1) := dk_172 (dk_at dksX1_beat_1 1 rfl rfl)
abbrev cX1_told : ByteArray := prog_1_method_36_code
def yX1_told : MethodName := ⟨RX1, "told", "(II)I"⟩
def dkwX1_told_5 : List UInt8 := [153, 0, 7, 4, 167, 0, 4, 3, 172]
abbrev dktX1_told_5 : List UInt8 := dkwX1_told_5 ++ []
def dkwX1_told_4 : List UInt8 := [180, 1, 5, 185, 1, 60, 1, 0, 172, 45, 180, 0, 197, 185, 1, 60, 1, 0, 172, 45, 182, 0, 174]
abbrev dktX1_told_4 : List UInt8 := dkwX1_told_4 ++ dktX1_told_5
def dkwX1_told_3 : List UInt8 := [180, 0, 177, 180, 0, 156, 153, 0, 7, 2, 167, 0, 10, 45, 180, 0, 177, 180, 0, 183, 172, 45]
abbrev dktX1_told_3 : List UInt8 := dkwX1_told_3 ++ dktX1_told_4
def dkwX1_told_2 : List UInt8 := [45, 180, 0, 156, 172, 45, 180, 0, 218, 172, 45, 180, 0, 221, 172, 45, 180, 0, 177, 198, 0, 13, 45]
abbrev dktX1_told_2 : List UInt8 := dkwX1_told_2 ++ dktX1_told_3
def dkwX1_told_1 : List UInt8 := [170, 0, 0, 0, 0, 102, 0, 0, 0, 0, 0, 0, 0, 5, 0, 0, 0, 38, 0, 0, 0, 43, 0, 0, 0, 48, 0, 0, 0, 53, 0, 0, 0, 82, 0, 0, 0, 92]
abbrev dktX1_told_1 : List UInt8 := dkwX1_told_1 ++ dktX1_told_2
def dkwX1_told_0 : List UInt8 := [42, 27, 182, 0, 186, 78, 28, 3, 16, 6, 184, 0, 82, 28]
abbrev dktX1_told_0 : List UInt8 := dkwX1_told_0 ++ dktX1_told_1
theorem dksX1_told_0 : cX1_told.data.toList.drop 0 = dktX1_told_0 := by decide +kernel
theorem dksX1_told_1 : cX1_told.data.toList.drop 14 = dktX1_told_1 := dk_seg dksX1_told_0 14 rfl rfl
theorem dksX1_told_2 : cX1_told.data.toList.drop 52 = dktX1_told_2 := dk_seg dksX1_told_1 38 rfl rfl
theorem dksX1_told_3 : cX1_told.data.toList.drop 75 = dktX1_told_3 := dk_seg dksX1_told_2 23 rfl rfl
theorem dksX1_told_4 : cX1_told.data.toList.drop 97 = dktX1_told_4 := dk_seg dksX1_told_3 22 rfl rfl
theorem dksX1_told_5 : cX1_told.data.toList.drop 120 = dktX1_told_5 := dk_seg dksX1_told_4 23 rfl rfl
theorem dX1_told_0 : decode cX1_told 0 = .ok (.aload_n 0, 1) := dk_42 (dk_at dksX1_told_0 0 rfl rfl)
theorem dX1_told_1 : decode cX1_told 1 = .ok (.iload_n 1, 1) := dk_27 (dk_at dksX1_told_0 1 rfl rfl)
theorem dX1_told_2 : decode cX1_told 2 = .ok (.invokevirtual 186, 3) := dk_182 0 186 (dk_at dksX1_told_0 2 rfl rfl)
theorem dX1_told_5 : decode cX1_told 5 = .ok (.astore_n 3, 1) := dk_78 (dk_at dksX1_told_0 5 rfl rfl)
theorem dX1_told_6 : decode cX1_told 6 = .ok (.iload_n 2, 1) := dk_28 (dk_at dksX1_told_0 6 rfl rfl)
theorem dX1_told_7 : decode cX1_told 7 = .ok (.iconst 0, 1) := dk_3 (dk_at dksX1_told_0 7 rfl rfl)
theorem dX1_told_8 : decode cX1_told 8 = .ok (.bipush 6, 2) := dk_16 6 (dk_at dksX1_told_0 8 rfl rfl)
theorem dX1_told_10 : decode cX1_told 10 = .ok (.invokestatic 82, 3) := dk_184 0 82 (dk_at dksX1_told_0 10 rfl rfl)
theorem dX1_told_13 : decode cX1_told 13 = .ok (.iload_n 2, 1) := dk_28 (dk_at dksX1_told_0 13 rfl rfl)
theorem dX1_told_14 : decode cX1_told 14 = .ok (.tableswitch 102 0 5 #[38, 43, 48, 53, 82, 92], 38) := by decide +kernel
theorem dX1_told_52 : decode cX1_told 52 = .ok (.aload_n 3, 1) := dk_45 (dk_at dksX1_told_2 0 rfl rfl)
theorem dX1_told_53 : decode cX1_told 53 = .ok (.getfield 156, 3) := dk_180 0 156 (dk_at dksX1_told_2 1 rfl rfl)
theorem dX1_told_56 : decode cX1_told 56 = .ok (.ireturn, 1) := dk_172 (dk_at dksX1_told_2 4 rfl rfl)
theorem dX1_told_57 : decode cX1_told 57 = .ok (.aload_n 3, 1) := dk_45 (dk_at dksX1_told_2 5 rfl rfl)
theorem dX1_told_58 : decode cX1_told 58 = .ok (.getfield 218, 3) := dk_180 0 218 (dk_at dksX1_told_2 6 rfl rfl)
theorem dX1_told_61 : decode cX1_told 61 = .ok (.ireturn, 1) := dk_172 (dk_at dksX1_told_2 9 rfl rfl)
theorem dX1_told_62 : decode cX1_told 62 = .ok (.aload_n 3, 1) := dk_45 (dk_at dksX1_told_2 10 rfl rfl)
theorem dX1_told_63 : decode cX1_told 63 = .ok (.getfield 221, 3) := dk_180 0 221 (dk_at dksX1_told_2 11 rfl rfl)
theorem dX1_told_66 : decode cX1_told 66 = .ok (.ireturn, 1) := dk_172 (dk_at dksX1_told_2 14 rfl rfl)
theorem dX1_told_67 : decode cX1_told 67 = .ok (.aload_n 3, 1) := dk_45 (dk_at dksX1_told_2 15 rfl rfl)
theorem dX1_told_68 : decode cX1_told 68 = .ok (.getfield 177, 3) := dk_180 0 177 (dk_at dksX1_told_2 16 rfl rfl)
theorem dX1_told_71 : decode cX1_told 71 = .ok (.ifnull 13, 3) := dk_198 0 13 (dk_at dksX1_told_2 19 rfl rfl)
theorem dX1_told_74 : decode cX1_told 74 = .ok (.aload_n 3, 1) := dk_45 (dk_at dksX1_told_2 22 rfl rfl)
theorem dX1_told_75 : decode cX1_told 75 = .ok (.getfield 177, 3) := dk_180 0 177 (dk_at dksX1_told_3 0 rfl rfl)
theorem dX1_told_78 : decode cX1_told 78 = .ok (.getfield 156, 3) := dk_180 0 156 (dk_at dksX1_told_3 3 rfl rfl)
theorem dX1_told_81 : decode cX1_told 81 = .ok (.ifCond .eq 7, 3) := dk_153 0 7 (dk_at dksX1_told_3 6 rfl rfl)
theorem dX1_told_84 : decode cX1_told 84 = .ok (.iconst (-1), 1) := dk_2 (dk_at dksX1_told_3 9 rfl rfl)
theorem dX1_told_85 : decode cX1_told 85 = .ok (.goto 10, 3) := dk_167 0 10 (dk_at dksX1_told_3 10 rfl rfl)
theorem dX1_told_88 : decode cX1_told 88 = .ok (.aload_n 3, 1) := dk_45 (dk_at dksX1_told_3 13 rfl rfl)
theorem dX1_told_89 : decode cX1_told 89 = .ok (.getfield 177, 3) := dk_180 0 177 (dk_at dksX1_told_3 14 rfl rfl)
theorem dX1_told_92 : decode cX1_told 92 = .ok (.getfield 183, 3) := dk_180 0 183 (dk_at dksX1_told_3 17 rfl rfl)
theorem dX1_told_95 : decode cX1_told 95 = .ok (.ireturn, 1) := dk_172 (dk_at dksX1_told_3 20 rfl rfl)
theorem dX1_told_96 : decode cX1_told 96 = .ok (.aload_n 3, 1) := dk_45 (dk_at dksX1_told_3 21 rfl rfl)
theorem dX1_told_97 : decode cX1_told 97 = .ok (.getfield 261, 3) := dk_180 1 5 (dk_at dksX1_told_4 0 rfl rfl)
theorem dX1_told_100 : decode cX1_told 100 = .ok (.invokeinterface 316 1, 5) := by decide +kernel
theorem dX1_told_105 : decode cX1_told 105 = .ok (.ireturn, 1) := dk_172 (dk_at dksX1_told_4 8 rfl rfl)
theorem dX1_told_106 : decode cX1_told 106 = .ok (.aload_n 3, 1) := dk_45 (dk_at dksX1_told_4 9 rfl rfl)
theorem dX1_told_107 : decode cX1_told 107 = .ok (.getfield 197, 3) := dk_180 0 197 (dk_at dksX1_told_4 10 rfl rfl)
theorem dX1_told_110 : decode cX1_told 110 = .ok (.invokeinterface 316 1, 5) := by decide +kernel
theorem dX1_told_115 : decode cX1_told 115 = .ok (.ireturn, 1) := dk_172 (dk_at dksX1_told_4 18 rfl rfl)
theorem dX1_told_116 : decode cX1_told 116 = .ok (.aload_n 3, 1) := dk_45 (dk_at dksX1_told_4 19 rfl rfl)
theorem dX1_told_117 : decode cX1_told 117 = .ok (.invokevirtual 174, 3) := dk_182 0 174 (dk_at dksX1_told_4 20 rfl rfl)
theorem dX1_told_120 : decode cX1_told 120 = .ok (.ifCond .eq 7, 3) := dk_153 0 7 (dk_at dksX1_told_5 0 rfl rfl)
theorem dX1_told_123 : decode cX1_told 123 = .ok (.iconst 1, 1) := dk_4 (dk_at dksX1_told_5 3 rfl rfl)
theorem dX1_told_124 : decode cX1_told 124 = .ok (.goto 4, 3) := dk_167 0 4 (dk_at dksX1_told_5 4 rfl rfl)
theorem dX1_told_127 : decode cX1_told 127 = .ok (.iconst 0, 1) := dk_3 (dk_at dksX1_told_5 7 rfl rfl)
theorem dX1_told_128 : decode cX1_told 128 = .ok (.ireturn, 1) := dk_172 (dk_at dksX1_told_5 8 rfl rfl)
abbrev cX1_key : ByteArray := prog_1_method_37_code
def yX1_key : MethodName := ⟨RX1, "key", "(II)I"⟩
def dkwX1_key_5 : List UInt8 := [45, 180, 0, 127, 180, 0, 131, 153, 0, 7, 4, 167, 0, 4, 3, 172]
abbrev dktX1_key_5 : List UInt8 := dkwX1_key_5 ++ []
def dkwX1_key_4 : List UInt8 := [182, 0, 78, 172, 42, 42, 27, 182, 0, 119, 180, 0, 123, 182, 0, 149, 172, 45, 180, 0, 127, 198, 0, 17]
abbrev dktX1_key_4 : List UInt8 := dkwX1_key_4 ++ dktX1_key_5
def dkwX1_key_3 : List UInt8 := [180, 0, 127, 180, 0, 166, 180, 0, 183, 172, 45, 180, 1, 22, 172, 45, 180, 1, 19, 172, 42, 27]
abbrev dktX1_key_3 : List UInt8 := dkwX1_key_3 ++ dktX1_key_4
def dkwX1_key_2 : List UInt8 := [45, 180, 1, 61, 185, 0, 64, 1, 0, 172, 45, 180, 0, 127, 199, 0, 7, 2, 167, 0, 13, 45]
abbrev dktX1_key_2 : List UInt8 := dkwX1_key_2 ++ dktX1_key_3
def dkwX1_key_1 : List UInt8 := [170, 0, 0, 0, 0, 0, 100, 0, 0, 0, 0, 0, 0, 0, 5, 0, 0, 0, 39, 0, 0, 0, 49, 0, 0, 0, 71, 0, 0, 0, 76, 0, 0, 0, 81, 0, 0, 0, 87]
abbrev dktX1_key_1 : List UInt8 := dkwX1_key_1 ++ dktX1_key_2
def dkwX1_key_0 : List UInt8 := [27, 16, 32, 184, 0, 60, 28, 3, 16, 6, 184, 0, 82, 42, 180, 0, 17, 27, 50, 78, 28]
abbrev dktX1_key_0 : List UInt8 := dkwX1_key_0 ++ dktX1_key_1
theorem dksX1_key_0 : cX1_key.data.toList.drop 0 = dktX1_key_0 := by decide +kernel
theorem dksX1_key_1 : cX1_key.data.toList.drop 21 = dktX1_key_1 := dk_seg dksX1_key_0 21 rfl rfl
theorem dksX1_key_2 : cX1_key.data.toList.drop 60 = dktX1_key_2 := dk_seg dksX1_key_1 39 rfl rfl
theorem dksX1_key_3 : cX1_key.data.toList.drop 82 = dktX1_key_3 := dk_seg dksX1_key_2 22 rfl rfl
theorem dksX1_key_4 : cX1_key.data.toList.drop 104 = dktX1_key_4 := dk_seg dksX1_key_3 22 rfl rfl
theorem dksX1_key_5 : cX1_key.data.toList.drop 128 = dktX1_key_5 := dk_seg dksX1_key_4 24 rfl rfl
theorem dX1_key_0 : decode cX1_key 0 = .ok (.iload_n 1, 1) := dk_27 (dk_at dksX1_key_0 0 rfl rfl)
theorem dX1_key_1 : decode cX1_key 1 = .ok (.bipush 32, 2) := dk_16 32 (dk_at dksX1_key_0 1 rfl rfl)
theorem dX1_key_3 : decode cX1_key 3 = .ok (.invokestatic 60, 3) := dk_184 0 60 (dk_at dksX1_key_0 3 rfl rfl)
theorem dX1_key_6 : decode cX1_key 6 = .ok (.iload_n 2, 1) := dk_28 (dk_at dksX1_key_0 6 rfl rfl)
theorem dX1_key_7 : decode cX1_key 7 = .ok (.iconst 0, 1) := dk_3 (dk_at dksX1_key_0 7 rfl rfl)
theorem dX1_key_8 : decode cX1_key 8 = .ok (.bipush 6, 2) := dk_16 6 (dk_at dksX1_key_0 8 rfl rfl)
theorem dX1_key_10 : decode cX1_key 10 = .ok (.invokestatic 82, 3) := dk_184 0 82 (dk_at dksX1_key_0 10 rfl rfl)
theorem dX1_key_13 : decode cX1_key 13 = .ok (.aload_n 0, 1) := dk_42 (dk_at dksX1_key_0 13 rfl rfl)
theorem dX1_key_14 : decode cX1_key 14 = .ok (.getfield 17, 3) := dk_180 0 17 (dk_at dksX1_key_0 14 rfl rfl)
theorem dX1_key_17 : decode cX1_key 17 = .ok (.iload_n 1, 1) := dk_27 (dk_at dksX1_key_0 17 rfl rfl)
theorem dX1_key_18 : decode cX1_key 18 = .ok (.aaload, 1) := dk_50 (dk_at dksX1_key_0 18 rfl rfl)
theorem dX1_key_19 : decode cX1_key 19 = .ok (.astore_n 3, 1) := dk_78 (dk_at dksX1_key_0 19 rfl rfl)
theorem dX1_key_20 : decode cX1_key 20 = .ok (.iload_n 2, 1) := dk_28 (dk_at dksX1_key_0 20 rfl rfl)
theorem dX1_key_21 : decode cX1_key 21 = .ok (.tableswitch 100 0 5 #[39, 49, 71, 76, 81, 87], 39) := by decide +kernel
theorem dX1_key_60 : decode cX1_key 60 = .ok (.aload_n 3, 1) := dk_45 (dk_at dksX1_key_2 0 rfl rfl)
theorem dX1_key_61 : decode cX1_key 61 = .ok (.getfield 317, 3) := dk_180 1 61 (dk_at dksX1_key_2 1 rfl rfl)
theorem dX1_key_64 : decode cX1_key 64 = .ok (.invokeinterface 64 1, 5) := by decide +kernel
theorem dX1_key_69 : decode cX1_key 69 = .ok (.ireturn, 1) := dk_172 (dk_at dksX1_key_2 9 rfl rfl)
theorem dX1_key_70 : decode cX1_key 70 = .ok (.aload_n 3, 1) := dk_45 (dk_at dksX1_key_2 10 rfl rfl)
theorem dX1_key_71 : decode cX1_key 71 = .ok (.getfield 127, 3) := dk_180 0 127 (dk_at dksX1_key_2 11 rfl rfl)
theorem dX1_key_74 : decode cX1_key 74 = .ok (.ifnonnull 7, 3) := dk_199 0 7 (dk_at dksX1_key_2 14 rfl rfl)
theorem dX1_key_77 : decode cX1_key 77 = .ok (.iconst (-1), 1) := dk_2 (dk_at dksX1_key_2 17 rfl rfl)
theorem dX1_key_78 : decode cX1_key 78 = .ok (.goto 13, 3) := dk_167 0 13 (dk_at dksX1_key_2 18 rfl rfl)
theorem dX1_key_81 : decode cX1_key 81 = .ok (.aload_n 3, 1) := dk_45 (dk_at dksX1_key_2 21 rfl rfl)
theorem dX1_key_82 : decode cX1_key 82 = .ok (.getfield 127, 3) := dk_180 0 127 (dk_at dksX1_key_3 0 rfl rfl)
theorem dX1_key_85 : decode cX1_key 85 = .ok (.getfield 166, 3) := dk_180 0 166 (dk_at dksX1_key_3 3 rfl rfl)
theorem dX1_key_88 : decode cX1_key 88 = .ok (.getfield 183, 3) := dk_180 0 183 (dk_at dksX1_key_3 6 rfl rfl)
theorem dX1_key_91 : decode cX1_key 91 = .ok (.ireturn, 1) := dk_172 (dk_at dksX1_key_3 9 rfl rfl)
theorem dX1_key_92 : decode cX1_key 92 = .ok (.aload_n 3, 1) := dk_45 (dk_at dksX1_key_3 10 rfl rfl)
theorem dX1_key_93 : decode cX1_key 93 = .ok (.getfield 278, 3) := dk_180 1 22 (dk_at dksX1_key_3 11 rfl rfl)
theorem dX1_key_96 : decode cX1_key 96 = .ok (.ireturn, 1) := dk_172 (dk_at dksX1_key_3 14 rfl rfl)
theorem dX1_key_97 : decode cX1_key 97 = .ok (.aload_n 3, 1) := dk_45 (dk_at dksX1_key_3 15 rfl rfl)
theorem dX1_key_98 : decode cX1_key 98 = .ok (.getfield 275, 3) := dk_180 1 19 (dk_at dksX1_key_3 16 rfl rfl)
theorem dX1_key_101 : decode cX1_key 101 = .ok (.ireturn, 1) := dk_172 (dk_at dksX1_key_3 19 rfl rfl)
theorem dX1_key_102 : decode cX1_key 102 = .ok (.aload_n 0, 1) := dk_42 (dk_at dksX1_key_3 20 rfl rfl)
theorem dX1_key_103 : decode cX1_key 103 = .ok (.iload_n 1, 1) := dk_27 (dk_at dksX1_key_3 21 rfl rfl)
theorem dX1_key_104 : decode cX1_key 104 = .ok (.invokevirtual 78, 3) := dk_182 0 78 (dk_at dksX1_key_4 0 rfl rfl)
theorem dX1_key_107 : decode cX1_key 107 = .ok (.ireturn, 1) := dk_172 (dk_at dksX1_key_4 3 rfl rfl)
theorem dX1_key_108 : decode cX1_key 108 = .ok (.aload_n 0, 1) := dk_42 (dk_at dksX1_key_4 4 rfl rfl)
theorem dX1_key_109 : decode cX1_key 109 = .ok (.aload_n 0, 1) := dk_42 (dk_at dksX1_key_4 5 rfl rfl)
theorem dX1_key_110 : decode cX1_key 110 = .ok (.iload_n 1, 1) := dk_27 (dk_at dksX1_key_4 6 rfl rfl)
theorem dX1_key_111 : decode cX1_key 111 = .ok (.invokevirtual 119, 3) := dk_182 0 119 (dk_at dksX1_key_4 7 rfl rfl)
theorem dX1_key_114 : decode cX1_key 114 = .ok (.getfield 123, 3) := dk_180 0 123 (dk_at dksX1_key_4 10 rfl rfl)
theorem dX1_key_117 : decode cX1_key 117 = .ok (.invokevirtual 149, 3) := dk_182 0 149 (dk_at dksX1_key_4 13 rfl rfl)
theorem dX1_key_120 : decode cX1_key 120 = .ok (.ireturn, 1) := dk_172 (dk_at dksX1_key_4 16 rfl rfl)
theorem dX1_key_121 : decode cX1_key 121 = .ok (.aload_n 3, 1) := dk_45 (dk_at dksX1_key_4 17 rfl rfl)
theorem dX1_key_122 : decode cX1_key 122 = .ok (.getfield 127, 3) := dk_180 0 127 (dk_at dksX1_key_4 18 rfl rfl)
theorem dX1_key_125 : decode cX1_key 125 = .ok (.ifnull 17, 3) := dk_198 0 17 (dk_at dksX1_key_4 21 rfl rfl)
theorem dX1_key_128 : decode cX1_key 128 = .ok (.aload_n 3, 1) := dk_45 (dk_at dksX1_key_5 0 rfl rfl)
theorem dX1_key_129 : decode cX1_key 129 = .ok (.getfield 127, 3) := dk_180 0 127 (dk_at dksX1_key_5 1 rfl rfl)
theorem dX1_key_132 : decode cX1_key 132 = .ok (.getfield 131, 3) := dk_180 0 131 (dk_at dksX1_key_5 4 rfl rfl)
theorem dX1_key_135 : decode cX1_key 135 = .ok (.ifCond .eq 7, 3) := dk_153 0 7 (dk_at dksX1_key_5 7 rfl rfl)
theorem dX1_key_138 : decode cX1_key 138 = .ok (.iconst 1, 1) := dk_4 (dk_at dksX1_key_5 10 rfl rfl)
theorem dX1_key_139 : decode cX1_key 139 = .ok (.goto 4, 3) := dk_167 0 4 (dk_at dksX1_key_5 11 rfl rfl)
theorem dX1_key_142 : decode cX1_key 142 = .ok (.iconst 0, 1) := dk_3 (dk_at dksX1_key_5 14 rfl rfl)
theorem dX1_key_143 : decode cX1_key 143 = .ok (.ireturn, 1) := dk_172 (dk_at dksX1_key_5 15 rfl rfl)
abbrev cX1_asOf : ByteArray := prog_1_method_38_code
def yX1_asOf : MethodName := ⟨RX1, "asOf", "(II)I"⟩
def dkwX1_asOf_3 : List UInt8 := [17, 3, 232, 167, 0, 8, 25, 4, 180, 0, 255, 172]
abbrev dktX1_asOf_3 : List UInt8 := dkwX1_asOf_3 ++ []
def dkwX1_asOf_2 : List UInt8 := [163, 0, 6, 16, 245, 172, 42, 180, 0, 17, 27, 50, 28, 182, 0, 239, 58, 4, 25, 4, 199, 0, 9]
abbrev dktX1_asOf_2 : List UInt8 := dkwX1_asOf_2 ++ dktX1_asOf_3
def dkwX1_asOf_1 : List UInt8 := [78, 45, 198, 0, 28, 45, 180, 0, 166, 180, 0, 156, 4, 160, 0, 17, 45, 180, 0, 166, 180, 0, 221, 28]
abbrev dktX1_asOf_1 : List UInt8 := dkwX1_asOf_1 ++ dktX1_asOf_2
def dkwX1_asOf_0 : List UInt8 := [27, 16, 32, 184, 0, 60, 28, 3, 42, 182, 0, 113, 184, 0, 82, 42, 180, 0, 17, 27, 50, 180, 0, 127]
abbrev dktX1_asOf_0 : List UInt8 := dkwX1_asOf_0 ++ dktX1_asOf_1
theorem dksX1_asOf_0 : cX1_asOf.data.toList.drop 0 = dktX1_asOf_0 := by decide +kernel
theorem dksX1_asOf_1 : cX1_asOf.data.toList.drop 24 = dktX1_asOf_1 := dk_seg dksX1_asOf_0 24 rfl rfl
theorem dksX1_asOf_2 : cX1_asOf.data.toList.drop 48 = dktX1_asOf_2 := dk_seg dksX1_asOf_1 24 rfl rfl
theorem dksX1_asOf_3 : cX1_asOf.data.toList.drop 71 = dktX1_asOf_3 := dk_seg dksX1_asOf_2 23 rfl rfl
theorem dX1_asOf_0 : decode cX1_asOf 0 = .ok (.iload_n 1, 1) := dk_27 (dk_at dksX1_asOf_0 0 rfl rfl)
theorem dX1_asOf_1 : decode cX1_asOf 1 = .ok (.bipush 32, 2) := dk_16 32 (dk_at dksX1_asOf_0 1 rfl rfl)
theorem dX1_asOf_3 : decode cX1_asOf 3 = .ok (.invokestatic 60, 3) := dk_184 0 60 (dk_at dksX1_asOf_0 3 rfl rfl)
theorem dX1_asOf_6 : decode cX1_asOf 6 = .ok (.iload_n 2, 1) := dk_28 (dk_at dksX1_asOf_0 6 rfl rfl)
theorem dX1_asOf_7 : decode cX1_asOf 7 = .ok (.iconst 0, 1) := dk_3 (dk_at dksX1_asOf_0 7 rfl rfl)
theorem dX1_asOf_8 : decode cX1_asOf 8 = .ok (.aload_n 0, 1) := dk_42 (dk_at dksX1_asOf_0 8 rfl rfl)
theorem dX1_asOf_9 : decode cX1_asOf 9 = .ok (.invokevirtual 113, 3) := dk_182 0 113 (dk_at dksX1_asOf_0 9 rfl rfl)
theorem dX1_asOf_12 : decode cX1_asOf 12 = .ok (.invokestatic 82, 3) := dk_184 0 82 (dk_at dksX1_asOf_0 12 rfl rfl)
theorem dX1_asOf_15 : decode cX1_asOf 15 = .ok (.aload_n 0, 1) := dk_42 (dk_at dksX1_asOf_0 15 rfl rfl)
theorem dX1_asOf_16 : decode cX1_asOf 16 = .ok (.getfield 17, 3) := dk_180 0 17 (dk_at dksX1_asOf_0 16 rfl rfl)
theorem dX1_asOf_19 : decode cX1_asOf 19 = .ok (.iload_n 1, 1) := dk_27 (dk_at dksX1_asOf_0 19 rfl rfl)
theorem dX1_asOf_20 : decode cX1_asOf 20 = .ok (.aaload, 1) := dk_50 (dk_at dksX1_asOf_0 20 rfl rfl)
theorem dX1_asOf_21 : decode cX1_asOf 21 = .ok (.getfield 127, 3) := dk_180 0 127 (dk_at dksX1_asOf_0 21 rfl rfl)
theorem dX1_asOf_24 : decode cX1_asOf 24 = .ok (.astore_n 3, 1) := dk_78 (dk_at dksX1_asOf_1 0 rfl rfl)
theorem dX1_asOf_25 : decode cX1_asOf 25 = .ok (.aload_n 3, 1) := dk_45 (dk_at dksX1_asOf_1 1 rfl rfl)
theorem dX1_asOf_26 : decode cX1_asOf 26 = .ok (.ifnull 28, 3) := dk_198 0 28 (dk_at dksX1_asOf_1 2 rfl rfl)
theorem dX1_asOf_29 : decode cX1_asOf 29 = .ok (.aload_n 3, 1) := dk_45 (dk_at dksX1_asOf_1 5 rfl rfl)
theorem dX1_asOf_30 : decode cX1_asOf 30 = .ok (.getfield 166, 3) := dk_180 0 166 (dk_at dksX1_asOf_1 6 rfl rfl)
theorem dX1_asOf_33 : decode cX1_asOf 33 = .ok (.getfield 156, 3) := dk_180 0 156 (dk_at dksX1_asOf_1 9 rfl rfl)
theorem dX1_asOf_36 : decode cX1_asOf 36 = .ok (.iconst 1, 1) := dk_4 (dk_at dksX1_asOf_1 12 rfl rfl)
theorem dX1_asOf_37 : decode cX1_asOf 37 = .ok (.if_icmp .ne 17, 3) := dk_160 0 17 (dk_at dksX1_asOf_1 13 rfl rfl)
theorem dX1_asOf_40 : decode cX1_asOf 40 = .ok (.aload_n 3, 1) := dk_45 (dk_at dksX1_asOf_1 16 rfl rfl)
theorem dX1_asOf_41 : decode cX1_asOf 41 = .ok (.getfield 166, 3) := dk_180 0 166 (dk_at dksX1_asOf_1 17 rfl rfl)
theorem dX1_asOf_44 : decode cX1_asOf 44 = .ok (.getfield 221, 3) := dk_180 0 221 (dk_at dksX1_asOf_1 20 rfl rfl)
theorem dX1_asOf_47 : decode cX1_asOf 47 = .ok (.iload_n 2, 1) := dk_28 (dk_at dksX1_asOf_1 23 rfl rfl)
theorem dX1_asOf_48 : decode cX1_asOf 48 = .ok (.if_icmp .gt 6, 3) := dk_163 0 6 (dk_at dksX1_asOf_2 0 rfl rfl)
theorem dX1_asOf_51 : decode cX1_asOf 51 = .ok (.bipush (-11), 2) := dk_16 245 (dk_at dksX1_asOf_2 3 rfl rfl)
theorem dX1_asOf_53 : decode cX1_asOf 53 = .ok (.ireturn, 1) := dk_172 (dk_at dksX1_asOf_2 5 rfl rfl)
theorem dX1_asOf_54 : decode cX1_asOf 54 = .ok (.aload_n 0, 1) := dk_42 (dk_at dksX1_asOf_2 6 rfl rfl)
theorem dX1_asOf_55 : decode cX1_asOf 55 = .ok (.getfield 17, 3) := dk_180 0 17 (dk_at dksX1_asOf_2 7 rfl rfl)
theorem dX1_asOf_58 : decode cX1_asOf 58 = .ok (.iload_n 1, 1) := dk_27 (dk_at dksX1_asOf_2 10 rfl rfl)
theorem dX1_asOf_59 : decode cX1_asOf 59 = .ok (.aaload, 1) := dk_50 (dk_at dksX1_asOf_2 11 rfl rfl)
theorem dX1_asOf_60 : decode cX1_asOf 60 = .ok (.iload_n 2, 1) := dk_28 (dk_at dksX1_asOf_2 12 rfl rfl)
theorem dX1_asOf_61 : decode cX1_asOf 61 = .ok (.invokevirtual 239, 3) := dk_182 0 239 (dk_at dksX1_asOf_2 13 rfl rfl)
theorem dX1_asOf_64 : decode cX1_asOf 64 = .ok (.astore 4, 2) := dk_58 4 (dk_at dksX1_asOf_2 16 rfl rfl)
theorem dX1_asOf_66 : decode cX1_asOf 66 = .ok (.aload 4, 2) := dk_25 4 (dk_at dksX1_asOf_2 18 rfl rfl)
theorem dX1_asOf_68 : decode cX1_asOf 68 = .ok (.ifnonnull 9, 3) := dk_199 0 9 (dk_at dksX1_asOf_2 20 rfl rfl)
theorem dX1_asOf_71 : decode cX1_asOf 71 = .ok (.sipush 1000, 3) := dk_17 3 232 (dk_at dksX1_asOf_3 0 rfl rfl)
theorem dX1_asOf_74 : decode cX1_asOf 74 = .ok (.goto 8, 3) := dk_167 0 8 (dk_at dksX1_asOf_3 3 rfl rfl)
theorem dX1_asOf_77 : decode cX1_asOf 77 = .ok (.aload 4, 2) := dk_25 4 (dk_at dksX1_asOf_3 6 rfl rfl)
theorem dX1_asOf_79 : decode cX1_asOf 79 = .ok (.getfield 255, 3) := dk_180 0 255 (dk_at dksX1_asOf_3 8 rfl rfl)
theorem dX1_asOf_82 : decode cX1_asOf 82 = .ok (.ireturn, 1) := dk_172 (dk_at dksX1_asOf_3 11 rfl rfl)
abbrev cX1_feed : ByteArray := prog_1_method_41_code
def yX1_feed : MethodName := ⟨RX1, "feed", "(I)I"⟩
def dkwX1_feed_8 : List UInt8 := [172]
abbrev dktX1_feed_8 : List UInt8 := dkwX1_feed_8 ++ []
def dkwX1_feed_7 : List UInt8 := [132, 8, 1, 167, 255, 137, 21, 5, 2, 160, 0, 5, 2, 172, 21, 5, 61, 132, 4, 1, 167, 255, 97, 28]
abbrev dktX1_feed_7 : List UInt8 := dkwX1_feed_7 ++ dktX1_feed_8
def dkwX1_feed_6 : List UInt8 := [159, 0, 10, 21, 12, 21, 5, 162, 0, 8, 21, 12, 167, 0, 5, 21, 5, 54, 5, 167, 255, 169]
abbrev dktX1_feed_6 : List UInt8 := dkwX1_feed_6 ++ dktX1_feed_7
def dkwX1_feed_5 : List UInt8 := [163, 0, 13, 21, 12, 28, 164, 0, 7, 4, 167, 0, 4, 3, 54, 13, 21, 13, 153, 0, 21, 21, 5, 2]
abbrev dktX1_feed_5 : List UInt8 := dkwX1_feed_5 ++ dktX1_feed_6
def dkwX1_feed_4 : List UInt8 := [16, 32, 25, 11, 180, 0, 243, 104, 25, 9, 180, 0, 116, 96, 54, 12, 25, 11, 180, 0, 243, 29]
abbrev dktX1_feed_4 : List UInt8 := dkwX1_feed_4 ++ dktX1_feed_5
def dkwX1_feed_3 : List UInt8 := [58, 10, 25, 10, 185, 1, 38, 1, 0, 153, 0, 83, 25, 10, 185, 1, 43, 1, 0, 192, 0, 244, 58, 11]
abbrev dktX1_feed_3 : List UInt8 := dkwX1_feed_3 ++ dktX1_feed_4
def dkwX1_feed_2 : List UInt8 := [21, 8, 21, 7, 162, 0, 118, 25, 6, 21, 8, 50, 58, 9, 25, 9, 180, 1, 61, 185, 1, 64, 1, 0]
abbrev dktX1_feed_2 : List UInt8 := dkwX1_feed_2 ++ dktX1_feed_3
def dkwX1_feed_1 : List UInt8 := [21, 4, 27, 163, 0, 159, 2, 54, 5, 42, 180, 0, 17, 58, 6, 25, 6, 190, 54, 7, 3, 54, 8]
abbrev dktX1_feed_1 : List UInt8 := dkwX1_feed_1 ++ dktX1_feed_2
def dkwX1_feed_0 : List UInt8 := [27, 156, 0, 7, 2, 167, 0, 4, 3, 4, 184, 0, 60, 2, 61, 42, 182, 1, 68, 62, 3, 54, 4]
abbrev dktX1_feed_0 : List UInt8 := dkwX1_feed_0 ++ dktX1_feed_1
theorem dksX1_feed_0 : cX1_feed.data.toList.drop 0 = dktX1_feed_0 := by decide +kernel
theorem dksX1_feed_1 : cX1_feed.data.toList.drop 23 = dktX1_feed_1 := dk_seg dksX1_feed_0 23 rfl rfl
theorem dksX1_feed_2 : cX1_feed.data.toList.drop 46 = dktX1_feed_2 := dk_seg dksX1_feed_1 23 rfl rfl
theorem dksX1_feed_3 : cX1_feed.data.toList.drop 70 = dktX1_feed_3 := dk_seg dksX1_feed_2 24 rfl rfl
theorem dksX1_feed_4 : cX1_feed.data.toList.drop 94 = dktX1_feed_4 := dk_seg dksX1_feed_3 24 rfl rfl
theorem dksX1_feed_5 : cX1_feed.data.toList.drop 116 = dktX1_feed_5 := dk_seg dksX1_feed_4 22 rfl rfl
theorem dksX1_feed_6 : cX1_feed.data.toList.drop 140 = dktX1_feed_6 := dk_seg dksX1_feed_5 24 rfl rfl
theorem dksX1_feed_7 : cX1_feed.data.toList.drop 162 = dktX1_feed_7 := dk_seg dksX1_feed_6 22 rfl rfl
theorem dksX1_feed_8 : cX1_feed.data.toList.drop 186 = dktX1_feed_8 := dk_seg dksX1_feed_7 24 rfl rfl
theorem dX1_feed_0 : decode cX1_feed 0 = .ok (.iload_n 1, 1) := dk_27 (dk_at dksX1_feed_0 0 rfl rfl)
theorem dX1_feed_1 : decode cX1_feed 1 = .ok (.ifCond .ge 7, 3) := dk_156 0 7 (dk_at dksX1_feed_0 1 rfl rfl)
theorem dX1_feed_4 : decode cX1_feed 4 = .ok (.iconst (-1), 1) := dk_2 (dk_at dksX1_feed_0 4 rfl rfl)
theorem dX1_feed_5 : decode cX1_feed 5 = .ok (.goto 4, 3) := dk_167 0 4 (dk_at dksX1_feed_0 5 rfl rfl)
theorem dX1_feed_8 : decode cX1_feed 8 = .ok (.iconst 0, 1) := dk_3 (dk_at dksX1_feed_0 8 rfl rfl)
theorem dX1_feed_9 : decode cX1_feed 9 = .ok (.iconst 1, 1) := dk_4 (dk_at dksX1_feed_0 9 rfl rfl)
theorem dX1_feed_10 : decode cX1_feed 10 = .ok (.invokestatic 60, 3) := dk_184 0 60 (dk_at dksX1_feed_0 10 rfl rfl)
theorem dX1_feed_13 : decode cX1_feed 13 = .ok (.iconst (-1), 1) := dk_2 (dk_at dksX1_feed_0 13 rfl rfl)
theorem dX1_feed_14 : decode cX1_feed 14 = .ok (.istore_n 2, 1) := dk_61 (dk_at dksX1_feed_0 14 rfl rfl)
theorem dX1_feed_15 : decode cX1_feed 15 = .ok (.aload_n 0, 1) := dk_42 (dk_at dksX1_feed_0 15 rfl rfl)
theorem dX1_feed_16 : decode cX1_feed 16 = .ok (.invokevirtual 324, 3) := dk_182 1 68 (dk_at dksX1_feed_0 16 rfl rfl)
theorem dX1_feed_19 : decode cX1_feed 19 = .ok (.istore_n 3, 1) := dk_62 (dk_at dksX1_feed_0 19 rfl rfl)
theorem dX1_feed_20 : decode cX1_feed 20 = .ok (.iconst 0, 1) := dk_3 (dk_at dksX1_feed_0 20 rfl rfl)
theorem dX1_feed_21 : decode cX1_feed 21 = .ok (.istore 4, 2) := dk_54 4 (dk_at dksX1_feed_0 21 rfl rfl)
theorem dX1_feed_23 : decode cX1_feed 23 = .ok (.iload 4, 2) := dk_21 4 (dk_at dksX1_feed_1 0 rfl rfl)
theorem dX1_feed_25 : decode cX1_feed 25 = .ok (.iload_n 1, 1) := dk_27 (dk_at dksX1_feed_1 2 rfl rfl)
theorem dX1_feed_26 : decode cX1_feed 26 = .ok (.if_icmp .gt 159, 3) := dk_163 0 159 (dk_at dksX1_feed_1 3 rfl rfl)
theorem dX1_feed_29 : decode cX1_feed 29 = .ok (.iconst (-1), 1) := dk_2 (dk_at dksX1_feed_1 6 rfl rfl)
theorem dX1_feed_30 : decode cX1_feed 30 = .ok (.istore 5, 2) := dk_54 5 (dk_at dksX1_feed_1 7 rfl rfl)
theorem dX1_feed_32 : decode cX1_feed 32 = .ok (.aload_n 0, 1) := dk_42 (dk_at dksX1_feed_1 9 rfl rfl)
theorem dX1_feed_33 : decode cX1_feed 33 = .ok (.getfield 17, 3) := dk_180 0 17 (dk_at dksX1_feed_1 10 rfl rfl)
theorem dX1_feed_36 : decode cX1_feed 36 = .ok (.astore 6, 2) := dk_58 6 (dk_at dksX1_feed_1 13 rfl rfl)
theorem dX1_feed_38 : decode cX1_feed 38 = .ok (.aload 6, 2) := dk_25 6 (dk_at dksX1_feed_1 15 rfl rfl)
theorem dX1_feed_40 : decode cX1_feed 40 = .ok (.arraylength, 1) := dk_190 (dk_at dksX1_feed_1 17 rfl rfl)
theorem dX1_feed_41 : decode cX1_feed 41 = .ok (.istore 7, 2) := dk_54 7 (dk_at dksX1_feed_1 18 rfl rfl)
theorem dX1_feed_43 : decode cX1_feed 43 = .ok (.iconst 0, 1) := dk_3 (dk_at dksX1_feed_1 20 rfl rfl)
theorem dX1_feed_44 : decode cX1_feed 44 = .ok (.istore 8, 2) := dk_54 8 (dk_at dksX1_feed_1 21 rfl rfl)
theorem dX1_feed_46 : decode cX1_feed 46 = .ok (.iload 8, 2) := dk_21 8 (dk_at dksX1_feed_2 0 rfl rfl)
theorem dX1_feed_48 : decode cX1_feed 48 = .ok (.iload 7, 2) := dk_21 7 (dk_at dksX1_feed_2 2 rfl rfl)
theorem dX1_feed_50 : decode cX1_feed 50 = .ok (.if_icmp .ge 118, 3) := dk_162 0 118 (dk_at dksX1_feed_2 4 rfl rfl)
theorem dX1_feed_53 : decode cX1_feed 53 = .ok (.aload 6, 2) := dk_25 6 (dk_at dksX1_feed_2 7 rfl rfl)
theorem dX1_feed_55 : decode cX1_feed 55 = .ok (.iload 8, 2) := dk_21 8 (dk_at dksX1_feed_2 9 rfl rfl)
theorem dX1_feed_57 : decode cX1_feed 57 = .ok (.aaload, 1) := dk_50 (dk_at dksX1_feed_2 11 rfl rfl)
theorem dX1_feed_58 : decode cX1_feed 58 = .ok (.astore 9, 2) := dk_58 9 (dk_at dksX1_feed_2 12 rfl rfl)
theorem dX1_feed_60 : decode cX1_feed 60 = .ok (.aload 9, 2) := dk_25 9 (dk_at dksX1_feed_2 14 rfl rfl)
theorem dX1_feed_62 : decode cX1_feed 62 = .ok (.getfield 317, 3) := dk_180 1 61 (dk_at dksX1_feed_2 16 rfl rfl)
theorem dX1_feed_65 : decode cX1_feed 65 = .ok (.invokeinterface 320 1, 5) := by decide +kernel
theorem dX1_feed_70 : decode cX1_feed 70 = .ok (.astore 10, 2) := dk_58 10 (dk_at dksX1_feed_3 0 rfl rfl)
theorem dX1_feed_72 : decode cX1_feed 72 = .ok (.aload 10, 2) := dk_25 10 (dk_at dksX1_feed_3 2 rfl rfl)
theorem dX1_feed_74 : decode cX1_feed 74 = .ok (.invokeinterface 294 1, 5) := by decide +kernel
theorem dX1_feed_79 : decode cX1_feed 79 = .ok (.ifCond .eq 83, 3) := dk_153 0 83 (dk_at dksX1_feed_3 9 rfl rfl)
theorem dX1_feed_82 : decode cX1_feed 82 = .ok (.aload 10, 2) := dk_25 10 (dk_at dksX1_feed_3 12 rfl rfl)
theorem dX1_feed_84 : decode cX1_feed 84 = .ok (.invokeinterface 299 1, 5) := by decide +kernel
theorem dX1_feed_89 : decode cX1_feed 89 = .ok (.checkcast 244, 3) := dk_192 0 244 (dk_at dksX1_feed_3 19 rfl rfl)
theorem dX1_feed_92 : decode cX1_feed 92 = .ok (.astore 11, 2) := dk_58 11 (dk_at dksX1_feed_3 22 rfl rfl)
theorem dX1_feed_94 : decode cX1_feed 94 = .ok (.bipush 32, 2) := dk_16 32 (dk_at dksX1_feed_4 0 rfl rfl)
theorem dX1_feed_96 : decode cX1_feed 96 = .ok (.aload 11, 2) := dk_25 11 (dk_at dksX1_feed_4 2 rfl rfl)
theorem dX1_feed_98 : decode cX1_feed 98 = .ok (.getfield 243, 3) := dk_180 0 243 (dk_at dksX1_feed_4 4 rfl rfl)
theorem dX1_feed_101 : decode cX1_feed 101 = .ok (.imul, 1) := dk_104 (dk_at dksX1_feed_4 7 rfl rfl)
theorem dX1_feed_102 : decode cX1_feed 102 = .ok (.aload 9, 2) := dk_25 9 (dk_at dksX1_feed_4 8 rfl rfl)
theorem dX1_feed_104 : decode cX1_feed 104 = .ok (.getfield 116, 3) := dk_180 0 116 (dk_at dksX1_feed_4 10 rfl rfl)
theorem dX1_feed_107 : decode cX1_feed 107 = .ok (.iadd, 1) := dk_96 (dk_at dksX1_feed_4 13 rfl rfl)
theorem dX1_feed_108 : decode cX1_feed 108 = .ok (.istore 12, 2) := dk_54 12 (dk_at dksX1_feed_4 14 rfl rfl)
theorem dX1_feed_110 : decode cX1_feed 110 = .ok (.aload 11, 2) := dk_25 11 (dk_at dksX1_feed_4 16 rfl rfl)
theorem dX1_feed_112 : decode cX1_feed 112 = .ok (.getfield 243, 3) := dk_180 0 243 (dk_at dksX1_feed_4 18 rfl rfl)
theorem dX1_feed_115 : decode cX1_feed 115 = .ok (.iload_n 3, 1) := dk_29 (dk_at dksX1_feed_4 21 rfl rfl)
theorem dX1_feed_116 : decode cX1_feed 116 = .ok (.if_icmp .gt 13, 3) := dk_163 0 13 (dk_at dksX1_feed_5 0 rfl rfl)
theorem dX1_feed_119 : decode cX1_feed 119 = .ok (.iload 12, 2) := dk_21 12 (dk_at dksX1_feed_5 3 rfl rfl)
theorem dX1_feed_121 : decode cX1_feed 121 = .ok (.iload_n 2, 1) := dk_28 (dk_at dksX1_feed_5 5 rfl rfl)
theorem dX1_feed_122 : decode cX1_feed 122 = .ok (.if_icmp .le 7, 3) := dk_164 0 7 (dk_at dksX1_feed_5 6 rfl rfl)
theorem dX1_feed_125 : decode cX1_feed 125 = .ok (.iconst 1, 1) := dk_4 (dk_at dksX1_feed_5 9 rfl rfl)
theorem dX1_feed_126 : decode cX1_feed 126 = .ok (.goto 4, 3) := dk_167 0 4 (dk_at dksX1_feed_5 10 rfl rfl)
theorem dX1_feed_129 : decode cX1_feed 129 = .ok (.iconst 0, 1) := dk_3 (dk_at dksX1_feed_5 13 rfl rfl)
theorem dX1_feed_130 : decode cX1_feed 130 = .ok (.istore 13, 2) := dk_54 13 (dk_at dksX1_feed_5 14 rfl rfl)
theorem dX1_feed_132 : decode cX1_feed 132 = .ok (.iload 13, 2) := dk_21 13 (dk_at dksX1_feed_5 16 rfl rfl)
theorem dX1_feed_134 : decode cX1_feed 134 = .ok (.ifCond .eq 21, 3) := dk_153 0 21 (dk_at dksX1_feed_5 18 rfl rfl)
theorem dX1_feed_137 : decode cX1_feed 137 = .ok (.iload 5, 2) := dk_21 5 (dk_at dksX1_feed_5 21 rfl rfl)
theorem dX1_feed_139 : decode cX1_feed 139 = .ok (.iconst (-1), 1) := dk_2 (dk_at dksX1_feed_5 23 rfl rfl)
theorem dX1_feed_140 : decode cX1_feed 140 = .ok (.if_icmp .eq 10, 3) := dk_159 0 10 (dk_at dksX1_feed_6 0 rfl rfl)
theorem dX1_feed_143 : decode cX1_feed 143 = .ok (.iload 12, 2) := dk_21 12 (dk_at dksX1_feed_6 3 rfl rfl)
theorem dX1_feed_145 : decode cX1_feed 145 = .ok (.iload 5, 2) := dk_21 5 (dk_at dksX1_feed_6 5 rfl rfl)
theorem dX1_feed_147 : decode cX1_feed 147 = .ok (.if_icmp .ge 8, 3) := dk_162 0 8 (dk_at dksX1_feed_6 7 rfl rfl)
theorem dX1_feed_150 : decode cX1_feed 150 = .ok (.iload 12, 2) := dk_21 12 (dk_at dksX1_feed_6 10 rfl rfl)
theorem dX1_feed_152 : decode cX1_feed 152 = .ok (.goto 5, 3) := dk_167 0 5 (dk_at dksX1_feed_6 12 rfl rfl)
theorem dX1_feed_155 : decode cX1_feed 155 = .ok (.iload 5, 2) := dk_21 5 (dk_at dksX1_feed_6 15 rfl rfl)
theorem dX1_feed_157 : decode cX1_feed 157 = .ok (.istore 5, 2) := dk_54 5 (dk_at dksX1_feed_6 17 rfl rfl)
theorem dX1_feed_159 : decode cX1_feed 159 = .ok (.goto (-87), 3) := dk_167 255 169 (dk_at dksX1_feed_6 19 rfl rfl)
theorem dX1_feed_162 : decode cX1_feed 162 = .ok (.iinc 8 1, 3) := dk_132 8 1 (dk_at dksX1_feed_7 0 rfl rfl)
theorem dX1_feed_165 : decode cX1_feed 165 = .ok (.goto (-119), 3) := dk_167 255 137 (dk_at dksX1_feed_7 3 rfl rfl)
theorem dX1_feed_168 : decode cX1_feed 168 = .ok (.iload 5, 2) := dk_21 5 (dk_at dksX1_feed_7 6 rfl rfl)
theorem dX1_feed_170 : decode cX1_feed 170 = .ok (.iconst (-1), 1) := dk_2 (dk_at dksX1_feed_7 8 rfl rfl)
theorem dX1_feed_171 : decode cX1_feed 171 = .ok (.if_icmp .ne 5, 3) := dk_160 0 5 (dk_at dksX1_feed_7 9 rfl rfl)
theorem dX1_feed_174 : decode cX1_feed 174 = .ok (.iconst (-1), 1) := dk_2 (dk_at dksX1_feed_7 12 rfl rfl)
theorem dX1_feed_175 : decode cX1_feed 175 = .ok (.ireturn, 1) := dk_172 (dk_at dksX1_feed_7 13 rfl rfl)
theorem dX1_feed_176 : decode cX1_feed 176 = .ok (.iload 5, 2) := dk_21 5 (dk_at dksX1_feed_7 14 rfl rfl)
theorem dX1_feed_178 : decode cX1_feed 178 = .ok (.istore_n 2, 1) := dk_61 (dk_at dksX1_feed_7 16 rfl rfl)
theorem dX1_feed_179 : decode cX1_feed 179 = .ok (.iinc 4 1, 3) := dk_132 4 1 (dk_at dksX1_feed_7 17 rfl rfl)
theorem dX1_feed_182 : decode cX1_feed 182 = .ok (.goto (-159), 3) := dk_167 255 97 (dk_at dksX1_feed_7 20 rfl rfl)
theorem dX1_feed_185 : decode cX1_feed 185 = .ok (.iload_n 2, 1) := dk_28 (dk_at dksX1_feed_7 23 rfl rfl)
theorem dX1_feed_186 : decode cX1_feed 186 = .ok (.ireturn, 1) := dk_172 (dk_at dksX1_feed_8 0 rfl rfl)
abbrev cX1_order : ByteArray := prog_1_method_43_code
def yX1_order : MethodName := ⟨RX1, "order", "(I)I"⟩
def dkwX1_order_2 : List UInt8 := [2, 172]
abbrev dktX1_order_2 : List UInt8 := dkwX1_order_2 ++ []
def dkwX1_order_1 : List UInt8 := [185, 0, 64, 1, 0, 162, 0, 19, 44, 27, 185, 0, 68, 2, 0, 192, 0, 72, 180, 0, 183, 167, 0, 4]
abbrev dktX1_order_1 : List UInt8 := dkwX1_order_1 ++ dktX1_order_2
def dkwX1_order_0 : List UInt8 := [27, 156, 0, 7, 2, 167, 0, 4, 3, 4, 184, 0, 60, 42, 182, 1, 74, 77, 27, 44]
abbrev dktX1_order_0 : List UInt8 := dkwX1_order_0 ++ dktX1_order_1
theorem dksX1_order_0 : cX1_order.data.toList.drop 0 = dktX1_order_0 := by decide +kernel
theorem dksX1_order_1 : cX1_order.data.toList.drop 20 = dktX1_order_1 := dk_seg dksX1_order_0 20 rfl rfl
theorem dksX1_order_2 : cX1_order.data.toList.drop 44 = dktX1_order_2 := dk_seg dksX1_order_1 24 rfl rfl
theorem dX1_order_0 : decode cX1_order 0 = .ok (.iload_n 1, 1) := dk_27 (dk_at dksX1_order_0 0 rfl rfl)
theorem dX1_order_1 : decode cX1_order 1 = .ok (.ifCond .ge 7, 3) := dk_156 0 7 (dk_at dksX1_order_0 1 rfl rfl)
theorem dX1_order_4 : decode cX1_order 4 = .ok (.iconst (-1), 1) := dk_2 (dk_at dksX1_order_0 4 rfl rfl)
theorem dX1_order_5 : decode cX1_order 5 = .ok (.goto 4, 3) := dk_167 0 4 (dk_at dksX1_order_0 5 rfl rfl)
theorem dX1_order_8 : decode cX1_order 8 = .ok (.iconst 0, 1) := dk_3 (dk_at dksX1_order_0 8 rfl rfl)
theorem dX1_order_9 : decode cX1_order 9 = .ok (.iconst 1, 1) := dk_4 (dk_at dksX1_order_0 9 rfl rfl)
theorem dX1_order_10 : decode cX1_order 10 = .ok (.invokestatic 60, 3) := dk_184 0 60 (dk_at dksX1_order_0 10 rfl rfl)
theorem dX1_order_13 : decode cX1_order 13 = .ok (.aload_n 0, 1) := dk_42 (dk_at dksX1_order_0 13 rfl rfl)
theorem dX1_order_14 : decode cX1_order 14 = .ok (.invokevirtual 330, 3) := dk_182 1 74 (dk_at dksX1_order_0 14 rfl rfl)
theorem dX1_order_17 : decode cX1_order 17 = .ok (.astore_n 2, 1) := dk_77 (dk_at dksX1_order_0 17 rfl rfl)
theorem dX1_order_18 : decode cX1_order 18 = .ok (.iload_n 1, 1) := dk_27 (dk_at dksX1_order_0 18 rfl rfl)
theorem dX1_order_19 : decode cX1_order 19 = .ok (.aload_n 2, 1) := dk_44 (dk_at dksX1_order_0 19 rfl rfl)
theorem dX1_order_20 : decode cX1_order 20 = .ok (.invokeinterface 64 1, 5) := by decide +kernel
theorem dX1_order_25 : decode cX1_order 25 = .ok (.if_icmp .ge 19, 3) := dk_162 0 19 (dk_at dksX1_order_1 5 rfl rfl)
theorem dX1_order_28 : decode cX1_order 28 = .ok (.aload_n 2, 1) := dk_44 (dk_at dksX1_order_1 8 rfl rfl)
theorem dX1_order_29 : decode cX1_order 29 = .ok (.iload_n 1, 1) := dk_27 (dk_at dksX1_order_1 9 rfl rfl)
theorem dX1_order_30 : decode cX1_order 30 = .ok (.invokeinterface 68 2, 5) := by decide +kernel
theorem dX1_order_35 : decode cX1_order 35 = .ok (.checkcast 72, 3) := dk_192 0 72 (dk_at dksX1_order_1 15 rfl rfl)
theorem dX1_order_38 : decode cX1_order 38 = .ok (.getfield 183, 3) := dk_180 0 183 (dk_at dksX1_order_1 18 rfl rfl)
theorem dX1_order_41 : decode cX1_order 41 = .ok (.goto 4, 3) := dk_167 0 4 (dk_at dksX1_order_1 21 rfl rfl)
theorem dX1_order_44 : decode cX1_order 44 = .ok (.iconst (-1), 1) := dk_2 (dk_at dksX1_order_2 0 rfl rfl)
theorem dX1_order_45 : decode cX1_order 45 = .ok (.ireturn, 1) := dk_172 (dk_at dksX1_order_2 1 rfl rfl)
theorem q48 : (Jvm.Cond.initialized "Twinphase") ∈ lw_all := lw_g (lw_at lw_m1 1 rfl) rfl
theorem q99 : (Jvm.Cond.instantiable "Twinphase" (6 : Nat)) ∈ lw_all := lw_g (lw_at lw_m1 52 rfl) rfl
theorem q101 : (Jvm.Cond.instanceMethod ({ cls := "Twinphase", name := "<init>", desc := "()V" } : Jvm.MethodName)) ∈ lw_all := lw_g (lw_at lw_m1 54 rfl) rfl
theorem q102 : (Jvm.Cond.code ({ cls := "Twinphase", name := "<init>", desc := "()V" } : Jvm.MethodName) prog_1_method_1_code (2 : Nat) (Option.none : Option Jvm.ClassFile.FieldType)) ∈ lw_all := lw_g (lw_at lw_m1 55 rfl) rfl
theorem q103 : (Jvm.Cond.methodLink "Twinphase" (1 : Nat) ({ cls := "java/lang/Object", name := "<init>", desc := "()V" } : Jvm.MethodName)) ∈ lw_all := lw_g (lw_at lw_m1 56 rfl) rfl
theorem q106 : (Jvm.Cond.classLink "Twinphase" (9 : Nat) "Twinphase$Node") ∈ lw_all := lw_g (lw_at lw_m1 59 rfl) rfl
theorem q108 : (Jvm.Cond.classLink "Twinphase" (15 : Nat) "Twinphase$Key") ∈ lw_all := lw_g (lw_at lw_m1 61 rfl) rfl
theorem q110 : (Jvm.Cond.classLink "Twinphase" (21 : Nat) "java/util/ArrayList") ∈ lw_all := lw_g (lw_at lw_m1 63 rfl) rfl
theorem q112 : (Jvm.Cond.methodLink "Twinphase" (23 : Nat) ({ cls := "java/util/ArrayList", name := "<init>", desc := "()V" } : Jvm.MethodName)) ∈ lw_all := lw_g (lw_at lw_m1 65 rfl) rfl
theorem q140 : (Jvm.Cond.methodLinkNest "Twinphase" (34 : Nat) ({ cls := "Twinphase$Node", name := "<init>", desc := "(LTwinphase;)V" } : Jvm.MethodName) "Twinphase") ∈ lw_tbl := lw_at lw_m1 93 rfl
theorem q145 : (Jvm.Cond.fieldLinkNest "Twinphase" (97 : Nat) "Twinphase$Node" "skew" "I" "Twinphase") ∈ lw_tbl := lw_at lw_m1 98 rfl
theorem q148 : (Jvm.Cond.fieldLinkNest "Twinphase" (100 : Nat) "Twinphase$Node" "isDown" "Z" "Twinphase") ∈ lw_tbl := lw_at lw_m1 101 rfl
theorem q160 : (Jvm.Cond.methodLink "Twinphase" (37 : Nat) ({ cls := "Twinphase$Key", name := "<init>", desc := "(I)V" } : Jvm.MethodName)) ∈ lw_all := lw_g (lw_at lw_m1 113 rfl) rfl
theorem q488 : (Jvm.Cond.fieldLinkNest "Twinphase" (116 : Nat) "Twinphase$Key" "number" "I" "Twinphase") ∈ lw_tbl := lw_at lw_m2 201 rfl
theorem q491 : (Jvm.Cond.fieldLinkNest "Twinphase" (317 : Nat) "Twinphase$Key" "versions" "Ljava/util/List;" "Twinphase") ∈ lw_tbl := lw_at lw_m2 204 rfl
theorem q493 : (Jvm.Cond.fieldLinkNest "Twinphase" (127 : Nat) "Twinphase$Key" "intent" "LTwinphase$Intent;" "Twinphase") ∈ lw_tbl := lw_at lw_m2 206 rfl
theorem q495 : (Jvm.Cond.fieldLinkNest "Twinphase" (278 : Nat) "Twinphase$Key" "read" "I" "Twinphase") ∈ lw_tbl := lw_at lw_m2 208 rfl
theorem q497 : (Jvm.Cond.fieldLinkNest "Twinphase" (275 : Nat) "Twinphase$Key" "reader" "I" "Twinphase") ∈ lw_tbl := lw_at lw_m2 210 rfl
theorem q509 : (Jvm.Cond.classLink "Twinphase" (40 : Nat) "Twinphase$Range") ∈ lw_all := lw_g (lw_at lw_m2 222 rfl) rfl
theorem q511 : (Jvm.Cond.methodLink "Twinphase" (42 : Nat) ({ cls := "Twinphase$Range", name := "<init>", desc := "(ILTwinphase$Node;)V" } : Jvm.MethodName)) ∈ lw_all := lw_g (lw_at lw_m2 224 rfl) rfl
theorem q516 : (Jvm.Cond.fieldLinkNest "Twinphase" (74 : Nat) "Twinphase$Range" "from" "I" "Twinphase") ∈ lw_tbl := lw_at lw_m2 229 rfl
theorem q519 : (Jvm.Cond.fieldLinkNest "Twinphase" (123 : Nat) "Twinphase$Range" "node" "LTwinphase$Node;" "Twinphase") ∈ lw_tbl := lw_at lw_m2 232 rfl
theorem q525 : (Jvm.Cond.interfaceEntry "Twinphase" (45 : Nat)) ∈ lw_tbl := lw_at lw_m2 238 rfl
theorem q526 : (Jvm.Cond.methodLink "Twinphase" (45 : Nat) ({ cls := "java/util/List", name := "add", desc := "(Ljava/lang/Object;)Z" } : Jvm.MethodName)) ∈ lw_all := lw_g (lw_at lw_m2 239 rfl) rfl
theorem q554 : (Jvm.Cond.selects "Twinphase" ({ cls := "java/lang/Object", name := "getClass", desc := "()Ljava/lang/Class;" } : Jvm.MethodName) ({ cls := "java/lang/Object", name := "getClass", desc := "()Ljava/lang/Class;" } : Jvm.MethodName)) ∈ lw_all := lw_g (lw_at lw_m3 27 rfl) rfl
theorem q590 : (Jvm.Cond.fieldLink "Twinphase" (86 : Nat) "Twinphase" "time" "I") ∈ lw_all := lw_g (lw_at lw_m3 63 rfl) rfl
theorem q591 : (Jvm.Cond.fieldLink "Twinphase" (11 : Nat) "Twinphase" "nodes" "[LTwinphase$Node;") ∈ lw_all := lw_g (lw_at lw_m3 64 rfl) rfl
theorem q593 : (Jvm.Cond.fieldLink "Twinphase" (17 : Nat) "Twinphase" "keys" "[LTwinphase$Key;") ∈ lw_all := lw_g (lw_at lw_m3 66 rfl) rfl
theorem q595 : (Jvm.Cond.fieldLink "Twinphase" (24 : Nat) "Twinphase" "ranges" "Ljava/util/List;") ∈ lw_all := lw_g (lw_at lw_m3 68 rfl) rfl
theorem q596 : (Jvm.Cond.fieldLink "Twinphase" (28 : Nat) "Twinphase" "trades" "Ljava/util/List;") ∈ lw_all := lw_g (lw_at lw_m3 69 rfl) rfl
theorem q597 : (Jvm.Cond.fieldLink "Twinphase" (31 : Nat) "Twinphase" "committed" "Ljava/util/List;") ∈ lw_all := lw_g (lw_at lw_m3 70 rfl) rfl
theorem q599 : (Jvm.Cond.lays "Twinphase" "Twinphase" "time" "I") ∈ lw_all := lw_g (lw_at lw_m3 72 rfl) rfl
theorem q600 : (Jvm.Cond.soleField "Twinphase" "time") ∈ lw_all := lw_g (lw_at lw_m3 73 rfl) rfl
theorem q601 : (Jvm.Cond.laysFinal "Twinphase" "Twinphase" "nodes" "[LTwinphase$Node;") ∈ lw_all := lw_g (lw_at lw_m3 74 rfl) rfl
theorem q602 : (Jvm.Cond.soleField "Twinphase" "nodes") ∈ lw_all := lw_g (lw_at lw_m3 75 rfl) rfl
theorem q603 : (Jvm.Cond.laysFinal "Twinphase" "Twinphase" "keys" "[LTwinphase$Key;") ∈ lw_all := lw_g (lw_at lw_m3 76 rfl) rfl
theorem q604 : (Jvm.Cond.soleField "Twinphase" "keys") ∈ lw_all := lw_g (lw_at lw_m3 77 rfl) rfl
theorem q605 : (Jvm.Cond.laysFinal "Twinphase" "Twinphase" "ranges" "Ljava/util/List;") ∈ lw_all := lw_g (lw_at lw_m3 78 rfl) rfl
theorem q606 : (Jvm.Cond.soleField "Twinphase" "ranges") ∈ lw_all := lw_g (lw_at lw_m3 79 rfl) rfl
theorem q607 : (Jvm.Cond.laysFinal "Twinphase" "Twinphase" "trades" "Ljava/util/List;") ∈ lw_all := lw_g (lw_at lw_m3 80 rfl) rfl
theorem q608 : (Jvm.Cond.soleField "Twinphase" "trades") ∈ lw_all := lw_g (lw_at lw_m3 81 rfl) rfl
theorem q609 : (Jvm.Cond.laysFinal "Twinphase" "Twinphase" "committed" "Ljava/util/List;") ∈ lw_all := lw_g (lw_at lw_m3 82 rfl) rfl
theorem q610 : (Jvm.Cond.soleField "Twinphase" "committed") ∈ lw_all := lw_g (lw_at lw_m3 83 rfl) rfl
theorem q611 : (Jvm.Cond.superclass "Twinphase" "java/lang/Object") ∈ lw_all := lw_g (lw_at lw_m3 84 rfl) rfl
theorem q613 : (Jvm.Cond.instanceMethod ({ cls := "Twinphase", name := "closed", desc := "()I" } : Jvm.MethodName)) ∈ lw_all := lw_g (lw_at lw_m3 86 rfl) rfl
theorem q614 : (Jvm.Cond.selects "Twinphase" ({ cls := "Twinphase", name := "closed", desc := "()I" } : Jvm.MethodName) ({ cls := "Twinphase", name := "closed", desc := "()I" } : Jvm.MethodName)) ∈ lw_all := lw_g (lw_at lw_m3 87 rfl) rfl
theorem q615 : (Jvm.Cond.code ({ cls := "Twinphase", name := "closed", desc := "()I" } : Jvm.MethodName) prog_1_method_14_code (1 : Nat) (Option.some Jvm.ClassFile.FieldType.int)) ∈ lw_all := lw_g (lw_at lw_m3 88 rfl) rfl
theorem q616 : (Jvm.Cond.methodLink "Twinphase" (113 : Nat) ({ cls := "Twinphase", name := "closedStamp", desc := "()I" } : Jvm.MethodName)) ∈ lw_all := lw_g (lw_at lw_m3 89 rfl) rfl
theorem q617 : (Jvm.Cond.privateMethod ({ cls := "Twinphase", name := "closedStamp", desc := "()I" } : Jvm.MethodName)) ∈ lw_tbl := lw_at lw_m3 90 rfl
theorem q618 : (Jvm.Cond.instanceMethod ({ cls := "Twinphase", name := "closedStamp", desc := "()I" } : Jvm.MethodName)) ∈ lw_all := lw_g (lw_at lw_m3 91 rfl) rfl
theorem q619 : (Jvm.Cond.code ({ cls := "Twinphase", name := "closedStamp", desc := "()I" } : Jvm.MethodName) prog_1_method_13_code (1 : Nat) (Option.some Jvm.ClassFile.FieldType.int)) ∈ lw_all := lw_g (lw_at lw_m3 92 rfl) rfl
theorem q620 : (Jvm.Cond.methodLink "Twinphase" (107 : Nat) ({ cls := "java/lang/Math", name := "max", desc := "(II)I" } : Jvm.MethodName)) ∈ lw_all := lw_g (lw_at lw_m3 93 rfl) rfl
theorem q622 : (Jvm.Cond.instanceMethod ({ cls := "Twinphase", name := "resolved", desc := "()I" } : Jvm.MethodName)) ∈ lw_all := lw_g (lw_at lw_m3 95 rfl) rfl
theorem q623 : (Jvm.Cond.selects "Twinphase" ({ cls := "Twinphase", name := "resolved", desc := "()I" } : Jvm.MethodName) ({ cls := "Twinphase", name := "resolved", desc := "()I" } : Jvm.MethodName)) ∈ lw_all := lw_g (lw_at lw_m3 96 rfl) rfl
theorem q624 : (Jvm.Cond.code ({ cls := "Twinphase", name := "resolved", desc := "()I" } : Jvm.MethodName) prog_1_method_40_code (1 : Nat) (Option.some Jvm.ClassFile.FieldType.int)) ∈ lw_all := lw_g (lw_at lw_m3 97 rfl) rfl
theorem q625 : (Jvm.Cond.methodLink "Twinphase" (324 : Nat) ({ cls := "Twinphase", name := "resolvedStamp", desc := "()I" } : Jvm.MethodName)) ∈ lw_all := lw_g (lw_at lw_m3 98 rfl) rfl
theorem q626 : (Jvm.Cond.privateMethod ({ cls := "Twinphase", name := "resolvedStamp", desc := "()I" } : Jvm.MethodName)) ∈ lw_tbl := lw_at lw_m3 99 rfl
theorem q627 : (Jvm.Cond.instanceMethod ({ cls := "Twinphase", name := "resolvedStamp", desc := "()I" } : Jvm.MethodName)) ∈ lw_all := lw_g (lw_at lw_m3 100 rfl) rfl
theorem q628 : (Jvm.Cond.code ({ cls := "Twinphase", name := "resolvedStamp", desc := "()I" } : Jvm.MethodName) prog_1_method_39_code (4 : Nat) (Option.some Jvm.ClassFile.FieldType.int)) ∈ lw_all := lw_g (lw_at lw_m3 101 rfl) rfl
theorem q629 : (Jvm.Cond.interfaceEntry "Twinphase" (320 : Nat)) ∈ lw_tbl := lw_at lw_m3 102 rfl
theorem q630 : (Jvm.Cond.methodLink "Twinphase" (320 : Nat) ({ cls := "java/util/List", name := "iterator", desc := "()Ljava/util/Iterator;" } : Jvm.MethodName)) ∈ lw_all := lw_g (lw_at lw_m3 103 rfl) rfl
theorem q657 : (Jvm.Cond.interfaceEntry "Twinphase" (294 : Nat)) ∈ lw_tbl := lw_at lw_m3 130 rfl
theorem q658 : (Jvm.Cond.methodLink "Twinphase" (294 : Nat) ({ cls := "java/util/Iterator", name := "hasNext", desc := "()Z" } : Jvm.MethodName)) ∈ lw_all := lw_g (lw_at lw_m3 131 rfl) rfl
theorem q676 : (Jvm.Cond.interfaceEntry "Twinphase" (299 : Nat)) ∈ lw_tbl := lw_at lw_m3 149 rfl
theorem q677 : (Jvm.Cond.methodLink "Twinphase" (299 : Nat) ({ cls := "java/util/Iterator", name := "next", desc := "()Ljava/lang/Object;" } : Jvm.MethodName)) ∈ lw_all := lw_g (lw_at lw_m3 150 rfl) rfl
theorem q712 : (Jvm.Cond.classLink "Twinphase" (72 : Nat) "Twinphase$Trade") ∈ lw_all := lw_g (lw_at lw_m3 185 rfl) rfl
theorem q713 : (Jvm.Cond.methodLink "Twinphase" (321 : Nat) ({ cls := "java/lang/Math", name := "min", desc := "(II)I" } : Jvm.MethodName)) ∈ lw_all := lw_g (lw_at lw_m3 186 rfl) rfl
theorem q715 : (Jvm.Cond.instanceMethod ({ cls := "Twinphase", name := "judged", desc := "()I" } : Jvm.MethodName)) ∈ lw_all := lw_g (lw_at lw_m3 188 rfl) rfl
theorem q716 : (Jvm.Cond.selects "Twinphase" ({ cls := "Twinphase", name := "judged", desc := "()I" } : Jvm.MethodName) ({ cls := "Twinphase", name := "judged", desc := "()I" } : Jvm.MethodName)) ∈ lw_all := lw_g (lw_at lw_m3 189 rfl) rfl
theorem q717 : (Jvm.Cond.code ({ cls := "Twinphase", name := "judged", desc := "()I" } : Jvm.MethodName) prog_1_method_44_code (8 : Nat) (Option.some Jvm.ClassFile.FieldType.int)) ∈ lw_all := lw_g (lw_at lw_m3 190 rfl) rfl
theorem q718 : (Jvm.Cond.classLink "Twinphase" (334 : Nat) "java/util/HashMap") ∈ lw_all := lw_g (lw_at lw_m3 191 rfl) rfl
theorem q720 : (Jvm.Cond.methodLink "Twinphase" (336 : Nat) ({ cls := "java/util/HashMap", name := "<init>", desc := "()V" } : Jvm.MethodName)) ∈ lw_all := lw_g (lw_at lw_m3 193 rfl) rfl
theorem q756 : (Jvm.Cond.methodLink "Twinphase" (330 : Nat) ({ cls := "Twinphase", name := "ordered", desc := "()Ljava/util/List;" } : Jvm.MethodName)) ∈ lw_all := lw_g (lw_at lw_m3 229 rfl) rfl
theorem q757 : (Jvm.Cond.privateMethod ({ cls := "Twinphase", name := "ordered", desc := "()Ljava/util/List;" } : Jvm.MethodName)) ∈ lw_tbl := lw_at lw_m3 230 rfl
theorem q758 : (Jvm.Cond.instanceMethod ({ cls := "Twinphase", name := "ordered", desc := "()Ljava/util/List;" } : Jvm.MethodName)) ∈ lw_all := lw_g (lw_at lw_m3 231 rfl) rfl
theorem q759 : (Jvm.Cond.code ({ cls := "Twinphase", name := "ordered", desc := "()Ljava/util/List;" } : Jvm.MethodName) prog_1_method_42_code (5 : Nat) (Option.some (Jvm.ClassFile.FieldType.object "java/util/List"))) ∈ lw_all := lw_g (lw_at lw_m3 232 rfl) rfl
theorem q760 : (Jvm.Cond.interfaceEntry "Twinphase" (64 : Nat)) ∈ lw_tbl := lw_at lw_m3 233 rfl
theorem q761 : (Jvm.Cond.methodLink "Twinphase" (64 : Nat) ({ cls := "java/util/List", name := "size", desc := "()I" } : Jvm.MethodName)) ∈ lw_all := lw_g (lw_at lw_m3 234 rfl) rfl
theorem q769 : (Jvm.Cond.interfaceEntry "Twinphase" (68 : Nat)) ∈ lw_tbl := lw_at lw_m4 2 rfl
theorem q770 : (Jvm.Cond.methodLink "Twinphase" (68 : Nat) ({ cls := "java/util/List", name := "get", desc := "(I)Ljava/lang/Object;" } : Jvm.MethodName)) ∈ lw_all := lw_g (lw_at lw_m4 3 rfl) rfl
theorem q788 : (Jvm.Cond.interfaceEntry "Twinphase" (143 : Nat)) ∈ lw_tbl := lw_at lw_m4 21 rfl
theorem q789 : (Jvm.Cond.methodLink "Twinphase" (143 : Nat) ({ cls := "java/util/List", name := "add", desc := "(ILjava/lang/Object;)V" } : Jvm.MethodName)) ∈ lw_all := lw_g (lw_at lw_m4 22 rfl) rfl
theorem q823 : (Jvm.Cond.interfaceEntry "Twinphase" (337 : Nat)) ∈ lw_tbl := lw_at lw_m4 56 rfl
theorem q824 : (Jvm.Cond.methodLink "Twinphase" (337 : Nat) ({ cls := "java/util/Map", name := "entrySet", desc := "()Ljava/util/Set;" } : Jvm.MethodName)) ∈ lw_all := lw_g (lw_at lw_m4 57 rfl) rfl
theorem q846 : (Jvm.Cond.interfaceEntry "Twinphase" (288 : Nat)) ∈ lw_tbl := lw_at lw_m4 79 rfl
theorem q847 : (Jvm.Cond.methodLink "Twinphase" (288 : Nat) ({ cls := "java/util/Set", name := "iterator", desc := "()Ljava/util/Iterator;" } : Jvm.MethodName)) ∈ lw_all := lw_g (lw_at lw_m4 80 rfl) rfl
theorem q899 : (Jvm.Cond.classLink "Twinphase" (340 : Nat) "java/util/Map$Entry") ∈ lw_all := lw_g (lw_at lw_m4 132 rfl) rfl
theorem q900 : (Jvm.Cond.interfaceEntry "Twinphase" (342 : Nat)) ∈ lw_tbl := lw_at lw_m4 133 rfl
theorem q901 : (Jvm.Cond.methodLink "Twinphase" (342 : Nat) ({ cls := "java/util/Map$Entry", name := "getKey", desc := "()Ljava/lang/Object;" } : Jvm.MethodName)) ∈ lw_all := lw_g (lw_at lw_m4 134 rfl) rfl
theorem q913 : (Jvm.Cond.interfaceEntry "Twinphase" (204 : Nat)) ∈ lw_tbl := lw_at lw_m4 146 rfl
theorem q914 : (Jvm.Cond.methodLink "Twinphase" (204 : Nat) ({ cls := "java/util/Map", name := "get", desc := "(Ljava/lang/Object;)Ljava/lang/Object;" } : Jvm.MethodName)) ∈ lw_all := lw_g (lw_at lw_m4 147 rfl) rfl
theorem q933 : (Jvm.Cond.selects "Twinphase" ({ cls := "java/lang/Object", name := "hashCode", desc := "()I" } : Jvm.MethodName) ({ cls := "java/lang/Object", name := "hashCode", desc := "()I" } : Jvm.MethodName)) ∈ lw_all := lw_g (lw_at lw_m4 166 rfl) rfl
theorem q1022 : (Jvm.Cond.selects "Twinphase" ({ cls := "java/lang/Object", name := "equals", desc := "(Ljava/lang/Object;)Z" } : Jvm.MethodName) ({ cls := "java/lang/Object", name := "equals", desc := "(Ljava/lang/Object;)Z" } : Jvm.MethodName)) ∈ lw_all := lw_g (lw_at lw_m5 15 rfl) rfl
theorem q1275 : (Jvm.Cond.classLink "Twinphase" (209 : Nat) "java/lang/Integer") ∈ lw_all := lw_g (lw_at lw_m6 28 rfl) rfl
theorem q1276 : (Jvm.Cond.methodLink "Twinphase" (211 : Nat) ({ cls := "java/lang/Integer", name := "intValue", desc := "()I" } : Jvm.MethodName)) ∈ lw_all := lw_g (lw_at lw_m6 29 rfl) rfl
theorem q1277 : (Jvm.Cond.interfaceEntry "Twinphase" (345 : Nat)) ∈ lw_tbl := lw_at lw_m6 30 rfl
theorem q1278 : (Jvm.Cond.methodLink "Twinphase" (345 : Nat) ({ cls := "java/util/Map$Entry", name := "getValue", desc := "()Ljava/lang/Object;" } : Jvm.MethodName)) ∈ lw_all := lw_g (lw_at lw_m6 31 rfl) rfl
theorem q1288 : (Jvm.Cond.interfaceEntry "Twinphase" (348 : Nat)) ∈ lw_tbl := lw_at lw_m6 41 rfl
theorem q1289 : (Jvm.Cond.methodLink "Twinphase" (348 : Nat) ({ cls := "java/util/Map", name := "putAll", desc := "(Ljava/util/Map;)V" } : Jvm.MethodName)) ∈ lw_all := lw_g (lw_at lw_m6 42 rfl) rfl
theorem q1498 : (Jvm.Cond.instanceMethod ({ cls := "Twinphase", name := "pass", desc := "(I)I" } : Jvm.MethodName)) ∈ lw_all := lw_g (lw_at lw_m7 11 rfl) rfl
theorem q1499 : (Jvm.Cond.selects "Twinphase" ({ cls := "Twinphase", name := "pass", desc := "(I)I" } : Jvm.MethodName) ({ cls := "Twinphase", name := "pass", desc := "(I)I" } : Jvm.MethodName)) ∈ lw_all := lw_g (lw_at lw_m7 12 rfl) rfl
theorem q1500 : (Jvm.Cond.code ({ cls := "Twinphase", name := "pass", desc := "(I)I" } : Jvm.MethodName) prog_1_method_10_code (2 : Nat) (Option.some Jvm.ClassFile.FieldType.int)) ∈ lw_all := lw_g (lw_at lw_m7 13 rfl) rfl
theorem q1501 : (Jvm.Cond.methodLink "Twinphase" (82 : Nat) ({ cls := "Twinphase", name := "fit", desc := "(III)V" } : Jvm.MethodName)) ∈ lw_all := lw_g (lw_at lw_m7 14 rfl) rfl
theorem q1502 : (Jvm.Cond.static ({ cls := "Twinphase", name := "fit", desc := "(III)V" } : Jvm.MethodName)) ∈ lw_all := lw_g (lw_at lw_m7 15 rfl) rfl
theorem q1503 : (Jvm.Cond.code ({ cls := "Twinphase", name := "fit", desc := "(III)V" } : Jvm.MethodName) prog_1_method_2_code (3 : Nat) (Option.none : Option Jvm.ClassFile.FieldType)) ∈ lw_all := lw_g (lw_at lw_m7 16 rfl) rfl
theorem q1504 : (Jvm.Cond.classLink "Twinphase" (51 : Nat) "java/lang/IllegalArgumentException") ∈ lw_all := lw_g (lw_at lw_m7 17 rfl) rfl
theorem q1505 : (Jvm.Cond.methodLink "Twinphase" (53 : Nat) ({ cls := "java/lang/IllegalArgumentException", name := "<init>", desc := "()V" } : Jvm.MethodName)) ∈ lw_all := lw_g (lw_at lw_m7 18 rfl) rfl
theorem q1515 : (Jvm.Cond.methodLink "Twinphase" (89 : Nat) ({ cls := "Twinphase", name := "can", desc := "(Z)V" } : Jvm.MethodName)) ∈ lw_all := lw_g (lw_at lw_m7 28 rfl) rfl
theorem q1516 : (Jvm.Cond.static ({ cls := "Twinphase", name := "can", desc := "(Z)V" } : Jvm.MethodName)) ∈ lw_all := lw_g (lw_at lw_m7 29 rfl) rfl
theorem q1517 : (Jvm.Cond.code ({ cls := "Twinphase", name := "can", desc := "(Z)V" } : Jvm.MethodName) prog_1_method_4_code (1 : Nat) (Option.none : Option Jvm.ClassFile.FieldType)) ∈ lw_all := lw_g (lw_at lw_m7 30 rfl) rfl
theorem q1518 : (Jvm.Cond.classLink "Twinphase" (57 : Nat) "java/lang/IllegalStateException") ∈ lw_all := lw_g (lw_at lw_m7 31 rfl) rfl
theorem q1527 : (Jvm.Cond.methodLink "Twinphase" (59 : Nat) ({ cls := "java/lang/IllegalStateException", name := "<init>", desc := "()V" } : Jvm.MethodName)) ∈ lw_all := lw_g (lw_at lw_m7 40 rfl) rfl
theorem q1553 : (Jvm.Cond.instanceMethod ({ cls := "Twinphase", name := "skew", desc := "(II)I" } : Jvm.MethodName)) ∈ lw_all := lw_g (lw_at lw_m7 66 rfl) rfl
theorem q1554 : (Jvm.Cond.selects "Twinphase" ({ cls := "Twinphase", name := "skew", desc := "(II)I" } : Jvm.MethodName) ({ cls := "Twinphase", name := "skew", desc := "(II)I" } : Jvm.MethodName)) ∈ lw_all := lw_g (lw_at lw_m7 67 rfl) rfl
theorem q1555 : (Jvm.Cond.code ({ cls := "Twinphase", name := "skew", desc := "(II)I" } : Jvm.MethodName) prog_1_method_11_code (5 : Nat) (Option.some Jvm.ClassFile.FieldType.int)) ∈ lw_all := lw_g (lw_at lw_m7 68 rfl) rfl
theorem q1556 : (Jvm.Cond.methodLink "Twinphase" (93 : Nat) ({ cls := "Twinphase", name := "nodeAt", desc := "(I)LTwinphase$Node;" } : Jvm.MethodName)) ∈ lw_all := lw_g (lw_at lw_m7 69 rfl) rfl
theorem q1557 : (Jvm.Cond.privateMethod ({ cls := "Twinphase", name := "nodeAt", desc := "(I)LTwinphase$Node;" } : Jvm.MethodName)) ∈ lw_tbl := lw_at lw_m7 70 rfl
theorem q1558 : (Jvm.Cond.instanceMethod ({ cls := "Twinphase", name := "nodeAt", desc := "(I)LTwinphase$Node;" } : Jvm.MethodName)) ∈ lw_all := lw_g (lw_at lw_m7 71 rfl) rfl
theorem q1559 : (Jvm.Cond.code ({ cls := "Twinphase", name := "nodeAt", desc := "(I)LTwinphase$Node;" } : Jvm.MethodName) prog_1_method_5_code (2 : Nat) (Option.some (Jvm.ClassFile.FieldType.object "Twinphase$Node"))) ∈ lw_all := lw_g (lw_at lw_m7 72 rfl) rfl
theorem q1560 : (Jvm.Cond.methodLink "Twinphase" (60 : Nat) ({ cls := "Twinphase", name := "there", desc := "(II)V" } : Jvm.MethodName)) ∈ lw_all := lw_g (lw_at lw_m7 73 rfl) rfl
theorem q1561 : (Jvm.Cond.static ({ cls := "Twinphase", name := "there", desc := "(II)V" } : Jvm.MethodName)) ∈ lw_all := lw_g (lw_at lw_m7 74 rfl) rfl
theorem q1562 : (Jvm.Cond.code ({ cls := "Twinphase", name := "there", desc := "(II)V" } : Jvm.MethodName) prog_1_method_3_code (2 : Nat) (Option.none : Option Jvm.ClassFile.FieldType)) ∈ lw_all := lw_g (lw_at lw_m7 75 rfl) rfl
theorem q1563 : (Jvm.Cond.classLink "Twinphase" (54 : Nat) "java/lang/IndexOutOfBoundsException") ∈ lw_all := lw_g (lw_at lw_m7 76 rfl) rfl
theorem q1564 : (Jvm.Cond.methodLink "Twinphase" (56 : Nat) ({ cls := "java/lang/IndexOutOfBoundsException", name := "<init>", desc := "()V" } : Jvm.MethodName)) ∈ lw_all := lw_g (lw_at lw_m7 77 rfl) rfl
theorem q1572 : (Jvm.Cond.instanceMethod ({ cls := "Twinphase", name := "clock", desc := "(I)I" } : Jvm.MethodName)) ∈ lw_all := lw_g (lw_at lw_m7 85 rfl) rfl
theorem q1573 : (Jvm.Cond.selects "Twinphase" ({ cls := "Twinphase", name := "clock", desc := "(I)I" } : Jvm.MethodName) ({ cls := "Twinphase", name := "clock", desc := "(I)I" } : Jvm.MethodName)) ∈ lw_all := lw_g (lw_at lw_m7 86 rfl) rfl
theorem q1574 : (Jvm.Cond.code ({ cls := "Twinphase", name := "clock", desc := "(I)I" } : Jvm.MethodName) prog_1_method_12_code (3 : Nat) (Option.some Jvm.ClassFile.FieldType.int)) ∈ lw_all := lw_g (lw_at lw_m7 87 rfl) rfl
theorem q1575 : (Jvm.Cond.methodLink "Twinphase" (104 : Nat) ({ cls := "Twinphase$Node", name := "asked", desc := "()I" } : Jvm.MethodName)) ∈ lw_all := lw_g (lw_at lw_m7 88 rfl) rfl
theorem q1584 : (Jvm.Cond.instanceMethod ({ cls := "Twinphase", name := "down", desc := "(I)I" } : Jvm.MethodName)) ∈ lw_all := lw_g (lw_at lw_m7 97 rfl) rfl
theorem q1585 : (Jvm.Cond.selects "Twinphase" ({ cls := "Twinphase", name := "down", desc := "(I)I" } : Jvm.MethodName) ({ cls := "Twinphase", name := "down", desc := "(I)I" } : Jvm.MethodName)) ∈ lw_all := lw_g (lw_at lw_m7 98 rfl) rfl
theorem q1586 : (Jvm.Cond.code ({ cls := "Twinphase", name := "down", desc := "(I)I" } : Jvm.MethodName) prog_1_method_15_code (8 : Nat) (Option.some Jvm.ClassFile.FieldType.int)) ∈ lw_all := lw_g (lw_at lw_m7 99 rfl) rfl
theorem q1587 : (Jvm.Cond.methodLink "Twinphase" (119 : Nat) ({ cls := "Twinphase", name := "rangeOf", desc := "(I)LTwinphase$Range;" } : Jvm.MethodName)) ∈ lw_all := lw_g (lw_at lw_m7 100 rfl) rfl
theorem q1588 : (Jvm.Cond.privateMethod ({ cls := "Twinphase", name := "rangeOf", desc := "(I)LTwinphase$Range;" } : Jvm.MethodName)) ∈ lw_tbl := lw_at lw_m7 101 rfl
theorem q1589 : (Jvm.Cond.instanceMethod ({ cls := "Twinphase", name := "rangeOf", desc := "(I)LTwinphase$Range;" } : Jvm.MethodName)) ∈ lw_all := lw_g (lw_at lw_m7 102 rfl) rfl
theorem q1590 : (Jvm.Cond.code ({ cls := "Twinphase", name := "rangeOf", desc := "(I)LTwinphase$Range;" } : Jvm.MethodName) prog_1_method_8_code (2 : Nat) (Option.some (Jvm.ClassFile.FieldType.object "Twinphase$Range"))) ∈ lw_all := lw_g (lw_at lw_m7 103 rfl) rfl
theorem q1591 : (Jvm.Cond.methodLink "Twinphase" (78 : Nat) ({ cls := "Twinphase", name := "placeOf", desc := "(I)I" } : Jvm.MethodName)) ∈ lw_all := lw_g (lw_at lw_m7 104 rfl) rfl
theorem q1592 : (Jvm.Cond.privateMethod ({ cls := "Twinphase", name := "placeOf", desc := "(I)I" } : Jvm.MethodName)) ∈ lw_tbl := lw_at lw_m7 105 rfl
theorem q1593 : (Jvm.Cond.instanceMethod ({ cls := "Twinphase", name := "placeOf", desc := "(I)I" } : Jvm.MethodName)) ∈ lw_all := lw_g (lw_at lw_m7 106 rfl) rfl
theorem q1594 : (Jvm.Cond.code ({ cls := "Twinphase", name := "placeOf", desc := "(I)I" } : Jvm.MethodName) prog_1_method_7_code (3 : Nat) (Option.some Jvm.ClassFile.FieldType.int)) ∈ lw_all := lw_g (lw_at lw_m7 107 rfl) rfl
theorem q1599 : (Jvm.Cond.instanceMethod ({ cls := "Twinphase", name := "up", desc := "(I)I" } : Jvm.MethodName)) ∈ lw_all := lw_g (lw_at lw_m7 112 rfl) rfl
theorem q1600 : (Jvm.Cond.selects "Twinphase" ({ cls := "Twinphase", name := "up", desc := "(I)I" } : Jvm.MethodName) ({ cls := "Twinphase", name := "up", desc := "(I)I" } : Jvm.MethodName)) ∈ lw_all := lw_g (lw_at lw_m7 113 rfl) rfl
theorem q1601 : (Jvm.Cond.code ({ cls := "Twinphase", name := "up", desc := "(I)I" } : Jvm.MethodName) prog_1_method_17_code (4 : Nat) (Option.some Jvm.ClassFile.FieldType.int)) ∈ lw_all := lw_g (lw_at lw_m7 114 rfl) rfl
theorem q1602 : (Jvm.Cond.methodLink "Twinphase" (139 : Nat) ({ cls := "Twinphase", name := "leases", desc := "(LTwinphase$Node;III)V" } : Jvm.MethodName)) ∈ lw_all := lw_g (lw_at lw_m7 115 rfl) rfl
theorem q1603 : (Jvm.Cond.privateMethod ({ cls := "Twinphase", name := "leases", desc := "(LTwinphase$Node;III)V" } : Jvm.MethodName)) ∈ lw_tbl := lw_at lw_m7 116 rfl
theorem q1604 : (Jvm.Cond.instanceMethod ({ cls := "Twinphase", name := "leases", desc := "(LTwinphase$Node;III)V" } : Jvm.MethodName)) ∈ lw_all := lw_g (lw_at lw_m7 117 rfl) rfl
theorem q1605 : (Jvm.Cond.code ({ cls := "Twinphase", name := "leases", desc := "(LTwinphase$Node;III)V" } : Jvm.MethodName) prog_1_method_16_code (6 : Nat) (Option.none : Option Jvm.ClassFile.FieldType)) ∈ lw_all := lw_g (lw_at lw_m7 118 rfl) rfl
theorem q1606 : (Jvm.Cond.methodLink "Twinphase" (136 : Nat) ({ cls := "Twinphase$Key", name := "isLeased", desc := "(I)V" } : Jvm.MethodName)) ∈ lw_all := lw_g (lw_at lw_m7 119 rfl) rfl
theorem q1614 : (Jvm.Cond.instanceMethod ({ cls := "Twinphase", name := "sync", desc := "(I)I" } : Jvm.MethodName)) ∈ lw_all := lw_g (lw_at lw_m7 127 rfl) rfl
theorem q1615 : (Jvm.Cond.selects "Twinphase" ({ cls := "Twinphase", name := "sync", desc := "(I)I" } : Jvm.MethodName) ({ cls := "Twinphase", name := "sync", desc := "(I)I" } : Jvm.MethodName)) ∈ lw_all := lw_g (lw_at lw_m7 128 rfl) rfl
theorem q1616 : (Jvm.Cond.code ({ cls := "Twinphase", name := "sync", desc := "(I)I" } : Jvm.MethodName) prog_1_method_18_code (8 : Nat) (Option.some Jvm.ClassFile.FieldType.int)) ∈ lw_all := lw_g (lw_at lw_m7 129 rfl) rfl
theorem q1621 : (Jvm.Cond.instanceMethod ({ cls := "Twinphase", name := "split", desc := "(I)I" } : Jvm.MethodName)) ∈ lw_all := lw_g (lw_at lw_m7 134 rfl) rfl
theorem q1622 : (Jvm.Cond.selects "Twinphase" ({ cls := "Twinphase", name := "split", desc := "(I)I" } : Jvm.MethodName) ({ cls := "Twinphase", name := "split", desc := "(I)I" } : Jvm.MethodName)) ∈ lw_all := lw_g (lw_at lw_m7 135 rfl) rfl
theorem q1623 : (Jvm.Cond.code ({ cls := "Twinphase", name := "split", desc := "(I)I" } : Jvm.MethodName) prog_1_method_19_code (3 : Nat) (Option.some Jvm.ClassFile.FieldType.int)) ∈ lw_all := lw_g (lw_at lw_m7 136 rfl) rfl
theorem q1628 : (Jvm.Cond.instanceMethod ({ cls := "Twinphase", name := "merge", desc := "(I)I" } : Jvm.MethodName)) ∈ lw_all := lw_g (lw_at lw_m7 141 rfl) rfl
theorem q1629 : (Jvm.Cond.selects "Twinphase" ({ cls := "Twinphase", name := "merge", desc := "(I)I" } : Jvm.MethodName) ({ cls := "Twinphase", name := "merge", desc := "(I)I" } : Jvm.MethodName)) ∈ lw_all := lw_g (lw_at lw_m7 142 rfl) rfl
theorem q1630 : (Jvm.Cond.code ({ cls := "Twinphase", name := "merge", desc := "(I)I" } : Jvm.MethodName) prog_1_method_20_code (2 : Nat) (Option.some Jvm.ClassFile.FieldType.int)) ∈ lw_all := lw_g (lw_at lw_m7 143 rfl) rfl
theorem q1631 : (Jvm.Cond.interfaceEntry "Twinphase" (146 : Nat)) ∈ lw_tbl := lw_at lw_m7 144 rfl
theorem q1632 : (Jvm.Cond.methodLink "Twinphase" (146 : Nat) ({ cls := "java/util/List", name := "remove", desc := "(I)Ljava/lang/Object;" } : Jvm.MethodName)) ∈ lw_all := lw_g (lw_at lw_m7 145 rfl) rfl
theorem q1648 : (Jvm.Cond.instanceMethod ({ cls := "Twinphase", name := "move", desc := "(II)I" } : Jvm.MethodName)) ∈ lw_all := lw_g (lw_at lw_m7 161 rfl) rfl
theorem q1649 : (Jvm.Cond.selects "Twinphase" ({ cls := "Twinphase", name := "move", desc := "(II)I" } : Jvm.MethodName) ({ cls := "Twinphase", name := "move", desc := "(II)I" } : Jvm.MethodName)) ∈ lw_all := lw_g (lw_at lw_m7 162 rfl) rfl
theorem q1650 : (Jvm.Cond.code ({ cls := "Twinphase", name := "move", desc := "(II)I" } : Jvm.MethodName) prog_1_method_21_code (7 : Nat) (Option.some Jvm.ClassFile.FieldType.int)) ∈ lw_all := lw_g (lw_at lw_m7 163 rfl) rfl
theorem q1651 : (Jvm.Cond.methodLink "Twinphase" (149 : Nat) ({ cls := "Twinphase", name := "numberOf", desc := "(LTwinphase$Node;)I" } : Jvm.MethodName)) ∈ lw_all := lw_g (lw_at lw_m7 164 rfl) rfl
theorem q1652 : (Jvm.Cond.privateMethod ({ cls := "Twinphase", name := "numberOf", desc := "(LTwinphase$Node;)I" } : Jvm.MethodName)) ∈ lw_tbl := lw_at lw_m7 165 rfl
theorem q1653 : (Jvm.Cond.instanceMethod ({ cls := "Twinphase", name := "numberOf", desc := "(LTwinphase$Node;)I" } : Jvm.MethodName)) ∈ lw_all := lw_g (lw_at lw_m7 166 rfl) rfl
theorem q1654 : (Jvm.Cond.code ({ cls := "Twinphase", name := "numberOf", desc := "(LTwinphase$Node;)I" } : Jvm.MethodName) prog_1_method_9_code (3 : Nat) (Option.some Jvm.ClassFile.FieldType.int)) ∈ lw_all := lw_g (lw_at lw_m7 167 rfl) rfl
theorem q1659 : (Jvm.Cond.instanceMethod ({ cls := "Twinphase", name := "begin", desc := "(II)I" } : Jvm.MethodName)) ∈ lw_all := lw_g (lw_at lw_m7 172 rfl) rfl
theorem q1660 : (Jvm.Cond.selects "Twinphase" ({ cls := "Twinphase", name := "begin", desc := "(II)I" } : Jvm.MethodName) ({ cls := "Twinphase", name := "begin", desc := "(II)I" } : Jvm.MethodName)) ∈ lw_all := lw_g (lw_at lw_m7 173 rfl) rfl
theorem q1661 : (Jvm.Cond.code ({ cls := "Twinphase", name := "begin", desc := "(II)I" } : Jvm.MethodName) prog_1_method_22_code (4 : Nat) (Option.some Jvm.ClassFile.FieldType.int)) ∈ lw_all := lw_g (lw_at lw_m7 174 rfl) rfl
theorem q1663 : (Jvm.Cond.methodLink "Twinphase" (153 : Nat) ({ cls := "Twinphase$Trade", name := "<init>", desc := "(LTwinphase;ILTwinphase$Node;II)V" } : Jvm.MethodName)) ∈ lw_all := lw_g (lw_at lw_m7 176 rfl) rfl
theorem q1670 : (Jvm.Cond.fieldLinkNest "Twinphase" (183 : Nat) "Twinphase$Trade" "number" "I" "Twinphase") ∈ lw_tbl := lw_at lw_m7 183 rfl
theorem q1673 : (Jvm.Cond.fieldLinkNest "Twinphase" (180 : Nat) "Twinphase$Trade" "rank" "I" "Twinphase") ∈ lw_tbl := lw_at lw_m7 186 rfl
theorem q1675 : (Jvm.Cond.fieldLinkNest "Twinphase" (156 : Nat) "Twinphase$Trade" "state" "I" "Twinphase") ∈ lw_tbl := lw_at lw_m7 188 rfl
theorem q1677 : (Jvm.Cond.fieldLinkNest "Twinphase" (218 : Nat) "Twinphase$Trade" "reads" "I" "Twinphase") ∈ lw_tbl := lw_at lw_m7 190 rfl
theorem q1679 : (Jvm.Cond.fieldLinkNest "Twinphase" (221 : Nat) "Twinphase$Trade" "writes" "I" "Twinphase") ∈ lw_tbl := lw_at lw_m7 192 rfl
theorem q1682 : (Jvm.Cond.fieldLinkNest "Twinphase" (313 : Nat) "Twinphase$Trade" "beat" "I" "Twinphase") ∈ lw_tbl := lw_at lw_m7 195 rfl
theorem q1684 : (Jvm.Cond.fieldLinkNest "Twinphase" (177 : Nat) "Twinphase$Trade" "waitsFor" "LTwinphase$Trade;" "Twinphase") ∈ lw_tbl := lw_at lw_m7 197 rfl
theorem q1686 : (Jvm.Cond.fieldLinkNest "Twinphase" (327 : Nat) "Twinphase$Trade" "place" "I" "Twinphase") ∈ lw_tbl := lw_at lw_m7 199 rfl
theorem q1688 : (Jvm.Cond.fieldLinkNest "Twinphase" (261 : Nat) "Twinphase$Trade" "seen" "Ljava/util/Map;" "Twinphase") ∈ lw_tbl := lw_at lw_m7 201 rfl
theorem q1690 : (Jvm.Cond.fieldLinkNest "Twinphase" (197 : Nat) "Twinphase$Trade" "wanted" "Ljava/util/Map;" "Twinphase") ∈ lw_tbl := lw_at lw_m7 203 rfl
theorem q1727 : (Jvm.Cond.instanceMethod ({ cls := "Twinphase", name := "get", desc := "(II)I" } : Jvm.MethodName)) ∈ lw_all := lw_g (lw_at lw_m8 0 rfl) rfl
theorem q1728 : (Jvm.Cond.selects "Twinphase" ({ cls := "Twinphase", name := "get", desc := "(II)I" } : Jvm.MethodName) ({ cls := "Twinphase", name := "get", desc := "(II)I" } : Jvm.MethodName)) ∈ lw_all := lw_g (lw_at lw_m8 1 rfl) rfl
theorem q1729 : (Jvm.Cond.code ({ cls := "Twinphase", name := "get", desc := "(II)I" } : Jvm.MethodName) prog_1_method_28_code (11 : Nat) (Option.some Jvm.ClassFile.FieldType.int)) ∈ lw_all := lw_g (lw_at lw_m8 2 rfl) rfl
theorem q1730 : (Jvm.Cond.methodLink "Twinphase" (186 : Nat) ({ cls := "Twinphase", name := "tradeAt", desc := "(I)LTwinphase$Trade;" } : Jvm.MethodName)) ∈ lw_all := lw_g (lw_at lw_m8 3 rfl) rfl
theorem q1731 : (Jvm.Cond.privateMethod ({ cls := "Twinphase", name := "tradeAt", desc := "(I)LTwinphase$Trade;" } : Jvm.MethodName)) ∈ lw_tbl := lw_at lw_m8 4 rfl
theorem q1732 : (Jvm.Cond.instanceMethod ({ cls := "Twinphase", name := "tradeAt", desc := "(I)LTwinphase$Trade;" } : Jvm.MethodName)) ∈ lw_all := lw_g (lw_at lw_m8 5 rfl) rfl
theorem q1733 : (Jvm.Cond.code ({ cls := "Twinphase", name := "tradeAt", desc := "(I)LTwinphase$Trade;" } : Jvm.MethodName) prog_1_method_6_code (2 : Nat) (Option.some (Jvm.ClassFile.FieldType.object "Twinphase$Trade"))) ∈ lw_all := lw_g (lw_at lw_m8 6 rfl) rfl
theorem q1734 : (Jvm.Cond.methodLink "Twinphase" (190 : Nat) ({ cls := "Twinphase", name := "answersFirst", desc := "(LTwinphase$Trade;LTwinphase$Node;)I" } : Jvm.MethodName)) ∈ lw_all := lw_g (lw_at lw_m8 7 rfl) rfl
theorem q1735 : (Jvm.Cond.privateMethod ({ cls := "Twinphase", name := "answersFirst", desc := "(LTwinphase$Trade;LTwinphase$Node;)I" } : Jvm.MethodName)) ∈ lw_tbl := lw_at lw_m8 8 rfl
theorem q1736 : (Jvm.Cond.instanceMethod ({ cls := "Twinphase", name := "answersFirst", desc := "(LTwinphase$Trade;LTwinphase$Node;)I" } : Jvm.MethodName)) ∈ lw_all := lw_g (lw_at lw_m8 9 rfl) rfl
theorem q1737 : (Jvm.Cond.code ({ cls := "Twinphase", name := "answersFirst", desc := "(LTwinphase$Trade;LTwinphase$Node;)I" } : Jvm.MethodName) prog_1_method_26_code (3 : Nat) (Option.some Jvm.ClassFile.FieldType.int)) ∈ lw_all := lw_g (lw_at lw_m8 10 rfl) rfl
theorem q1738 : (Jvm.Cond.methodLink "Twinphase" (184 : Nat) ({ cls := "Twinphase$Trade", name := "isDown", desc := "()Z" } : Jvm.MethodName)) ∈ lw_all := lw_g (lw_at lw_m8 11 rfl) rfl
theorem q1742 : (Jvm.Cond.methodLink "Twinphase" (194 : Nat) ({ cls := "Twinphase$Trade", name := "doubtAt", desc := "(I)I" } : Jvm.MethodName)) ∈ lw_all := lw_g (lw_at lw_m8 15 rfl) rfl
theorem q1752 : (Jvm.Cond.classLink "Twinphase" (201 : Nat) "Twinphase$Spot") ∈ lw_all := lw_g (lw_at lw_m8 25 rfl) rfl
theorem q1754 : (Jvm.Cond.methodLink "Twinphase" (203 : Nat) ({ cls := "Twinphase$Spot", name := "<init>", desc := "(I)V" } : Jvm.MethodName)) ∈ lw_all := lw_g (lw_at lw_m8 27 rfl) rfl
theorem q1759 : (Jvm.Cond.fieldLinkNest "Twinphase" (303 : Nat) "Twinphase$Spot" "key" "I" "Twinphase") ∈ lw_tbl := lw_at lw_m8 32 rfl
theorem q1763 : (Jvm.Cond.methodLink "Twinphase" (214 : Nat) ({ cls := "Twinphase", name := "inTheWay", desc := "(LTwinphase$Key;LTwinphase$Trade;)LTwinphase$Trade;" } : Jvm.MethodName)) ∈ lw_all := lw_g (lw_at lw_m8 36 rfl) rfl
theorem q1764 : (Jvm.Cond.privateMethod ({ cls := "Twinphase", name := "inTheWay", desc := "(LTwinphase$Key;LTwinphase$Trade;)LTwinphase$Trade;" } : Jvm.MethodName)) ∈ lw_tbl := lw_at lw_m8 37 rfl
theorem q1765 : (Jvm.Cond.instanceMethod ({ cls := "Twinphase", name := "inTheWay", desc := "(LTwinphase$Key;LTwinphase$Trade;)LTwinphase$Trade;" } : Jvm.MethodName)) ∈ lw_all := lw_g (lw_at lw_m8 38 rfl) rfl
theorem q1766 : (Jvm.Cond.code ({ cls := "Twinphase", name := "inTheWay", desc := "(LTwinphase$Key;LTwinphase$Trade;)LTwinphase$Trade;" } : Jvm.MethodName) prog_1_method_24_code (4 : Nat) (Option.some (Jvm.ClassFile.FieldType.object "Twinphase$Trade"))) ∈ lw_all := lw_g (lw_at lw_m8 39 rfl) rfl
theorem q1767 : (Jvm.Cond.methodLink "Twinphase" (170 : Nat) ({ cls := "Twinphase", name := "recovers", desc := "(LTwinphase$Trade;)V" } : Jvm.MethodName)) ∈ lw_all := lw_g (lw_at lw_m8 40 rfl) rfl
theorem q1768 : (Jvm.Cond.privateMethod ({ cls := "Twinphase", name := "recovers", desc := "(LTwinphase$Trade;)V" } : Jvm.MethodName)) ∈ lw_tbl := lw_at lw_m8 41 rfl
theorem q1769 : (Jvm.Cond.instanceMethod ({ cls := "Twinphase", name := "recovers", desc := "(LTwinphase$Trade;)V" } : Jvm.MethodName)) ∈ lw_all := lw_g (lw_at lw_m8 42 rfl) rfl
theorem q1770 : (Jvm.Cond.code ({ cls := "Twinphase", name := "recovers", desc := "(LTwinphase$Trade;)V" } : Jvm.MethodName) prog_1_method_23_code (2 : Nat) (Option.none : Option Jvm.ClassFile.FieldType)) ∈ lw_all := lw_g (lw_at lw_m8 43 rfl) rfl
theorem q1771 : (Jvm.Cond.methodLink "Twinphase" (159 : Nat) ({ cls := "Twinphase$Trade", name := "isWhole", desc := "()Z" } : Jvm.MethodName)) ∈ lw_all := lw_g (lw_at lw_m8 44 rfl) rfl
theorem q1777 : (Jvm.Cond.methodLink "Twinphase" (163 : Nat) ({ cls := "Twinphase$Trade", name := "ends", desc := "(I)V" } : Jvm.MethodName)) ∈ lw_all := lw_g (lw_at lw_m8 50 rfl) rfl
theorem q1793 : (Jvm.Cond.fieldLinkNest "Twinphase" (243 : Nat) "Twinphase$Version" "stamp" "I" "Twinphase") ∈ lw_tbl := lw_at lw_m8 66 rfl
theorem q1795 : (Jvm.Cond.fieldLinkNest "Twinphase" (255 : Nat) "Twinphase$Version" "value" "I" "Twinphase") ∈ lw_tbl := lw_at lw_m8 68 rfl
theorem q1801 : (Jvm.Cond.methodLink "Twinphase" (174 : Nat) ({ cls := "Twinphase$Trade", name := "isVanished", desc := "()Z" } : Jvm.MethodName)) ∈ lw_all := lw_g (lw_at lw_m8 74 rfl) rfl
theorem q1805 : (Jvm.Cond.methodLink "Twinphase" (224 : Nat) ({ cls := "Twinphase", name := "goesOnFrom", desc := "(LTwinphase$Trade;LTwinphase$Trade;)Z" } : Jvm.MethodName)) ∈ lw_all := lw_g (lw_at lw_m8 78 rfl) rfl
theorem q1806 : (Jvm.Cond.privateMethod ({ cls := "Twinphase", name := "goesOnFrom", desc := "(LTwinphase$Trade;LTwinphase$Trade;)Z" } : Jvm.MethodName)) ∈ lw_tbl := lw_at lw_m8 79 rfl
theorem q1807 : (Jvm.Cond.instanceMethod ({ cls := "Twinphase", name := "goesOnFrom", desc := "(LTwinphase$Trade;LTwinphase$Trade;)Z" } : Jvm.MethodName)) ∈ lw_all := lw_g (lw_at lw_m8 80 rfl) rfl
theorem q1808 : (Jvm.Cond.code ({ cls := "Twinphase", name := "goesOnFrom", desc := "(LTwinphase$Trade;LTwinphase$Trade;)Z" } : Jvm.MethodName) prog_1_method_25_code (6 : Nat) (Option.some Jvm.ClassFile.FieldType.boolean)) ∈ lw_all := lw_g (lw_at lw_m8 81 rfl) rfl
theorem q1809 : (Jvm.Cond.methodLink "Twinphase" (228 : Nat) ({ cls := "Twinphase", name := "waitsOrEnded", desc := "(LTwinphase$Trade;)I" } : Jvm.MethodName)) ∈ lw_all := lw_g (lw_at lw_m8 82 rfl) rfl
theorem q1810 : (Jvm.Cond.static ({ cls := "Twinphase", name := "waitsOrEnded", desc := "(LTwinphase$Trade;)I" } : Jvm.MethodName)) ∈ lw_all := lw_g (lw_at lw_m8 83 rfl) rfl
theorem q1811 : (Jvm.Cond.code ({ cls := "Twinphase", name := "waitsOrEnded", desc := "(LTwinphase$Trade;)I" } : Jvm.MethodName) prog_1_method_27_code (1 : Nat) (Option.some Jvm.ClassFile.FieldType.int)) ∈ lw_all := lw_g (lw_at lw_m8 84 rfl) rfl
theorem q1812 : (Jvm.Cond.methodLink "Twinphase" (232 : Nat) ({ cls := "Twinphase$Key", name := "hasBetween", desc := "(II)Z" } : Jvm.MethodName)) ∈ lw_all := lw_g (lw_at lw_m8 85 rfl) rfl
theorem q1827 : (Jvm.Cond.methodLink "Twinphase" (236 : Nat) ({ cls := "Twinphase", name := "reads", desc := "(LTwinphase$Trade;LTwinphase$Key;)I" } : Jvm.MethodName)) ∈ lw_all := lw_g (lw_at lw_m8 100 rfl) rfl
theorem q1828 : (Jvm.Cond.static ({ cls := "Twinphase", name := "reads", desc := "(LTwinphase$Trade;LTwinphase$Key;)I" } : Jvm.MethodName)) ∈ lw_all := lw_g (lw_at lw_m8 101 rfl) rfl
theorem q1829 : (Jvm.Cond.code ({ cls := "Twinphase", name := "reads", desc := "(LTwinphase$Trade;LTwinphase$Key;)I" } : Jvm.MethodName) prog_1_method_29_code (4 : Nat) (Option.some Jvm.ClassFile.FieldType.int)) ∈ lw_all := lw_g (lw_at lw_m8 102 rfl) rfl
theorem q1830 : (Jvm.Cond.methodLink "Twinphase" (239 : Nat) ({ cls := "Twinphase$Key", name := "upTo", desc := "(I)LTwinphase$Version;" } : Jvm.MethodName)) ∈ lw_all := lw_g (lw_at lw_m8 103 rfl) rfl
theorem q1831 : (Jvm.Cond.methodLink "Twinphase" (258 : Nat) ({ cls := "Twinphase$Key", name := "isRead", desc := "(II)V" } : Jvm.MethodName)) ∈ lw_all := lw_g (lw_at lw_m8 104 rfl) rfl
theorem q1835 : (Jvm.Cond.methodLink "Twinphase" (264 : Nat) ({ cls := "java/lang/Integer", name := "valueOf", desc := "(I)Ljava/lang/Integer;" } : Jvm.MethodName)) ∈ lw_all := lw_g (lw_at lw_m8 108 rfl) rfl
theorem q1854 : (Jvm.Cond.interfaceEntry "Twinphase" (268 : Nat)) ∈ lw_tbl := lw_at lw_m8 127 rfl
theorem q1855 : (Jvm.Cond.methodLink "Twinphase" (268 : Nat) ({ cls := "java/util/Map", name := "put", desc := "(Ljava/lang/Object;Ljava/lang/Object;)Ljava/lang/Object;" } : Jvm.MethodName)) ∈ lw_all := lw_g (lw_at lw_m8 128 rfl) rfl
theorem q1863 : (Jvm.Cond.methodLink "Twinphase" (248 : Nat) ({ cls := "Twinphase$Trade", name := "refreshes", desc := "(I)Z" } : Jvm.MethodName)) ∈ lw_all := lw_g (lw_at lw_m8 136 rfl) rfl
theorem q1882 : (Jvm.Cond.methodLink "Twinphase" (252 : Nat) ({ cls := "Twinphase$Trade", name := "restarts", desc := "(I)V" } : Jvm.MethodName)) ∈ lw_all := lw_g (lw_at lw_m8 155 rfl) rfl
theorem q1900 : (Jvm.Cond.instanceMethod ({ cls := "Twinphase", name := "put", desc := "(III)I" } : Jvm.MethodName)) ∈ lw_all := lw_g (lw_at lw_m8 173 rfl) rfl
theorem q1901 : (Jvm.Cond.selects "Twinphase" ({ cls := "Twinphase", name := "put", desc := "(III)I" } : Jvm.MethodName) ({ cls := "Twinphase", name := "put", desc := "(III)I" } : Jvm.MethodName)) ∈ lw_all := lw_g (lw_at lw_m8 174 rfl) rfl
theorem q1902 : (Jvm.Cond.code ({ cls := "Twinphase", name := "put", desc := "(III)I" } : Jvm.MethodName) prog_1_method_30_code (9 : Nat) (Option.some Jvm.ClassFile.FieldType.int)) ∈ lw_all := lw_g (lw_at lw_m8 175 rfl) rfl
theorem q1903 : (Jvm.Cond.methodLink "Twinphase" (272 : Nat) ({ cls := "Twinphase$Key", name := "latest", desc := "()I" } : Jvm.MethodName)) ∈ lw_all := lw_g (lw_at lw_m8 176 rfl) rfl
theorem q1920 : (Jvm.Cond.classLink "Twinphase" (132 : Nat) "Twinphase$Intent") ∈ lw_all := lw_g (lw_at lw_m8 193 rfl) rfl
theorem q1922 : (Jvm.Cond.methodLink "Twinphase" (281 : Nat) ({ cls := "Twinphase$Intent", name := "<init>", desc := "(LTwinphase$Trade;I)V" } : Jvm.MethodName)) ∈ lw_all := lw_g (lw_at lw_m8 195 rfl) rfl
theorem q1928 : (Jvm.Cond.fieldLinkNest "Twinphase" (166 : Nat) "Twinphase$Intent" "by" "LTwinphase$Trade;" "Twinphase") ∈ lw_tbl := lw_at lw_m8 201 rfl
theorem q1931 : (Jvm.Cond.fieldLinkNest "Twinphase" (131 : Nat) "Twinphase$Intent" "isSure" "Z" "Twinphase") ∈ lw_tbl := lw_at lw_m8 204 rfl
theorem q1943 : (Jvm.Cond.instanceMethod ({ cls := "Twinphase", name := "commit", desc := "(IZ)I" } : Jvm.MethodName)) ∈ lw_all := lw_g (lw_at lw_m8 216 rfl) rfl
theorem q1944 : (Jvm.Cond.selects "Twinphase" ({ cls := "Twinphase", name := "commit", desc := "(IZ)I" } : Jvm.MethodName) ({ cls := "Twinphase", name := "commit", desc := "(IZ)I" } : Jvm.MethodName)) ∈ lw_all := lw_g (lw_at lw_m8 217 rfl) rfl
theorem q1945 : (Jvm.Cond.code ({ cls := "Twinphase", name := "commit", desc := "(IZ)I" } : Jvm.MethodName) prog_1_method_32_code (5 : Nat) (Option.some Jvm.ClassFile.FieldType.int)) ∈ lw_all := lw_g (lw_at lw_m8 218 rfl) rfl
theorem q1946 : (Jvm.Cond.methodLink "Twinphase" (306 : Nat) ({ cls := "Twinphase", name := "hasDown", desc := "(LTwinphase$Trade;)Z" } : Jvm.MethodName)) ∈ lw_all := lw_g (lw_at lw_m8 219 rfl) rfl
theorem q1947 : (Jvm.Cond.privateMethod ({ cls := "Twinphase", name := "hasDown", desc := "(LTwinphase$Trade;)Z" } : Jvm.MethodName)) ∈ lw_tbl := lw_at lw_m8 220 rfl
theorem q1948 : (Jvm.Cond.instanceMethod ({ cls := "Twinphase", name := "hasDown", desc := "(LTwinphase$Trade;)Z" } : Jvm.MethodName)) ∈ lw_all := lw_g (lw_at lw_m8 221 rfl) rfl
theorem q1949 : (Jvm.Cond.code ({ cls := "Twinphase", name := "hasDown", desc := "(LTwinphase$Trade;)Z" } : Jvm.MethodName) prog_1_method_31_code (5 : Nat) (Option.some Jvm.ClassFile.FieldType.boolean)) ∈ lw_all := lw_g (lw_at lw_m8 222 rfl) rfl
theorem q1950 : (Jvm.Cond.interfaceEntry "Twinphase" (284 : Nat)) ∈ lw_tbl := lw_at lw_m8 223 rfl
theorem q1951 : (Jvm.Cond.methodLink "Twinphase" (284 : Nat) ({ cls := "java/util/Map", name := "keySet", desc := "()Ljava/util/Set;" } : Jvm.MethodName)) ∈ lw_all := lw_g (lw_at lw_m8 224 rfl) rfl
theorem q1969 : (Jvm.Cond.interfaceEntry "Twinphase" (310 : Nat)) ∈ lw_tbl := lw_at lw_m9 2 rfl
theorem q1970 : (Jvm.Cond.methodLink "Twinphase" (310 : Nat) ({ cls := "java/util/Map", name := "isEmpty", desc := "()Z" } : Jvm.MethodName)) ∈ lw_all := lw_g (lw_at lw_m9 3 rfl) rfl
theorem q1982 : (Jvm.Cond.instanceMethod ({ cls := "Twinphase", name := "abort", desc := "(I)I" } : Jvm.MethodName)) ∈ lw_all := lw_g (lw_at lw_m9 15 rfl) rfl
theorem q1983 : (Jvm.Cond.selects "Twinphase" ({ cls := "Twinphase", name := "abort", desc := "(I)I" } : Jvm.MethodName) ({ cls := "Twinphase", name := "abort", desc := "(I)I" } : Jvm.MethodName)) ∈ lw_all := lw_g (lw_at lw_m9 16 rfl) rfl
theorem q1984 : (Jvm.Cond.code ({ cls := "Twinphase", name := "abort", desc := "(I)I" } : Jvm.MethodName) prog_1_method_33_code (3 : Nat) (Option.some Jvm.ClassFile.FieldType.int)) ∈ lw_all := lw_g (lw_at lw_m9 17 rfl) rfl
theorem q1989 : (Jvm.Cond.instanceMethod ({ cls := "Twinphase", name := "recover", desc := "(I)I" } : Jvm.MethodName)) ∈ lw_all := lw_g (lw_at lw_m9 22 rfl) rfl
theorem q1990 : (Jvm.Cond.selects "Twinphase" ({ cls := "Twinphase", name := "recover", desc := "(I)I" } : Jvm.MethodName) ({ cls := "Twinphase", name := "recover", desc := "(I)I" } : Jvm.MethodName)) ∈ lw_all := lw_g (lw_at lw_m9 23 rfl) rfl
theorem q1991 : (Jvm.Cond.code ({ cls := "Twinphase", name := "recover", desc := "(I)I" } : Jvm.MethodName) prog_1_method_34_code (3 : Nat) (Option.some Jvm.ClassFile.FieldType.int)) ∈ lw_all := lw_g (lw_at lw_m9 24 rfl) rfl
theorem q1996 : (Jvm.Cond.instanceMethod ({ cls := "Twinphase", name := "beat", desc := "(I)I" } : Jvm.MethodName)) ∈ lw_all := lw_g (lw_at lw_m9 29 rfl) rfl
theorem q1997 : (Jvm.Cond.selects "Twinphase" ({ cls := "Twinphase", name := "beat", desc := "(I)I" } : Jvm.MethodName) ({ cls := "Twinphase", name := "beat", desc := "(I)I" } : Jvm.MethodName)) ∈ lw_all := lw_g (lw_at lw_m9 30 rfl) rfl
theorem q1998 : (Jvm.Cond.code ({ cls := "Twinphase", name := "beat", desc := "(I)I" } : Jvm.MethodName) prog_1_method_35_code (3 : Nat) (Option.some Jvm.ClassFile.FieldType.int)) ∈ lw_all := lw_g (lw_at lw_m9 31 rfl) rfl
theorem q2003 : (Jvm.Cond.instanceMethod ({ cls := "Twinphase", name := "told", desc := "(II)I" } : Jvm.MethodName)) ∈ lw_all := lw_g (lw_at lw_m9 36 rfl) rfl
theorem q2004 : (Jvm.Cond.selects "Twinphase" ({ cls := "Twinphase", name := "told", desc := "(II)I" } : Jvm.MethodName) ({ cls := "Twinphase", name := "told", desc := "(II)I" } : Jvm.MethodName)) ∈ lw_all := lw_g (lw_at lw_m9 37 rfl) rfl
theorem q2005 : (Jvm.Cond.code ({ cls := "Twinphase", name := "told", desc := "(II)I" } : Jvm.MethodName) prog_1_method_36_code (4 : Nat) (Option.some Jvm.ClassFile.FieldType.int)) ∈ lw_all := lw_g (lw_at lw_m9 38 rfl) rfl
theorem q2006 : (Jvm.Cond.interfaceEntry "Twinphase" (316 : Nat)) ∈ lw_tbl := lw_at lw_m9 39 rfl
theorem q2007 : (Jvm.Cond.methodLink "Twinphase" (316 : Nat) ({ cls := "java/util/Map", name := "size", desc := "()I" } : Jvm.MethodName)) ∈ lw_all := lw_g (lw_at lw_m9 40 rfl) rfl
theorem q2012 : (Jvm.Cond.instanceMethod ({ cls := "Twinphase", name := "key", desc := "(II)I" } : Jvm.MethodName)) ∈ lw_all := lw_g (lw_at lw_m9 45 rfl) rfl
theorem q2013 : (Jvm.Cond.selects "Twinphase" ({ cls := "Twinphase", name := "key", desc := "(II)I" } : Jvm.MethodName) ({ cls := "Twinphase", name := "key", desc := "(II)I" } : Jvm.MethodName)) ∈ lw_all := lw_g (lw_at lw_m9 46 rfl) rfl
theorem q2014 : (Jvm.Cond.code ({ cls := "Twinphase", name := "key", desc := "(II)I" } : Jvm.MethodName) prog_1_method_37_code (4 : Nat) (Option.some Jvm.ClassFile.FieldType.int)) ∈ lw_all := lw_g (lw_at lw_m9 47 rfl) rfl
theorem q2019 : (Jvm.Cond.instanceMethod ({ cls := "Twinphase", name := "asOf", desc := "(II)I" } : Jvm.MethodName)) ∈ lw_all := lw_g (lw_at lw_m9 52 rfl) rfl
theorem q2020 : (Jvm.Cond.selects "Twinphase" ({ cls := "Twinphase", name := "asOf", desc := "(II)I" } : Jvm.MethodName) ({ cls := "Twinphase", name := "asOf", desc := "(II)I" } : Jvm.MethodName)) ∈ lw_all := lw_g (lw_at lw_m9 53 rfl) rfl
theorem q2021 : (Jvm.Cond.code ({ cls := "Twinphase", name := "asOf", desc := "(II)I" } : Jvm.MethodName) prog_1_method_38_code (5 : Nat) (Option.some Jvm.ClassFile.FieldType.int)) ∈ lw_all := lw_g (lw_at lw_m9 54 rfl) rfl
theorem q2026 : (Jvm.Cond.instanceMethod ({ cls := "Twinphase", name := "feed", desc := "(I)I" } : Jvm.MethodName)) ∈ lw_all := lw_g (lw_at lw_m9 59 rfl) rfl
theorem q2027 : (Jvm.Cond.selects "Twinphase" ({ cls := "Twinphase", name := "feed", desc := "(I)I" } : Jvm.MethodName) ({ cls := "Twinphase", name := "feed", desc := "(I)I" } : Jvm.MethodName)) ∈ lw_all := lw_g (lw_at lw_m9 60 rfl) rfl
theorem q2028 : (Jvm.Cond.code ({ cls := "Twinphase", name := "feed", desc := "(I)I" } : Jvm.MethodName) prog_1_method_41_code (14 : Nat) (Option.some Jvm.ClassFile.FieldType.int)) ∈ lw_all := lw_g (lw_at lw_m9 61 rfl) rfl
theorem q2029 : (Jvm.Cond.classLink "Twinphase" (244 : Nat) "Twinphase$Version") ∈ lw_all := lw_g (lw_at lw_m9 62 rfl) rfl
theorem q2034 : (Jvm.Cond.instanceMethod ({ cls := "Twinphase", name := "order", desc := "(I)I" } : Jvm.MethodName)) ∈ lw_all := lw_g (lw_at lw_m9 67 rfl) rfl
theorem q2035 : (Jvm.Cond.selects "Twinphase" ({ cls := "Twinphase", name := "order", desc := "(I)I" } : Jvm.MethodName) ({ cls := "Twinphase", name := "order", desc := "(I)I" } : Jvm.MethodName)) ∈ lw_all := lw_g (lw_at lw_m9 68 rfl) rfl
theorem q2036 : (Jvm.Cond.code ({ cls := "Twinphase", name := "order", desc := "(I)I" } : Jvm.MethodName) prog_1_method_43_code (3 : Nat) (Option.some Jvm.ClassFile.FieldType.int)) ∈ lw_all := lw_g (lw_at lw_m9 69 rfl) rfl
theorem q2368 : (Jvm.Cond.castable "Twinphase" "java/lang/Object") ∈ lw_tbl := lw_at lw_m10 161 rfl
theorem in_X1 : ∀ w ∈ wsX10, w ∈ lw_all := lw_in wsX10 [599, 601, 603, 605, 607, 609] (by decide +kernel) (by decide +kernel)
/-! Twinphase$Node -/
set_option maxRecDepth 100000
def RX2 : String := "Twinphase$Node"
def TX2 : u_T := fun k => match k with
  | 0 => ("Twinphase$Node", "skew", "I", false)
  | 1 => ("Twinphase$Node", "met", "I", false)
  | 2 => ("Twinphase$Node", "isDown", "Z", false)
  | _ => ("Twinphase$Node", "this$0", "LTwinphase;", true)
def tyX2 : Nat → FieldType := fun k => match k with
  | 0 => .int
  | 1 => .int
  | 2 => .boolean
  | _ => .object "Twinphase"
abbrev wsX20 : List Cond := u_ws RX2 TX2 4
theorem nmX2 : ∀ a, a < 4 → ∀ b, b < 4 → a ≠ b → (TX2 a).2.1 ≠ (TX2 b).2.1 := by decide +kernel
theorem tyX2_ok : ∀ k, k < 4 → parseFieldDescriptor (TX2 k).2.2.1 = some (tyX2 k) := by decide +kernel
abbrev cX2_init : ByteArray := prog_4_method_1_code
def yX2_init : MethodName := ⟨RX2, "<init>", "(LTwinphase;)V"⟩
def dkwX2_init_0 : List UInt8 := [42, 43, 181, 0, 3, 42, 183, 0, 9, 177]
abbrev dktX2_init_0 : List UInt8 := dkwX2_init_0 ++ []
theorem dksX2_init_0 : cX2_init.data.toList.drop 0 = dktX2_init_0 := by decide +kernel
theorem dX2_init_0 : decode cX2_init 0 = .ok (.aload_n 0, 1) := dk_42 (dk_at dksX2_init_0 0 rfl rfl)
theorem dX2_init_1 : decode cX2_init 1 = .ok (.aload_n 1, 1) := dk_43 (dk_at dksX2_init_0 1 rfl rfl)
theorem dX2_init_2 : decode cX2_init 2 = .ok (.putfield 3, 3) := dk_181 0 3 (dk_at dksX2_init_0 2 rfl rfl)
theorem dX2_init_5 : decode cX2_init 5 = .ok (.aload_n 0, 1) := dk_42 (dk_at dksX2_init_0 5 rfl rfl)
theorem dX2_init_6 : decode cX2_init 6 = .ok (.invokespecial 9, 3) := dk_183 0 9 (dk_at dksX2_init_0 6 rfl rfl)
theorem dX2_init_9 : decode cX2_init 9 = .ok (.return_, 1) := dk_177 (dk_at dksX2_init_0 9 rfl rfl)
abbrev cX2_asked : ByteArray := prog_4_method_2_code
def yX2_asked : MethodName := ⟨RX2, "asked", "()I"⟩
def dkwX2_asked_1 : List UInt8 := [184, 0, 25, 181, 0, 22, 42, 180, 0, 22, 172]
abbrev dktX2_asked_1 : List UInt8 := dkwX2_asked_1 ++ []
def dkwX2_asked_0 : List UInt8 := [42, 16, 10, 42, 180, 0, 3, 180, 0, 15, 42, 180, 0, 19, 96, 104, 42, 180, 0, 22, 4, 96]
abbrev dktX2_asked_0 : List UInt8 := dkwX2_asked_0 ++ dktX2_asked_1
theorem dksX2_asked_0 : cX2_asked.data.toList.drop 0 = dktX2_asked_0 := by decide +kernel
theorem dksX2_asked_1 : cX2_asked.data.toList.drop 22 = dktX2_asked_1 := dk_seg dksX2_asked_0 22 rfl rfl
theorem dX2_asked_0 : decode cX2_asked 0 = .ok (.aload_n 0, 1) := dk_42 (dk_at dksX2_asked_0 0 rfl rfl)
theorem dX2_asked_1 : decode cX2_asked 1 = .ok (.bipush 10, 2) := dk_16 10 (dk_at dksX2_asked_0 1 rfl rfl)
theorem dX2_asked_3 : decode cX2_asked 3 = .ok (.aload_n 0, 1) := dk_42 (dk_at dksX2_asked_0 3 rfl rfl)
theorem dX2_asked_4 : decode cX2_asked 4 = .ok (.getfield 3, 3) := dk_180 0 3 (dk_at dksX2_asked_0 4 rfl rfl)
theorem dX2_asked_7 : decode cX2_asked 7 = .ok (.getfield 15, 3) := dk_180 0 15 (dk_at dksX2_asked_0 7 rfl rfl)
theorem dX2_asked_10 : decode cX2_asked 10 = .ok (.aload_n 0, 1) := dk_42 (dk_at dksX2_asked_0 10 rfl rfl)
theorem dX2_asked_11 : decode cX2_asked 11 = .ok (.getfield 19, 3) := dk_180 0 19 (dk_at dksX2_asked_0 11 rfl rfl)
theorem dX2_asked_14 : decode cX2_asked 14 = .ok (.iadd, 1) := dk_96 (dk_at dksX2_asked_0 14 rfl rfl)
theorem dX2_asked_15 : decode cX2_asked 15 = .ok (.imul, 1) := dk_104 (dk_at dksX2_asked_0 15 rfl rfl)
theorem dX2_asked_16 : decode cX2_asked 16 = .ok (.aload_n 0, 1) := dk_42 (dk_at dksX2_asked_0 16 rfl rfl)
theorem dX2_asked_17 : decode cX2_asked 17 = .ok (.getfield 22, 3) := dk_180 0 22 (dk_at dksX2_asked_0 17 rfl rfl)
theorem dX2_asked_20 : decode cX2_asked 20 = .ok (.iconst 1, 1) := dk_4 (dk_at dksX2_asked_0 20 rfl rfl)
theorem dX2_asked_21 : decode cX2_asked 21 = .ok (.iadd, 1) := dk_96 (dk_at dksX2_asked_0 21 rfl rfl)
theorem dX2_asked_22 : decode cX2_asked 22 = .ok (.invokestatic 25, 3) := dk_184 0 25 (dk_at dksX2_asked_1 0 rfl rfl)
theorem dX2_asked_25 : decode cX2_asked 25 = .ok (.putfield 22, 3) := dk_181 0 22 (dk_at dksX2_asked_1 3 rfl rfl)
theorem dX2_asked_28 : decode cX2_asked 28 = .ok (.aload_n 0, 1) := dk_42 (dk_at dksX2_asked_1 6 rfl rfl)
theorem dX2_asked_29 : decode cX2_asked 29 = .ok (.getfield 22, 3) := dk_180 0 22 (dk_at dksX2_asked_1 7 rfl rfl)
theorem dX2_asked_32 : decode cX2_asked 32 = .ok (.ireturn, 1) := dk_172 (dk_at dksX2_asked_1 10 rfl rfl)
abbrev cX2_meets : ByteArray := prog_4_method_3_code
def yX2_meets : MethodName := ⟨RX2, "meets", "(I)V"⟩
def dkwX2_meets_0 : List UInt8 := [42, 42, 180, 0, 22, 27, 184, 0, 25, 181, 0, 22, 177]
abbrev dktX2_meets_0 : List UInt8 := dkwX2_meets_0 ++ []
theorem dksX2_meets_0 : cX2_meets.data.toList.drop 0 = dktX2_meets_0 := by decide +kernel
theorem dX2_meets_0 : decode cX2_meets 0 = .ok (.aload_n 0, 1) := dk_42 (dk_at dksX2_meets_0 0 rfl rfl)
theorem dX2_meets_1 : decode cX2_meets 1 = .ok (.aload_n 0, 1) := dk_42 (dk_at dksX2_meets_0 1 rfl rfl)
theorem dX2_meets_2 : decode cX2_meets 2 = .ok (.getfield 22, 3) := dk_180 0 22 (dk_at dksX2_meets_0 2 rfl rfl)
theorem dX2_meets_5 : decode cX2_meets 5 = .ok (.iload_n 1, 1) := dk_27 (dk_at dksX2_meets_0 5 rfl rfl)
theorem dX2_meets_6 : decode cX2_meets 6 = .ok (.invokestatic 25, 3) := dk_184 0 25 (dk_at dksX2_meets_0 6 rfl rfl)
theorem dX2_meets_9 : decode cX2_meets 9 = .ok (.putfield 22, 3) := dk_181 0 22 (dk_at dksX2_meets_0 9 rfl rfl)
theorem dX2_meets_12 : decode cX2_meets 12 = .ok (.return_, 1) := dk_177 (dk_at dksX2_meets_0 12 rfl rfl)
theorem q52 : (Jvm.Cond.initialized "Twinphase$Node") ∈ lw_all := lw_g (lw_at lw_m1 5 rfl) rfl
theorem q139 : (Jvm.Cond.instantiable "Twinphase$Node" (4 : Nat)) ∈ lw_all := lw_g (lw_at lw_m1 92 rfl) rfl
theorem q141 : (Jvm.Cond.instanceMethod ({ cls := "Twinphase$Node", name := "<init>", desc := "(LTwinphase;)V" } : Jvm.MethodName)) ∈ lw_all := lw_g (lw_at lw_m1 94 rfl) rfl
theorem q142 : (Jvm.Cond.code ({ cls := "Twinphase$Node", name := "<init>", desc := "(LTwinphase;)V" } : Jvm.MethodName) prog_4_method_1_code (2 : Nat) (Option.none : Option Jvm.ClassFile.FieldType)) ∈ lw_all := lw_g (lw_at lw_m1 95 rfl) rfl
theorem q143 : (Jvm.Cond.methodLink "Twinphase$Node" (9 : Nat) ({ cls := "java/lang/Object", name := "<init>", desc := "()V" } : Jvm.MethodName)) ∈ lw_all := lw_g (lw_at lw_m1 96 rfl) rfl
theorem q144 : (Jvm.Cond.fieldLink "Twinphase$Node" (19 : Nat) "Twinphase$Node" "skew" "I") ∈ lw_all := lw_g (lw_at lw_m1 97 rfl) rfl
theorem q146 : (Jvm.Cond.fieldLink "Twinphase$Node" (22 : Nat) "Twinphase$Node" "met" "I") ∈ lw_all := lw_g (lw_at lw_m1 99 rfl) rfl
theorem q149 : (Jvm.Cond.fieldLink "Twinphase$Node" (3 : Nat) "Twinphase$Node" "this$0" "LTwinphase;") ∈ lw_all := lw_g (lw_at lw_m1 102 rfl) rfl
theorem q150 : (Jvm.Cond.lays "Twinphase$Node" "Twinphase$Node" "skew" "I") ∈ lw_all := lw_g (lw_at lw_m1 103 rfl) rfl
theorem q151 : (Jvm.Cond.soleField "Twinphase$Node" "skew") ∈ lw_all := lw_g (lw_at lw_m1 104 rfl) rfl
theorem q152 : (Jvm.Cond.lays "Twinphase$Node" "Twinphase$Node" "met" "I") ∈ lw_all := lw_g (lw_at lw_m1 105 rfl) rfl
theorem q153 : (Jvm.Cond.soleField "Twinphase$Node" "met") ∈ lw_all := lw_g (lw_at lw_m1 106 rfl) rfl
theorem q154 : (Jvm.Cond.lays "Twinphase$Node" "Twinphase$Node" "isDown" "Z") ∈ lw_all := lw_g (lw_at lw_m1 107 rfl) rfl
theorem q155 : (Jvm.Cond.soleField "Twinphase$Node" "isDown") ∈ lw_all := lw_g (lw_at lw_m1 108 rfl) rfl
theorem q156 : (Jvm.Cond.laysFinal "Twinphase$Node" "Twinphase$Node" "this$0" "LTwinphase;") ∈ lw_all := lw_g (lw_at lw_m1 109 rfl) rfl
theorem q157 : (Jvm.Cond.soleField "Twinphase$Node" "this$0") ∈ lw_all := lw_g (lw_at lw_m1 110 rfl) rfl
theorem q158 : (Jvm.Cond.superclass "Twinphase$Node" "java/lang/Object") ∈ lw_all := lw_g (lw_at lw_m1 111 rfl) rfl
theorem q557 : (Jvm.Cond.selects "Twinphase$Node" ({ cls := "java/lang/Object", name := "getClass", desc := "()Ljava/lang/Class;" } : Jvm.MethodName) ({ cls := "java/lang/Object", name := "getClass", desc := "()Ljava/lang/Class;" } : Jvm.MethodName)) ∈ lw_all := lw_g (lw_at lw_m3 30 rfl) rfl
theorem q589 : (Jvm.Cond.fieldLinkNest "Twinphase$Node" (15 : Nat) "Twinphase" "time" "I" "Twinphase") ∈ lw_tbl := lw_at lw_m3 62 rfl
theorem q936 : (Jvm.Cond.selects "Twinphase$Node" ({ cls := "java/lang/Object", name := "hashCode", desc := "()I" } : Jvm.MethodName) ({ cls := "java/lang/Object", name := "hashCode", desc := "()I" } : Jvm.MethodName)) ∈ lw_all := lw_g (lw_at lw_m4 169 rfl) rfl
theorem q1025 : (Jvm.Cond.selects "Twinphase$Node" ({ cls := "java/lang/Object", name := "equals", desc := "(Ljava/lang/Object;)Z" } : Jvm.MethodName) ({ cls := "java/lang/Object", name := "equals", desc := "(Ljava/lang/Object;)Z" } : Jvm.MethodName)) ∈ lw_all := lw_g (lw_at lw_m5 18 rfl) rfl
theorem q1576 : (Jvm.Cond.instanceMethod ({ cls := "Twinphase$Node", name := "asked", desc := "()I" } : Jvm.MethodName)) ∈ lw_all := lw_g (lw_at lw_m7 89 rfl) rfl
theorem q1577 : (Jvm.Cond.selects "Twinphase$Node" ({ cls := "Twinphase$Node", name := "asked", desc := "()I" } : Jvm.MethodName) ({ cls := "Twinphase$Node", name := "asked", desc := "()I" } : Jvm.MethodName)) ∈ lw_all := lw_g (lw_at lw_m7 90 rfl) rfl
theorem q1578 : (Jvm.Cond.code ({ cls := "Twinphase$Node", name := "asked", desc := "()I" } : Jvm.MethodName) prog_4_method_2_code (1 : Nat) (Option.some Jvm.ClassFile.FieldType.int)) ∈ lw_all := lw_g (lw_at lw_m7 91 rfl) rfl
theorem q1579 : (Jvm.Cond.methodLink "Twinphase$Node" (25 : Nat) ({ cls := "java/lang/Math", name := "max", desc := "(II)I" } : Jvm.MethodName)) ∈ lw_all := lw_g (lw_at lw_m7 92 rfl) rfl
theorem q1747 : (Jvm.Cond.instanceMethod ({ cls := "Twinphase$Node", name := "meets", desc := "(I)V" } : Jvm.MethodName)) ∈ lw_all := lw_g (lw_at lw_m8 20 rfl) rfl
theorem q1748 : (Jvm.Cond.selects "Twinphase$Node" ({ cls := "Twinphase$Node", name := "meets", desc := "(I)V" } : Jvm.MethodName) ({ cls := "Twinphase$Node", name := "meets", desc := "(I)V" } : Jvm.MethodName)) ∈ lw_all := lw_g (lw_at lw_m8 21 rfl) rfl
theorem q1749 : (Jvm.Cond.code ({ cls := "Twinphase$Node", name := "meets", desc := "(I)V" } : Jvm.MethodName) prog_4_method_3_code (2 : Nat) (Option.none : Option Jvm.ClassFile.FieldType)) ∈ lw_all := lw_g (lw_at lw_m8 22 rfl) rfl
theorem q2365 : (Jvm.Cond.castable "Twinphase$Node" "java/lang/Object") ∈ lw_tbl := lw_at lw_m10 158 rfl
theorem in_X2 : ∀ w ∈ wsX20, w ∈ lw_all := lw_in wsX20 [150, 152, 154, 156] (by decide +kernel) (by decide +kernel)
/-! Twinphase$Key -/
set_option maxRecDepth 100000
def RX3 : String := "Twinphase$Key"
def TX3 : u_T := fun k => match k with
  | 0 => ("Twinphase$Key", "number", "I", true)
  | 1 => ("Twinphase$Key", "versions", "Ljava/util/List;", true)
  | 2 => ("Twinphase$Key", "intent", "LTwinphase$Intent;", false)
  | 3 => ("Twinphase$Key", "read", "I", false)
  | _ => ("Twinphase$Key", "reader", "I", false)
def tyX3 : Nat → FieldType := fun k => match k with
  | 0 => .int
  | 1 => .object "java/util/List"
  | 2 => .object "Twinphase$Intent"
  | 3 => .int
  | _ => .int
abbrev wsX30 : List Cond := u_ws RX3 TX3 5
theorem nmX3 : ∀ a, a < 5 → ∀ b, b < 5 → a ≠ b → (TX3 a).2.1 ≠ (TX3 b).2.1 := by decide +kernel
theorem tyX3_ok : ∀ k, k < 5 → parseFieldDescriptor (TX3 k).2.2.1 = some (tyX3 k) := by decide +kernel
abbrev cX3_init : ByteArray := prog_3_method_1_code
def yX3_init : MethodName := ⟨RX3, "<init>", "(I)V"⟩
def dkwX3_init_1 : List UInt8 := [181, 0, 24, 177]
abbrev dktX3_init_1 : List UInt8 := dkwX3_init_1 ++ []
def dkwX3_init_0 : List UInt8 := [42, 183, 0, 3, 42, 187, 0, 9, 89, 5, 183, 0, 11, 181, 0, 14, 42, 2, 181, 0, 20, 42, 27]
abbrev dktX3_init_0 : List UInt8 := dkwX3_init_0 ++ dktX3_init_1
theorem dksX3_init_0 : cX3_init.data.toList.drop 0 = dktX3_init_0 := by decide +kernel
theorem dksX3_init_1 : cX3_init.data.toList.drop 23 = dktX3_init_1 := dk_seg dksX3_init_0 23 rfl rfl
theorem dX3_init_0 : decode cX3_init 0 = .ok (.aload_n 0, 1) := dk_42 (dk_at dksX3_init_0 0 rfl rfl)
theorem dX3_init_1 : decode cX3_init 1 = .ok (.invokespecial 3, 3) := dk_183 0 3 (dk_at dksX3_init_0 1 rfl rfl)
theorem dX3_init_4 : decode cX3_init 4 = .ok (.aload_n 0, 1) := dk_42 (dk_at dksX3_init_0 4 rfl rfl)
theorem dX3_init_5 : decode cX3_init 5 = .ok (.new 9, 3) := dk_187 0 9 (dk_at dksX3_init_0 5 rfl rfl)
theorem dX3_init_8 : decode cX3_init 8 = .ok (.dup, 1) := dk_89 (dk_at dksX3_init_0 8 rfl rfl)
theorem dX3_init_9 : decode cX3_init 9 = .ok (.iconst 2, 1) := dk_5 (dk_at dksX3_init_0 9 rfl rfl)
theorem dX3_init_10 : decode cX3_init 10 = .ok (.invokespecial 11, 3) := dk_183 0 11 (dk_at dksX3_init_0 10 rfl rfl)
theorem dX3_init_13 : decode cX3_init 13 = .ok (.putfield 14, 3) := dk_181 0 14 (dk_at dksX3_init_0 13 rfl rfl)
theorem dX3_init_16 : decode cX3_init 16 = .ok (.aload_n 0, 1) := dk_42 (dk_at dksX3_init_0 16 rfl rfl)
theorem dX3_init_17 : decode cX3_init 17 = .ok (.iconst (-1), 1) := dk_2 (dk_at dksX3_init_0 17 rfl rfl)
theorem dX3_init_18 : decode cX3_init 18 = .ok (.putfield 20, 3) := dk_181 0 20 (dk_at dksX3_init_0 18 rfl rfl)
theorem dX3_init_21 : decode cX3_init 21 = .ok (.aload_n 0, 1) := dk_42 (dk_at dksX3_init_0 21 rfl rfl)
theorem dX3_init_22 : decode cX3_init 22 = .ok (.iload_n 1, 1) := dk_27 (dk_at dksX3_init_0 22 rfl rfl)
theorem dX3_init_23 : decode cX3_init 23 = .ok (.putfield 24, 3) := dk_181 0 24 (dk_at dksX3_init_1 0 rfl rfl)
theorem dX3_init_26 : decode cX3_init 26 = .ok (.return_, 1) := dk_177 (dk_at dksX3_init_1 3 rfl rfl)
abbrev cX3_isLeased : ByteArray := prog_3_method_6_code
def yX3_isLeased : MethodName := ⟨RX3, "isLeased", "(I)V"⟩
def dkwX3_isLeased_0 : List UInt8 := [27, 42, 180, 0, 63, 164, 0, 14, 42, 27, 181, 0, 63, 42, 16, 254, 181, 0, 20, 177]
abbrev dktX3_isLeased_0 : List UInt8 := dkwX3_isLeased_0 ++ []
theorem dksX3_isLeased_0 : cX3_isLeased.data.toList.drop 0 = dktX3_isLeased_0 := by decide +kernel
theorem dX3_isLeased_0 : decode cX3_isLeased 0 = .ok (.iload_n 1, 1) := dk_27 (dk_at dksX3_isLeased_0 0 rfl rfl)
theorem dX3_isLeased_1 : decode cX3_isLeased 1 = .ok (.aload_n 0, 1) := dk_42 (dk_at dksX3_isLeased_0 1 rfl rfl)
theorem dX3_isLeased_2 : decode cX3_isLeased 2 = .ok (.getfield 63, 3) := dk_180 0 63 (dk_at dksX3_isLeased_0 2 rfl rfl)
theorem dX3_isLeased_5 : decode cX3_isLeased 5 = .ok (.if_icmp .le 14, 3) := dk_164 0 14 (dk_at dksX3_isLeased_0 5 rfl rfl)
theorem dX3_isLeased_8 : decode cX3_isLeased 8 = .ok (.aload_n 0, 1) := dk_42 (dk_at dksX3_isLeased_0 8 rfl rfl)
theorem dX3_isLeased_9 : decode cX3_isLeased 9 = .ok (.iload_n 1, 1) := dk_27 (dk_at dksX3_isLeased_0 9 rfl rfl)
theorem dX3_isLeased_10 : decode cX3_isLeased 10 = .ok (.putfield 63, 3) := dk_181 0 63 (dk_at dksX3_isLeased_0 10 rfl rfl)
theorem dX3_isLeased_13 : decode cX3_isLeased 13 = .ok (.aload_n 0, 1) := dk_42 (dk_at dksX3_isLeased_0 13 rfl rfl)
theorem dX3_isLeased_14 : decode cX3_isLeased 14 = .ok (.bipush (-2), 2) := dk_16 254 (dk_at dksX3_isLeased_0 14 rfl rfl)
theorem dX3_isLeased_16 : decode cX3_isLeased 16 = .ok (.putfield 20, 3) := dk_181 0 20 (dk_at dksX3_isLeased_0 16 rfl rfl)
theorem dX3_isLeased_19 : decode cX3_isLeased 19 = .ok (.return_, 1) := dk_177 (dk_at dksX3_isLeased_0 19 rfl rfl)
abbrev cX3_hasBetween : ByteArray := prog_3_method_4_code
def yX3_hasBetween : MethodName := ⟨RX3, "hasBetween", "(II)Z"⟩
def dkwX3_hasBetween_0 : List UInt8 := [42, 28, 182, 0, 59, 78, 45, 198, 0, 15, 45, 180, 0, 45, 27, 164, 0, 7, 4, 167, 0, 4, 3, 172]
abbrev dktX3_hasBetween_0 : List UInt8 := dkwX3_hasBetween_0 ++ []
theorem dksX3_hasBetween_0 : cX3_hasBetween.data.toList.drop 0 = dktX3_hasBetween_0 := by decide +kernel
theorem dX3_hasBetween_0 : decode cX3_hasBetween 0 = .ok (.aload_n 0, 1) := dk_42 (dk_at dksX3_hasBetween_0 0 rfl rfl)
theorem dX3_hasBetween_1 : decode cX3_hasBetween 1 = .ok (.iload_n 2, 1) := dk_28 (dk_at dksX3_hasBetween_0 1 rfl rfl)
theorem dX3_hasBetween_2 : decode cX3_hasBetween 2 = .ok (.invokevirtual 59, 3) := dk_182 0 59 (dk_at dksX3_hasBetween_0 2 rfl rfl)
theorem dX3_hasBetween_5 : decode cX3_hasBetween 5 = .ok (.astore_n 3, 1) := dk_78 (dk_at dksX3_hasBetween_0 5 rfl rfl)
theorem dX3_hasBetween_6 : decode cX3_hasBetween 6 = .ok (.aload_n 3, 1) := dk_45 (dk_at dksX3_hasBetween_0 6 rfl rfl)
theorem dX3_hasBetween_7 : decode cX3_hasBetween 7 = .ok (.ifnull 15, 3) := dk_198 0 15 (dk_at dksX3_hasBetween_0 7 rfl rfl)
theorem dX3_hasBetween_10 : decode cX3_hasBetween 10 = .ok (.aload_n 3, 1) := dk_45 (dk_at dksX3_hasBetween_0 10 rfl rfl)
theorem dX3_hasBetween_11 : decode cX3_hasBetween 11 = .ok (.getfield 45, 3) := dk_180 0 45 (dk_at dksX3_hasBetween_0 11 rfl rfl)
theorem dX3_hasBetween_14 : decode cX3_hasBetween 14 = .ok (.iload_n 1, 1) := dk_27 (dk_at dksX3_hasBetween_0 14 rfl rfl)
theorem dX3_hasBetween_15 : decode cX3_hasBetween 15 = .ok (.if_icmp .le 7, 3) := dk_164 0 7 (dk_at dksX3_hasBetween_0 15 rfl rfl)
theorem dX3_hasBetween_18 : decode cX3_hasBetween 18 = .ok (.iconst 1, 1) := dk_4 (dk_at dksX3_hasBetween_0 18 rfl rfl)
theorem dX3_hasBetween_19 : decode cX3_hasBetween 19 = .ok (.goto 4, 3) := dk_167 0 4 (dk_at dksX3_hasBetween_0 19 rfl rfl)
theorem dX3_hasBetween_22 : decode cX3_hasBetween 22 = .ok (.iconst 0, 1) := dk_3 (dk_at dksX3_hasBetween_0 22 rfl rfl)
theorem dX3_hasBetween_23 : decode cX3_hasBetween 23 = .ok (.ireturn, 1) := dk_172 (dk_at dksX3_hasBetween_0 23 rfl rfl)
abbrev cX3_upTo : ByteArray := prog_3_method_2_code
def yX3_upTo : MethodName := ⟨RX3, "upTo", "(I)LTwinphase$Version;"⟩
def dkwX3_upTo_2 : List UInt8 := [44, 77, 167, 255, 220, 44, 176]
abbrev dktX3_upTo_2 : List UInt8 := dkwX3_upTo_2 ++ []
def dkwX3_upTo_1 : List UInt8 := [185, 0, 39, 1, 0, 192, 0, 43, 58, 4, 25, 4, 180, 0, 45, 27, 163, 0, 8, 25, 4, 167, 0, 4]
abbrev dktX3_upTo_1 : List UInt8 := dkwX3_upTo_1 ++ dktX3_upTo_2
def dkwX3_upTo_0 : List UInt8 := [1, 77, 42, 180, 0, 14, 185, 0, 27, 1, 0, 78, 45, 185, 0, 33, 1, 0, 153, 0, 33, 45]
abbrev dktX3_upTo_0 : List UInt8 := dkwX3_upTo_0 ++ dktX3_upTo_1
theorem dksX3_upTo_0 : cX3_upTo.data.toList.drop 0 = dktX3_upTo_0 := by decide +kernel
theorem dksX3_upTo_1 : cX3_upTo.data.toList.drop 22 = dktX3_upTo_1 := dk_seg dksX3_upTo_0 22 rfl rfl
theorem dksX3_upTo_2 : cX3_upTo.data.toList.drop 46 = dktX3_upTo_2 := dk_seg dksX3_upTo_1 24 rfl rfl
theorem dX3_upTo_0 : decode cX3_upTo 0 = .ok (.aconst_null, 1) := dk_1 (dk_at dksX3_upTo_0 0 rfl rfl)
theorem dX3_upTo_1 : decode cX3_upTo 1 = .ok (.astore_n 2, 1) := dk_77 (dk_at dksX3_upTo_0 1 rfl rfl)
theorem dX3_upTo_2 : decode cX3_upTo 2 = .ok (.aload_n 0, 1) := dk_42 (dk_at dksX3_upTo_0 2 rfl rfl)
theorem dX3_upTo_3 : decode cX3_upTo 3 = .ok (.getfield 14, 3) := dk_180 0 14 (dk_at dksX3_upTo_0 3 rfl rfl)
theorem dX3_upTo_6 : decode cX3_upTo 6 = .ok (.invokeinterface 27 1, 5) := by decide +kernel
theorem dX3_upTo_11 : decode cX3_upTo 11 = .ok (.astore_n 3, 1) := dk_78 (dk_at dksX3_upTo_0 11 rfl rfl)
theorem dX3_upTo_12 : decode cX3_upTo 12 = .ok (.aload_n 3, 1) := dk_45 (dk_at dksX3_upTo_0 12 rfl rfl)
theorem dX3_upTo_13 : decode cX3_upTo 13 = .ok (.invokeinterface 33 1, 5) := by decide +kernel
theorem dX3_upTo_18 : decode cX3_upTo 18 = .ok (.ifCond .eq 33, 3) := dk_153 0 33 (dk_at dksX3_upTo_0 18 rfl rfl)
theorem dX3_upTo_21 : decode cX3_upTo 21 = .ok (.aload_n 3, 1) := dk_45 (dk_at dksX3_upTo_0 21 rfl rfl)
theorem dX3_upTo_22 : decode cX3_upTo 22 = .ok (.invokeinterface 39 1, 5) := by decide +kernel
theorem dX3_upTo_27 : decode cX3_upTo 27 = .ok (.checkcast 43, 3) := dk_192 0 43 (dk_at dksX3_upTo_1 5 rfl rfl)
theorem dX3_upTo_30 : decode cX3_upTo 30 = .ok (.astore 4, 2) := dk_58 4 (dk_at dksX3_upTo_1 8 rfl rfl)
theorem dX3_upTo_32 : decode cX3_upTo 32 = .ok (.aload 4, 2) := dk_25 4 (dk_at dksX3_upTo_1 10 rfl rfl)
theorem dX3_upTo_34 : decode cX3_upTo 34 = .ok (.getfield 45, 3) := dk_180 0 45 (dk_at dksX3_upTo_1 12 rfl rfl)
theorem dX3_upTo_37 : decode cX3_upTo 37 = .ok (.iload_n 1, 1) := dk_27 (dk_at dksX3_upTo_1 15 rfl rfl)
theorem dX3_upTo_38 : decode cX3_upTo 38 = .ok (.if_icmp .gt 8, 3) := dk_163 0 8 (dk_at dksX3_upTo_1 16 rfl rfl)
theorem dX3_upTo_41 : decode cX3_upTo 41 = .ok (.aload 4, 2) := dk_25 4 (dk_at dksX3_upTo_1 19 rfl rfl)
theorem dX3_upTo_43 : decode cX3_upTo 43 = .ok (.goto 4, 3) := dk_167 0 4 (dk_at dksX3_upTo_1 21 rfl rfl)
theorem dX3_upTo_46 : decode cX3_upTo 46 = .ok (.aload_n 2, 1) := dk_44 (dk_at dksX3_upTo_2 0 rfl rfl)
theorem dX3_upTo_47 : decode cX3_upTo 47 = .ok (.astore_n 2, 1) := dk_77 (dk_at dksX3_upTo_2 1 rfl rfl)
theorem dX3_upTo_48 : decode cX3_upTo 48 = .ok (.goto (-36), 3) := dk_167 255 220 (dk_at dksX3_upTo_2 2 rfl rfl)
theorem dX3_upTo_51 : decode cX3_upTo 51 = .ok (.aload_n 2, 1) := dk_44 (dk_at dksX3_upTo_2 5 rfl rfl)
theorem dX3_upTo_52 : decode cX3_upTo 52 = .ok (.areturn, 1) := dk_176 (dk_at dksX3_upTo_2 6 rfl rfl)
abbrev cX3_isRead : ByteArray := prog_3_method_5_code
def yX3_isRead : MethodName := ⟨RX3, "isRead", "(II)V"⟩
def dkwX3_isRead_1 : List UInt8 := [180, 0, 63, 160, 0, 17, 42, 180, 0, 20, 28, 159, 0, 9, 42, 16, 254, 181, 0, 20, 177]
abbrev dktX3_isRead_1 : List UInt8 := dkwX3_isRead_1 ++ []
def dkwX3_isRead_0 : List UInt8 := [27, 42, 180, 0, 63, 164, 0, 16, 42, 27, 181, 0, 63, 42, 28, 181, 0, 20, 167, 0, 25, 27, 42]
abbrev dktX3_isRead_0 : List UInt8 := dkwX3_isRead_0 ++ dktX3_isRead_1
theorem dksX3_isRead_0 : cX3_isRead.data.toList.drop 0 = dktX3_isRead_0 := by decide +kernel
theorem dksX3_isRead_1 : cX3_isRead.data.toList.drop 23 = dktX3_isRead_1 := dk_seg dksX3_isRead_0 23 rfl rfl
theorem dX3_isRead_0 : decode cX3_isRead 0 = .ok (.iload_n 1, 1) := dk_27 (dk_at dksX3_isRead_0 0 rfl rfl)
theorem dX3_isRead_1 : decode cX3_isRead 1 = .ok (.aload_n 0, 1) := dk_42 (dk_at dksX3_isRead_0 1 rfl rfl)
theorem dX3_isRead_2 : decode cX3_isRead 2 = .ok (.getfield 63, 3) := dk_180 0 63 (dk_at dksX3_isRead_0 2 rfl rfl)
theorem dX3_isRead_5 : decode cX3_isRead 5 = .ok (.if_icmp .le 16, 3) := dk_164 0 16 (dk_at dksX3_isRead_0 5 rfl rfl)
theorem dX3_isRead_8 : decode cX3_isRead 8 = .ok (.aload_n 0, 1) := dk_42 (dk_at dksX3_isRead_0 8 rfl rfl)
theorem dX3_isRead_9 : decode cX3_isRead 9 = .ok (.iload_n 1, 1) := dk_27 (dk_at dksX3_isRead_0 9 rfl rfl)
theorem dX3_isRead_10 : decode cX3_isRead 10 = .ok (.putfield 63, 3) := dk_181 0 63 (dk_at dksX3_isRead_0 10 rfl rfl)
theorem dX3_isRead_13 : decode cX3_isRead 13 = .ok (.aload_n 0, 1) := dk_42 (dk_at dksX3_isRead_0 13 rfl rfl)
theorem dX3_isRead_14 : decode cX3_isRead 14 = .ok (.iload_n 2, 1) := dk_28 (dk_at dksX3_isRead_0 14 rfl rfl)
theorem dX3_isRead_15 : decode cX3_isRead 15 = .ok (.putfield 20, 3) := dk_181 0 20 (dk_at dksX3_isRead_0 15 rfl rfl)
theorem dX3_isRead_18 : decode cX3_isRead 18 = .ok (.goto 25, 3) := dk_167 0 25 (dk_at dksX3_isRead_0 18 rfl rfl)
theorem dX3_isRead_21 : decode cX3_isRead 21 = .ok (.iload_n 1, 1) := dk_27 (dk_at dksX3_isRead_0 21 rfl rfl)
theorem dX3_isRead_22 : decode cX3_isRead 22 = .ok (.aload_n 0, 1) := dk_42 (dk_at dksX3_isRead_0 22 rfl rfl)
theorem dX3_isRead_23 : decode cX3_isRead 23 = .ok (.getfield 63, 3) := dk_180 0 63 (dk_at dksX3_isRead_1 0 rfl rfl)
theorem dX3_isRead_26 : decode cX3_isRead 26 = .ok (.if_icmp .ne 17, 3) := dk_160 0 17 (dk_at dksX3_isRead_1 3 rfl rfl)
theorem dX3_isRead_29 : decode cX3_isRead 29 = .ok (.aload_n 0, 1) := dk_42 (dk_at dksX3_isRead_1 6 rfl rfl)
theorem dX3_isRead_30 : decode cX3_isRead 30 = .ok (.getfield 20, 3) := dk_180 0 20 (dk_at dksX3_isRead_1 7 rfl rfl)
theorem dX3_isRead_33 : decode cX3_isRead 33 = .ok (.iload_n 2, 1) := dk_28 (dk_at dksX3_isRead_1 10 rfl rfl)
theorem dX3_isRead_34 : decode cX3_isRead 34 = .ok (.if_icmp .eq 9, 3) := dk_159 0 9 (dk_at dksX3_isRead_1 11 rfl rfl)
theorem dX3_isRead_37 : decode cX3_isRead 37 = .ok (.aload_n 0, 1) := dk_42 (dk_at dksX3_isRead_1 14 rfl rfl)
theorem dX3_isRead_38 : decode cX3_isRead 38 = .ok (.bipush (-2), 2) := dk_16 254 (dk_at dksX3_isRead_1 15 rfl rfl)
theorem dX3_isRead_40 : decode cX3_isRead 40 = .ok (.putfield 20, 3) := dk_181 0 20 (dk_at dksX3_isRead_1 17 rfl rfl)
theorem dX3_isRead_43 : decode cX3_isRead 43 = .ok (.return_, 1) := dk_177 (dk_at dksX3_isRead_1 20 rfl rfl)
abbrev cX3_latest : ByteArray := prog_3_method_3_code
def yX3_latest : MethodName := ⟨RX3, "latest", "()I"⟩
def dkwX3_latest_1 : List UInt8 := [185, 0, 51, 1, 0, 4, 100, 185, 0, 55, 2, 0, 192, 0, 43, 180, 0, 45, 172]
abbrev dktX3_latest_1 : List UInt8 := dkwX3_latest_1 ++ []
def dkwX3_latest_0 : List UInt8 := [42, 180, 0, 14, 185, 0, 48, 1, 0, 153, 0, 7, 2, 167, 0, 29, 42, 180, 0, 14, 42, 180, 0, 14]
abbrev dktX3_latest_0 : List UInt8 := dkwX3_latest_0 ++ dktX3_latest_1
theorem dksX3_latest_0 : cX3_latest.data.toList.drop 0 = dktX3_latest_0 := by decide +kernel
theorem dksX3_latest_1 : cX3_latest.data.toList.drop 24 = dktX3_latest_1 := dk_seg dksX3_latest_0 24 rfl rfl
theorem dX3_latest_0 : decode cX3_latest 0 = .ok (.aload_n 0, 1) := dk_42 (dk_at dksX3_latest_0 0 rfl rfl)
theorem dX3_latest_1 : decode cX3_latest 1 = .ok (.getfield 14, 3) := dk_180 0 14 (dk_at dksX3_latest_0 1 rfl rfl)
theorem dX3_latest_4 : decode cX3_latest 4 = .ok (.invokeinterface 48 1, 5) := by decide +kernel
theorem dX3_latest_9 : decode cX3_latest 9 = .ok (.ifCond .eq 7, 3) := dk_153 0 7 (dk_at dksX3_latest_0 9 rfl rfl)
theorem dX3_latest_12 : decode cX3_latest 12 = .ok (.iconst (-1), 1) := dk_2 (dk_at dksX3_latest_0 12 rfl rfl)
theorem dX3_latest_13 : decode cX3_latest 13 = .ok (.goto 29, 3) := dk_167 0 29 (dk_at dksX3_latest_0 13 rfl rfl)
theorem dX3_latest_16 : decode cX3_latest 16 = .ok (.aload_n 0, 1) := dk_42 (dk_at dksX3_latest_0 16 rfl rfl)
theorem dX3_latest_17 : decode cX3_latest 17 = .ok (.getfield 14, 3) := dk_180 0 14 (dk_at dksX3_latest_0 17 rfl rfl)
theorem dX3_latest_20 : decode cX3_latest 20 = .ok (.aload_n 0, 1) := dk_42 (dk_at dksX3_latest_0 20 rfl rfl)
theorem dX3_latest_21 : decode cX3_latest 21 = .ok (.getfield 14, 3) := dk_180 0 14 (dk_at dksX3_latest_0 21 rfl rfl)
theorem dX3_latest_24 : decode cX3_latest 24 = .ok (.invokeinterface 51 1, 5) := by decide +kernel
theorem dX3_latest_29 : decode cX3_latest 29 = .ok (.iconst 1, 1) := dk_4 (dk_at dksX3_latest_1 5 rfl rfl)
theorem dX3_latest_30 : decode cX3_latest 30 = .ok (.isub, 1) := dk_100 (dk_at dksX3_latest_1 6 rfl rfl)
theorem dX3_latest_31 : decode cX3_latest 31 = .ok (.invokeinterface 55 2, 5) := by decide +kernel
theorem dX3_latest_36 : decode cX3_latest 36 = .ok (.checkcast 43, 3) := dk_192 0 43 (dk_at dksX3_latest_1 12 rfl rfl)
theorem dX3_latest_39 : decode cX3_latest 39 = .ok (.getfield 45, 3) := dk_180 0 45 (dk_at dksX3_latest_1 15 rfl rfl)
theorem dX3_latest_42 : decode cX3_latest 42 = .ok (.ireturn, 1) := dk_172 (dk_at dksX3_latest_1 18 rfl rfl)
theorem q53 : (Jvm.Cond.initialized "Twinphase$Key") ∈ lw_all := lw_g (lw_at lw_m1 6 rfl) rfl
theorem q159 : (Jvm.Cond.instantiable "Twinphase$Key" (5 : Nat)) ∈ lw_all := lw_g (lw_at lw_m1 112 rfl) rfl
theorem q161 : (Jvm.Cond.instanceMethod ({ cls := "Twinphase$Key", name := "<init>", desc := "(I)V" } : Jvm.MethodName)) ∈ lw_all := lw_g (lw_at lw_m1 114 rfl) rfl
theorem q162 : (Jvm.Cond.code ({ cls := "Twinphase$Key", name := "<init>", desc := "(I)V" } : Jvm.MethodName) prog_3_method_1_code (2 : Nat) (Option.none : Option Jvm.ClassFile.FieldType)) ∈ lw_all := lw_g (lw_at lw_m1 115 rfl) rfl
theorem q163 : (Jvm.Cond.methodLink "Twinphase$Key" (3 : Nat) ({ cls := "java/lang/Object", name := "<init>", desc := "()V" } : Jvm.MethodName)) ∈ lw_all := lw_g (lw_at lw_m1 116 rfl) rfl
theorem q164 : (Jvm.Cond.classLink "Twinphase$Key" (9 : Nat) "java/util/ArrayList") ∈ lw_all := lw_g (lw_at lw_m1 117 rfl) rfl
theorem q165 : (Jvm.Cond.methodLink "Twinphase$Key" (11 : Nat) ({ cls := "java/util/ArrayList", name := "<init>", desc := "(I)V" } : Jvm.MethodName)) ∈ lw_all := lw_g (lw_at lw_m1 118 rfl) rfl
theorem q487 : (Jvm.Cond.fieldLink "Twinphase$Key" (24 : Nat) "Twinphase$Key" "number" "I") ∈ lw_all := lw_g (lw_at lw_m2 200 rfl) rfl
theorem q489 : (Jvm.Cond.fieldLink "Twinphase$Key" (14 : Nat) "Twinphase$Key" "versions" "Ljava/util/List;") ∈ lw_all := lw_g (lw_at lw_m2 202 rfl) rfl
theorem q494 : (Jvm.Cond.fieldLink "Twinphase$Key" (63 : Nat) "Twinphase$Key" "read" "I") ∈ lw_all := lw_g (lw_at lw_m2 207 rfl) rfl
theorem q496 : (Jvm.Cond.fieldLink "Twinphase$Key" (20 : Nat) "Twinphase$Key" "reader" "I") ∈ lw_all := lw_g (lw_at lw_m2 209 rfl) rfl
theorem q498 : (Jvm.Cond.laysFinal "Twinphase$Key" "Twinphase$Key" "number" "I") ∈ lw_all := lw_g (lw_at lw_m2 211 rfl) rfl
theorem q499 : (Jvm.Cond.soleField "Twinphase$Key" "number") ∈ lw_all := lw_g (lw_at lw_m2 212 rfl) rfl
theorem q500 : (Jvm.Cond.laysFinal "Twinphase$Key" "Twinphase$Key" "versions" "Ljava/util/List;") ∈ lw_all := lw_g (lw_at lw_m2 213 rfl) rfl
theorem q501 : (Jvm.Cond.soleField "Twinphase$Key" "versions") ∈ lw_all := lw_g (lw_at lw_m2 214 rfl) rfl
theorem q502 : (Jvm.Cond.lays "Twinphase$Key" "Twinphase$Key" "intent" "LTwinphase$Intent;") ∈ lw_all := lw_g (lw_at lw_m2 215 rfl) rfl
theorem q503 : (Jvm.Cond.soleField "Twinphase$Key" "intent") ∈ lw_all := lw_g (lw_at lw_m2 216 rfl) rfl
theorem q504 : (Jvm.Cond.lays "Twinphase$Key" "Twinphase$Key" "read" "I") ∈ lw_all := lw_g (lw_at lw_m2 217 rfl) rfl
theorem q505 : (Jvm.Cond.soleField "Twinphase$Key" "read") ∈ lw_all := lw_g (lw_at lw_m2 218 rfl) rfl
theorem q506 : (Jvm.Cond.lays "Twinphase$Key" "Twinphase$Key" "reader" "I") ∈ lw_all := lw_g (lw_at lw_m2 219 rfl) rfl
theorem q507 : (Jvm.Cond.soleField "Twinphase$Key" "reader") ∈ lw_all := lw_g (lw_at lw_m2 220 rfl) rfl
theorem q508 : (Jvm.Cond.superclass "Twinphase$Key" "java/lang/Object") ∈ lw_all := lw_g (lw_at lw_m2 221 rfl) rfl
theorem q556 : (Jvm.Cond.selects "Twinphase$Key" ({ cls := "java/lang/Object", name := "getClass", desc := "()Ljava/lang/Class;" } : Jvm.MethodName) ({ cls := "java/lang/Object", name := "getClass", desc := "()Ljava/lang/Class;" } : Jvm.MethodName)) ∈ lw_all := lw_g (lw_at lw_m3 29 rfl) rfl
theorem q935 : (Jvm.Cond.selects "Twinphase$Key" ({ cls := "java/lang/Object", name := "hashCode", desc := "()I" } : Jvm.MethodName) ({ cls := "java/lang/Object", name := "hashCode", desc := "()I" } : Jvm.MethodName)) ∈ lw_all := lw_g (lw_at lw_m4 168 rfl) rfl
theorem q1024 : (Jvm.Cond.selects "Twinphase$Key" ({ cls := "java/lang/Object", name := "equals", desc := "(Ljava/lang/Object;)Z" } : Jvm.MethodName) ({ cls := "java/lang/Object", name := "equals", desc := "(Ljava/lang/Object;)Z" } : Jvm.MethodName)) ∈ lw_all := lw_g (lw_at lw_m5 17 rfl) rfl
theorem q1607 : (Jvm.Cond.instanceMethod ({ cls := "Twinphase$Key", name := "isLeased", desc := "(I)V" } : Jvm.MethodName)) ∈ lw_all := lw_g (lw_at lw_m7 120 rfl) rfl
theorem q1608 : (Jvm.Cond.selects "Twinphase$Key" ({ cls := "Twinphase$Key", name := "isLeased", desc := "(I)V" } : Jvm.MethodName) ({ cls := "Twinphase$Key", name := "isLeased", desc := "(I)V" } : Jvm.MethodName)) ∈ lw_all := lw_g (lw_at lw_m7 121 rfl) rfl
theorem q1609 : (Jvm.Cond.code ({ cls := "Twinphase$Key", name := "isLeased", desc := "(I)V" } : Jvm.MethodName) prog_3_method_6_code (2 : Nat) (Option.none : Option Jvm.ClassFile.FieldType)) ∈ lw_all := lw_g (lw_at lw_m7 122 rfl) rfl
theorem q1792 : (Jvm.Cond.fieldLinkNest "Twinphase$Key" (45 : Nat) "Twinphase$Version" "stamp" "I" "Twinphase") ∈ lw_tbl := lw_at lw_m8 65 rfl
theorem q1813 : (Jvm.Cond.instanceMethod ({ cls := "Twinphase$Key", name := "hasBetween", desc := "(II)Z" } : Jvm.MethodName)) ∈ lw_all := lw_g (lw_at lw_m8 86 rfl) rfl
theorem q1814 : (Jvm.Cond.selects "Twinphase$Key" ({ cls := "Twinphase$Key", name := "hasBetween", desc := "(II)Z" } : Jvm.MethodName) ({ cls := "Twinphase$Key", name := "hasBetween", desc := "(II)Z" } : Jvm.MethodName)) ∈ lw_all := lw_g (lw_at lw_m8 87 rfl) rfl
theorem q1815 : (Jvm.Cond.code ({ cls := "Twinphase$Key", name := "hasBetween", desc := "(II)Z" } : Jvm.MethodName) prog_3_method_4_code (4 : Nat) (Option.some Jvm.ClassFile.FieldType.boolean)) ∈ lw_all := lw_g (lw_at lw_m8 88 rfl) rfl
theorem q1816 : (Jvm.Cond.methodLink "Twinphase$Key" (59 : Nat) ({ cls := "Twinphase$Key", name := "upTo", desc := "(I)LTwinphase$Version;" } : Jvm.MethodName)) ∈ lw_all := lw_g (lw_at lw_m8 89 rfl) rfl
theorem q1817 : (Jvm.Cond.instanceMethod ({ cls := "Twinphase$Key", name := "upTo", desc := "(I)LTwinphase$Version;" } : Jvm.MethodName)) ∈ lw_all := lw_g (lw_at lw_m8 90 rfl) rfl
theorem q1818 : (Jvm.Cond.selects "Twinphase$Key" ({ cls := "Twinphase$Key", name := "upTo", desc := "(I)LTwinphase$Version;" } : Jvm.MethodName) ({ cls := "Twinphase$Key", name := "upTo", desc := "(I)LTwinphase$Version;" } : Jvm.MethodName)) ∈ lw_all := lw_g (lw_at lw_m8 91 rfl) rfl
theorem q1819 : (Jvm.Cond.code ({ cls := "Twinphase$Key", name := "upTo", desc := "(I)LTwinphase$Version;" } : Jvm.MethodName) prog_3_method_2_code (5 : Nat) (Option.some (Jvm.ClassFile.FieldType.object "Twinphase$Version"))) ∈ lw_all := lw_g (lw_at lw_m8 92 rfl) rfl
theorem q1820 : (Jvm.Cond.interfaceEntry "Twinphase$Key" (27 : Nat)) ∈ lw_tbl := lw_at lw_m8 93 rfl
theorem q1821 : (Jvm.Cond.methodLink "Twinphase$Key" (27 : Nat) ({ cls := "java/util/List", name := "iterator", desc := "()Ljava/util/Iterator;" } : Jvm.MethodName)) ∈ lw_all := lw_g (lw_at lw_m8 94 rfl) rfl
theorem q1822 : (Jvm.Cond.interfaceEntry "Twinphase$Key" (33 : Nat)) ∈ lw_tbl := lw_at lw_m8 95 rfl
theorem q1823 : (Jvm.Cond.methodLink "Twinphase$Key" (33 : Nat) ({ cls := "java/util/Iterator", name := "hasNext", desc := "()Z" } : Jvm.MethodName)) ∈ lw_all := lw_g (lw_at lw_m8 96 rfl) rfl
theorem q1824 : (Jvm.Cond.interfaceEntry "Twinphase$Key" (39 : Nat)) ∈ lw_tbl := lw_at lw_m8 97 rfl
theorem q1825 : (Jvm.Cond.methodLink "Twinphase$Key" (39 : Nat) ({ cls := "java/util/Iterator", name := "next", desc := "()Ljava/lang/Object;" } : Jvm.MethodName)) ∈ lw_all := lw_g (lw_at lw_m8 98 rfl) rfl
theorem q1826 : (Jvm.Cond.classLink "Twinphase$Key" (43 : Nat) "Twinphase$Version") ∈ lw_all := lw_g (lw_at lw_m8 99 rfl) rfl
theorem q1832 : (Jvm.Cond.instanceMethod ({ cls := "Twinphase$Key", name := "isRead", desc := "(II)V" } : Jvm.MethodName)) ∈ lw_all := lw_g (lw_at lw_m8 105 rfl) rfl
theorem q1833 : (Jvm.Cond.selects "Twinphase$Key" ({ cls := "Twinphase$Key", name := "isRead", desc := "(II)V" } : Jvm.MethodName) ({ cls := "Twinphase$Key", name := "isRead", desc := "(II)V" } : Jvm.MethodName)) ∈ lw_all := lw_g (lw_at lw_m8 106 rfl) rfl
theorem q1834 : (Jvm.Cond.code ({ cls := "Twinphase$Key", name := "isRead", desc := "(II)V" } : Jvm.MethodName) prog_3_method_5_code (3 : Nat) (Option.none : Option Jvm.ClassFile.FieldType)) ∈ lw_all := lw_g (lw_at lw_m8 107 rfl) rfl
theorem q1904 : (Jvm.Cond.instanceMethod ({ cls := "Twinphase$Key", name := "latest", desc := "()I" } : Jvm.MethodName)) ∈ lw_all := lw_g (lw_at lw_m8 177 rfl) rfl
theorem q1905 : (Jvm.Cond.selects "Twinphase$Key" ({ cls := "Twinphase$Key", name := "latest", desc := "()I" } : Jvm.MethodName) ({ cls := "Twinphase$Key", name := "latest", desc := "()I" } : Jvm.MethodName)) ∈ lw_all := lw_g (lw_at lw_m8 178 rfl) rfl
theorem q1906 : (Jvm.Cond.code ({ cls := "Twinphase$Key", name := "latest", desc := "()I" } : Jvm.MethodName) prog_3_method_3_code (1 : Nat) (Option.some Jvm.ClassFile.FieldType.int)) ∈ lw_all := lw_g (lw_at lw_m8 179 rfl) rfl
theorem q1907 : (Jvm.Cond.interfaceEntry "Twinphase$Key" (48 : Nat)) ∈ lw_tbl := lw_at lw_m8 180 rfl
theorem q1908 : (Jvm.Cond.methodLink "Twinphase$Key" (48 : Nat) ({ cls := "java/util/List", name := "isEmpty", desc := "()Z" } : Jvm.MethodName)) ∈ lw_all := lw_g (lw_at lw_m8 181 rfl) rfl
theorem q1916 : (Jvm.Cond.interfaceEntry "Twinphase$Key" (51 : Nat)) ∈ lw_tbl := lw_at lw_m8 189 rfl
theorem q1917 : (Jvm.Cond.methodLink "Twinphase$Key" (51 : Nat) ({ cls := "java/util/List", name := "size", desc := "()I" } : Jvm.MethodName)) ∈ lw_all := lw_g (lw_at lw_m8 190 rfl) rfl
theorem q1918 : (Jvm.Cond.interfaceEntry "Twinphase$Key" (55 : Nat)) ∈ lw_tbl := lw_at lw_m8 191 rfl
theorem q1919 : (Jvm.Cond.methodLink "Twinphase$Key" (55 : Nat) ({ cls := "java/util/List", name := "get", desc := "(I)Ljava/lang/Object;" } : Jvm.MethodName)) ∈ lw_all := lw_g (lw_at lw_m8 192 rfl) rfl
theorem q2366 : (Jvm.Cond.castable "Twinphase$Key" "java/lang/Object") ∈ lw_tbl := lw_at lw_m10 159 rfl
theorem in_X3 : ∀ w ∈ wsX30, w ∈ lw_all := lw_in wsX30 [498, 500, 502, 504, 506] (by decide +kernel) (by decide +kernel)
/-! Twinphase$Range -/
set_option maxRecDepth 100000
def RX4 : String := "Twinphase$Range"
def TX4 : u_T := fun k => match k with
  | 0 => ("Twinphase$Range", "from", "I", true)
  | _ => ("Twinphase$Range", "node", "LTwinphase$Node;", false)
def tyX4 : Nat → FieldType := fun k => match k with
  | 0 => .int
  | _ => .object "Twinphase$Node"
abbrev wsX40 : List Cond := u_ws RX4 TX4 2
theorem nmX4 : ∀ a, a < 2 → ∀ b, b < 2 → a ≠ b → (TX4 a).2.1 ≠ (TX4 b).2.1 := by decide +kernel
theorem tyX4_ok : ∀ k, k < 2 → parseFieldDescriptor (TX4 k).2.2.1 = some (tyX4 k) := by decide +kernel
abbrev cX4_init : ByteArray := prog_5_method_1_code
def yX4_init : MethodName := ⟨RX4, "<init>", "(ILTwinphase$Node;)V"⟩
def dkwX4_init_0 : List UInt8 := [42, 183, 0, 1, 42, 27, 181, 0, 7, 42, 44, 181, 0, 13, 177]
abbrev dktX4_init_0 : List UInt8 := dkwX4_init_0 ++ []
theorem dksX4_init_0 : cX4_init.data.toList.drop 0 = dktX4_init_0 := by decide +kernel
theorem dX4_init_0 : decode cX4_init 0 = .ok (.aload_n 0, 1) := dk_42 (dk_at dksX4_init_0 0 rfl rfl)
theorem dX4_init_1 : decode cX4_init 1 = .ok (.invokespecial 1, 3) := dk_183 0 1 (dk_at dksX4_init_0 1 rfl rfl)
theorem dX4_init_4 : decode cX4_init 4 = .ok (.aload_n 0, 1) := dk_42 (dk_at dksX4_init_0 4 rfl rfl)
theorem dX4_init_5 : decode cX4_init 5 = .ok (.iload_n 1, 1) := dk_27 (dk_at dksX4_init_0 5 rfl rfl)
theorem dX4_init_6 : decode cX4_init 6 = .ok (.putfield 7, 3) := dk_181 0 7 (dk_at dksX4_init_0 6 rfl rfl)
theorem dX4_init_9 : decode cX4_init 9 = .ok (.aload_n 0, 1) := dk_42 (dk_at dksX4_init_0 9 rfl rfl)
theorem dX4_init_10 : decode cX4_init 10 = .ok (.aload_n 2, 1) := dk_44 (dk_at dksX4_init_0 10 rfl rfl)
theorem dX4_init_11 : decode cX4_init 11 = .ok (.putfield 13, 3) := dk_181 0 13 (dk_at dksX4_init_0 11 rfl rfl)
theorem dX4_init_14 : decode cX4_init 14 = .ok (.return_, 1) := dk_177 (dk_at dksX4_init_0 14 rfl rfl)
theorem q70 : (Jvm.Cond.initialized "Twinphase$Range") ∈ lw_all := lw_g (lw_at lw_m1 23 rfl) rfl
theorem q510 : (Jvm.Cond.instantiable "Twinphase$Range" (2 : Nat)) ∈ lw_all := lw_g (lw_at lw_m2 223 rfl) rfl
theorem q512 : (Jvm.Cond.instanceMethod ({ cls := "Twinphase$Range", name := "<init>", desc := "(ILTwinphase$Node;)V" } : Jvm.MethodName)) ∈ lw_all := lw_g (lw_at lw_m2 225 rfl) rfl
theorem q513 : (Jvm.Cond.code ({ cls := "Twinphase$Range", name := "<init>", desc := "(ILTwinphase$Node;)V" } : Jvm.MethodName) prog_5_method_1_code (3 : Nat) (Option.none : Option Jvm.ClassFile.FieldType)) ∈ lw_all := lw_g (lw_at lw_m2 226 rfl) rfl
theorem q514 : (Jvm.Cond.methodLink "Twinphase$Range" (1 : Nat) ({ cls := "java/lang/Object", name := "<init>", desc := "()V" } : Jvm.MethodName)) ∈ lw_all := lw_g (lw_at lw_m2 227 rfl) rfl
theorem q515 : (Jvm.Cond.fieldLink "Twinphase$Range" (7 : Nat) "Twinphase$Range" "from" "I") ∈ lw_all := lw_g (lw_at lw_m2 228 rfl) rfl
theorem q517 : (Jvm.Cond.fieldLink "Twinphase$Range" (13 : Nat) "Twinphase$Range" "node" "LTwinphase$Node;") ∈ lw_all := lw_g (lw_at lw_m2 230 rfl) rfl
theorem q520 : (Jvm.Cond.laysFinal "Twinphase$Range" "Twinphase$Range" "from" "I") ∈ lw_all := lw_g (lw_at lw_m2 233 rfl) rfl
theorem q521 : (Jvm.Cond.soleField "Twinphase$Range" "from") ∈ lw_all := lw_g (lw_at lw_m2 234 rfl) rfl
theorem q522 : (Jvm.Cond.lays "Twinphase$Range" "Twinphase$Range" "node" "LTwinphase$Node;") ∈ lw_all := lw_g (lw_at lw_m2 235 rfl) rfl
theorem q523 : (Jvm.Cond.soleField "Twinphase$Range" "node") ∈ lw_all := lw_g (lw_at lw_m2 236 rfl) rfl
theorem q524 : (Jvm.Cond.superclass "Twinphase$Range" "java/lang/Object") ∈ lw_all := lw_g (lw_at lw_m2 237 rfl) rfl
theorem q558 : (Jvm.Cond.selects "Twinphase$Range" ({ cls := "java/lang/Object", name := "getClass", desc := "()Ljava/lang/Class;" } : Jvm.MethodName) ({ cls := "java/lang/Object", name := "getClass", desc := "()Ljava/lang/Class;" } : Jvm.MethodName)) ∈ lw_all := lw_g (lw_at lw_m3 31 rfl) rfl
theorem q937 : (Jvm.Cond.selects "Twinphase$Range" ({ cls := "java/lang/Object", name := "hashCode", desc := "()I" } : Jvm.MethodName) ({ cls := "java/lang/Object", name := "hashCode", desc := "()I" } : Jvm.MethodName)) ∈ lw_all := lw_g (lw_at lw_m4 170 rfl) rfl
theorem q1026 : (Jvm.Cond.selects "Twinphase$Range" ({ cls := "java/lang/Object", name := "equals", desc := "(Ljava/lang/Object;)Z" } : Jvm.MethodName) ({ cls := "java/lang/Object", name := "equals", desc := "(Ljava/lang/Object;)Z" } : Jvm.MethodName)) ∈ lw_all := lw_g (lw_at lw_m5 19 rfl) rfl
theorem q2373 : (Jvm.Cond.castable "Twinphase$Range" "java/lang/Object") ∈ lw_tbl := lw_at lw_m10 166 rfl
theorem in_X4 : ∀ w ∈ wsX40, w ∈ lw_all := lw_in wsX40 [520, 522] (by decide +kernel) (by decide +kernel)
/-! Twinphase$Trade -/
set_option maxRecDepth 100000
def RX6 : String := "Twinphase$Trade"
def TX6 : u_T := fun k => match k with
  | 0 => ("Twinphase$Trade", "number", "I", true)
  | 1 => ("Twinphase$Trade", "node", "LTwinphase$Node;", true)
  | 2 => ("Twinphase$Trade", "rank", "I", true)
  | 3 => ("Twinphase$Trade", "state", "I", false)
  | 4 => ("Twinphase$Trade", "reads", "I", false)
  | 5 => ("Twinphase$Trade", "writes", "I", false)
  | 6 => ("Twinphase$Trade", "doubt", "I", true)
  | 7 => ("Twinphase$Trade", "beat", "I", false)
  | 8 => ("Twinphase$Trade", "waitsFor", "LTwinphase$Trade;", false)
  | 9 => ("Twinphase$Trade", "place", "I", false)
  | 10 => ("Twinphase$Trade", "seen", "Ljava/util/Map;", true)
  | 11 => ("Twinphase$Trade", "wanted", "Ljava/util/Map;", true)
  | 12 => ("Twinphase$Trade", "observed", "[I", true)
  | _ => ("Twinphase$Trade", "this$0", "LTwinphase;", true)
def tyX6 : Nat → FieldType := fun k => match k with
  | 0 => .int
  | 1 => .object "Twinphase$Node"
  | 2 => .int
  | 3 => .int
  | 4 => .int
  | 5 => .int
  | 6 => .int
  | 7 => .int
  | 8 => .object "Twinphase$Trade"
  | 9 => .int
  | 10 => .object "java/util/Map"
  | 11 => .object "java/util/Map"
  | 12 => .array .int
  | _ => .object "Twinphase"
abbrev wsX60 : List Cond := u_ws RX6 TX6 14
set_option maxRecDepth 100000 in
theorem nmX6 : ∀ a, a < 14 → ∀ b, b < 14 → a ≠ b → (TX6 a).2.1 ≠ (TX6 b).2.1 := by decide +kernel
set_option maxRecDepth 100000 in
theorem tyX6_ok : ∀ k, k < 14 → parseFieldDescriptor (TX6 k).2.2.1 = some (tyX6 k) := by decide +kernel
abbrev cX6_init : ByteArray := prog_7_method_1_code
def yX6_init : MethodName := ⟨RX6, "<init>", "(LTwinphase;ILTwinphase$Node;II)V"⟩
def dkwX6_init_4 : List UInt8 := [54, 6, 21, 6, 7, 162, 0, 17, 42, 180, 0, 32, 21, 6, 2, 79, 132, 6, 1, 167, 255, 239, 177]
abbrev dktX6_init_4 : List UInt8 := dkwX6_init_4 ++ []
def dkwX6_init_3 : List UInt8 := [21, 5, 181, 0, 49, 42, 21, 5, 16, 100, 96, 181, 0, 52, 42, 43, 180, 0, 55, 181, 0, 58, 3]
abbrev dktX6_init_3 : List UInt8 := dkwX6_init_3 ++ dktX6_init_4
def dkwX6_init_2 : List UInt8 := [42, 28, 181, 0, 36, 42, 45, 181, 0, 39, 42, 21, 4, 181, 0, 43, 42, 21, 5, 181, 0, 46, 42]
abbrev dktX6_init_2 : List UInt8 := dkwX6_init_2 ++ dktX6_init_3
def dkwX6_init_1 : List UInt8 := [183, 0, 24, 181, 0, 25, 42, 187, 0, 22, 89, 183, 0, 24, 181, 0, 29, 42, 7, 188, 10, 181, 0, 32]
abbrev dktX6_init_1 : List UInt8 := dkwX6_init_1 ++ dktX6_init_2
def dkwX6_init_0 : List UInt8 := [42, 43, 181, 0, 3, 42, 183, 0, 9, 42, 3, 181, 0, 15, 42, 2, 181, 0, 19, 42, 187, 0, 22, 89]
abbrev dktX6_init_0 : List UInt8 := dkwX6_init_0 ++ dktX6_init_1
theorem dksX6_init_0 : cX6_init.data.toList.drop 0 = dktX6_init_0 := by decide +kernel
theorem dksX6_init_1 : cX6_init.data.toList.drop 24 = dktX6_init_1 := dk_seg dksX6_init_0 24 rfl rfl
theorem dksX6_init_2 : cX6_init.data.toList.drop 48 = dktX6_init_2 := dk_seg dksX6_init_1 24 rfl rfl
theorem dksX6_init_3 : cX6_init.data.toList.drop 71 = dktX6_init_3 := dk_seg dksX6_init_2 23 rfl rfl
theorem dksX6_init_4 : cX6_init.data.toList.drop 94 = dktX6_init_4 := dk_seg dksX6_init_3 23 rfl rfl
theorem dX6_init_0 : decode cX6_init 0 = .ok (.aload_n 0, 1) := dk_42 (dk_at dksX6_init_0 0 rfl rfl)
theorem dX6_init_1 : decode cX6_init 1 = .ok (.aload_n 1, 1) := dk_43 (dk_at dksX6_init_0 1 rfl rfl)
theorem dX6_init_2 : decode cX6_init 2 = .ok (.putfield 3, 3) := dk_181 0 3 (dk_at dksX6_init_0 2 rfl rfl)
theorem dX6_init_5 : decode cX6_init 5 = .ok (.aload_n 0, 1) := dk_42 (dk_at dksX6_init_0 5 rfl rfl)
theorem dX6_init_6 : decode cX6_init 6 = .ok (.invokespecial 9, 3) := dk_183 0 9 (dk_at dksX6_init_0 6 rfl rfl)
theorem dX6_init_9 : decode cX6_init 9 = .ok (.aload_n 0, 1) := dk_42 (dk_at dksX6_init_0 9 rfl rfl)
theorem dX6_init_10 : decode cX6_init 10 = .ok (.iconst 0, 1) := dk_3 (dk_at dksX6_init_0 10 rfl rfl)
theorem dX6_init_11 : decode cX6_init 11 = .ok (.putfield 15, 3) := dk_181 0 15 (dk_at dksX6_init_0 11 rfl rfl)
theorem dX6_init_14 : decode cX6_init 14 = .ok (.aload_n 0, 1) := dk_42 (dk_at dksX6_init_0 14 rfl rfl)
theorem dX6_init_15 : decode cX6_init 15 = .ok (.iconst (-1), 1) := dk_2 (dk_at dksX6_init_0 15 rfl rfl)
theorem dX6_init_16 : decode cX6_init 16 = .ok (.putfield 19, 3) := dk_181 0 19 (dk_at dksX6_init_0 16 rfl rfl)
theorem dX6_init_19 : decode cX6_init 19 = .ok (.aload_n 0, 1) := dk_42 (dk_at dksX6_init_0 19 rfl rfl)
theorem dX6_init_20 : decode cX6_init 20 = .ok (.new 22, 3) := dk_187 0 22 (dk_at dksX6_init_0 20 rfl rfl)
theorem dX6_init_23 : decode cX6_init 23 = .ok (.dup, 1) := dk_89 (dk_at dksX6_init_0 23 rfl rfl)
theorem dX6_init_24 : decode cX6_init 24 = .ok (.invokespecial 24, 3) := dk_183 0 24 (dk_at dksX6_init_1 0 rfl rfl)
theorem dX6_init_27 : decode cX6_init 27 = .ok (.putfield 25, 3) := dk_181 0 25 (dk_at dksX6_init_1 3 rfl rfl)
theorem dX6_init_30 : decode cX6_init 30 = .ok (.aload_n 0, 1) := dk_42 (dk_at dksX6_init_1 6 rfl rfl)
theorem dX6_init_31 : decode cX6_init 31 = .ok (.new 22, 3) := dk_187 0 22 (dk_at dksX6_init_1 7 rfl rfl)
theorem dX6_init_34 : decode cX6_init 34 = .ok (.dup, 1) := dk_89 (dk_at dksX6_init_1 10 rfl rfl)
theorem dX6_init_35 : decode cX6_init 35 = .ok (.invokespecial 24, 3) := dk_183 0 24 (dk_at dksX6_init_1 11 rfl rfl)
theorem dX6_init_38 : decode cX6_init 38 = .ok (.putfield 29, 3) := dk_181 0 29 (dk_at dksX6_init_1 14 rfl rfl)
theorem dX6_init_41 : decode cX6_init 41 = .ok (.aload_n 0, 1) := dk_42 (dk_at dksX6_init_1 17 rfl rfl)
theorem dX6_init_42 : decode cX6_init 42 = .ok (.iconst 4, 1) := dk_7 (dk_at dksX6_init_1 18 rfl rfl)
theorem dX6_init_43 : decode cX6_init 43 = .ok (.newarray .int, 2) := dk_188_10 (dk_at dksX6_init_1 19 rfl rfl)
theorem dX6_init_45 : decode cX6_init 45 = .ok (.putfield 32, 3) := dk_181 0 32 (dk_at dksX6_init_1 21 rfl rfl)
theorem dX6_init_48 : decode cX6_init 48 = .ok (.aload_n 0, 1) := dk_42 (dk_at dksX6_init_2 0 rfl rfl)
theorem dX6_init_49 : decode cX6_init 49 = .ok (.iload_n 2, 1) := dk_28 (dk_at dksX6_init_2 1 rfl rfl)
theorem dX6_init_50 : decode cX6_init 50 = .ok (.putfield 36, 3) := dk_181 0 36 (dk_at dksX6_init_2 2 rfl rfl)
theorem dX6_init_53 : decode cX6_init 53 = .ok (.aload_n 0, 1) := dk_42 (dk_at dksX6_init_2 5 rfl rfl)
theorem dX6_init_54 : decode cX6_init 54 = .ok (.aload_n 3, 1) := dk_45 (dk_at dksX6_init_2 6 rfl rfl)
theorem dX6_init_55 : decode cX6_init 55 = .ok (.putfield 39, 3) := dk_181 0 39 (dk_at dksX6_init_2 7 rfl rfl)
theorem dX6_init_58 : decode cX6_init 58 = .ok (.aload_n 0, 1) := dk_42 (dk_at dksX6_init_2 10 rfl rfl)
theorem dX6_init_59 : decode cX6_init 59 = .ok (.iload 4, 2) := dk_21 4 (dk_at dksX6_init_2 11 rfl rfl)
theorem dX6_init_61 : decode cX6_init 61 = .ok (.putfield 43, 3) := dk_181 0 43 (dk_at dksX6_init_2 13 rfl rfl)
theorem dX6_init_64 : decode cX6_init 64 = .ok (.aload_n 0, 1) := dk_42 (dk_at dksX6_init_2 16 rfl rfl)
theorem dX6_init_65 : decode cX6_init 65 = .ok (.iload 5, 2) := dk_21 5 (dk_at dksX6_init_2 17 rfl rfl)
theorem dX6_init_67 : decode cX6_init 67 = .ok (.putfield 46, 3) := dk_181 0 46 (dk_at dksX6_init_2 19 rfl rfl)
theorem dX6_init_70 : decode cX6_init 70 = .ok (.aload_n 0, 1) := dk_42 (dk_at dksX6_init_2 22 rfl rfl)
theorem dX6_init_71 : decode cX6_init 71 = .ok (.iload 5, 2) := dk_21 5 (dk_at dksX6_init_3 0 rfl rfl)
theorem dX6_init_73 : decode cX6_init 73 = .ok (.putfield 49, 3) := dk_181 0 49 (dk_at dksX6_init_3 2 rfl rfl)
theorem dX6_init_76 : decode cX6_init 76 = .ok (.aload_n 0, 1) := dk_42 (dk_at dksX6_init_3 5 rfl rfl)
theorem dX6_init_77 : decode cX6_init 77 = .ok (.iload 5, 2) := dk_21 5 (dk_at dksX6_init_3 6 rfl rfl)
theorem dX6_init_79 : decode cX6_init 79 = .ok (.bipush 100, 2) := dk_16 100 (dk_at dksX6_init_3 8 rfl rfl)
theorem dX6_init_81 : decode cX6_init 81 = .ok (.iadd, 1) := dk_96 (dk_at dksX6_init_3 10 rfl rfl)
theorem dX6_init_82 : decode cX6_init 82 = .ok (.putfield 52, 3) := dk_181 0 52 (dk_at dksX6_init_3 11 rfl rfl)
theorem dX6_init_85 : decode cX6_init 85 = .ok (.aload_n 0, 1) := dk_42 (dk_at dksX6_init_3 14 rfl rfl)
theorem dX6_init_86 : decode cX6_init 86 = .ok (.aload_n 1, 1) := dk_43 (dk_at dksX6_init_3 15 rfl rfl)
theorem dX6_init_87 : decode cX6_init 87 = .ok (.getfield 55, 3) := dk_180 0 55 (dk_at dksX6_init_3 16 rfl rfl)
theorem dX6_init_90 : decode cX6_init 90 = .ok (.putfield 58, 3) := dk_181 0 58 (dk_at dksX6_init_3 19 rfl rfl)
theorem dX6_init_93 : decode cX6_init 93 = .ok (.iconst 0, 1) := dk_3 (dk_at dksX6_init_3 22 rfl rfl)
theorem dX6_init_94 : decode cX6_init 94 = .ok (.istore 6, 2) := dk_54 6 (dk_at dksX6_init_4 0 rfl rfl)
theorem dX6_init_96 : decode cX6_init 96 = .ok (.iload 6, 2) := dk_21 6 (dk_at dksX6_init_4 2 rfl rfl)
theorem dX6_init_98 : decode cX6_init 98 = .ok (.iconst 4, 1) := dk_7 (dk_at dksX6_init_4 4 rfl rfl)
theorem dX6_init_99 : decode cX6_init 99 = .ok (.if_icmp .ge 17, 3) := dk_162 0 17 (dk_at dksX6_init_4 5 rfl rfl)
theorem dX6_init_102 : decode cX6_init 102 = .ok (.aload_n 0, 1) := dk_42 (dk_at dksX6_init_4 8 rfl rfl)
theorem dX6_init_103 : decode cX6_init 103 = .ok (.getfield 32, 3) := dk_180 0 32 (dk_at dksX6_init_4 9 rfl rfl)
theorem dX6_init_106 : decode cX6_init 106 = .ok (.iload 6, 2) := dk_21 6 (dk_at dksX6_init_4 12 rfl rfl)
theorem dX6_init_108 : decode cX6_init 108 = .ok (.iconst (-1), 1) := dk_2 (dk_at dksX6_init_4 14 rfl rfl)
theorem dX6_init_109 : decode cX6_init 109 = .ok (.iastore, 1) := dk_79 (dk_at dksX6_init_4 15 rfl rfl)
theorem dX6_init_110 : decode cX6_init 110 = .ok (.iinc 6 1, 3) := dk_132 6 1 (dk_at dksX6_init_4 16 rfl rfl)
theorem dX6_init_113 : decode cX6_init 113 = .ok (.goto (-17), 3) := dk_167 255 239 (dk_at dksX6_init_4 19 rfl rfl)
theorem dX6_init_116 : decode cX6_init 116 = .ok (.return_, 1) := dk_177 (dk_at dksX6_init_4 22 rfl rfl)
abbrev cX6_isDown : ByteArray := prog_7_method_8_code
def yX6_isDown : MethodName := ⟨RX6, "isDown", "()Z"⟩
def dkwX6_isDown_0 : List UInt8 := [42, 180, 0, 39, 180, 0, 147, 172]
abbrev dktX6_isDown_0 : List UInt8 := dkwX6_isDown_0 ++ []
theorem dksX6_isDown_0 : cX6_isDown.data.toList.drop 0 = dktX6_isDown_0 := by decide +kernel
theorem dX6_isDown_0 : decode cX6_isDown 0 = .ok (.aload_n 0, 1) := dk_42 (dk_at dksX6_isDown_0 0 rfl rfl)
theorem dX6_isDown_1 : decode cX6_isDown 1 = .ok (.getfield 39, 3) := dk_180 0 39 (dk_at dksX6_isDown_0 1 rfl rfl)
theorem dX6_isDown_4 : decode cX6_isDown 4 = .ok (.getfield 147, 3) := dk_180 0 147 (dk_at dksX6_isDown_0 4 rfl rfl)
theorem dX6_isDown_7 : decode cX6_isDown 7 = .ok (.ireturn, 1) := dk_172 (dk_at dksX6_isDown_0 7 rfl rfl)
abbrev cX6_doubtAt : ByteArray := prog_7_method_6_code
def yX6_doubtAt : MethodName := ⟨RX6, "doubtAt", "(I)I"⟩
def dkwX6_doubtAt_2 : List UInt8 := [180, 0, 52, 42, 180, 0, 32, 27, 46, 184, 0, 130, 172]
abbrev dktX6_doubtAt_2 : List UInt8 := dkwX6_doubtAt_2 ++ []
def dkwX6_doubtAt_1 : List UInt8 := [160, 0, 21, 42, 180, 0, 32, 27, 42, 180, 0, 3, 180, 0, 117, 27, 50, 182, 0, 127, 79, 42]
abbrev dktX6_doubtAt_1 : List UInt8 := dkwX6_doubtAt_1 ++ dktX6_doubtAt_2
def dkwX6_doubtAt_0 : List UInt8 := [42, 180, 0, 3, 180, 0, 117, 27, 50, 42, 180, 0, 46, 182, 0, 121, 42, 180, 0, 32, 27, 46, 2]
abbrev dktX6_doubtAt_0 : List UInt8 := dkwX6_doubtAt_0 ++ dktX6_doubtAt_1
theorem dksX6_doubtAt_0 : cX6_doubtAt.data.toList.drop 0 = dktX6_doubtAt_0 := by decide +kernel
theorem dksX6_doubtAt_1 : cX6_doubtAt.data.toList.drop 23 = dktX6_doubtAt_1 := dk_seg dksX6_doubtAt_0 23 rfl rfl
theorem dksX6_doubtAt_2 : cX6_doubtAt.data.toList.drop 45 = dktX6_doubtAt_2 := dk_seg dksX6_doubtAt_1 22 rfl rfl
theorem dX6_doubtAt_0 : decode cX6_doubtAt 0 = .ok (.aload_n 0, 1) := dk_42 (dk_at dksX6_doubtAt_0 0 rfl rfl)
theorem dX6_doubtAt_1 : decode cX6_doubtAt 1 = .ok (.getfield 3, 3) := dk_180 0 3 (dk_at dksX6_doubtAt_0 1 rfl rfl)
theorem dX6_doubtAt_4 : decode cX6_doubtAt 4 = .ok (.getfield 117, 3) := dk_180 0 117 (dk_at dksX6_doubtAt_0 4 rfl rfl)
theorem dX6_doubtAt_7 : decode cX6_doubtAt 7 = .ok (.iload_n 1, 1) := dk_27 (dk_at dksX6_doubtAt_0 7 rfl rfl)
theorem dX6_doubtAt_8 : decode cX6_doubtAt 8 = .ok (.aaload, 1) := dk_50 (dk_at dksX6_doubtAt_0 8 rfl rfl)
theorem dX6_doubtAt_9 : decode cX6_doubtAt 9 = .ok (.aload_n 0, 1) := dk_42 (dk_at dksX6_doubtAt_0 9 rfl rfl)
theorem dX6_doubtAt_10 : decode cX6_doubtAt 10 = .ok (.getfield 46, 3) := dk_180 0 46 (dk_at dksX6_doubtAt_0 10 rfl rfl)
theorem dX6_doubtAt_13 : decode cX6_doubtAt 13 = .ok (.invokevirtual 121, 3) := dk_182 0 121 (dk_at dksX6_doubtAt_0 13 rfl rfl)
theorem dX6_doubtAt_16 : decode cX6_doubtAt 16 = .ok (.aload_n 0, 1) := dk_42 (dk_at dksX6_doubtAt_0 16 rfl rfl)
theorem dX6_doubtAt_17 : decode cX6_doubtAt 17 = .ok (.getfield 32, 3) := dk_180 0 32 (dk_at dksX6_doubtAt_0 17 rfl rfl)
theorem dX6_doubtAt_20 : decode cX6_doubtAt 20 = .ok (.iload_n 1, 1) := dk_27 (dk_at dksX6_doubtAt_0 20 rfl rfl)
theorem dX6_doubtAt_21 : decode cX6_doubtAt 21 = .ok (.iaload, 1) := dk_46 (dk_at dksX6_doubtAt_0 21 rfl rfl)
theorem dX6_doubtAt_22 : decode cX6_doubtAt 22 = .ok (.iconst (-1), 1) := dk_2 (dk_at dksX6_doubtAt_0 22 rfl rfl)
theorem dX6_doubtAt_23 : decode cX6_doubtAt 23 = .ok (.if_icmp .ne 21, 3) := dk_160 0 21 (dk_at dksX6_doubtAt_1 0 rfl rfl)
theorem dX6_doubtAt_26 : decode cX6_doubtAt 26 = .ok (.aload_n 0, 1) := dk_42 (dk_at dksX6_doubtAt_1 3 rfl rfl)
theorem dX6_doubtAt_27 : decode cX6_doubtAt 27 = .ok (.getfield 32, 3) := dk_180 0 32 (dk_at dksX6_doubtAt_1 4 rfl rfl)
theorem dX6_doubtAt_30 : decode cX6_doubtAt 30 = .ok (.iload_n 1, 1) := dk_27 (dk_at dksX6_doubtAt_1 7 rfl rfl)
theorem dX6_doubtAt_31 : decode cX6_doubtAt 31 = .ok (.aload_n 0, 1) := dk_42 (dk_at dksX6_doubtAt_1 8 rfl rfl)
theorem dX6_doubtAt_32 : decode cX6_doubtAt 32 = .ok (.getfield 3, 3) := dk_180 0 3 (dk_at dksX6_doubtAt_1 9 rfl rfl)
theorem dX6_doubtAt_35 : decode cX6_doubtAt 35 = .ok (.getfield 117, 3) := dk_180 0 117 (dk_at dksX6_doubtAt_1 12 rfl rfl)
theorem dX6_doubtAt_38 : decode cX6_doubtAt 38 = .ok (.iload_n 1, 1) := dk_27 (dk_at dksX6_doubtAt_1 15 rfl rfl)
theorem dX6_doubtAt_39 : decode cX6_doubtAt 39 = .ok (.aaload, 1) := dk_50 (dk_at dksX6_doubtAt_1 16 rfl rfl)
theorem dX6_doubtAt_40 : decode cX6_doubtAt 40 = .ok (.invokevirtual 127, 3) := dk_182 0 127 (dk_at dksX6_doubtAt_1 17 rfl rfl)
theorem dX6_doubtAt_43 : decode cX6_doubtAt 43 = .ok (.iastore, 1) := dk_79 (dk_at dksX6_doubtAt_1 20 rfl rfl)
theorem dX6_doubtAt_44 : decode cX6_doubtAt 44 = .ok (.aload_n 0, 1) := dk_42 (dk_at dksX6_doubtAt_1 21 rfl rfl)
theorem dX6_doubtAt_45 : decode cX6_doubtAt 45 = .ok (.getfield 52, 3) := dk_180 0 52 (dk_at dksX6_doubtAt_2 0 rfl rfl)
theorem dX6_doubtAt_48 : decode cX6_doubtAt 48 = .ok (.aload_n 0, 1) := dk_42 (dk_at dksX6_doubtAt_2 3 rfl rfl)
theorem dX6_doubtAt_49 : decode cX6_doubtAt 49 = .ok (.getfield 32, 3) := dk_180 0 32 (dk_at dksX6_doubtAt_2 4 rfl rfl)
theorem dX6_doubtAt_52 : decode cX6_doubtAt 52 = .ok (.iload_n 1, 1) := dk_27 (dk_at dksX6_doubtAt_2 7 rfl rfl)
theorem dX6_doubtAt_53 : decode cX6_doubtAt 53 = .ok (.iaload, 1) := dk_46 (dk_at dksX6_doubtAt_2 8 rfl rfl)
theorem dX6_doubtAt_54 : decode cX6_doubtAt 54 = .ok (.invokestatic 130, 3) := dk_184 0 130 (dk_at dksX6_doubtAt_2 9 rfl rfl)
theorem dX6_doubtAt_57 : decode cX6_doubtAt 57 = .ok (.ireturn, 1) := dk_172 (dk_at dksX6_doubtAt_2 12 rfl rfl)
abbrev cX6_isWhole : ByteArray := prog_7_method_4_code
def yX6_isWhole : MethodName := ⟨RX6, "isWhole", "()Z"⟩
def dkwX6_isWhole_3 : List UInt8 := [185, 0, 105, 1, 0, 160, 0, 7, 4, 167, 0, 4, 3, 172]
abbrev dktX6_isWhole_3 : List UInt8 := dkwX6_isWhole_3 ++ []
def dkwX6_isWhole_2 : List UInt8 := [166, 0, 7, 4, 167, 0, 4, 3, 96, 60, 132, 4, 1, 167, 255, 213, 27, 42, 180, 0, 29]
abbrev dktX6_isWhole_2 : List UInt8 := dkwX6_isWhole_2 ++ dktX6_isWhole_3
def dkwX6_isWhole_1 : List UInt8 := [21, 4, 50, 58, 5, 27, 25, 5, 180, 0, 83, 198, 0, 19, 25, 5, 180, 0, 83, 180, 0, 89, 42]
abbrev dktX6_isWhole_1 : List UInt8 := dkwX6_isWhole_1 ++ dktX6_isWhole_2
def dkwX6_isWhole_0 : List UInt8 := [3, 60, 42, 180, 0, 3, 180, 0, 79, 77, 44, 190, 62, 3, 54, 4, 21, 4, 29, 162, 0, 43, 44]
abbrev dktX6_isWhole_0 : List UInt8 := dkwX6_isWhole_0 ++ dktX6_isWhole_1
theorem dksX6_isWhole_0 : cX6_isWhole.data.toList.drop 0 = dktX6_isWhole_0 := by decide +kernel
theorem dksX6_isWhole_1 : cX6_isWhole.data.toList.drop 23 = dktX6_isWhole_1 := dk_seg dksX6_isWhole_0 23 rfl rfl
theorem dksX6_isWhole_2 : cX6_isWhole.data.toList.drop 46 = dktX6_isWhole_2 := dk_seg dksX6_isWhole_1 23 rfl rfl
theorem dksX6_isWhole_3 : cX6_isWhole.data.toList.drop 67 = dktX6_isWhole_3 := dk_seg dksX6_isWhole_2 21 rfl rfl
theorem dX6_isWhole_0 : decode cX6_isWhole 0 = .ok (.iconst 0, 1) := dk_3 (dk_at dksX6_isWhole_0 0 rfl rfl)
theorem dX6_isWhole_1 : decode cX6_isWhole 1 = .ok (.istore_n 1, 1) := dk_60 (dk_at dksX6_isWhole_0 1 rfl rfl)
theorem dX6_isWhole_2 : decode cX6_isWhole 2 = .ok (.aload_n 0, 1) := dk_42 (dk_at dksX6_isWhole_0 2 rfl rfl)
theorem dX6_isWhole_3 : decode cX6_isWhole 3 = .ok (.getfield 3, 3) := dk_180 0 3 (dk_at dksX6_isWhole_0 3 rfl rfl)
theorem dX6_isWhole_6 : decode cX6_isWhole 6 = .ok (.getfield 79, 3) := dk_180 0 79 (dk_at dksX6_isWhole_0 6 rfl rfl)
theorem dX6_isWhole_9 : decode cX6_isWhole 9 = .ok (.astore_n 2, 1) := dk_77 (dk_at dksX6_isWhole_0 9 rfl rfl)
theorem dX6_isWhole_10 : decode cX6_isWhole 10 = .ok (.aload_n 2, 1) := dk_44 (dk_at dksX6_isWhole_0 10 rfl rfl)
theorem dX6_isWhole_11 : decode cX6_isWhole 11 = .ok (.arraylength, 1) := dk_190 (dk_at dksX6_isWhole_0 11 rfl rfl)
theorem dX6_isWhole_12 : decode cX6_isWhole 12 = .ok (.istore_n 3, 1) := dk_62 (dk_at dksX6_isWhole_0 12 rfl rfl)
theorem dX6_isWhole_13 : decode cX6_isWhole 13 = .ok (.iconst 0, 1) := dk_3 (dk_at dksX6_isWhole_0 13 rfl rfl)
theorem dX6_isWhole_14 : decode cX6_isWhole 14 = .ok (.istore 4, 2) := dk_54 4 (dk_at dksX6_isWhole_0 14 rfl rfl)
theorem dX6_isWhole_16 : decode cX6_isWhole 16 = .ok (.iload 4, 2) := dk_21 4 (dk_at dksX6_isWhole_0 16 rfl rfl)
theorem dX6_isWhole_18 : decode cX6_isWhole 18 = .ok (.iload_n 3, 1) := dk_29 (dk_at dksX6_isWhole_0 18 rfl rfl)
theorem dX6_isWhole_19 : decode cX6_isWhole 19 = .ok (.if_icmp .ge 43, 3) := dk_162 0 43 (dk_at dksX6_isWhole_0 19 rfl rfl)
theorem dX6_isWhole_22 : decode cX6_isWhole 22 = .ok (.aload_n 2, 1) := dk_44 (dk_at dksX6_isWhole_0 22 rfl rfl)
theorem dX6_isWhole_23 : decode cX6_isWhole 23 = .ok (.iload 4, 2) := dk_21 4 (dk_at dksX6_isWhole_1 0 rfl rfl)
theorem dX6_isWhole_25 : decode cX6_isWhole 25 = .ok (.aaload, 1) := dk_50 (dk_at dksX6_isWhole_1 2 rfl rfl)
theorem dX6_isWhole_26 : decode cX6_isWhole 26 = .ok (.astore 5, 2) := dk_58 5 (dk_at dksX6_isWhole_1 3 rfl rfl)
theorem dX6_isWhole_28 : decode cX6_isWhole 28 = .ok (.iload_n 1, 1) := dk_27 (dk_at dksX6_isWhole_1 5 rfl rfl)
theorem dX6_isWhole_29 : decode cX6_isWhole 29 = .ok (.aload 5, 2) := dk_25 5 (dk_at dksX6_isWhole_1 6 rfl rfl)
theorem dX6_isWhole_31 : decode cX6_isWhole 31 = .ok (.getfield 83, 3) := dk_180 0 83 (dk_at dksX6_isWhole_1 8 rfl rfl)
theorem dX6_isWhole_34 : decode cX6_isWhole 34 = .ok (.ifnull 19, 3) := dk_198 0 19 (dk_at dksX6_isWhole_1 11 rfl rfl)
theorem dX6_isWhole_37 : decode cX6_isWhole 37 = .ok (.aload 5, 2) := dk_25 5 (dk_at dksX6_isWhole_1 14 rfl rfl)
theorem dX6_isWhole_39 : decode cX6_isWhole 39 = .ok (.getfield 83, 3) := dk_180 0 83 (dk_at dksX6_isWhole_1 16 rfl rfl)
theorem dX6_isWhole_42 : decode cX6_isWhole 42 = .ok (.getfield 89, 3) := dk_180 0 89 (dk_at dksX6_isWhole_1 19 rfl rfl)
theorem dX6_isWhole_45 : decode cX6_isWhole 45 = .ok (.aload_n 0, 1) := dk_42 (dk_at dksX6_isWhole_1 22 rfl rfl)
theorem dX6_isWhole_46 : decode cX6_isWhole 46 = .ok (.if_acmp .ne 7, 3) := dk_166 0 7 (dk_at dksX6_isWhole_2 0 rfl rfl)
theorem dX6_isWhole_49 : decode cX6_isWhole 49 = .ok (.iconst 1, 1) := dk_4 (dk_at dksX6_isWhole_2 3 rfl rfl)
theorem dX6_isWhole_50 : decode cX6_isWhole 50 = .ok (.goto 4, 3) := dk_167 0 4 (dk_at dksX6_isWhole_2 4 rfl rfl)
theorem dX6_isWhole_53 : decode cX6_isWhole 53 = .ok (.iconst 0, 1) := dk_3 (dk_at dksX6_isWhole_2 7 rfl rfl)
theorem dX6_isWhole_54 : decode cX6_isWhole 54 = .ok (.iadd, 1) := dk_96 (dk_at dksX6_isWhole_2 8 rfl rfl)
theorem dX6_isWhole_55 : decode cX6_isWhole 55 = .ok (.istore_n 1, 1) := dk_60 (dk_at dksX6_isWhole_2 9 rfl rfl)
theorem dX6_isWhole_56 : decode cX6_isWhole 56 = .ok (.iinc 4 1, 3) := dk_132 4 1 (dk_at dksX6_isWhole_2 10 rfl rfl)
theorem dX6_isWhole_59 : decode cX6_isWhole 59 = .ok (.goto (-43), 3) := dk_167 255 213 (dk_at dksX6_isWhole_2 13 rfl rfl)
theorem dX6_isWhole_62 : decode cX6_isWhole 62 = .ok (.iload_n 1, 1) := dk_27 (dk_at dksX6_isWhole_2 16 rfl rfl)
theorem dX6_isWhole_63 : decode cX6_isWhole 63 = .ok (.aload_n 0, 1) := dk_42 (dk_at dksX6_isWhole_2 17 rfl rfl)
theorem dX6_isWhole_64 : decode cX6_isWhole 64 = .ok (.getfield 29, 3) := dk_180 0 29 (dk_at dksX6_isWhole_2 18 rfl rfl)
theorem dX6_isWhole_67 : decode cX6_isWhole 67 = .ok (.invokeinterface 105 1, 5) := by decide +kernel
theorem dX6_isWhole_72 : decode cX6_isWhole 72 = .ok (.if_icmp .ne 7, 3) := dk_160 0 7 (dk_at dksX6_isWhole_3 5 rfl rfl)
theorem dX6_isWhole_75 : decode cX6_isWhole 75 = .ok (.iconst 1, 1) := dk_4 (dk_at dksX6_isWhole_3 8 rfl rfl)
theorem dX6_isWhole_76 : decode cX6_isWhole 76 = .ok (.goto 4, 3) := dk_167 0 4 (dk_at dksX6_isWhole_3 9 rfl rfl)
theorem dX6_isWhole_79 : decode cX6_isWhole 79 = .ok (.iconst 0, 1) := dk_3 (dk_at dksX6_isWhole_3 12 rfl rfl)
theorem dX6_isWhole_80 : decode cX6_isWhole 80 = .ok (.ireturn, 1) := dk_172 (dk_at dksX6_isWhole_3 13 rfl rfl)
abbrev cX6_ends : ByteArray := prog_7_method_3_code
def yX6_ends : MethodName := ⟨RX6, "ends", "(I)V"⟩
def dkwX6_ends_5 : List UInt8 := [185, 0, 75, 2, 0, 87, 25, 5, 1, 181, 0, 83, 132, 4, 1, 167, 255, 185, 177]
abbrev dktX6_ends_5 : List UInt8 := dkwX6_ends_5 ++ []
def dkwX6_ends_4 : List UInt8 := [180, 0, 94, 187, 0, 97, 89, 42, 180, 0, 49, 25, 5, 180, 0, 83, 180, 0, 99, 183, 0, 102]
abbrev dktX6_ends_4 : List UInt8 := dkwX6_ends_4 ++ dktX6_ends_5
def dkwX6_ends_3 : List UInt8 := [58, 5, 25, 5, 180, 0, 83, 198, 0, 51, 25, 5, 180, 0, 83, 180, 0, 89, 42, 166, 0, 39, 25, 5]
abbrev dktX6_ends_3 : List UInt8 := dkwX6_ends_3 ++ dktX6_ends_4
def dkwX6_ends_2 : List UInt8 := [180, 0, 3, 180, 0, 79, 77, 44, 190, 62, 3, 54, 4, 21, 4, 29, 162, 0, 71, 44, 21, 4, 50]
abbrev dktX6_ends_2 : List UInt8 := dkwX6_ends_2 ++ dktX6_ends_3
def dkwX6_ends_1 : List UInt8 := [185, 0, 69, 1, 0, 181, 0, 19, 42, 180, 0, 3, 180, 0, 65, 42, 185, 0, 75, 2, 0, 87, 42]
abbrev dktX6_ends_1 : List UInt8 := dkwX6_ends_1 ++ dktX6_ends_2
def dkwX6_ends_0 : List UInt8 := [42, 27, 181, 0, 15, 42, 1, 181, 0, 61, 27, 5, 160, 0, 121, 42, 42, 180, 0, 3, 180, 0, 65]
abbrev dktX6_ends_0 : List UInt8 := dkwX6_ends_0 ++ dktX6_ends_1
theorem dksX6_ends_0 : cX6_ends.data.toList.drop 0 = dktX6_ends_0 := by decide +kernel
theorem dksX6_ends_1 : cX6_ends.data.toList.drop 23 = dktX6_ends_1 := dk_seg dksX6_ends_0 23 rfl rfl
theorem dksX6_ends_2 : cX6_ends.data.toList.drop 46 = dktX6_ends_2 := dk_seg dksX6_ends_1 23 rfl rfl
theorem dksX6_ends_3 : cX6_ends.data.toList.drop 69 = dktX6_ends_3 := dk_seg dksX6_ends_2 23 rfl rfl
theorem dksX6_ends_4 : cX6_ends.data.toList.drop 93 = dktX6_ends_4 := dk_seg dksX6_ends_3 24 rfl rfl
theorem dksX6_ends_5 : cX6_ends.data.toList.drop 115 = dktX6_ends_5 := dk_seg dksX6_ends_4 22 rfl rfl
theorem dX6_ends_0 : decode cX6_ends 0 = .ok (.aload_n 0, 1) := dk_42 (dk_at dksX6_ends_0 0 rfl rfl)
theorem dX6_ends_1 : decode cX6_ends 1 = .ok (.iload_n 1, 1) := dk_27 (dk_at dksX6_ends_0 1 rfl rfl)
theorem dX6_ends_2 : decode cX6_ends 2 = .ok (.putfield 15, 3) := dk_181 0 15 (dk_at dksX6_ends_0 2 rfl rfl)
theorem dX6_ends_5 : decode cX6_ends 5 = .ok (.aload_n 0, 1) := dk_42 (dk_at dksX6_ends_0 5 rfl rfl)
theorem dX6_ends_6 : decode cX6_ends 6 = .ok (.aconst_null, 1) := dk_1 (dk_at dksX6_ends_0 6 rfl rfl)
theorem dX6_ends_7 : decode cX6_ends 7 = .ok (.putfield 61, 3) := dk_181 0 61 (dk_at dksX6_ends_0 7 rfl rfl)
theorem dX6_ends_10 : decode cX6_ends 10 = .ok (.iload_n 1, 1) := dk_27 (dk_at dksX6_ends_0 10 rfl rfl)
theorem dX6_ends_11 : decode cX6_ends 11 = .ok (.iconst 2, 1) := dk_5 (dk_at dksX6_ends_0 11 rfl rfl)
theorem dX6_ends_12 : decode cX6_ends 12 = .ok (.if_icmp .ne 121, 3) := dk_160 0 121 (dk_at dksX6_ends_0 12 rfl rfl)
theorem dX6_ends_15 : decode cX6_ends 15 = .ok (.aload_n 0, 1) := dk_42 (dk_at dksX6_ends_0 15 rfl rfl)
theorem dX6_ends_16 : decode cX6_ends 16 = .ok (.aload_n 0, 1) := dk_42 (dk_at dksX6_ends_0 16 rfl rfl)
theorem dX6_ends_17 : decode cX6_ends 17 = .ok (.getfield 3, 3) := dk_180 0 3 (dk_at dksX6_ends_0 17 rfl rfl)
theorem dX6_ends_20 : decode cX6_ends 20 = .ok (.getfield 65, 3) := dk_180 0 65 (dk_at dksX6_ends_0 20 rfl rfl)
theorem dX6_ends_23 : decode cX6_ends 23 = .ok (.invokeinterface 69 1, 5) := by decide +kernel
theorem dX6_ends_28 : decode cX6_ends 28 = .ok (.putfield 19, 3) := dk_181 0 19 (dk_at dksX6_ends_1 5 rfl rfl)
theorem dX6_ends_31 : decode cX6_ends 31 = .ok (.aload_n 0, 1) := dk_42 (dk_at dksX6_ends_1 8 rfl rfl)
theorem dX6_ends_32 : decode cX6_ends 32 = .ok (.getfield 3, 3) := dk_180 0 3 (dk_at dksX6_ends_1 9 rfl rfl)
theorem dX6_ends_35 : decode cX6_ends 35 = .ok (.getfield 65, 3) := dk_180 0 65 (dk_at dksX6_ends_1 12 rfl rfl)
theorem dX6_ends_38 : decode cX6_ends 38 = .ok (.aload_n 0, 1) := dk_42 (dk_at dksX6_ends_1 15 rfl rfl)
theorem dX6_ends_39 : decode cX6_ends 39 = .ok (.invokeinterface 75 2, 5) := by decide +kernel
theorem dX6_ends_44 : decode cX6_ends 44 = .ok (.pop, 1) := dk_87 (dk_at dksX6_ends_1 21 rfl rfl)
theorem dX6_ends_45 : decode cX6_ends 45 = .ok (.aload_n 0, 1) := dk_42 (dk_at dksX6_ends_1 22 rfl rfl)
theorem dX6_ends_46 : decode cX6_ends 46 = .ok (.getfield 3, 3) := dk_180 0 3 (dk_at dksX6_ends_2 0 rfl rfl)
theorem dX6_ends_49 : decode cX6_ends 49 = .ok (.getfield 79, 3) := dk_180 0 79 (dk_at dksX6_ends_2 3 rfl rfl)
theorem dX6_ends_52 : decode cX6_ends 52 = .ok (.astore_n 2, 1) := dk_77 (dk_at dksX6_ends_2 6 rfl rfl)
theorem dX6_ends_53 : decode cX6_ends 53 = .ok (.aload_n 2, 1) := dk_44 (dk_at dksX6_ends_2 7 rfl rfl)
theorem dX6_ends_54 : decode cX6_ends 54 = .ok (.arraylength, 1) := dk_190 (dk_at dksX6_ends_2 8 rfl rfl)
theorem dX6_ends_55 : decode cX6_ends 55 = .ok (.istore_n 3, 1) := dk_62 (dk_at dksX6_ends_2 9 rfl rfl)
theorem dX6_ends_56 : decode cX6_ends 56 = .ok (.iconst 0, 1) := dk_3 (dk_at dksX6_ends_2 10 rfl rfl)
theorem dX6_ends_57 : decode cX6_ends 57 = .ok (.istore 4, 2) := dk_54 4 (dk_at dksX6_ends_2 11 rfl rfl)
theorem dX6_ends_59 : decode cX6_ends 59 = .ok (.iload 4, 2) := dk_21 4 (dk_at dksX6_ends_2 13 rfl rfl)
theorem dX6_ends_61 : decode cX6_ends 61 = .ok (.iload_n 3, 1) := dk_29 (dk_at dksX6_ends_2 15 rfl rfl)
theorem dX6_ends_62 : decode cX6_ends 62 = .ok (.if_icmp .ge 71, 3) := dk_162 0 71 (dk_at dksX6_ends_2 16 rfl rfl)
theorem dX6_ends_65 : decode cX6_ends 65 = .ok (.aload_n 2, 1) := dk_44 (dk_at dksX6_ends_2 19 rfl rfl)
theorem dX6_ends_66 : decode cX6_ends 66 = .ok (.iload 4, 2) := dk_21 4 (dk_at dksX6_ends_2 20 rfl rfl)
theorem dX6_ends_68 : decode cX6_ends 68 = .ok (.aaload, 1) := dk_50 (dk_at dksX6_ends_2 22 rfl rfl)
theorem dX6_ends_69 : decode cX6_ends 69 = .ok (.astore 5, 2) := dk_58 5 (dk_at dksX6_ends_3 0 rfl rfl)
theorem dX6_ends_71 : decode cX6_ends 71 = .ok (.aload 5, 2) := dk_25 5 (dk_at dksX6_ends_3 2 rfl rfl)
theorem dX6_ends_73 : decode cX6_ends 73 = .ok (.getfield 83, 3) := dk_180 0 83 (dk_at dksX6_ends_3 4 rfl rfl)
theorem dX6_ends_76 : decode cX6_ends 76 = .ok (.ifnull 51, 3) := dk_198 0 51 (dk_at dksX6_ends_3 7 rfl rfl)
theorem dX6_ends_79 : decode cX6_ends 79 = .ok (.aload 5, 2) := dk_25 5 (dk_at dksX6_ends_3 10 rfl rfl)
theorem dX6_ends_81 : decode cX6_ends 81 = .ok (.getfield 83, 3) := dk_180 0 83 (dk_at dksX6_ends_3 12 rfl rfl)
theorem dX6_ends_84 : decode cX6_ends 84 = .ok (.getfield 89, 3) := dk_180 0 89 (dk_at dksX6_ends_3 15 rfl rfl)
theorem dX6_ends_87 : decode cX6_ends 87 = .ok (.aload_n 0, 1) := dk_42 (dk_at dksX6_ends_3 18 rfl rfl)
theorem dX6_ends_88 : decode cX6_ends 88 = .ok (.if_acmp .ne 39, 3) := dk_166 0 39 (dk_at dksX6_ends_3 19 rfl rfl)
theorem dX6_ends_91 : decode cX6_ends 91 = .ok (.aload 5, 2) := dk_25 5 (dk_at dksX6_ends_3 22 rfl rfl)
theorem dX6_ends_93 : decode cX6_ends 93 = .ok (.getfield 94, 3) := dk_180 0 94 (dk_at dksX6_ends_4 0 rfl rfl)
theorem dX6_ends_96 : decode cX6_ends 96 = .ok (.new 97, 3) := dk_187 0 97 (dk_at dksX6_ends_4 3 rfl rfl)
theorem dX6_ends_99 : decode cX6_ends 99 = .ok (.dup, 1) := dk_89 (dk_at dksX6_ends_4 6 rfl rfl)
theorem dX6_ends_100 : decode cX6_ends 100 = .ok (.aload_n 0, 1) := dk_42 (dk_at dksX6_ends_4 7 rfl rfl)
theorem dX6_ends_101 : decode cX6_ends 101 = .ok (.getfield 49, 3) := dk_180 0 49 (dk_at dksX6_ends_4 8 rfl rfl)
theorem dX6_ends_104 : decode cX6_ends 104 = .ok (.aload 5, 2) := dk_25 5 (dk_at dksX6_ends_4 11 rfl rfl)
theorem dX6_ends_106 : decode cX6_ends 106 = .ok (.getfield 83, 3) := dk_180 0 83 (dk_at dksX6_ends_4 13 rfl rfl)
theorem dX6_ends_109 : decode cX6_ends 109 = .ok (.getfield 99, 3) := dk_180 0 99 (dk_at dksX6_ends_4 16 rfl rfl)
theorem dX6_ends_112 : decode cX6_ends 112 = .ok (.invokespecial 102, 3) := dk_183 0 102 (dk_at dksX6_ends_4 19 rfl rfl)
theorem dX6_ends_115 : decode cX6_ends 115 = .ok (.invokeinterface 75 2, 5) := by decide +kernel
theorem dX6_ends_120 : decode cX6_ends 120 = .ok (.pop, 1) := dk_87 (dk_at dksX6_ends_5 5 rfl rfl)
theorem dX6_ends_121 : decode cX6_ends 121 = .ok (.aload 5, 2) := dk_25 5 (dk_at dksX6_ends_5 6 rfl rfl)
theorem dX6_ends_123 : decode cX6_ends 123 = .ok (.aconst_null, 1) := dk_1 (dk_at dksX6_ends_5 8 rfl rfl)
theorem dX6_ends_124 : decode cX6_ends 124 = .ok (.putfield 83, 3) := dk_181 0 83 (dk_at dksX6_ends_5 9 rfl rfl)
theorem dX6_ends_127 : decode cX6_ends 127 = .ok (.iinc 4 1, 3) := dk_132 4 1 (dk_at dksX6_ends_5 12 rfl rfl)
theorem dX6_ends_130 : decode cX6_ends 130 = .ok (.goto (-71), 3) := dk_167 255 185 (dk_at dksX6_ends_5 15 rfl rfl)
theorem dX6_ends_133 : decode cX6_ends 133 = .ok (.return_, 1) := dk_177 (dk_at dksX6_ends_5 18 rfl rfl)
abbrev cX6_isVanished : ByteArray := prog_7_method_2_code
def yX6_isVanished : MethodName := ⟨RX6, "isVanished", "()Z"⟩
def dkwX6_isVanished_1 : List UInt8 := [164, 0, 7, 4, 167, 0, 4, 3, 172]
abbrev dktX6_isVanished_1 : List UInt8 := dkwX6_isVanished_1 ++ []
def dkwX6_isVanished_0 : List UInt8 := [42, 180, 0, 15, 4, 163, 0, 24, 42, 180, 0, 3, 180, 0, 55, 42, 180, 0, 58, 16, 20, 96]
abbrev dktX6_isVanished_0 : List UInt8 := dkwX6_isVanished_0 ++ dktX6_isVanished_1
theorem dksX6_isVanished_0 : cX6_isVanished.data.toList.drop 0 = dktX6_isVanished_0 := by decide +kernel
theorem dksX6_isVanished_1 : cX6_isVanished.data.toList.drop 22 = dktX6_isVanished_1 := dk_seg dksX6_isVanished_0 22 rfl rfl
theorem dX6_isVanished_0 : decode cX6_isVanished 0 = .ok (.aload_n 0, 1) := dk_42 (dk_at dksX6_isVanished_0 0 rfl rfl)
theorem dX6_isVanished_1 : decode cX6_isVanished 1 = .ok (.getfield 15, 3) := dk_180 0 15 (dk_at dksX6_isVanished_0 1 rfl rfl)
theorem dX6_isVanished_4 : decode cX6_isVanished 4 = .ok (.iconst 1, 1) := dk_4 (dk_at dksX6_isVanished_0 4 rfl rfl)
theorem dX6_isVanished_5 : decode cX6_isVanished 5 = .ok (.if_icmp .gt 24, 3) := dk_163 0 24 (dk_at dksX6_isVanished_0 5 rfl rfl)
theorem dX6_isVanished_8 : decode cX6_isVanished 8 = .ok (.aload_n 0, 1) := dk_42 (dk_at dksX6_isVanished_0 8 rfl rfl)
theorem dX6_isVanished_9 : decode cX6_isVanished 9 = .ok (.getfield 3, 3) := dk_180 0 3 (dk_at dksX6_isVanished_0 9 rfl rfl)
theorem dX6_isVanished_12 : decode cX6_isVanished 12 = .ok (.getfield 55, 3) := dk_180 0 55 (dk_at dksX6_isVanished_0 12 rfl rfl)
theorem dX6_isVanished_15 : decode cX6_isVanished 15 = .ok (.aload_n 0, 1) := dk_42 (dk_at dksX6_isVanished_0 15 rfl rfl)
theorem dX6_isVanished_16 : decode cX6_isVanished 16 = .ok (.getfield 58, 3) := dk_180 0 58 (dk_at dksX6_isVanished_0 16 rfl rfl)
theorem dX6_isVanished_19 : decode cX6_isVanished 19 = .ok (.bipush 20, 2) := dk_16 20 (dk_at dksX6_isVanished_0 19 rfl rfl)
theorem dX6_isVanished_21 : decode cX6_isVanished 21 = .ok (.iadd, 1) := dk_96 (dk_at dksX6_isVanished_0 21 rfl rfl)
theorem dX6_isVanished_22 : decode cX6_isVanished 22 = .ok (.if_icmp .le 7, 3) := dk_164 0 7 (dk_at dksX6_isVanished_1 0 rfl rfl)
theorem dX6_isVanished_25 : decode cX6_isVanished 25 = .ok (.iconst 1, 1) := dk_4 (dk_at dksX6_isVanished_1 3 rfl rfl)
theorem dX6_isVanished_26 : decode cX6_isVanished 26 = .ok (.goto 4, 3) := dk_167 0 4 (dk_at dksX6_isVanished_1 4 rfl rfl)
theorem dX6_isVanished_29 : decode cX6_isVanished 29 = .ok (.iconst 0, 1) := dk_3 (dk_at dksX6_isVanished_1 7 rfl rfl)
theorem dX6_isVanished_30 : decode cX6_isVanished 30 = .ok (.ireturn, 1) := dk_172 (dk_at dksX6_isVanished_1 8 rfl rfl)
abbrev cX6_refreshes : ByteArray := prog_7_method_7_code
def yX6_refreshes : MethodName := ⟨RX6, "refreshes", "(I)Z"⟩
def dkwX6_refreshes_7 : List UInt8 := [180, 0, 3, 180, 0, 79, 29, 50, 27, 42, 180, 0, 36, 182, 0, 159, 132, 3, 1, 167, 255, 206, 28, 172]
abbrev dktX6_refreshes_7 : List UInt8 := dkwX6_refreshes_7 ++ []
def dkwX6_refreshes_6 : List UInt8 := [153, 0, 46, 42, 180, 0, 25, 187, 0, 133, 89, 29, 183, 0, 135, 185, 0, 137, 2, 0, 153, 0, 20, 42]
abbrev dktX6_refreshes_6 : List UInt8 := dkwX6_refreshes_6 ++ dktX6_refreshes_7
def dkwX6_refreshes_5 : List UInt8 := [164, 0, 7, 4, 167, 0, 4, 3, 61, 132, 3, 1, 167, 255, 132, 3, 62, 29, 16, 32, 162, 0, 50, 28]
abbrev dktX6_refreshes_5 : List UInt8 := dkwX6_refreshes_5 ++ dktX6_refreshes_6
def dkwX6_refreshes_4 : List UInt8 := [25, 4, 42, 180, 0, 46, 27, 182, 0, 155, 154, 0, 21, 25, 5, 198, 0, 12, 25, 5, 180, 0, 49, 27]
abbrev dktX6_refreshes_4 : List UInt8 := dkwX6_refreshes_4 ++ dktX6_refreshes_5
def dkwX6_refreshes_3 : List UInt8 := [153, 0, 16, 42, 180, 0, 3, 25, 4, 42, 182, 0, 151, 167, 0, 4, 1, 58, 5, 28, 153, 0, 34]
abbrev dktX6_refreshes_3 : List UInt8 := dkwX6_refreshes_3 ++ dktX6_refreshes_4
def dkwX6_refreshes_2 : List UInt8 := [180, 0, 3, 29, 182, 0, 140, 180, 0, 144, 180, 0, 147, 154, 0, 7, 4, 167, 0, 4, 3, 61, 28]
abbrev dktX6_refreshes_2 : List UInt8 := dkwX6_refreshes_2 ++ dktX6_refreshes_3
def dkwX6_refreshes_1 : List UInt8 := [58, 4, 42, 180, 0, 25, 187, 0, 133, 89, 29, 183, 0, 135, 185, 0, 137, 2, 0, 153, 0, 83, 42]
abbrev dktX6_refreshes_1 : List UInt8 := dkwX6_refreshes_1 ++ dktX6_refreshes_2
def dkwX6_refreshes_0 : List UInt8 := [4, 61, 3, 62, 29, 16, 32, 162, 0, 124, 28, 153, 0, 120, 42, 180, 0, 3, 180, 0, 79, 29, 50]
abbrev dktX6_refreshes_0 : List UInt8 := dkwX6_refreshes_0 ++ dktX6_refreshes_1
theorem dksX6_refreshes_0 : cX6_refreshes.data.toList.drop 0 = dktX6_refreshes_0 := by decide +kernel
theorem dksX6_refreshes_1 : cX6_refreshes.data.toList.drop 23 = dktX6_refreshes_1 := dk_seg dksX6_refreshes_0 23 rfl rfl
theorem dksX6_refreshes_2 : cX6_refreshes.data.toList.drop 46 = dktX6_refreshes_2 := dk_seg dksX6_refreshes_1 23 rfl rfl
theorem dksX6_refreshes_3 : cX6_refreshes.data.toList.drop 69 = dktX6_refreshes_3 := dk_seg dksX6_refreshes_2 23 rfl rfl
theorem dksX6_refreshes_4 : cX6_refreshes.data.toList.drop 92 = dktX6_refreshes_4 := dk_seg dksX6_refreshes_3 23 rfl rfl
theorem dksX6_refreshes_5 : cX6_refreshes.data.toList.drop 116 = dktX6_refreshes_5 := dk_seg dksX6_refreshes_4 24 rfl rfl
theorem dksX6_refreshes_6 : cX6_refreshes.data.toList.drop 140 = dktX6_refreshes_6 := dk_seg dksX6_refreshes_5 24 rfl rfl
theorem dksX6_refreshes_7 : cX6_refreshes.data.toList.drop 164 = dktX6_refreshes_7 := dk_seg dksX6_refreshes_6 24 rfl rfl
theorem dX6_refreshes_0 : decode cX6_refreshes 0 = .ok (.iconst 1, 1) := dk_4 (dk_at dksX6_refreshes_0 0 rfl rfl)
theorem dX6_refreshes_1 : decode cX6_refreshes 1 = .ok (.istore_n 2, 1) := dk_61 (dk_at dksX6_refreshes_0 1 rfl rfl)
theorem dX6_refreshes_2 : decode cX6_refreshes 2 = .ok (.iconst 0, 1) := dk_3 (dk_at dksX6_refreshes_0 2 rfl rfl)
theorem dX6_refreshes_3 : decode cX6_refreshes 3 = .ok (.istore_n 3, 1) := dk_62 (dk_at dksX6_refreshes_0 3 rfl rfl)
theorem dX6_refreshes_4 : decode cX6_refreshes 4 = .ok (.iload_n 3, 1) := dk_29 (dk_at dksX6_refreshes_0 4 rfl rfl)
theorem dX6_refreshes_5 : decode cX6_refreshes 5 = .ok (.bipush 32, 2) := dk_16 32 (dk_at dksX6_refreshes_0 5 rfl rfl)
theorem dX6_refreshes_7 : decode cX6_refreshes 7 = .ok (.if_icmp .ge 124, 3) := dk_162 0 124 (dk_at dksX6_refreshes_0 7 rfl rfl)
theorem dX6_refreshes_10 : decode cX6_refreshes 10 = .ok (.iload_n 2, 1) := dk_28 (dk_at dksX6_refreshes_0 10 rfl rfl)
theorem dX6_refreshes_11 : decode cX6_refreshes 11 = .ok (.ifCond .eq 120, 3) := dk_153 0 120 (dk_at dksX6_refreshes_0 11 rfl rfl)
theorem dX6_refreshes_14 : decode cX6_refreshes 14 = .ok (.aload_n 0, 1) := dk_42 (dk_at dksX6_refreshes_0 14 rfl rfl)
theorem dX6_refreshes_15 : decode cX6_refreshes 15 = .ok (.getfield 3, 3) := dk_180 0 3 (dk_at dksX6_refreshes_0 15 rfl rfl)
theorem dX6_refreshes_18 : decode cX6_refreshes 18 = .ok (.getfield 79, 3) := dk_180 0 79 (dk_at dksX6_refreshes_0 18 rfl rfl)
theorem dX6_refreshes_21 : decode cX6_refreshes 21 = .ok (.iload_n 3, 1) := dk_29 (dk_at dksX6_refreshes_0 21 rfl rfl)
theorem dX6_refreshes_22 : decode cX6_refreshes 22 = .ok (.aaload, 1) := dk_50 (dk_at dksX6_refreshes_0 22 rfl rfl)
theorem dX6_refreshes_23 : decode cX6_refreshes 23 = .ok (.astore 4, 2) := dk_58 4 (dk_at dksX6_refreshes_1 0 rfl rfl)
theorem dX6_refreshes_25 : decode cX6_refreshes 25 = .ok (.aload_n 0, 1) := dk_42 (dk_at dksX6_refreshes_1 2 rfl rfl)
theorem dX6_refreshes_26 : decode cX6_refreshes 26 = .ok (.getfield 25, 3) := dk_180 0 25 (dk_at dksX6_refreshes_1 3 rfl rfl)
theorem dX6_refreshes_29 : decode cX6_refreshes 29 = .ok (.new 133, 3) := dk_187 0 133 (dk_at dksX6_refreshes_1 6 rfl rfl)
theorem dX6_refreshes_32 : decode cX6_refreshes 32 = .ok (.dup, 1) := dk_89 (dk_at dksX6_refreshes_1 9 rfl rfl)
theorem dX6_refreshes_33 : decode cX6_refreshes 33 = .ok (.iload_n 3, 1) := dk_29 (dk_at dksX6_refreshes_1 10 rfl rfl)
theorem dX6_refreshes_34 : decode cX6_refreshes 34 = .ok (.invokespecial 135, 3) := dk_183 0 135 (dk_at dksX6_refreshes_1 11 rfl rfl)
theorem dX6_refreshes_37 : decode cX6_refreshes 37 = .ok (.invokeinterface 137 2, 5) := by decide +kernel
theorem dX6_refreshes_42 : decode cX6_refreshes 42 = .ok (.ifCond .eq 83, 3) := dk_153 0 83 (dk_at dksX6_refreshes_1 19 rfl rfl)
theorem dX6_refreshes_45 : decode cX6_refreshes 45 = .ok (.aload_n 0, 1) := dk_42 (dk_at dksX6_refreshes_1 22 rfl rfl)
theorem dX6_refreshes_46 : decode cX6_refreshes 46 = .ok (.getfield 3, 3) := dk_180 0 3 (dk_at dksX6_refreshes_2 0 rfl rfl)
theorem dX6_refreshes_49 : decode cX6_refreshes 49 = .ok (.iload_n 3, 1) := dk_29 (dk_at dksX6_refreshes_2 3 rfl rfl)
theorem dX6_refreshes_50 : decode cX6_refreshes 50 = .ok (.invokevirtual 140, 3) := dk_182 0 140 (dk_at dksX6_refreshes_2 4 rfl rfl)
theorem dX6_refreshes_53 : decode cX6_refreshes 53 = .ok (.getfield 144, 3) := dk_180 0 144 (dk_at dksX6_refreshes_2 7 rfl rfl)
theorem dX6_refreshes_56 : decode cX6_refreshes 56 = .ok (.getfield 147, 3) := dk_180 0 147 (dk_at dksX6_refreshes_2 10 rfl rfl)
theorem dX6_refreshes_59 : decode cX6_refreshes 59 = .ok (.ifCond .ne 7, 3) := dk_154 0 7 (dk_at dksX6_refreshes_2 13 rfl rfl)
theorem dX6_refreshes_62 : decode cX6_refreshes 62 = .ok (.iconst 1, 1) := dk_4 (dk_at dksX6_refreshes_2 16 rfl rfl)
theorem dX6_refreshes_63 : decode cX6_refreshes 63 = .ok (.goto 4, 3) := dk_167 0 4 (dk_at dksX6_refreshes_2 17 rfl rfl)
theorem dX6_refreshes_66 : decode cX6_refreshes 66 = .ok (.iconst 0, 1) := dk_3 (dk_at dksX6_refreshes_2 20 rfl rfl)
theorem dX6_refreshes_67 : decode cX6_refreshes 67 = .ok (.istore_n 2, 1) := dk_61 (dk_at dksX6_refreshes_2 21 rfl rfl)
theorem dX6_refreshes_68 : decode cX6_refreshes 68 = .ok (.iload_n 2, 1) := dk_28 (dk_at dksX6_refreshes_2 22 rfl rfl)
theorem dX6_refreshes_69 : decode cX6_refreshes 69 = .ok (.ifCond .eq 16, 3) := dk_153 0 16 (dk_at dksX6_refreshes_3 0 rfl rfl)
theorem dX6_refreshes_72 : decode cX6_refreshes 72 = .ok (.aload_n 0, 1) := dk_42 (dk_at dksX6_refreshes_3 3 rfl rfl)
theorem dX6_refreshes_73 : decode cX6_refreshes 73 = .ok (.getfield 3, 3) := dk_180 0 3 (dk_at dksX6_refreshes_3 4 rfl rfl)
theorem dX6_refreshes_76 : decode cX6_refreshes 76 = .ok (.aload 4, 2) := dk_25 4 (dk_at dksX6_refreshes_3 7 rfl rfl)
theorem dX6_refreshes_78 : decode cX6_refreshes 78 = .ok (.aload_n 0, 1) := dk_42 (dk_at dksX6_refreshes_3 9 rfl rfl)
theorem dX6_refreshes_79 : decode cX6_refreshes 79 = .ok (.invokevirtual 151, 3) := dk_182 0 151 (dk_at dksX6_refreshes_3 10 rfl rfl)
theorem dX6_refreshes_82 : decode cX6_refreshes 82 = .ok (.goto 4, 3) := dk_167 0 4 (dk_at dksX6_refreshes_3 13 rfl rfl)
theorem dX6_refreshes_85 : decode cX6_refreshes 85 = .ok (.aconst_null, 1) := dk_1 (dk_at dksX6_refreshes_3 16 rfl rfl)
theorem dX6_refreshes_86 : decode cX6_refreshes 86 = .ok (.astore 5, 2) := dk_58 5 (dk_at dksX6_refreshes_3 17 rfl rfl)
theorem dX6_refreshes_88 : decode cX6_refreshes 88 = .ok (.iload_n 2, 1) := dk_28 (dk_at dksX6_refreshes_3 19 rfl rfl)
theorem dX6_refreshes_89 : decode cX6_refreshes 89 = .ok (.ifCond .eq 34, 3) := dk_153 0 34 (dk_at dksX6_refreshes_3 20 rfl rfl)
theorem dX6_refreshes_92 : decode cX6_refreshes 92 = .ok (.aload 4, 2) := dk_25 4 (dk_at dksX6_refreshes_4 0 rfl rfl)
theorem dX6_refreshes_94 : decode cX6_refreshes 94 = .ok (.aload_n 0, 1) := dk_42 (dk_at dksX6_refreshes_4 2 rfl rfl)
theorem dX6_refreshes_95 : decode cX6_refreshes 95 = .ok (.getfield 46, 3) := dk_180 0 46 (dk_at dksX6_refreshes_4 3 rfl rfl)
theorem dX6_refreshes_98 : decode cX6_refreshes 98 = .ok (.iload_n 1, 1) := dk_27 (dk_at dksX6_refreshes_4 6 rfl rfl)
theorem dX6_refreshes_99 : decode cX6_refreshes 99 = .ok (.invokevirtual 155, 3) := dk_182 0 155 (dk_at dksX6_refreshes_4 7 rfl rfl)
theorem dX6_refreshes_102 : decode cX6_refreshes 102 = .ok (.ifCond .ne 21, 3) := dk_154 0 21 (dk_at dksX6_refreshes_4 10 rfl rfl)
theorem dX6_refreshes_105 : decode cX6_refreshes 105 = .ok (.aload 5, 2) := dk_25 5 (dk_at dksX6_refreshes_4 13 rfl rfl)
theorem dX6_refreshes_107 : decode cX6_refreshes 107 = .ok (.ifnull 12, 3) := dk_198 0 12 (dk_at dksX6_refreshes_4 15 rfl rfl)
theorem dX6_refreshes_110 : decode cX6_refreshes 110 = .ok (.aload 5, 2) := dk_25 5 (dk_at dksX6_refreshes_4 18 rfl rfl)
theorem dX6_refreshes_112 : decode cX6_refreshes 112 = .ok (.getfield 49, 3) := dk_180 0 49 (dk_at dksX6_refreshes_4 20 rfl rfl)
theorem dX6_refreshes_115 : decode cX6_refreshes 115 = .ok (.iload_n 1, 1) := dk_27 (dk_at dksX6_refreshes_4 23 rfl rfl)
theorem dX6_refreshes_116 : decode cX6_refreshes 116 = .ok (.if_icmp .le 7, 3) := dk_164 0 7 (dk_at dksX6_refreshes_5 0 rfl rfl)
theorem dX6_refreshes_119 : decode cX6_refreshes 119 = .ok (.iconst 1, 1) := dk_4 (dk_at dksX6_refreshes_5 3 rfl rfl)
theorem dX6_refreshes_120 : decode cX6_refreshes 120 = .ok (.goto 4, 3) := dk_167 0 4 (dk_at dksX6_refreshes_5 4 rfl rfl)
theorem dX6_refreshes_123 : decode cX6_refreshes 123 = .ok (.iconst 0, 1) := dk_3 (dk_at dksX6_refreshes_5 7 rfl rfl)
theorem dX6_refreshes_124 : decode cX6_refreshes 124 = .ok (.istore_n 2, 1) := dk_61 (dk_at dksX6_refreshes_5 8 rfl rfl)
theorem dX6_refreshes_125 : decode cX6_refreshes 125 = .ok (.iinc 3 1, 3) := dk_132 3 1 (dk_at dksX6_refreshes_5 9 rfl rfl)
theorem dX6_refreshes_128 : decode cX6_refreshes 128 = .ok (.goto (-124), 3) := dk_167 255 132 (dk_at dksX6_refreshes_5 12 rfl rfl)
theorem dX6_refreshes_131 : decode cX6_refreshes 131 = .ok (.iconst 0, 1) := dk_3 (dk_at dksX6_refreshes_5 15 rfl rfl)
theorem dX6_refreshes_132 : decode cX6_refreshes 132 = .ok (.istore_n 3, 1) := dk_62 (dk_at dksX6_refreshes_5 16 rfl rfl)
theorem dX6_refreshes_133 : decode cX6_refreshes 133 = .ok (.iload_n 3, 1) := dk_29 (dk_at dksX6_refreshes_5 17 rfl rfl)
theorem dX6_refreshes_134 : decode cX6_refreshes 134 = .ok (.bipush 32, 2) := dk_16 32 (dk_at dksX6_refreshes_5 18 rfl rfl)
theorem dX6_refreshes_136 : decode cX6_refreshes 136 = .ok (.if_icmp .ge 50, 3) := dk_162 0 50 (dk_at dksX6_refreshes_5 20 rfl rfl)
theorem dX6_refreshes_139 : decode cX6_refreshes 139 = .ok (.iload_n 2, 1) := dk_28 (dk_at dksX6_refreshes_5 23 rfl rfl)
theorem dX6_refreshes_140 : decode cX6_refreshes 140 = .ok (.ifCond .eq 46, 3) := dk_153 0 46 (dk_at dksX6_refreshes_6 0 rfl rfl)
theorem dX6_refreshes_143 : decode cX6_refreshes 143 = .ok (.aload_n 0, 1) := dk_42 (dk_at dksX6_refreshes_6 3 rfl rfl)
theorem dX6_refreshes_144 : decode cX6_refreshes 144 = .ok (.getfield 25, 3) := dk_180 0 25 (dk_at dksX6_refreshes_6 4 rfl rfl)
theorem dX6_refreshes_147 : decode cX6_refreshes 147 = .ok (.new 133, 3) := dk_187 0 133 (dk_at dksX6_refreshes_6 7 rfl rfl)
theorem dX6_refreshes_150 : decode cX6_refreshes 150 = .ok (.dup, 1) := dk_89 (dk_at dksX6_refreshes_6 10 rfl rfl)
theorem dX6_refreshes_151 : decode cX6_refreshes 151 = .ok (.iload_n 3, 1) := dk_29 (dk_at dksX6_refreshes_6 11 rfl rfl)
theorem dX6_refreshes_152 : decode cX6_refreshes 152 = .ok (.invokespecial 135, 3) := dk_183 0 135 (dk_at dksX6_refreshes_6 12 rfl rfl)
theorem dX6_refreshes_155 : decode cX6_refreshes 155 = .ok (.invokeinterface 137 2, 5) := by decide +kernel
theorem dX6_refreshes_160 : decode cX6_refreshes 160 = .ok (.ifCond .eq 20, 3) := dk_153 0 20 (dk_at dksX6_refreshes_6 20 rfl rfl)
theorem dX6_refreshes_163 : decode cX6_refreshes 163 = .ok (.aload_n 0, 1) := dk_42 (dk_at dksX6_refreshes_6 23 rfl rfl)
theorem dX6_refreshes_164 : decode cX6_refreshes 164 = .ok (.getfield 3, 3) := dk_180 0 3 (dk_at dksX6_refreshes_7 0 rfl rfl)
theorem dX6_refreshes_167 : decode cX6_refreshes 167 = .ok (.getfield 79, 3) := dk_180 0 79 (dk_at dksX6_refreshes_7 3 rfl rfl)
theorem dX6_refreshes_170 : decode cX6_refreshes 170 = .ok (.iload_n 3, 1) := dk_29 (dk_at dksX6_refreshes_7 6 rfl rfl)
theorem dX6_refreshes_171 : decode cX6_refreshes 171 = .ok (.aaload, 1) := dk_50 (dk_at dksX6_refreshes_7 7 rfl rfl)
theorem dX6_refreshes_172 : decode cX6_refreshes 172 = .ok (.iload_n 1, 1) := dk_27 (dk_at dksX6_refreshes_7 8 rfl rfl)
theorem dX6_refreshes_173 : decode cX6_refreshes 173 = .ok (.aload_n 0, 1) := dk_42 (dk_at dksX6_refreshes_7 9 rfl rfl)
theorem dX6_refreshes_174 : decode cX6_refreshes 174 = .ok (.getfield 36, 3) := dk_180 0 36 (dk_at dksX6_refreshes_7 10 rfl rfl)
theorem dX6_refreshes_177 : decode cX6_refreshes 177 = .ok (.invokevirtual 159, 3) := dk_182 0 159 (dk_at dksX6_refreshes_7 13 rfl rfl)
theorem dX6_refreshes_180 : decode cX6_refreshes 180 = .ok (.iinc 3 1, 3) := dk_132 3 1 (dk_at dksX6_refreshes_7 16 rfl rfl)
theorem dX6_refreshes_183 : decode cX6_refreshes 183 = .ok (.goto (-50), 3) := dk_167 255 206 (dk_at dksX6_refreshes_7 19 rfl rfl)
theorem dX6_refreshes_186 : decode cX6_refreshes 186 = .ok (.iload_n 2, 1) := dk_28 (dk_at dksX6_refreshes_7 22 rfl rfl)
theorem dX6_refreshes_187 : decode cX6_refreshes 187 = .ok (.ireturn, 1) := dk_172 (dk_at dksX6_refreshes_7 23 rfl rfl)
abbrev cX6_restarts : ByteArray := prog_7_method_5_code
def yX6_restarts : MethodName := ⟨RX6, "restarts", "(I)V"⟩
def dkwX6_restarts_4 : List UInt8 := [181, 0, 49, 42, 1, 181, 0, 61, 177]
abbrev dktX6_restarts_4 : List UInt8 := dkwX6_restarts_4 ++ []
def dkwX6_restarts_3 : List UInt8 := [185, 0, 108, 1, 0, 42, 27, 42, 180, 0, 49, 184, 0, 111, 181, 0, 46, 42, 42, 180, 0, 46]
abbrev dktX6_restarts_3 : List UInt8 := dkwX6_restarts_3 ++ dktX6_restarts_4
def dkwX6_restarts_2 : List UInt8 := [1, 181, 0, 83, 132, 4, 1, 167, 255, 215, 42, 180, 0, 25, 185, 0, 108, 1, 0, 42, 180, 0, 29]
abbrev dktX6_restarts_2 : List UInt8 := dkwX6_restarts_2 ++ dktX6_restarts_3
def dkwX6_restarts_1 : List UInt8 := [58, 5, 25, 5, 180, 0, 83, 198, 0, 21, 25, 5, 180, 0, 83, 180, 0, 89, 42, 166, 0, 9, 25, 5]
abbrev dktX6_restarts_1 : List UInt8 := dkwX6_restarts_1 ++ dktX6_restarts_2
def dkwX6_restarts_0 : List UInt8 := [42, 180, 0, 3, 180, 0, 79, 77, 44, 190, 62, 3, 54, 4, 21, 4, 29, 162, 0, 41, 44, 21, 4, 50]
abbrev dktX6_restarts_0 : List UInt8 := dkwX6_restarts_0 ++ dktX6_restarts_1
theorem dksX6_restarts_0 : cX6_restarts.data.toList.drop 0 = dktX6_restarts_0 := by decide +kernel
theorem dksX6_restarts_1 : cX6_restarts.data.toList.drop 24 = dktX6_restarts_1 := dk_seg dksX6_restarts_0 24 rfl rfl
theorem dksX6_restarts_2 : cX6_restarts.data.toList.drop 48 = dktX6_restarts_2 := dk_seg dksX6_restarts_1 24 rfl rfl
theorem dksX6_restarts_3 : cX6_restarts.data.toList.drop 71 = dktX6_restarts_3 := dk_seg dksX6_restarts_2 23 rfl rfl
theorem dksX6_restarts_4 : cX6_restarts.data.toList.drop 93 = dktX6_restarts_4 := dk_seg dksX6_restarts_3 22 rfl rfl
theorem dX6_restarts_0 : decode cX6_restarts 0 = .ok (.aload_n 0, 1) := dk_42 (dk_at dksX6_restarts_0 0 rfl rfl)
theorem dX6_restarts_1 : decode cX6_restarts 1 = .ok (.getfield 3, 3) := dk_180 0 3 (dk_at dksX6_restarts_0 1 rfl rfl)
theorem dX6_restarts_4 : decode cX6_restarts 4 = .ok (.getfield 79, 3) := dk_180 0 79 (dk_at dksX6_restarts_0 4 rfl rfl)
theorem dX6_restarts_7 : decode cX6_restarts 7 = .ok (.astore_n 2, 1) := dk_77 (dk_at dksX6_restarts_0 7 rfl rfl)
theorem dX6_restarts_8 : decode cX6_restarts 8 = .ok (.aload_n 2, 1) := dk_44 (dk_at dksX6_restarts_0 8 rfl rfl)
theorem dX6_restarts_9 : decode cX6_restarts 9 = .ok (.arraylength, 1) := dk_190 (dk_at dksX6_restarts_0 9 rfl rfl)
theorem dX6_restarts_10 : decode cX6_restarts 10 = .ok (.istore_n 3, 1) := dk_62 (dk_at dksX6_restarts_0 10 rfl rfl)
theorem dX6_restarts_11 : decode cX6_restarts 11 = .ok (.iconst 0, 1) := dk_3 (dk_at dksX6_restarts_0 11 rfl rfl)
theorem dX6_restarts_12 : decode cX6_restarts 12 = .ok (.istore 4, 2) := dk_54 4 (dk_at dksX6_restarts_0 12 rfl rfl)
theorem dX6_restarts_14 : decode cX6_restarts 14 = .ok (.iload 4, 2) := dk_21 4 (dk_at dksX6_restarts_0 14 rfl rfl)
theorem dX6_restarts_16 : decode cX6_restarts 16 = .ok (.iload_n 3, 1) := dk_29 (dk_at dksX6_restarts_0 16 rfl rfl)
theorem dX6_restarts_17 : decode cX6_restarts 17 = .ok (.if_icmp .ge 41, 3) := dk_162 0 41 (dk_at dksX6_restarts_0 17 rfl rfl)
theorem dX6_restarts_20 : decode cX6_restarts 20 = .ok (.aload_n 2, 1) := dk_44 (dk_at dksX6_restarts_0 20 rfl rfl)
theorem dX6_restarts_21 : decode cX6_restarts 21 = .ok (.iload 4, 2) := dk_21 4 (dk_at dksX6_restarts_0 21 rfl rfl)
theorem dX6_restarts_23 : decode cX6_restarts 23 = .ok (.aaload, 1) := dk_50 (dk_at dksX6_restarts_0 23 rfl rfl)
theorem dX6_restarts_24 : decode cX6_restarts 24 = .ok (.astore 5, 2) := dk_58 5 (dk_at dksX6_restarts_1 0 rfl rfl)
theorem dX6_restarts_26 : decode cX6_restarts 26 = .ok (.aload 5, 2) := dk_25 5 (dk_at dksX6_restarts_1 2 rfl rfl)
theorem dX6_restarts_28 : decode cX6_restarts 28 = .ok (.getfield 83, 3) := dk_180 0 83 (dk_at dksX6_restarts_1 4 rfl rfl)
theorem dX6_restarts_31 : decode cX6_restarts 31 = .ok (.ifnull 21, 3) := dk_198 0 21 (dk_at dksX6_restarts_1 7 rfl rfl)
theorem dX6_restarts_34 : decode cX6_restarts 34 = .ok (.aload 5, 2) := dk_25 5 (dk_at dksX6_restarts_1 10 rfl rfl)
theorem dX6_restarts_36 : decode cX6_restarts 36 = .ok (.getfield 83, 3) := dk_180 0 83 (dk_at dksX6_restarts_1 12 rfl rfl)
theorem dX6_restarts_39 : decode cX6_restarts 39 = .ok (.getfield 89, 3) := dk_180 0 89 (dk_at dksX6_restarts_1 15 rfl rfl)
theorem dX6_restarts_42 : decode cX6_restarts 42 = .ok (.aload_n 0, 1) := dk_42 (dk_at dksX6_restarts_1 18 rfl rfl)
theorem dX6_restarts_43 : decode cX6_restarts 43 = .ok (.if_acmp .ne 9, 3) := dk_166 0 9 (dk_at dksX6_restarts_1 19 rfl rfl)
theorem dX6_restarts_46 : decode cX6_restarts 46 = .ok (.aload 5, 2) := dk_25 5 (dk_at dksX6_restarts_1 22 rfl rfl)
theorem dX6_restarts_48 : decode cX6_restarts 48 = .ok (.aconst_null, 1) := dk_1 (dk_at dksX6_restarts_2 0 rfl rfl)
theorem dX6_restarts_49 : decode cX6_restarts 49 = .ok (.putfield 83, 3) := dk_181 0 83 (dk_at dksX6_restarts_2 1 rfl rfl)
theorem dX6_restarts_52 : decode cX6_restarts 52 = .ok (.iinc 4 1, 3) := dk_132 4 1 (dk_at dksX6_restarts_2 4 rfl rfl)
theorem dX6_restarts_55 : decode cX6_restarts 55 = .ok (.goto (-41), 3) := dk_167 255 215 (dk_at dksX6_restarts_2 7 rfl rfl)
theorem dX6_restarts_58 : decode cX6_restarts 58 = .ok (.aload_n 0, 1) := dk_42 (dk_at dksX6_restarts_2 10 rfl rfl)
theorem dX6_restarts_59 : decode cX6_restarts 59 = .ok (.getfield 25, 3) := dk_180 0 25 (dk_at dksX6_restarts_2 11 rfl rfl)
theorem dX6_restarts_62 : decode cX6_restarts 62 = .ok (.invokeinterface 108 1, 5) := by decide +kernel
theorem dX6_restarts_67 : decode cX6_restarts 67 = .ok (.aload_n 0, 1) := dk_42 (dk_at dksX6_restarts_2 19 rfl rfl)
theorem dX6_restarts_68 : decode cX6_restarts 68 = .ok (.getfield 29, 3) := dk_180 0 29 (dk_at dksX6_restarts_2 20 rfl rfl)
theorem dX6_restarts_71 : decode cX6_restarts 71 = .ok (.invokeinterface 108 1, 5) := by decide +kernel
theorem dX6_restarts_76 : decode cX6_restarts 76 = .ok (.aload_n 0, 1) := dk_42 (dk_at dksX6_restarts_3 5 rfl rfl)
theorem dX6_restarts_77 : decode cX6_restarts 77 = .ok (.iload_n 1, 1) := dk_27 (dk_at dksX6_restarts_3 6 rfl rfl)
theorem dX6_restarts_78 : decode cX6_restarts 78 = .ok (.aload_n 0, 1) := dk_42 (dk_at dksX6_restarts_3 7 rfl rfl)
theorem dX6_restarts_79 : decode cX6_restarts 79 = .ok (.getfield 49, 3) := dk_180 0 49 (dk_at dksX6_restarts_3 8 rfl rfl)
theorem dX6_restarts_82 : decode cX6_restarts 82 = .ok (.invokestatic 111, 3) := dk_184 0 111 (dk_at dksX6_restarts_3 11 rfl rfl)
theorem dX6_restarts_85 : decode cX6_restarts 85 = .ok (.putfield 46, 3) := dk_181 0 46 (dk_at dksX6_restarts_3 14 rfl rfl)
theorem dX6_restarts_88 : decode cX6_restarts 88 = .ok (.aload_n 0, 1) := dk_42 (dk_at dksX6_restarts_3 17 rfl rfl)
theorem dX6_restarts_89 : decode cX6_restarts 89 = .ok (.aload_n 0, 1) := dk_42 (dk_at dksX6_restarts_3 18 rfl rfl)
theorem dX6_restarts_90 : decode cX6_restarts 90 = .ok (.getfield 46, 3) := dk_180 0 46 (dk_at dksX6_restarts_3 19 rfl rfl)
theorem dX6_restarts_93 : decode cX6_restarts 93 = .ok (.putfield 49, 3) := dk_181 0 49 (dk_at dksX6_restarts_4 0 rfl rfl)
theorem dX6_restarts_96 : decode cX6_restarts 96 = .ok (.aload_n 0, 1) := dk_42 (dk_at dksX6_restarts_4 3 rfl rfl)
theorem dX6_restarts_97 : decode cX6_restarts 97 = .ok (.aconst_null, 1) := dk_1 (dk_at dksX6_restarts_4 4 rfl rfl)
theorem dX6_restarts_98 : decode cX6_restarts 98 = .ok (.putfield 61, 3) := dk_181 0 61 (dk_at dksX6_restarts_4 5 rfl rfl)
theorem dX6_restarts_101 : decode cX6_restarts 101 = .ok (.return_, 1) := dk_177 (dk_at dksX6_restarts_4 8 rfl rfl)
theorem q76 : (Jvm.Cond.initialized "Twinphase$Trade") ∈ lw_all := lw_g (lw_at lw_m1 29 rfl) rfl
theorem q147 : (Jvm.Cond.fieldLinkNest "Twinphase$Trade" (147 : Nat) "Twinphase$Node" "isDown" "Z" "Twinphase") ∈ lw_tbl := lw_at lw_m1 100 rfl
theorem q490 : (Jvm.Cond.fieldLinkNest "Twinphase$Trade" (94 : Nat) "Twinphase$Key" "versions" "Ljava/util/List;" "Twinphase") ∈ lw_tbl := lw_at lw_m2 203 rfl
theorem q492 : (Jvm.Cond.fieldLinkNest "Twinphase$Trade" (83 : Nat) "Twinphase$Key" "intent" "LTwinphase$Intent;" "Twinphase") ∈ lw_tbl := lw_at lw_m2 205 rfl
theorem q518 : (Jvm.Cond.fieldLinkNest "Twinphase$Trade" (144 : Nat) "Twinphase$Range" "node" "LTwinphase$Node;" "Twinphase") ∈ lw_tbl := lw_at lw_m2 231 rfl
theorem q560 : (Jvm.Cond.selects "Twinphase$Trade" ({ cls := "java/lang/Object", name := "getClass", desc := "()Ljava/lang/Class;" } : Jvm.MethodName) ({ cls := "java/lang/Object", name := "getClass", desc := "()Ljava/lang/Class;" } : Jvm.MethodName)) ∈ lw_all := lw_g (lw_at lw_m3 33 rfl) rfl
theorem q588 : (Jvm.Cond.fieldLinkNest "Twinphase$Trade" (55 : Nat) "Twinphase" "time" "I" "Twinphase") ∈ lw_tbl := lw_at lw_m3 61 rfl
theorem q592 : (Jvm.Cond.fieldLinkNest "Twinphase$Trade" (117 : Nat) "Twinphase" "nodes" "[LTwinphase$Node;" "Twinphase") ∈ lw_tbl := lw_at lw_m3 65 rfl
theorem q594 : (Jvm.Cond.fieldLinkNest "Twinphase$Trade" (79 : Nat) "Twinphase" "keys" "[LTwinphase$Key;" "Twinphase") ∈ lw_tbl := lw_at lw_m3 67 rfl
theorem q598 : (Jvm.Cond.fieldLinkNest "Twinphase$Trade" (65 : Nat) "Twinphase" "committed" "Ljava/util/List;" "Twinphase") ∈ lw_tbl := lw_at lw_m3 71 rfl
theorem q941 : (Jvm.Cond.selects "Twinphase$Trade" ({ cls := "java/lang/Object", name := "hashCode", desc := "()I" } : Jvm.MethodName) ({ cls := "java/lang/Object", name := "hashCode", desc := "()I" } : Jvm.MethodName)) ∈ lw_all := lw_g (lw_at lw_m4 174 rfl) rfl
theorem q1031 : (Jvm.Cond.selects "Twinphase$Trade" ({ cls := "java/lang/Object", name := "equals", desc := "(Ljava/lang/Object;)Z" } : Jvm.MethodName) ({ cls := "java/lang/Object", name := "equals", desc := "(Ljava/lang/Object;)Z" } : Jvm.MethodName)) ∈ lw_all := lw_g (lw_at lw_m5 24 rfl) rfl
theorem q1662 : (Jvm.Cond.instantiable "Twinphase$Trade" (14 : Nat)) ∈ lw_all := lw_g (lw_at lw_m7 175 rfl) rfl
theorem q1664 : (Jvm.Cond.instanceMethod ({ cls := "Twinphase$Trade", name := "<init>", desc := "(LTwinphase;ILTwinphase$Node;II)V" } : Jvm.MethodName)) ∈ lw_all := lw_g (lw_at lw_m7 177 rfl) rfl
theorem q1665 : (Jvm.Cond.code ({ cls := "Twinphase$Trade", name := "<init>", desc := "(LTwinphase;ILTwinphase$Node;II)V" } : Jvm.MethodName) prog_7_method_1_code (7 : Nat) (Option.none : Option Jvm.ClassFile.FieldType)) ∈ lw_all := lw_g (lw_at lw_m7 178 rfl) rfl
theorem q1666 : (Jvm.Cond.methodLink "Twinphase$Trade" (9 : Nat) ({ cls := "java/lang/Object", name := "<init>", desc := "()V" } : Jvm.MethodName)) ∈ lw_all := lw_g (lw_at lw_m7 179 rfl) rfl
theorem q1667 : (Jvm.Cond.classLink "Twinphase$Trade" (22 : Nat) "java/util/HashMap") ∈ lw_all := lw_g (lw_at lw_m7 180 rfl) rfl
theorem q1668 : (Jvm.Cond.methodLink "Twinphase$Trade" (24 : Nat) ({ cls := "java/util/HashMap", name := "<init>", desc := "()V" } : Jvm.MethodName)) ∈ lw_all := lw_g (lw_at lw_m7 181 rfl) rfl
theorem q1669 : (Jvm.Cond.fieldLink "Twinphase$Trade" (36 : Nat) "Twinphase$Trade" "number" "I") ∈ lw_all := lw_g (lw_at lw_m7 182 rfl) rfl
theorem q1671 : (Jvm.Cond.fieldLink "Twinphase$Trade" (39 : Nat) "Twinphase$Trade" "node" "LTwinphase$Node;") ∈ lw_all := lw_g (lw_at lw_m7 184 rfl) rfl
theorem q1672 : (Jvm.Cond.fieldLink "Twinphase$Trade" (43 : Nat) "Twinphase$Trade" "rank" "I") ∈ lw_all := lw_g (lw_at lw_m7 185 rfl) rfl
theorem q1674 : (Jvm.Cond.fieldLink "Twinphase$Trade" (15 : Nat) "Twinphase$Trade" "state" "I") ∈ lw_all := lw_g (lw_at lw_m7 187 rfl) rfl
theorem q1676 : (Jvm.Cond.fieldLink "Twinphase$Trade" (46 : Nat) "Twinphase$Trade" "reads" "I") ∈ lw_all := lw_g (lw_at lw_m7 189 rfl) rfl
theorem q1678 : (Jvm.Cond.fieldLink "Twinphase$Trade" (49 : Nat) "Twinphase$Trade" "writes" "I") ∈ lw_all := lw_g (lw_at lw_m7 191 rfl) rfl
theorem q1680 : (Jvm.Cond.fieldLink "Twinphase$Trade" (52 : Nat) "Twinphase$Trade" "doubt" "I") ∈ lw_all := lw_g (lw_at lw_m7 193 rfl) rfl
theorem q1681 : (Jvm.Cond.fieldLink "Twinphase$Trade" (58 : Nat) "Twinphase$Trade" "beat" "I") ∈ lw_all := lw_g (lw_at lw_m7 194 rfl) rfl
theorem q1683 : (Jvm.Cond.fieldLink "Twinphase$Trade" (61 : Nat) "Twinphase$Trade" "waitsFor" "LTwinphase$Trade;") ∈ lw_all := lw_g (lw_at lw_m7 196 rfl) rfl
theorem q1685 : (Jvm.Cond.fieldLink "Twinphase$Trade" (19 : Nat) "Twinphase$Trade" "place" "I") ∈ lw_all := lw_g (lw_at lw_m7 198 rfl) rfl
theorem q1687 : (Jvm.Cond.fieldLink "Twinphase$Trade" (25 : Nat) "Twinphase$Trade" "seen" "Ljava/util/Map;") ∈ lw_all := lw_g (lw_at lw_m7 200 rfl) rfl
theorem q1689 : (Jvm.Cond.fieldLink "Twinphase$Trade" (29 : Nat) "Twinphase$Trade" "wanted" "Ljava/util/Map;") ∈ lw_all := lw_g (lw_at lw_m7 202 rfl) rfl
theorem q1691 : (Jvm.Cond.fieldLink "Twinphase$Trade" (32 : Nat) "Twinphase$Trade" "observed" "[I") ∈ lw_all := lw_g (lw_at lw_m7 204 rfl) rfl
theorem q1692 : (Jvm.Cond.fieldLink "Twinphase$Trade" (3 : Nat) "Twinphase$Trade" "this$0" "LTwinphase;") ∈ lw_all := lw_g (lw_at lw_m7 205 rfl) rfl
theorem q1693 : (Jvm.Cond.laysFinal "Twinphase$Trade" "Twinphase$Trade" "number" "I") ∈ lw_all := lw_g (lw_at lw_m7 206 rfl) rfl
theorem q1694 : (Jvm.Cond.soleField "Twinphase$Trade" "number") ∈ lw_all := lw_g (lw_at lw_m7 207 rfl) rfl
theorem q1695 : (Jvm.Cond.laysFinal "Twinphase$Trade" "Twinphase$Trade" "node" "LTwinphase$Node;") ∈ lw_all := lw_g (lw_at lw_m7 208 rfl) rfl
theorem q1696 : (Jvm.Cond.soleField "Twinphase$Trade" "node") ∈ lw_all := lw_g (lw_at lw_m7 209 rfl) rfl
theorem q1697 : (Jvm.Cond.laysFinal "Twinphase$Trade" "Twinphase$Trade" "rank" "I") ∈ lw_all := lw_g (lw_at lw_m7 210 rfl) rfl
theorem q1698 : (Jvm.Cond.soleField "Twinphase$Trade" "rank") ∈ lw_all := lw_g (lw_at lw_m7 211 rfl) rfl
theorem q1699 : (Jvm.Cond.lays "Twinphase$Trade" "Twinphase$Trade" "state" "I") ∈ lw_all := lw_g (lw_at lw_m7 212 rfl) rfl
theorem q1700 : (Jvm.Cond.soleField "Twinphase$Trade" "state") ∈ lw_all := lw_g (lw_at lw_m7 213 rfl) rfl
theorem q1701 : (Jvm.Cond.lays "Twinphase$Trade" "Twinphase$Trade" "reads" "I") ∈ lw_all := lw_g (lw_at lw_m7 214 rfl) rfl
theorem q1702 : (Jvm.Cond.soleField "Twinphase$Trade" "reads") ∈ lw_all := lw_g (lw_at lw_m7 215 rfl) rfl
theorem q1703 : (Jvm.Cond.lays "Twinphase$Trade" "Twinphase$Trade" "writes" "I") ∈ lw_all := lw_g (lw_at lw_m7 216 rfl) rfl
theorem q1704 : (Jvm.Cond.soleField "Twinphase$Trade" "writes") ∈ lw_all := lw_g (lw_at lw_m7 217 rfl) rfl
theorem q1705 : (Jvm.Cond.laysFinal "Twinphase$Trade" "Twinphase$Trade" "doubt" "I") ∈ lw_all := lw_g (lw_at lw_m7 218 rfl) rfl
theorem q1706 : (Jvm.Cond.soleField "Twinphase$Trade" "doubt") ∈ lw_all := lw_g (lw_at lw_m7 219 rfl) rfl
theorem q1707 : (Jvm.Cond.lays "Twinphase$Trade" "Twinphase$Trade" "beat" "I") ∈ lw_all := lw_g (lw_at lw_m7 220 rfl) rfl
theorem q1708 : (Jvm.Cond.soleField "Twinphase$Trade" "beat") ∈ lw_all := lw_g (lw_at lw_m7 221 rfl) rfl
theorem q1709 : (Jvm.Cond.lays "Twinphase$Trade" "Twinphase$Trade" "waitsFor" "LTwinphase$Trade;") ∈ lw_all := lw_g (lw_at lw_m7 222 rfl) rfl
theorem q1710 : (Jvm.Cond.soleField "Twinphase$Trade" "waitsFor") ∈ lw_all := lw_g (lw_at lw_m7 223 rfl) rfl
theorem q1711 : (Jvm.Cond.lays "Twinphase$Trade" "Twinphase$Trade" "place" "I") ∈ lw_all := lw_g (lw_at lw_m7 224 rfl) rfl
theorem q1712 : (Jvm.Cond.soleField "Twinphase$Trade" "place") ∈ lw_all := lw_g (lw_at lw_m7 225 rfl) rfl
theorem q1713 : (Jvm.Cond.laysFinal "Twinphase$Trade" "Twinphase$Trade" "seen" "Ljava/util/Map;") ∈ lw_all := lw_g (lw_at lw_m7 226 rfl) rfl
theorem q1714 : (Jvm.Cond.soleField "Twinphase$Trade" "seen") ∈ lw_all := lw_g (lw_at lw_m7 227 rfl) rfl
theorem q1715 : (Jvm.Cond.laysFinal "Twinphase$Trade" "Twinphase$Trade" "wanted" "Ljava/util/Map;") ∈ lw_all := lw_g (lw_at lw_m7 228 rfl) rfl
theorem q1716 : (Jvm.Cond.soleField "Twinphase$Trade" "wanted") ∈ lw_all := lw_g (lw_at lw_m7 229 rfl) rfl
theorem q1717 : (Jvm.Cond.laysFinal "Twinphase$Trade" "Twinphase$Trade" "observed" "[I") ∈ lw_all := lw_g (lw_at lw_m7 230 rfl) rfl
theorem q1718 : (Jvm.Cond.soleField "Twinphase$Trade" "observed") ∈ lw_all := lw_g (lw_at lw_m7 231 rfl) rfl
theorem q1719 : (Jvm.Cond.laysFinal "Twinphase$Trade" "Twinphase$Trade" "this$0" "LTwinphase;") ∈ lw_all := lw_g (lw_at lw_m7 232 rfl) rfl
theorem q1720 : (Jvm.Cond.soleField "Twinphase$Trade" "this$0") ∈ lw_all := lw_g (lw_at lw_m7 233 rfl) rfl
theorem q1721 : (Jvm.Cond.superclass "Twinphase$Trade" "java/lang/Object") ∈ lw_all := lw_g (lw_at lw_m7 234 rfl) rfl
theorem q1739 : (Jvm.Cond.instanceMethod ({ cls := "Twinphase$Trade", name := "isDown", desc := "()Z" } : Jvm.MethodName)) ∈ lw_all := lw_g (lw_at lw_m8 12 rfl) rfl
theorem q1740 : (Jvm.Cond.selects "Twinphase$Trade" ({ cls := "Twinphase$Trade", name := "isDown", desc := "()Z" } : Jvm.MethodName) ({ cls := "Twinphase$Trade", name := "isDown", desc := "()Z" } : Jvm.MethodName)) ∈ lw_all := lw_g (lw_at lw_m8 13 rfl) rfl
theorem q1741 : (Jvm.Cond.code ({ cls := "Twinphase$Trade", name := "isDown", desc := "()Z" } : Jvm.MethodName) prog_7_method_8_code (1 : Nat) (Option.some Jvm.ClassFile.FieldType.boolean)) ∈ lw_all := lw_g (lw_at lw_m8 14 rfl) rfl
theorem q1743 : (Jvm.Cond.instanceMethod ({ cls := "Twinphase$Trade", name := "doubtAt", desc := "(I)I" } : Jvm.MethodName)) ∈ lw_all := lw_g (lw_at lw_m8 16 rfl) rfl
theorem q1744 : (Jvm.Cond.selects "Twinphase$Trade" ({ cls := "Twinphase$Trade", name := "doubtAt", desc := "(I)I" } : Jvm.MethodName) ({ cls := "Twinphase$Trade", name := "doubtAt", desc := "(I)I" } : Jvm.MethodName)) ∈ lw_all := lw_g (lw_at lw_m8 17 rfl) rfl
theorem q1745 : (Jvm.Cond.code ({ cls := "Twinphase$Trade", name := "doubtAt", desc := "(I)I" } : Jvm.MethodName) prog_7_method_6_code (2 : Nat) (Option.some Jvm.ClassFile.FieldType.int)) ∈ lw_all := lw_g (lw_at lw_m8 18 rfl) rfl
theorem q1746 : (Jvm.Cond.methodLink "Twinphase$Trade" (121 : Nat) ({ cls := "Twinphase$Node", name := "meets", desc := "(I)V" } : Jvm.MethodName)) ∈ lw_all := lw_g (lw_at lw_m8 19 rfl) rfl
theorem q1750 : (Jvm.Cond.methodLink "Twinphase$Trade" (127 : Nat) ({ cls := "Twinphase$Node", name := "asked", desc := "()I" } : Jvm.MethodName)) ∈ lw_all := lw_g (lw_at lw_m8 23 rfl) rfl
theorem q1751 : (Jvm.Cond.methodLink "Twinphase$Trade" (130 : Nat) ({ cls := "java/lang/Math", name := "min", desc := "(II)I" } : Jvm.MethodName)) ∈ lw_all := lw_g (lw_at lw_m8 24 rfl) rfl
theorem q1772 : (Jvm.Cond.instanceMethod ({ cls := "Twinphase$Trade", name := "isWhole", desc := "()Z" } : Jvm.MethodName)) ∈ lw_all := lw_g (lw_at lw_m8 45 rfl) rfl
theorem q1773 : (Jvm.Cond.selects "Twinphase$Trade" ({ cls := "Twinphase$Trade", name := "isWhole", desc := "()Z" } : Jvm.MethodName) ({ cls := "Twinphase$Trade", name := "isWhole", desc := "()Z" } : Jvm.MethodName)) ∈ lw_all := lw_g (lw_at lw_m8 46 rfl) rfl
theorem q1774 : (Jvm.Cond.code ({ cls := "Twinphase$Trade", name := "isWhole", desc := "()Z" } : Jvm.MethodName) prog_7_method_4_code (6 : Nat) (Option.some Jvm.ClassFile.FieldType.boolean)) ∈ lw_all := lw_g (lw_at lw_m8 47 rfl) rfl
theorem q1775 : (Jvm.Cond.interfaceEntry "Twinphase$Trade" (105 : Nat)) ∈ lw_tbl := lw_at lw_m8 48 rfl
theorem q1776 : (Jvm.Cond.methodLink "Twinphase$Trade" (105 : Nat) ({ cls := "java/util/Map", name := "size", desc := "()I" } : Jvm.MethodName)) ∈ lw_all := lw_g (lw_at lw_m8 49 rfl) rfl
theorem q1778 : (Jvm.Cond.instanceMethod ({ cls := "Twinphase$Trade", name := "ends", desc := "(I)V" } : Jvm.MethodName)) ∈ lw_all := lw_g (lw_at lw_m8 51 rfl) rfl
theorem q1779 : (Jvm.Cond.selects "Twinphase$Trade" ({ cls := "Twinphase$Trade", name := "ends", desc := "(I)V" } : Jvm.MethodName) ({ cls := "Twinphase$Trade", name := "ends", desc := "(I)V" } : Jvm.MethodName)) ∈ lw_all := lw_g (lw_at lw_m8 52 rfl) rfl
theorem q1780 : (Jvm.Cond.code ({ cls := "Twinphase$Trade", name := "ends", desc := "(I)V" } : Jvm.MethodName) prog_7_method_3_code (6 : Nat) (Option.none : Option Jvm.ClassFile.FieldType)) ∈ lw_all := lw_g (lw_at lw_m8 53 rfl) rfl
theorem q1781 : (Jvm.Cond.interfaceEntry "Twinphase$Trade" (69 : Nat)) ∈ lw_tbl := lw_at lw_m8 54 rfl
theorem q1782 : (Jvm.Cond.methodLink "Twinphase$Trade" (69 : Nat) ({ cls := "java/util/List", name := "size", desc := "()I" } : Jvm.MethodName)) ∈ lw_all := lw_g (lw_at lw_m8 55 rfl) rfl
theorem q1783 : (Jvm.Cond.interfaceEntry "Twinphase$Trade" (75 : Nat)) ∈ lw_tbl := lw_at lw_m8 56 rfl
theorem q1784 : (Jvm.Cond.methodLink "Twinphase$Trade" (75 : Nat) ({ cls := "java/util/List", name := "add", desc := "(Ljava/lang/Object;)Z" } : Jvm.MethodName)) ∈ lw_all := lw_g (lw_at lw_m8 57 rfl) rfl
theorem q1785 : (Jvm.Cond.classLink "Twinphase$Trade" (97 : Nat) "Twinphase$Version") ∈ lw_all := lw_g (lw_at lw_m8 58 rfl) rfl
theorem q1787 : (Jvm.Cond.methodLink "Twinphase$Trade" (102 : Nat) ({ cls := "Twinphase$Version", name := "<init>", desc := "(II)V" } : Jvm.MethodName)) ∈ lw_all := lw_g (lw_at lw_m8 60 rfl) rfl
theorem q1802 : (Jvm.Cond.instanceMethod ({ cls := "Twinphase$Trade", name := "isVanished", desc := "()Z" } : Jvm.MethodName)) ∈ lw_all := lw_g (lw_at lw_m8 75 rfl) rfl
theorem q1803 : (Jvm.Cond.selects "Twinphase$Trade" ({ cls := "Twinphase$Trade", name := "isVanished", desc := "()Z" } : Jvm.MethodName) ({ cls := "Twinphase$Trade", name := "isVanished", desc := "()Z" } : Jvm.MethodName)) ∈ lw_all := lw_g (lw_at lw_m8 76 rfl) rfl
theorem q1804 : (Jvm.Cond.code ({ cls := "Twinphase$Trade", name := "isVanished", desc := "()Z" } : Jvm.MethodName) prog_7_method_2_code (1 : Nat) (Option.some Jvm.ClassFile.FieldType.boolean)) ∈ lw_all := lw_g (lw_at lw_m8 77 rfl) rfl
theorem q1864 : (Jvm.Cond.instanceMethod ({ cls := "Twinphase$Trade", name := "refreshes", desc := "(I)Z" } : Jvm.MethodName)) ∈ lw_all := lw_g (lw_at lw_m8 137 rfl) rfl
theorem q1865 : (Jvm.Cond.selects "Twinphase$Trade" ({ cls := "Twinphase$Trade", name := "refreshes", desc := "(I)Z" } : Jvm.MethodName) ({ cls := "Twinphase$Trade", name := "refreshes", desc := "(I)Z" } : Jvm.MethodName)) ∈ lw_all := lw_g (lw_at lw_m8 138 rfl) rfl
theorem q1866 : (Jvm.Cond.code ({ cls := "Twinphase$Trade", name := "refreshes", desc := "(I)Z" } : Jvm.MethodName) prog_7_method_7_code (6 : Nat) (Option.some Jvm.ClassFile.FieldType.boolean)) ∈ lw_all := lw_g (lw_at lw_m8 139 rfl) rfl
theorem q1867 : (Jvm.Cond.classLink "Twinphase$Trade" (133 : Nat) "Twinphase$Spot") ∈ lw_all := lw_g (lw_at lw_m8 140 rfl) rfl
theorem q1868 : (Jvm.Cond.methodLink "Twinphase$Trade" (135 : Nat) ({ cls := "Twinphase$Spot", name := "<init>", desc := "(I)V" } : Jvm.MethodName)) ∈ lw_all := lw_g (lw_at lw_m8 141 rfl) rfl
theorem q1869 : (Jvm.Cond.interfaceEntry "Twinphase$Trade" (137 : Nat)) ∈ lw_tbl := lw_at lw_m8 142 rfl
theorem q1870 : (Jvm.Cond.methodLink "Twinphase$Trade" (137 : Nat) ({ cls := "java/util/Map", name := "containsKey", desc := "(Ljava/lang/Object;)Z" } : Jvm.MethodName)) ∈ lw_all := lw_g (lw_at lw_m8 143 rfl) rfl
theorem q1878 : (Jvm.Cond.methodLinkNest "Twinphase$Trade" (140 : Nat) ({ cls := "Twinphase", name := "rangeOf", desc := "(I)LTwinphase$Range;" } : Jvm.MethodName) "Twinphase") ∈ lw_tbl := lw_at lw_m8 151 rfl
theorem q1879 : (Jvm.Cond.methodLinkNest "Twinphase$Trade" (151 : Nat) ({ cls := "Twinphase", name := "inTheWay", desc := "(LTwinphase$Key;LTwinphase$Trade;)LTwinphase$Trade;" } : Jvm.MethodName) "Twinphase") ∈ lw_tbl := lw_at lw_m8 152 rfl
theorem q1880 : (Jvm.Cond.methodLink "Twinphase$Trade" (155 : Nat) ({ cls := "Twinphase$Key", name := "hasBetween", desc := "(II)Z" } : Jvm.MethodName)) ∈ lw_all := lw_g (lw_at lw_m8 153 rfl) rfl
theorem q1881 : (Jvm.Cond.methodLink "Twinphase$Trade" (159 : Nat) ({ cls := "Twinphase$Key", name := "isRead", desc := "(II)V" } : Jvm.MethodName)) ∈ lw_all := lw_g (lw_at lw_m8 154 rfl) rfl
theorem q1883 : (Jvm.Cond.instanceMethod ({ cls := "Twinphase$Trade", name := "restarts", desc := "(I)V" } : Jvm.MethodName)) ∈ lw_all := lw_g (lw_at lw_m8 156 rfl) rfl
theorem q1884 : (Jvm.Cond.selects "Twinphase$Trade" ({ cls := "Twinphase$Trade", name := "restarts", desc := "(I)V" } : Jvm.MethodName) ({ cls := "Twinphase$Trade", name := "restarts", desc := "(I)V" } : Jvm.MethodName)) ∈ lw_all := lw_g (lw_at lw_m8 157 rfl) rfl
theorem q1885 : (Jvm.Cond.code ({ cls := "Twinphase$Trade", name := "restarts", desc := "(I)V" } : Jvm.MethodName) prog_7_method_5_code (6 : Nat) (Option.none : Option Jvm.ClassFile.FieldType)) ∈ lw_all := lw_g (lw_at lw_m8 158 rfl) rfl
theorem q1886 : (Jvm.Cond.interfaceEntry "Twinphase$Trade" (108 : Nat)) ∈ lw_tbl := lw_at lw_m8 159 rfl
theorem q1887 : (Jvm.Cond.methodLink "Twinphase$Trade" (108 : Nat) ({ cls := "java/util/Map", name := "clear", desc := "()V" } : Jvm.MethodName)) ∈ lw_all := lw_g (lw_at lw_m8 160 rfl) rfl
theorem q1895 : (Jvm.Cond.methodLink "Twinphase$Trade" (111 : Nat) ({ cls := "java/lang/Math", name := "max", desc := "(II)I" } : Jvm.MethodName)) ∈ lw_all := lw_g (lw_at lw_m8 168 rfl) rfl
theorem q1927 : (Jvm.Cond.fieldLinkNest "Twinphase$Trade" (89 : Nat) "Twinphase$Intent" "by" "LTwinphase$Trade;" "Twinphase") ∈ lw_tbl := lw_at lw_m8 200 rfl
theorem q1930 : (Jvm.Cond.fieldLinkNest "Twinphase$Trade" (99 : Nat) "Twinphase$Intent" "value" "I" "Twinphase") ∈ lw_tbl := lw_at lw_m8 203 rfl
theorem q2378 : (Jvm.Cond.castable "Twinphase$Trade" "java/lang/Object") ∈ lw_tbl := lw_at lw_m10 171 rfl
theorem in_X6 : ∀ w ∈ wsX60, w ∈ lw_all := lw_in wsX60 [1693, 1695, 1697, 1699, 1701, 1703, 1705, 1707, 1709, 1711, 1713, 1715, 1717, 1719] (by decide +kernel) (by decide +kernel)
/-! Twinphase$Spot -/
set_option maxRecDepth 100000
def RX7 : String := "Twinphase$Spot"
def TX7 : u_T := fun k => match k with
  | _ => ("Twinphase$Spot", "key", "I", true)
def tyX7 : Nat → FieldType := fun k => match k with
  | _ => .int
abbrev wsX70 : List Cond := u_ws RX7 TX7 1
theorem nmX7 : ∀ a, a < 1 → ∀ b, b < 1 → a ≠ b → (TX7 a).2.1 ≠ (TX7 b).2.1 := by decide +kernel
theorem tyX7_ok : ∀ k, k < 1 → parseFieldDescriptor (TX7 k).2.2.1 = some (tyX7 k) := by decide +kernel
abbrev cX7_hashCode : ByteArray := prog_6_method_3_code
def yX7_hashCode : MethodName := ⟨RX7, "hashCode", "()I"⟩
def dkwX7_hashCode_0 : List UInt8 := [16, 31, 42, 180, 0, 7, 104, 16, 7, 96, 172]
abbrev dktX7_hashCode_0 : List UInt8 := dkwX7_hashCode_0 ++ []
theorem dksX7_hashCode_0 : cX7_hashCode.data.toList.drop 0 = dktX7_hashCode_0 := by decide +kernel
theorem dX7_hashCode_0 : decode cX7_hashCode 0 = .ok (.bipush 31, 2) := dk_16 31 (dk_at dksX7_hashCode_0 0 rfl rfl)
theorem dX7_hashCode_2 : decode cX7_hashCode 2 = .ok (.aload_n 0, 1) := dk_42 (dk_at dksX7_hashCode_0 2 rfl rfl)
theorem dX7_hashCode_3 : decode cX7_hashCode 3 = .ok (.getfield 7, 3) := dk_180 0 7 (dk_at dksX7_hashCode_0 3 rfl rfl)
theorem dX7_hashCode_6 : decode cX7_hashCode 6 = .ok (.imul, 1) := dk_104 (dk_at dksX7_hashCode_0 6 rfl rfl)
theorem dX7_hashCode_7 : decode cX7_hashCode 7 = .ok (.bipush 7, 2) := dk_16 7 (dk_at dksX7_hashCode_0 7 rfl rfl)
theorem dX7_hashCode_9 : decode cX7_hashCode 9 = .ok (.iadd, 1) := dk_96 (dk_at dksX7_hashCode_0 9 rfl rfl)
theorem dX7_hashCode_10 : decode cX7_hashCode 10 = .ok (.ireturn, 1) := dk_172 (dk_at dksX7_hashCode_0 10 rfl rfl)
abbrev cX7_equals : ByteArray := prog_6_method_2_code
def yX7_equals : MethodName := ⟨RX7, "equals", "(Ljava/lang/Object;)Z"⟩
def dkwX7_equals_1 : List UInt8 := [167, 0, 4, 3, 172]
abbrev dktX7_equals_1 : List UInt8 := dkwX7_equals_1 ++ []
def dkwX7_equals_0 : List UInt8 := [43, 193, 0, 8, 153, 0, 21, 43, 192, 0, 8, 180, 0, 7, 42, 180, 0, 7, 160, 0, 7, 4]
abbrev dktX7_equals_0 : List UInt8 := dkwX7_equals_0 ++ dktX7_equals_1
theorem dksX7_equals_0 : cX7_equals.data.toList.drop 0 = dktX7_equals_0 := by decide +kernel
theorem dksX7_equals_1 : cX7_equals.data.toList.drop 22 = dktX7_equals_1 := dk_seg dksX7_equals_0 22 rfl rfl
theorem dX7_equals_0 : decode cX7_equals 0 = .ok (.aload_n 1, 1) := dk_43 (dk_at dksX7_equals_0 0 rfl rfl)
theorem dX7_equals_1 : decode cX7_equals 1 = .ok (.instanceof 8, 3) := dk_193 0 8 (dk_at dksX7_equals_0 1 rfl rfl)
theorem dX7_equals_4 : decode cX7_equals 4 = .ok (.ifCond .eq 21, 3) := dk_153 0 21 (dk_at dksX7_equals_0 4 rfl rfl)
theorem dX7_equals_7 : decode cX7_equals 7 = .ok (.aload_n 1, 1) := dk_43 (dk_at dksX7_equals_0 7 rfl rfl)
theorem dX7_equals_8 : decode cX7_equals 8 = .ok (.checkcast 8, 3) := dk_192 0 8 (dk_at dksX7_equals_0 8 rfl rfl)
theorem dX7_equals_11 : decode cX7_equals 11 = .ok (.getfield 7, 3) := dk_180 0 7 (dk_at dksX7_equals_0 11 rfl rfl)
theorem dX7_equals_14 : decode cX7_equals 14 = .ok (.aload_n 0, 1) := dk_42 (dk_at dksX7_equals_0 14 rfl rfl)
theorem dX7_equals_15 : decode cX7_equals 15 = .ok (.getfield 7, 3) := dk_180 0 7 (dk_at dksX7_equals_0 15 rfl rfl)
theorem dX7_equals_18 : decode cX7_equals 18 = .ok (.if_icmp .ne 7, 3) := dk_160 0 7 (dk_at dksX7_equals_0 18 rfl rfl)
theorem dX7_equals_21 : decode cX7_equals 21 = .ok (.iconst 1, 1) := dk_4 (dk_at dksX7_equals_0 21 rfl rfl)
theorem dX7_equals_22 : decode cX7_equals 22 = .ok (.goto 4, 3) := dk_167 0 4 (dk_at dksX7_equals_1 0 rfl rfl)
theorem dX7_equals_25 : decode cX7_equals 25 = .ok (.iconst 0, 1) := dk_3 (dk_at dksX7_equals_1 3 rfl rfl)
theorem dX7_equals_26 : decode cX7_equals 26 = .ok (.ireturn, 1) := dk_172 (dk_at dksX7_equals_1 4 rfl rfl)
abbrev cX7_init : ByteArray := prog_6_method_1_code
def yX7_init : MethodName := ⟨RX7, "<init>", "(I)V"⟩
def dkwX7_init_0 : List UInt8 := [42, 183, 0, 1, 42, 27, 181, 0, 7, 177]
abbrev dktX7_init_0 : List UInt8 := dkwX7_init_0 ++ []
theorem dksX7_init_0 : cX7_init.data.toList.drop 0 = dktX7_init_0 := by decide +kernel
theorem dX7_init_0 : decode cX7_init 0 = .ok (.aload_n 0, 1) := dk_42 (dk_at dksX7_init_0 0 rfl rfl)
theorem dX7_init_1 : decode cX7_init 1 = .ok (.invokespecial 1, 3) := dk_183 0 1 (dk_at dksX7_init_0 1 rfl rfl)
theorem dX7_init_4 : decode cX7_init 4 = .ok (.aload_n 0, 1) := dk_42 (dk_at dksX7_init_0 4 rfl rfl)
theorem dX7_init_5 : decode cX7_init 5 = .ok (.iload_n 1, 1) := dk_27 (dk_at dksX7_init_0 5 rfl rfl)
theorem dX7_init_6 : decode cX7_init 6 = .ok (.putfield 7, 3) := dk_181 0 7 (dk_at dksX7_init_0 6 rfl rfl)
theorem dX7_init_9 : decode cX7_init 9 = .ok (.return_, 1) := dk_177 (dk_at dksX7_init_0 9 rfl rfl)
theorem q79 : (Jvm.Cond.initialized "Twinphase$Spot") ∈ lw_all := lw_g (lw_at lw_m1 32 rfl) rfl
theorem q559 : (Jvm.Cond.selects "Twinphase$Spot" ({ cls := "java/lang/Object", name := "getClass", desc := "()Ljava/lang/Class;" } : Jvm.MethodName) ({ cls := "java/lang/Object", name := "getClass", desc := "()Ljava/lang/Class;" } : Jvm.MethodName)) ∈ lw_all := lw_g (lw_at lw_m3 32 rfl) rfl
theorem q938 : (Jvm.Cond.selects "Twinphase$Spot" ({ cls := "java/lang/Object", name := "hashCode", desc := "()I" } : Jvm.MethodName) ({ cls := "Twinphase$Spot", name := "hashCode", desc := "()I" } : Jvm.MethodName)) ∈ lw_all := lw_g (lw_at lw_m4 171 rfl) rfl
theorem q939 : (Jvm.Cond.instanceMethod ({ cls := "Twinphase$Spot", name := "hashCode", desc := "()I" } : Jvm.MethodName)) ∈ lw_all := lw_g (lw_at lw_m4 172 rfl) rfl
theorem q940 : (Jvm.Cond.code ({ cls := "Twinphase$Spot", name := "hashCode", desc := "()I" } : Jvm.MethodName) prog_6_method_3_code (1 : Nat) (Option.some Jvm.ClassFile.FieldType.int)) ∈ lw_all := lw_g (lw_at lw_m4 173 rfl) rfl
theorem q1027 : (Jvm.Cond.selects "Twinphase$Spot" ({ cls := "java/lang/Object", name := "equals", desc := "(Ljava/lang/Object;)Z" } : Jvm.MethodName) ({ cls := "Twinphase$Spot", name := "equals", desc := "(Ljava/lang/Object;)Z" } : Jvm.MethodName)) ∈ lw_all := lw_g (lw_at lw_m5 20 rfl) rfl
theorem q1028 : (Jvm.Cond.instanceMethod ({ cls := "Twinphase$Spot", name := "equals", desc := "(Ljava/lang/Object;)Z" } : Jvm.MethodName)) ∈ lw_all := lw_g (lw_at lw_m5 21 rfl) rfl
theorem q1029 : (Jvm.Cond.code ({ cls := "Twinphase$Spot", name := "equals", desc := "(Ljava/lang/Object;)Z" } : Jvm.MethodName) prog_6_method_2_code (2 : Nat) (Option.some Jvm.ClassFile.FieldType.boolean)) ∈ lw_all := lw_g (lw_at lw_m5 22 rfl) rfl
theorem q1030 : (Jvm.Cond.classLink "Twinphase$Spot" (8 : Nat) "Twinphase$Spot") ∈ lw_all := lw_g (lw_at lw_m5 23 rfl) rfl
theorem q1753 : (Jvm.Cond.instantiable "Twinphase$Spot" (1 : Nat)) ∈ lw_all := lw_g (lw_at lw_m8 26 rfl) rfl
theorem q1755 : (Jvm.Cond.instanceMethod ({ cls := "Twinphase$Spot", name := "<init>", desc := "(I)V" } : Jvm.MethodName)) ∈ lw_all := lw_g (lw_at lw_m8 28 rfl) rfl
theorem q1756 : (Jvm.Cond.code ({ cls := "Twinphase$Spot", name := "<init>", desc := "(I)V" } : Jvm.MethodName) prog_6_method_1_code (2 : Nat) (Option.none : Option Jvm.ClassFile.FieldType)) ∈ lw_all := lw_g (lw_at lw_m8 29 rfl) rfl
theorem q1757 : (Jvm.Cond.methodLink "Twinphase$Spot" (1 : Nat) ({ cls := "java/lang/Object", name := "<init>", desc := "()V" } : Jvm.MethodName)) ∈ lw_all := lw_g (lw_at lw_m8 30 rfl) rfl
theorem q1758 : (Jvm.Cond.fieldLink "Twinphase$Spot" (7 : Nat) "Twinphase$Spot" "key" "I") ∈ lw_all := lw_g (lw_at lw_m8 31 rfl) rfl
theorem q1760 : (Jvm.Cond.laysFinal "Twinphase$Spot" "Twinphase$Spot" "key" "I") ∈ lw_all := lw_g (lw_at lw_m8 33 rfl) rfl
theorem q1761 : (Jvm.Cond.soleField "Twinphase$Spot" "key") ∈ lw_all := lw_g (lw_at lw_m8 34 rfl) rfl
theorem q1762 : (Jvm.Cond.superclass "Twinphase$Spot" "java/lang/Object") ∈ lw_all := lw_g (lw_at lw_m8 35 rfl) rfl
theorem q2380 : (Jvm.Cond.castable "Twinphase$Spot" "java/lang/Object") ∈ lw_tbl := lw_at lw_m10 173 rfl
theorem in_X7 : ∀ w ∈ wsX70, w ∈ lw_all := lw_in wsX70 [1760] (by decide +kernel) (by decide +kernel)
/-! Twinphase$Version -/
set_option maxRecDepth 100000
def RX8 : String := "Twinphase$Version"
def TX8 : u_T := fun k => match k with
  | 0 => ("Twinphase$Version", "stamp", "I", true)
  | _ => ("Twinphase$Version", "value", "I", true)
def tyX8 : Nat → FieldType := fun k => match k with
  | 0 => .int
  | _ => .int
abbrev wsX80 : List Cond := u_ws RX8 TX8 2
theorem nmX8 : ∀ a, a < 2 → ∀ b, b < 2 → a ≠ b → (TX8 a).2.1 ≠ (TX8 b).2.1 := by decide +kernel
theorem tyX8_ok : ∀ k, k < 2 → parseFieldDescriptor (TX8 k).2.2.1 = some (tyX8 k) := by decide +kernel
abbrev cX8_init : ByteArray := prog_8_method_1_code
def yX8_init : MethodName := ⟨RX8, "<init>", "(II)V"⟩
def dkwX8_init_0 : List UInt8 := [42, 183, 0, 1, 42, 27, 181, 0, 7, 42, 28, 181, 0, 13, 177]
abbrev dktX8_init_0 : List UInt8 := dkwX8_init_0 ++ []
theorem dksX8_init_0 : cX8_init.data.toList.drop 0 = dktX8_init_0 := by decide +kernel
theorem dX8_init_0 : decode cX8_init 0 = .ok (.aload_n 0, 1) := dk_42 (dk_at dksX8_init_0 0 rfl rfl)
theorem dX8_init_1 : decode cX8_init 1 = .ok (.invokespecial 1, 3) := dk_183 0 1 (dk_at dksX8_init_0 1 rfl rfl)
theorem dX8_init_4 : decode cX8_init 4 = .ok (.aload_n 0, 1) := dk_42 (dk_at dksX8_init_0 4 rfl rfl)
theorem dX8_init_5 : decode cX8_init 5 = .ok (.iload_n 1, 1) := dk_27 (dk_at dksX8_init_0 5 rfl rfl)
theorem dX8_init_6 : decode cX8_init 6 = .ok (.putfield 7, 3) := dk_181 0 7 (dk_at dksX8_init_0 6 rfl rfl)
theorem dX8_init_9 : decode cX8_init 9 = .ok (.aload_n 0, 1) := dk_42 (dk_at dksX8_init_0 9 rfl rfl)
theorem dX8_init_10 : decode cX8_init 10 = .ok (.iload_n 2, 1) := dk_28 (dk_at dksX8_init_0 10 rfl rfl)
theorem dX8_init_11 : decode cX8_init 11 = .ok (.putfield 13, 3) := dk_181 0 13 (dk_at dksX8_init_0 11 rfl rfl)
theorem dX8_init_14 : decode cX8_init 14 = .ok (.return_, 1) := dk_177 (dk_at dksX8_init_0 14 rfl rfl)
theorem q83 : (Jvm.Cond.initialized "Twinphase$Version") ∈ lw_all := lw_g (lw_at lw_m1 36 rfl) rfl
theorem q561 : (Jvm.Cond.selects "Twinphase$Version" ({ cls := "java/lang/Object", name := "getClass", desc := "()Ljava/lang/Class;" } : Jvm.MethodName) ({ cls := "java/lang/Object", name := "getClass", desc := "()Ljava/lang/Class;" } : Jvm.MethodName)) ∈ lw_all := lw_g (lw_at lw_m3 34 rfl) rfl
theorem q942 : (Jvm.Cond.selects "Twinphase$Version" ({ cls := "java/lang/Object", name := "hashCode", desc := "()I" } : Jvm.MethodName) ({ cls := "java/lang/Object", name := "hashCode", desc := "()I" } : Jvm.MethodName)) ∈ lw_all := lw_g (lw_at lw_m4 175 rfl) rfl
theorem q1032 : (Jvm.Cond.selects "Twinphase$Version" ({ cls := "java/lang/Object", name := "equals", desc := "(Ljava/lang/Object;)Z" } : Jvm.MethodName) ({ cls := "java/lang/Object", name := "equals", desc := "(Ljava/lang/Object;)Z" } : Jvm.MethodName)) ∈ lw_all := lw_g (lw_at lw_m5 25 rfl) rfl
theorem q1786 : (Jvm.Cond.instantiable "Twinphase$Version" (2 : Nat)) ∈ lw_all := lw_g (lw_at lw_m8 59 rfl) rfl
theorem q1788 : (Jvm.Cond.instanceMethod ({ cls := "Twinphase$Version", name := "<init>", desc := "(II)V" } : Jvm.MethodName)) ∈ lw_all := lw_g (lw_at lw_m8 61 rfl) rfl
theorem q1789 : (Jvm.Cond.code ({ cls := "Twinphase$Version", name := "<init>", desc := "(II)V" } : Jvm.MethodName) prog_8_method_1_code (3 : Nat) (Option.none : Option Jvm.ClassFile.FieldType)) ∈ lw_all := lw_g (lw_at lw_m8 62 rfl) rfl
theorem q1790 : (Jvm.Cond.methodLink "Twinphase$Version" (1 : Nat) ({ cls := "java/lang/Object", name := "<init>", desc := "()V" } : Jvm.MethodName)) ∈ lw_all := lw_g (lw_at lw_m8 63 rfl) rfl
theorem q1791 : (Jvm.Cond.fieldLink "Twinphase$Version" (7 : Nat) "Twinphase$Version" "stamp" "I") ∈ lw_all := lw_g (lw_at lw_m8 64 rfl) rfl
theorem q1794 : (Jvm.Cond.fieldLink "Twinphase$Version" (13 : Nat) "Twinphase$Version" "value" "I") ∈ lw_all := lw_g (lw_at lw_m8 67 rfl) rfl
theorem q1796 : (Jvm.Cond.laysFinal "Twinphase$Version" "Twinphase$Version" "stamp" "I") ∈ lw_all := lw_g (lw_at lw_m8 69 rfl) rfl
theorem q1797 : (Jvm.Cond.soleField "Twinphase$Version" "stamp") ∈ lw_all := lw_g (lw_at lw_m8 70 rfl) rfl
theorem q1798 : (Jvm.Cond.laysFinal "Twinphase$Version" "Twinphase$Version" "value" "I") ∈ lw_all := lw_g (lw_at lw_m8 71 rfl) rfl
theorem q1799 : (Jvm.Cond.soleField "Twinphase$Version" "value") ∈ lw_all := lw_g (lw_at lw_m8 72 rfl) rfl
theorem q1800 : (Jvm.Cond.superclass "Twinphase$Version" "java/lang/Object") ∈ lw_all := lw_g (lw_at lw_m8 73 rfl) rfl
theorem q2383 : (Jvm.Cond.castable "Twinphase$Version" "java/lang/Object") ∈ lw_tbl := lw_at lw_m10 176 rfl
theorem in_X8 : ∀ w ∈ wsX80, w ∈ lw_all := lw_in wsX80 [1796, 1798] (by decide +kernel) (by decide +kernel)
/-! Twinphase$Intent -/
set_option maxRecDepth 100000
def RX9 : String := "Twinphase$Intent"
def TX9 : u_T := fun k => match k with
  | 0 => ("Twinphase$Intent", "by", "LTwinphase$Trade;", true)
  | 1 => ("Twinphase$Intent", "value", "I", true)
  | _ => ("Twinphase$Intent", "isSure", "Z", false)
def tyX9 : Nat → FieldType := fun k => match k with
  | 0 => .object "Twinphase$Trade"
  | 1 => .int
  | _ => .boolean
abbrev wsX90 : List Cond := u_ws RX9 TX9 3
theorem nmX9 : ∀ a, a < 3 → ∀ b, b < 3 → a ≠ b → (TX9 a).2.1 ≠ (TX9 b).2.1 := by decide +kernel
theorem tyX9_ok : ∀ k, k < 3 → parseFieldDescriptor (TX9 k).2.2.1 = some (tyX9 k) := by decide +kernel
abbrev cX9_init : ByteArray := prog_2_method_1_code
def yX9_init : MethodName := ⟨RX9, "<init>", "(LTwinphase$Trade;I)V"⟩
def dkwX9_init_0 : List UInt8 := [42, 183, 0, 1, 42, 43, 181, 0, 7, 42, 28, 181, 0, 13, 177]
abbrev dktX9_init_0 : List UInt8 := dkwX9_init_0 ++ []
theorem dksX9_init_0 : cX9_init.data.toList.drop 0 = dktX9_init_0 := by decide +kernel
theorem dX9_init_0 : decode cX9_init 0 = .ok (.aload_n 0, 1) := dk_42 (dk_at dksX9_init_0 0 rfl rfl)
theorem dX9_init_1 : decode cX9_init 1 = .ok (.invokespecial 1, 3) := dk_183 0 1 (dk_at dksX9_init_0 1 rfl rfl)
theorem dX9_init_4 : decode cX9_init 4 = .ok (.aload_n 0, 1) := dk_42 (dk_at dksX9_init_0 4 rfl rfl)
theorem dX9_init_5 : decode cX9_init 5 = .ok (.aload_n 1, 1) := dk_43 (dk_at dksX9_init_0 5 rfl rfl)
theorem dX9_init_6 : decode cX9_init 6 = .ok (.putfield 7, 3) := dk_181 0 7 (dk_at dksX9_init_0 6 rfl rfl)
theorem dX9_init_9 : decode cX9_init 9 = .ok (.aload_n 0, 1) := dk_42 (dk_at dksX9_init_0 9 rfl rfl)
theorem dX9_init_10 : decode cX9_init 10 = .ok (.iload_n 2, 1) := dk_28 (dk_at dksX9_init_0 10 rfl rfl)
theorem dX9_init_11 : decode cX9_init 11 = .ok (.putfield 13, 3) := dk_181 0 13 (dk_at dksX9_init_0 11 rfl rfl)
theorem dX9_init_14 : decode cX9_init 14 = .ok (.return_, 1) := dk_177 (dk_at dksX9_init_0 14 rfl rfl)
theorem q89 : (Jvm.Cond.initialized "Twinphase$Intent") ∈ lw_all := lw_g (lw_at lw_m1 42 rfl) rfl
theorem q555 : (Jvm.Cond.selects "Twinphase$Intent" ({ cls := "java/lang/Object", name := "getClass", desc := "()Ljava/lang/Class;" } : Jvm.MethodName) ({ cls := "java/lang/Object", name := "getClass", desc := "()Ljava/lang/Class;" } : Jvm.MethodName)) ∈ lw_all := lw_g (lw_at lw_m3 28 rfl) rfl
theorem q934 : (Jvm.Cond.selects "Twinphase$Intent" ({ cls := "java/lang/Object", name := "hashCode", desc := "()I" } : Jvm.MethodName) ({ cls := "java/lang/Object", name := "hashCode", desc := "()I" } : Jvm.MethodName)) ∈ lw_all := lw_g (lw_at lw_m4 167 rfl) rfl
theorem q1023 : (Jvm.Cond.selects "Twinphase$Intent" ({ cls := "java/lang/Object", name := "equals", desc := "(Ljava/lang/Object;)Z" } : Jvm.MethodName) ({ cls := "java/lang/Object", name := "equals", desc := "(Ljava/lang/Object;)Z" } : Jvm.MethodName)) ∈ lw_all := lw_g (lw_at lw_m5 16 rfl) rfl
theorem q1921 : (Jvm.Cond.instantiable "Twinphase$Intent" (3 : Nat)) ∈ lw_all := lw_g (lw_at lw_m8 194 rfl) rfl
theorem q1923 : (Jvm.Cond.instanceMethod ({ cls := "Twinphase$Intent", name := "<init>", desc := "(LTwinphase$Trade;I)V" } : Jvm.MethodName)) ∈ lw_all := lw_g (lw_at lw_m8 196 rfl) rfl
theorem q1924 : (Jvm.Cond.code ({ cls := "Twinphase$Intent", name := "<init>", desc := "(LTwinphase$Trade;I)V" } : Jvm.MethodName) prog_2_method_1_code (3 : Nat) (Option.none : Option Jvm.ClassFile.FieldType)) ∈ lw_all := lw_g (lw_at lw_m8 197 rfl) rfl
theorem q1925 : (Jvm.Cond.methodLink "Twinphase$Intent" (1 : Nat) ({ cls := "java/lang/Object", name := "<init>", desc := "()V" } : Jvm.MethodName)) ∈ lw_all := lw_g (lw_at lw_m8 198 rfl) rfl
theorem q1926 : (Jvm.Cond.fieldLink "Twinphase$Intent" (7 : Nat) "Twinphase$Intent" "by" "LTwinphase$Trade;") ∈ lw_all := lw_g (lw_at lw_m8 199 rfl) rfl
theorem q1929 : (Jvm.Cond.fieldLink "Twinphase$Intent" (13 : Nat) "Twinphase$Intent" "value" "I") ∈ lw_all := lw_g (lw_at lw_m8 202 rfl) rfl
theorem q1932 : (Jvm.Cond.laysFinal "Twinphase$Intent" "Twinphase$Intent" "by" "LTwinphase$Trade;") ∈ lw_all := lw_g (lw_at lw_m8 205 rfl) rfl
theorem q1933 : (Jvm.Cond.soleField "Twinphase$Intent" "by") ∈ lw_all := lw_g (lw_at lw_m8 206 rfl) rfl
theorem q1934 : (Jvm.Cond.laysFinal "Twinphase$Intent" "Twinphase$Intent" "value" "I") ∈ lw_all := lw_g (lw_at lw_m8 207 rfl) rfl
theorem q1935 : (Jvm.Cond.soleField "Twinphase$Intent" "value") ∈ lw_all := lw_g (lw_at lw_m8 208 rfl) rfl
theorem q1936 : (Jvm.Cond.lays "Twinphase$Intent" "Twinphase$Intent" "isSure" "Z") ∈ lw_all := lw_g (lw_at lw_m8 209 rfl) rfl
theorem q1937 : (Jvm.Cond.soleField "Twinphase$Intent" "isSure") ∈ lw_all := lw_g (lw_at lw_m8 210 rfl) rfl
theorem q1938 : (Jvm.Cond.superclass "Twinphase$Intent" "java/lang/Object") ∈ lw_all := lw_g (lw_at lw_m8 211 rfl) rfl
theorem q2387 : (Jvm.Cond.castable "Twinphase$Intent" "java/lang/Object") ∈ lw_tbl := lw_at lw_m10 180 rfl
theorem in_X9 : ∀ w ∈ wsX90, w ∈ lw_all := lw_in wsX90 [1932, 1934, 1936] (by decide +kernel) (by decide +kernel)

/-! TwinphaseModel -/
set_option maxRecDepth 100000
def RX5 : String := "TwinphaseModel"
def TX5 : u_T := fun k => match k with
  | 0 => ("TwinphaseModel", "time", "I", false)
  | 1 => ("TwinphaseModel", "skews", "[I", true)
  | 2 => ("TwinphaseModel", "met", "[I", true)
  | 3 => ("TwinphaseModel", "isDown", "[Z", true)
  | 4 => ("TwinphaseModel", "ranges", "I", false)
  | 5 => ("TwinphaseModel", "begins", "[I", true)
  | 6 => ("TwinphaseModel", "nodes", "[I", true)
  | 7 => ("TwinphaseModel", "owner", "[I", true)
  | 8 => ("TwinphaseModel", "isSure", "[Z", true)
  | 9 => ("TwinphaseModel", "meant", "[I", true)
  | 10 => ("TwinphaseModel", "readAt", "[I", true)
  | 11 => ("TwinphaseModel", "readBy", "[I", true)
  | 12 => ("TwinphaseModel", "versions", "I", false)
  | 13 => ("TwinphaseModel", "vKey", "[I", true)
  | 14 => ("TwinphaseModel", "vStamp", "[I", true)
  | 15 => ("TwinphaseModel", "vValue", "[I", true)
  | 16 => ("TwinphaseModel", "many", "I", false)
  | 17 => ("TwinphaseModel", "home", "[I", true)
  | 18 => ("TwinphaseModel", "rank", "[I", true)
  | 19 => ("TwinphaseModel", "reads", "[I", true)
  | 20 => ("TwinphaseModel", "writes", "[I", true)
  | 21 => ("TwinphaseModel", "doubt", "[I", true)
  | 22 => ("TwinphaseModel", "beaten", "[I", true)
  | 23 => ("TwinphaseModel", "state", "[I", true)
  | 24 => ("TwinphaseModel", "waits", "[I", true)
  | 25 => ("TwinphaseModel", "committedAs", "[I", true)
  | 26 => ("TwinphaseModel", "commits", "I", false)
  | 27 => ("TwinphaseModel", "doubtAt", "[I", true)
  | 28 => ("TwinphaseModel", "valueRead", "[I", true)
  | 29 => ("TwinphaseModel", "valueWritten", "[I", true)
  | 30 => ("TwinphaseModel", "once", "[I", true)
  | _ => ("TwinphaseModel", "thrown", "I", false)
def tyX5 : Nat → FieldType := fun k => match k with
  | 0 => .int
  | 1 => .array .int
  | 2 => .array .int
  | 3 => .array .boolean
  | 4 => .int
  | 5 => .array .int
  | 6 => .array .int
  | 7 => .array .int
  | 8 => .array .boolean
  | 9 => .array .int
  | 10 => .array .int
  | 11 => .array .int
  | 12 => .int
  | 13 => .array .int
  | 14 => .array .int
  | 15 => .array .int
  | 16 => .int
  | 17 => .array .int
  | 18 => .array .int
  | 19 => .array .int
  | 20 => .array .int
  | 21 => .array .int
  | 22 => .array .int
  | 23 => .array .int
  | 24 => .array .int
  | 25 => .array .int
  | 26 => .int
  | 27 => .array .int
  | 28 => .array .int
  | 29 => .array .int
  | 30 => .array .int
  | _ => .int
abbrev wsX50 : List Cond := u_ws RX5 TX5 32
set_option maxRecDepth 100000 in
theorem nmX5 : ∀ a, a < 32 → ∀ b, b < 32 → a ≠ b → (TX5 a).2.1 ≠ (TX5 b).2.1 := by decide +kernel
set_option maxRecDepth 100000 in
theorem tyX5_ok : ∀ k, k < 32 → parseFieldDescriptor (TX5 k).2.2.1 = some (tyX5 k) := by decide +kernel
abbrev cX5_init : ByteArray := prog_10_method_1_code
def yX5_init : MethodName := ⟨RX5, "<init>", "()V"⟩
def dkwX5_init_10 : List UInt8 := [2, 79, 42, 180, 0, 42, 27, 2, 79, 132, 1, 1, 167, 255, 233, 177]
abbrev dktX5_init_10 : List UInt8 := dkwX5_init_10 ++ []
def dkwX5_init_9 : List UInt8 := [181, 0, 87, 42, 16, 32, 188, 10, 181, 0, 90, 3, 60, 27, 16, 32, 162, 0, 23, 42, 180, 0, 30, 27]
abbrev dktX5_init_9 : List UInt8 := dkwX5_init_9 ++ dktX5_init_10
def dkwX5_init_8 : List UInt8 := [17, 0, 160, 188, 10, 181, 0, 81, 42, 17, 5, 0, 188, 10, 181, 0, 84, 42, 17, 5, 0, 188, 10]
abbrev dktX5_init_8 : List UInt8 := dkwX5_init_8 ++ dktX5_init_9
def dkwX5_init_7 : List UInt8 := [188, 10, 181, 0, 72, 42, 16, 40, 188, 10, 181, 0, 75, 42, 16, 40, 188, 10, 181, 0, 78, 42]
abbrev dktX5_init_7 : List UInt8 := dkwX5_init_7 ++ dktX5_init_8
def dkwX5_init_6 : List UInt8 := [188, 10, 181, 0, 63, 42, 16, 40, 188, 10, 181, 0, 66, 42, 16, 40, 188, 10, 181, 0, 69, 42, 16, 40]
abbrev dktX5_init_6 : List UInt8 := dkwX5_init_6 ++ dktX5_init_7
def dkwX5_init_5 : List UInt8 := [188, 10, 181, 0, 54, 42, 16, 40, 188, 10, 181, 0, 57, 42, 16, 40, 188, 10, 181, 0, 60, 42, 16, 40]
abbrev dktX5_init_5 : List UInt8 := dkwX5_init_5 ++ dktX5_init_6
def dkwX5_init_4 : List UInt8 := [181, 0, 45, 42, 17, 5, 20, 188, 10, 181, 0, 48, 42, 17, 5, 20, 188, 10, 181, 0, 51, 42, 16, 40]
abbrev dktX5_init_4 : List UInt8 := dkwX5_init_4 ++ dktX5_init_5
def dkwX5_init_3 : List UInt8 := [42, 16, 32, 188, 10, 181, 0, 39, 42, 16, 32, 188, 10, 181, 0, 42, 42, 17, 5, 20, 188, 10]
abbrev dktX5_init_3 : List UInt8 := dkwX5_init_3 ++ dktX5_init_4
def dkwX5_init_2 : List UInt8 := [42, 16, 32, 188, 10, 181, 0, 30, 42, 16, 32, 188, 4, 181, 0, 33, 42, 16, 32, 188, 10, 181, 0, 36]
abbrev dktX5_init_2 : List UInt8 := dkwX5_init_2 ++ dktX5_init_3
def dkwX5_init_1 : List UInt8 := [181, 0, 16, 42, 4, 181, 0, 20, 42, 16, 32, 188, 10, 181, 0, 24, 42, 16, 32, 188, 10, 181, 0, 27]
abbrev dktX5_init_1 : List UInt8 := dkwX5_init_1 ++ dktX5_init_2
def dkwX5_init_0 : List UInt8 := [42, 183, 0, 1, 42, 7, 188, 10, 181, 0, 7, 42, 7, 188, 10, 181, 0, 13, 42, 7, 188, 4]
abbrev dktX5_init_0 : List UInt8 := dkwX5_init_0 ++ dktX5_init_1
theorem dksX5_init_0 : cX5_init.data.toList.drop 0 = dktX5_init_0 := by decide +kernel
theorem dksX5_init_1 : cX5_init.data.toList.drop 22 = dktX5_init_1 := dk_seg dksX5_init_0 22 rfl rfl
theorem dksX5_init_2 : cX5_init.data.toList.drop 46 = dktX5_init_2 := dk_seg dksX5_init_1 24 rfl rfl
theorem dksX5_init_3 : cX5_init.data.toList.drop 70 = dktX5_init_3 := dk_seg dksX5_init_2 24 rfl rfl
theorem dksX5_init_4 : cX5_init.data.toList.drop 92 = dktX5_init_4 := dk_seg dksX5_init_3 22 rfl rfl
theorem dksX5_init_5 : cX5_init.data.toList.drop 116 = dktX5_init_5 := dk_seg dksX5_init_4 24 rfl rfl
theorem dksX5_init_6 : cX5_init.data.toList.drop 140 = dktX5_init_6 := dk_seg dksX5_init_5 24 rfl rfl
theorem dksX5_init_7 : cX5_init.data.toList.drop 164 = dktX5_init_7 := dk_seg dksX5_init_6 24 rfl rfl
theorem dksX5_init_8 : cX5_init.data.toList.drop 186 = dktX5_init_8 := dk_seg dksX5_init_7 22 rfl rfl
theorem dksX5_init_9 : cX5_init.data.toList.drop 209 = dktX5_init_9 := dk_seg dksX5_init_8 23 rfl rfl
theorem dksX5_init_10 : cX5_init.data.toList.drop 233 = dktX5_init_10 := dk_seg dksX5_init_9 24 rfl rfl
theorem dX5_init_0 : decode cX5_init 0 = .ok (.aload_n 0, 1) := dk_42 (dk_at dksX5_init_0 0 rfl rfl)
theorem dX5_init_1 : decode cX5_init 1 = .ok (.invokespecial 1, 3) := dk_183 0 1 (dk_at dksX5_init_0 1 rfl rfl)
theorem dX5_init_4 : decode cX5_init 4 = .ok (.aload_n 0, 1) := dk_42 (dk_at dksX5_init_0 4 rfl rfl)
theorem dX5_init_5 : decode cX5_init 5 = .ok (.iconst 4, 1) := dk_7 (dk_at dksX5_init_0 5 rfl rfl)
theorem dX5_init_6 : decode cX5_init 6 = .ok (.newarray .int, 2) := dk_188_10 (dk_at dksX5_init_0 6 rfl rfl)
theorem dX5_init_8 : decode cX5_init 8 = .ok (.putfield 7, 3) := dk_181 0 7 (dk_at dksX5_init_0 8 rfl rfl)
theorem dX5_init_11 : decode cX5_init 11 = .ok (.aload_n 0, 1) := dk_42 (dk_at dksX5_init_0 11 rfl rfl)
theorem dX5_init_12 : decode cX5_init 12 = .ok (.iconst 4, 1) := dk_7 (dk_at dksX5_init_0 12 rfl rfl)
theorem dX5_init_13 : decode cX5_init 13 = .ok (.newarray .int, 2) := dk_188_10 (dk_at dksX5_init_0 13 rfl rfl)
theorem dX5_init_15 : decode cX5_init 15 = .ok (.putfield 13, 3) := dk_181 0 13 (dk_at dksX5_init_0 15 rfl rfl)
theorem dX5_init_18 : decode cX5_init 18 = .ok (.aload_n 0, 1) := dk_42 (dk_at dksX5_init_0 18 rfl rfl)
theorem dX5_init_19 : decode cX5_init 19 = .ok (.iconst 4, 1) := dk_7 (dk_at dksX5_init_0 19 rfl rfl)
theorem dX5_init_20 : decode cX5_init 20 = .ok (.newarray .boolean, 2) := dk_188_4 (dk_at dksX5_init_0 20 rfl rfl)
theorem dX5_init_22 : decode cX5_init 22 = .ok (.putfield 16, 3) := dk_181 0 16 (dk_at dksX5_init_1 0 rfl rfl)
theorem dX5_init_25 : decode cX5_init 25 = .ok (.aload_n 0, 1) := dk_42 (dk_at dksX5_init_1 3 rfl rfl)
theorem dX5_init_26 : decode cX5_init 26 = .ok (.iconst 1, 1) := dk_4 (dk_at dksX5_init_1 4 rfl rfl)
theorem dX5_init_27 : decode cX5_init 27 = .ok (.putfield 20, 3) := dk_181 0 20 (dk_at dksX5_init_1 5 rfl rfl)
theorem dX5_init_30 : decode cX5_init 30 = .ok (.aload_n 0, 1) := dk_42 (dk_at dksX5_init_1 8 rfl rfl)
theorem dX5_init_31 : decode cX5_init 31 = .ok (.bipush 32, 2) := dk_16 32 (dk_at dksX5_init_1 9 rfl rfl)
theorem dX5_init_33 : decode cX5_init 33 = .ok (.newarray .int, 2) := dk_188_10 (dk_at dksX5_init_1 11 rfl rfl)
theorem dX5_init_35 : decode cX5_init 35 = .ok (.putfield 24, 3) := dk_181 0 24 (dk_at dksX5_init_1 13 rfl rfl)
theorem dX5_init_38 : decode cX5_init 38 = .ok (.aload_n 0, 1) := dk_42 (dk_at dksX5_init_1 16 rfl rfl)
theorem dX5_init_39 : decode cX5_init 39 = .ok (.bipush 32, 2) := dk_16 32 (dk_at dksX5_init_1 17 rfl rfl)
theorem dX5_init_41 : decode cX5_init 41 = .ok (.newarray .int, 2) := dk_188_10 (dk_at dksX5_init_1 19 rfl rfl)
theorem dX5_init_43 : decode cX5_init 43 = .ok (.putfield 27, 3) := dk_181 0 27 (dk_at dksX5_init_1 21 rfl rfl)
theorem dX5_init_46 : decode cX5_init 46 = .ok (.aload_n 0, 1) := dk_42 (dk_at dksX5_init_2 0 rfl rfl)
theorem dX5_init_47 : decode cX5_init 47 = .ok (.bipush 32, 2) := dk_16 32 (dk_at dksX5_init_2 1 rfl rfl)
theorem dX5_init_49 : decode cX5_init 49 = .ok (.newarray .int, 2) := dk_188_10 (dk_at dksX5_init_2 3 rfl rfl)
theorem dX5_init_51 : decode cX5_init 51 = .ok (.putfield 30, 3) := dk_181 0 30 (dk_at dksX5_init_2 5 rfl rfl)
theorem dX5_init_54 : decode cX5_init 54 = .ok (.aload_n 0, 1) := dk_42 (dk_at dksX5_init_2 8 rfl rfl)
theorem dX5_init_55 : decode cX5_init 55 = .ok (.bipush 32, 2) := dk_16 32 (dk_at dksX5_init_2 9 rfl rfl)
theorem dX5_init_57 : decode cX5_init 57 = .ok (.newarray .boolean, 2) := dk_188_4 (dk_at dksX5_init_2 11 rfl rfl)
theorem dX5_init_59 : decode cX5_init 59 = .ok (.putfield 33, 3) := dk_181 0 33 (dk_at dksX5_init_2 13 rfl rfl)
theorem dX5_init_62 : decode cX5_init 62 = .ok (.aload_n 0, 1) := dk_42 (dk_at dksX5_init_2 16 rfl rfl)
theorem dX5_init_63 : decode cX5_init 63 = .ok (.bipush 32, 2) := dk_16 32 (dk_at dksX5_init_2 17 rfl rfl)
theorem dX5_init_65 : decode cX5_init 65 = .ok (.newarray .int, 2) := dk_188_10 (dk_at dksX5_init_2 19 rfl rfl)
theorem dX5_init_67 : decode cX5_init 67 = .ok (.putfield 36, 3) := dk_181 0 36 (dk_at dksX5_init_2 21 rfl rfl)
theorem dX5_init_70 : decode cX5_init 70 = .ok (.aload_n 0, 1) := dk_42 (dk_at dksX5_init_3 0 rfl rfl)
theorem dX5_init_71 : decode cX5_init 71 = .ok (.bipush 32, 2) := dk_16 32 (dk_at dksX5_init_3 1 rfl rfl)
theorem dX5_init_73 : decode cX5_init 73 = .ok (.newarray .int, 2) := dk_188_10 (dk_at dksX5_init_3 3 rfl rfl)
theorem dX5_init_75 : decode cX5_init 75 = .ok (.putfield 39, 3) := dk_181 0 39 (dk_at dksX5_init_3 5 rfl rfl)
theorem dX5_init_78 : decode cX5_init 78 = .ok (.aload_n 0, 1) := dk_42 (dk_at dksX5_init_3 8 rfl rfl)
theorem dX5_init_79 : decode cX5_init 79 = .ok (.bipush 32, 2) := dk_16 32 (dk_at dksX5_init_3 9 rfl rfl)
theorem dX5_init_81 : decode cX5_init 81 = .ok (.newarray .int, 2) := dk_188_10 (dk_at dksX5_init_3 11 rfl rfl)
theorem dX5_init_83 : decode cX5_init 83 = .ok (.putfield 42, 3) := dk_181 0 42 (dk_at dksX5_init_3 13 rfl rfl)
theorem dX5_init_86 : decode cX5_init 86 = .ok (.aload_n 0, 1) := dk_42 (dk_at dksX5_init_3 16 rfl rfl)
theorem dX5_init_87 : decode cX5_init 87 = .ok (.sipush 1300, 3) := dk_17 5 20 (dk_at dksX5_init_3 17 rfl rfl)
theorem dX5_init_90 : decode cX5_init 90 = .ok (.newarray .int, 2) := dk_188_10 (dk_at dksX5_init_3 20 rfl rfl)
theorem dX5_init_92 : decode cX5_init 92 = .ok (.putfield 45, 3) := dk_181 0 45 (dk_at dksX5_init_4 0 rfl rfl)
theorem dX5_init_95 : decode cX5_init 95 = .ok (.aload_n 0, 1) := dk_42 (dk_at dksX5_init_4 3 rfl rfl)
theorem dX5_init_96 : decode cX5_init 96 = .ok (.sipush 1300, 3) := dk_17 5 20 (dk_at dksX5_init_4 4 rfl rfl)
theorem dX5_init_99 : decode cX5_init 99 = .ok (.newarray .int, 2) := dk_188_10 (dk_at dksX5_init_4 7 rfl rfl)
theorem dX5_init_101 : decode cX5_init 101 = .ok (.putfield 48, 3) := dk_181 0 48 (dk_at dksX5_init_4 9 rfl rfl)
theorem dX5_init_104 : decode cX5_init 104 = .ok (.aload_n 0, 1) := dk_42 (dk_at dksX5_init_4 12 rfl rfl)
theorem dX5_init_105 : decode cX5_init 105 = .ok (.sipush 1300, 3) := dk_17 5 20 (dk_at dksX5_init_4 13 rfl rfl)
theorem dX5_init_108 : decode cX5_init 108 = .ok (.newarray .int, 2) := dk_188_10 (dk_at dksX5_init_4 16 rfl rfl)
theorem dX5_init_110 : decode cX5_init 110 = .ok (.putfield 51, 3) := dk_181 0 51 (dk_at dksX5_init_4 18 rfl rfl)
theorem dX5_init_113 : decode cX5_init 113 = .ok (.aload_n 0, 1) := dk_42 (dk_at dksX5_init_4 21 rfl rfl)
theorem dX5_init_114 : decode cX5_init 114 = .ok (.bipush 40, 2) := dk_16 40 (dk_at dksX5_init_4 22 rfl rfl)
theorem dX5_init_116 : decode cX5_init 116 = .ok (.newarray .int, 2) := dk_188_10 (dk_at dksX5_init_5 0 rfl rfl)
theorem dX5_init_118 : decode cX5_init 118 = .ok (.putfield 54, 3) := dk_181 0 54 (dk_at dksX5_init_5 2 rfl rfl)
theorem dX5_init_121 : decode cX5_init 121 = .ok (.aload_n 0, 1) := dk_42 (dk_at dksX5_init_5 5 rfl rfl)
theorem dX5_init_122 : decode cX5_init 122 = .ok (.bipush 40, 2) := dk_16 40 (dk_at dksX5_init_5 6 rfl rfl)
theorem dX5_init_124 : decode cX5_init 124 = .ok (.newarray .int, 2) := dk_188_10 (dk_at dksX5_init_5 8 rfl rfl)
theorem dX5_init_126 : decode cX5_init 126 = .ok (.putfield 57, 3) := dk_181 0 57 (dk_at dksX5_init_5 10 rfl rfl)
theorem dX5_init_129 : decode cX5_init 129 = .ok (.aload_n 0, 1) := dk_42 (dk_at dksX5_init_5 13 rfl rfl)
theorem dX5_init_130 : decode cX5_init 130 = .ok (.bipush 40, 2) := dk_16 40 (dk_at dksX5_init_5 14 rfl rfl)
theorem dX5_init_132 : decode cX5_init 132 = .ok (.newarray .int, 2) := dk_188_10 (dk_at dksX5_init_5 16 rfl rfl)
theorem dX5_init_134 : decode cX5_init 134 = .ok (.putfield 60, 3) := dk_181 0 60 (dk_at dksX5_init_5 18 rfl rfl)
theorem dX5_init_137 : decode cX5_init 137 = .ok (.aload_n 0, 1) := dk_42 (dk_at dksX5_init_5 21 rfl rfl)
theorem dX5_init_138 : decode cX5_init 138 = .ok (.bipush 40, 2) := dk_16 40 (dk_at dksX5_init_5 22 rfl rfl)
theorem dX5_init_140 : decode cX5_init 140 = .ok (.newarray .int, 2) := dk_188_10 (dk_at dksX5_init_6 0 rfl rfl)
theorem dX5_init_142 : decode cX5_init 142 = .ok (.putfield 63, 3) := dk_181 0 63 (dk_at dksX5_init_6 2 rfl rfl)
theorem dX5_init_145 : decode cX5_init 145 = .ok (.aload_n 0, 1) := dk_42 (dk_at dksX5_init_6 5 rfl rfl)
theorem dX5_init_146 : decode cX5_init 146 = .ok (.bipush 40, 2) := dk_16 40 (dk_at dksX5_init_6 6 rfl rfl)
theorem dX5_init_148 : decode cX5_init 148 = .ok (.newarray .int, 2) := dk_188_10 (dk_at dksX5_init_6 8 rfl rfl)
theorem dX5_init_150 : decode cX5_init 150 = .ok (.putfield 66, 3) := dk_181 0 66 (dk_at dksX5_init_6 10 rfl rfl)
theorem dX5_init_153 : decode cX5_init 153 = .ok (.aload_n 0, 1) := dk_42 (dk_at dksX5_init_6 13 rfl rfl)
theorem dX5_init_154 : decode cX5_init 154 = .ok (.bipush 40, 2) := dk_16 40 (dk_at dksX5_init_6 14 rfl rfl)
theorem dX5_init_156 : decode cX5_init 156 = .ok (.newarray .int, 2) := dk_188_10 (dk_at dksX5_init_6 16 rfl rfl)
theorem dX5_init_158 : decode cX5_init 158 = .ok (.putfield 69, 3) := dk_181 0 69 (dk_at dksX5_init_6 18 rfl rfl)
theorem dX5_init_161 : decode cX5_init 161 = .ok (.aload_n 0, 1) := dk_42 (dk_at dksX5_init_6 21 rfl rfl)
theorem dX5_init_162 : decode cX5_init 162 = .ok (.bipush 40, 2) := dk_16 40 (dk_at dksX5_init_6 22 rfl rfl)
theorem dX5_init_164 : decode cX5_init 164 = .ok (.newarray .int, 2) := dk_188_10 (dk_at dksX5_init_7 0 rfl rfl)
theorem dX5_init_166 : decode cX5_init 166 = .ok (.putfield 72, 3) := dk_181 0 72 (dk_at dksX5_init_7 2 rfl rfl)
theorem dX5_init_169 : decode cX5_init 169 = .ok (.aload_n 0, 1) := dk_42 (dk_at dksX5_init_7 5 rfl rfl)
theorem dX5_init_170 : decode cX5_init 170 = .ok (.bipush 40, 2) := dk_16 40 (dk_at dksX5_init_7 6 rfl rfl)
theorem dX5_init_172 : decode cX5_init 172 = .ok (.newarray .int, 2) := dk_188_10 (dk_at dksX5_init_7 8 rfl rfl)
theorem dX5_init_174 : decode cX5_init 174 = .ok (.putfield 75, 3) := dk_181 0 75 (dk_at dksX5_init_7 10 rfl rfl)
theorem dX5_init_177 : decode cX5_init 177 = .ok (.aload_n 0, 1) := dk_42 (dk_at dksX5_init_7 13 rfl rfl)
theorem dX5_init_178 : decode cX5_init 178 = .ok (.bipush 40, 2) := dk_16 40 (dk_at dksX5_init_7 14 rfl rfl)
theorem dX5_init_180 : decode cX5_init 180 = .ok (.newarray .int, 2) := dk_188_10 (dk_at dksX5_init_7 16 rfl rfl)
theorem dX5_init_182 : decode cX5_init 182 = .ok (.putfield 78, 3) := dk_181 0 78 (dk_at dksX5_init_7 18 rfl rfl)
theorem dX5_init_185 : decode cX5_init 185 = .ok (.aload_n 0, 1) := dk_42 (dk_at dksX5_init_7 21 rfl rfl)
theorem dX5_init_186 : decode cX5_init 186 = .ok (.sipush 160, 3) := dk_17 0 160 (dk_at dksX5_init_8 0 rfl rfl)
theorem dX5_init_189 : decode cX5_init 189 = .ok (.newarray .int, 2) := dk_188_10 (dk_at dksX5_init_8 3 rfl rfl)
theorem dX5_init_191 : decode cX5_init 191 = .ok (.putfield 81, 3) := dk_181 0 81 (dk_at dksX5_init_8 5 rfl rfl)
theorem dX5_init_194 : decode cX5_init 194 = .ok (.aload_n 0, 1) := dk_42 (dk_at dksX5_init_8 8 rfl rfl)
theorem dX5_init_195 : decode cX5_init 195 = .ok (.sipush 1280, 3) := dk_17 5 0 (dk_at dksX5_init_8 9 rfl rfl)
theorem dX5_init_198 : decode cX5_init 198 = .ok (.newarray .int, 2) := dk_188_10 (dk_at dksX5_init_8 12 rfl rfl)
theorem dX5_init_200 : decode cX5_init 200 = .ok (.putfield 84, 3) := dk_181 0 84 (dk_at dksX5_init_8 14 rfl rfl)
theorem dX5_init_203 : decode cX5_init 203 = .ok (.aload_n 0, 1) := dk_42 (dk_at dksX5_init_8 17 rfl rfl)
theorem dX5_init_204 : decode cX5_init 204 = .ok (.sipush 1280, 3) := dk_17 5 0 (dk_at dksX5_init_8 18 rfl rfl)
theorem dX5_init_207 : decode cX5_init 207 = .ok (.newarray .int, 2) := dk_188_10 (dk_at dksX5_init_8 21 rfl rfl)
theorem dX5_init_209 : decode cX5_init 209 = .ok (.putfield 87, 3) := dk_181 0 87 (dk_at dksX5_init_9 0 rfl rfl)
theorem dX5_init_212 : decode cX5_init 212 = .ok (.aload_n 0, 1) := dk_42 (dk_at dksX5_init_9 3 rfl rfl)
theorem dX5_init_213 : decode cX5_init 213 = .ok (.bipush 32, 2) := dk_16 32 (dk_at dksX5_init_9 4 rfl rfl)
theorem dX5_init_215 : decode cX5_init 215 = .ok (.newarray .int, 2) := dk_188_10 (dk_at dksX5_init_9 6 rfl rfl)
theorem dX5_init_217 : decode cX5_init 217 = .ok (.putfield 90, 3) := dk_181 0 90 (dk_at dksX5_init_9 8 rfl rfl)
theorem dX5_init_220 : decode cX5_init 220 = .ok (.iconst 0, 1) := dk_3 (dk_at dksX5_init_9 11 rfl rfl)
theorem dX5_init_221 : decode cX5_init 221 = .ok (.istore_n 1, 1) := dk_60 (dk_at dksX5_init_9 12 rfl rfl)
theorem dX5_init_222 : decode cX5_init 222 = .ok (.iload_n 1, 1) := dk_27 (dk_at dksX5_init_9 13 rfl rfl)
theorem dX5_init_223 : decode cX5_init 223 = .ok (.bipush 32, 2) := dk_16 32 (dk_at dksX5_init_9 14 rfl rfl)
theorem dX5_init_225 : decode cX5_init 225 = .ok (.if_icmp .ge 23, 3) := dk_162 0 23 (dk_at dksX5_init_9 16 rfl rfl)
theorem dX5_init_228 : decode cX5_init 228 = .ok (.aload_n 0, 1) := dk_42 (dk_at dksX5_init_9 19 rfl rfl)
theorem dX5_init_229 : decode cX5_init 229 = .ok (.getfield 30, 3) := dk_180 0 30 (dk_at dksX5_init_9 20 rfl rfl)
theorem dX5_init_232 : decode cX5_init 232 = .ok (.iload_n 1, 1) := dk_27 (dk_at dksX5_init_9 23 rfl rfl)
theorem dX5_init_233 : decode cX5_init 233 = .ok (.iconst (-1), 1) := dk_2 (dk_at dksX5_init_10 0 rfl rfl)
theorem dX5_init_234 : decode cX5_init 234 = .ok (.iastore, 1) := dk_79 (dk_at dksX5_init_10 1 rfl rfl)
theorem dX5_init_235 : decode cX5_init 235 = .ok (.aload_n 0, 1) := dk_42 (dk_at dksX5_init_10 2 rfl rfl)
theorem dX5_init_236 : decode cX5_init 236 = .ok (.getfield 42, 3) := dk_180 0 42 (dk_at dksX5_init_10 3 rfl rfl)
theorem dX5_init_239 : decode cX5_init 239 = .ok (.iload_n 1, 1) := dk_27 (dk_at dksX5_init_10 6 rfl rfl)
theorem dX5_init_240 : decode cX5_init 240 = .ok (.iconst (-1), 1) := dk_2 (dk_at dksX5_init_10 7 rfl rfl)
theorem dX5_init_241 : decode cX5_init 241 = .ok (.iastore, 1) := dk_79 (dk_at dksX5_init_10 8 rfl rfl)
theorem dX5_init_242 : decode cX5_init 242 = .ok (.iinc 1 1, 3) := dk_132 1 1 (dk_at dksX5_init_10 9 rfl rfl)
theorem dX5_init_245 : decode cX5_init 245 = .ok (.goto (-23), 3) := dk_167 255 233 (dk_at dksX5_init_10 12 rfl rfl)
theorem dX5_init_248 : decode cX5_init 248 = .ok (.return_, 1) := dk_177 (dk_at dksX5_init_10 15 rfl rfl)
abbrev cX5_thrown : ByteArray := prog_10_method_2_code
def yX5_thrown : MethodName := ⟨RX5, "thrown", "()I"⟩
theorem dX5_thrown_0 : decode cX5_thrown 0 = .ok (.aload_n 0, 1) := by decide +kernel
theorem dX5_thrown_1 : decode cX5_thrown 1 = .ok (.getfield 93, 3) := by decide +kernel
theorem dX5_thrown_4 : decode cX5_thrown 4 = .ok (.ireturn, 1) := by decide +kernel
abbrev cX5_pass : ByteArray := prog_10_method_5_code
def yX5_pass : MethodName := ⟨RX5, "pass", "(I)I"⟩
def dkwX5_pass_2 : List UInt8 := [167, 0, 4, 3, 96, 181, 0, 100, 42, 180, 0, 93, 154, 0, 10, 42, 180, 0, 100, 167, 0, 4, 3, 172]
abbrev dktX5_pass_2 : List UInt8 := dkwX5_pass_2 ++ []
def dkwX5_pass_1 : List UInt8 := [164, 0, 7, 5, 167, 0, 4, 3, 181, 0, 93, 42, 89, 180, 0, 100, 42, 180, 0, 93, 154, 0, 7, 27]
abbrev dktX5_pass_1 : List UInt8 := dkwX5_pass_1 ++ dktX5_pass_2
def dkwX5_pass_0 : List UInt8 := [42, 27, 4, 16, 50, 184, 0, 96, 154, 0, 7, 4, 167, 0, 20, 42, 180, 0, 100, 27, 96, 17, 7, 208]
abbrev dktX5_pass_0 : List UInt8 := dkwX5_pass_0 ++ dktX5_pass_1
theorem dksX5_pass_0 : cX5_pass.data.toList.drop 0 = dktX5_pass_0 := by decide +kernel
theorem dksX5_pass_1 : cX5_pass.data.toList.drop 24 = dktX5_pass_1 := dk_seg dksX5_pass_0 24 rfl rfl
theorem dksX5_pass_2 : cX5_pass.data.toList.drop 48 = dktX5_pass_2 := dk_seg dksX5_pass_1 24 rfl rfl
theorem dX5_pass_0 : decode cX5_pass 0 = .ok (.aload_n 0, 1) := dk_42 (dk_at dksX5_pass_0 0 rfl rfl)
theorem dX5_pass_1 : decode cX5_pass 1 = .ok (.iload_n 1, 1) := dk_27 (dk_at dksX5_pass_0 1 rfl rfl)
theorem dX5_pass_2 : decode cX5_pass 2 = .ok (.iconst 1, 1) := dk_4 (dk_at dksX5_pass_0 2 rfl rfl)
theorem dX5_pass_3 : decode cX5_pass 3 = .ok (.bipush 50, 2) := dk_16 50 (dk_at dksX5_pass_0 3 rfl rfl)
theorem dX5_pass_5 : decode cX5_pass 5 = .ok (.invokestatic 96, 3) := dk_184 0 96 (dk_at dksX5_pass_0 5 rfl rfl)
theorem dX5_pass_8 : decode cX5_pass 8 = .ok (.ifCond .ne 7, 3) := dk_154 0 7 (dk_at dksX5_pass_0 8 rfl rfl)
theorem dX5_pass_11 : decode cX5_pass 11 = .ok (.iconst 1, 1) := dk_4 (dk_at dksX5_pass_0 11 rfl rfl)
theorem dX5_pass_12 : decode cX5_pass 12 = .ok (.goto 20, 3) := dk_167 0 20 (dk_at dksX5_pass_0 12 rfl rfl)
theorem dX5_pass_15 : decode cX5_pass 15 = .ok (.aload_n 0, 1) := dk_42 (dk_at dksX5_pass_0 15 rfl rfl)
theorem dX5_pass_16 : decode cX5_pass 16 = .ok (.getfield 100, 3) := dk_180 0 100 (dk_at dksX5_pass_0 16 rfl rfl)
theorem dX5_pass_19 : decode cX5_pass 19 = .ok (.iload_n 1, 1) := dk_27 (dk_at dksX5_pass_0 19 rfl rfl)
theorem dX5_pass_20 : decode cX5_pass 20 = .ok (.iadd, 1) := dk_96 (dk_at dksX5_pass_0 20 rfl rfl)
theorem dX5_pass_21 : decode cX5_pass 21 = .ok (.sipush 2000, 3) := dk_17 7 208 (dk_at dksX5_pass_0 21 rfl rfl)
theorem dX5_pass_24 : decode cX5_pass 24 = .ok (.if_icmp .le 7, 3) := dk_164 0 7 (dk_at dksX5_pass_1 0 rfl rfl)
theorem dX5_pass_27 : decode cX5_pass 27 = .ok (.iconst 2, 1) := dk_5 (dk_at dksX5_pass_1 3 rfl rfl)
theorem dX5_pass_28 : decode cX5_pass 28 = .ok (.goto 4, 3) := dk_167 0 4 (dk_at dksX5_pass_1 4 rfl rfl)
theorem dX5_pass_31 : decode cX5_pass 31 = .ok (.iconst 0, 1) := dk_3 (dk_at dksX5_pass_1 7 rfl rfl)
theorem dX5_pass_32 : decode cX5_pass 32 = .ok (.putfield 93, 3) := dk_181 0 93 (dk_at dksX5_pass_1 8 rfl rfl)
theorem dX5_pass_35 : decode cX5_pass 35 = .ok (.aload_n 0, 1) := dk_42 (dk_at dksX5_pass_1 11 rfl rfl)
theorem dX5_pass_36 : decode cX5_pass 36 = .ok (.dup, 1) := dk_89 (dk_at dksX5_pass_1 12 rfl rfl)
theorem dX5_pass_37 : decode cX5_pass 37 = .ok (.getfield 100, 3) := dk_180 0 100 (dk_at dksX5_pass_1 13 rfl rfl)
theorem dX5_pass_40 : decode cX5_pass 40 = .ok (.aload_n 0, 1) := dk_42 (dk_at dksX5_pass_1 16 rfl rfl)
theorem dX5_pass_41 : decode cX5_pass 41 = .ok (.getfield 93, 3) := dk_180 0 93 (dk_at dksX5_pass_1 17 rfl rfl)
theorem dX5_pass_44 : decode cX5_pass 44 = .ok (.ifCond .ne 7, 3) := dk_154 0 7 (dk_at dksX5_pass_1 20 rfl rfl)
theorem dX5_pass_47 : decode cX5_pass 47 = .ok (.iload_n 1, 1) := dk_27 (dk_at dksX5_pass_1 23 rfl rfl)
theorem dX5_pass_48 : decode cX5_pass 48 = .ok (.goto 4, 3) := dk_167 0 4 (dk_at dksX5_pass_2 0 rfl rfl)
theorem dX5_pass_51 : decode cX5_pass 51 = .ok (.iconst 0, 1) := dk_3 (dk_at dksX5_pass_2 3 rfl rfl)
theorem dX5_pass_52 : decode cX5_pass 52 = .ok (.iadd, 1) := dk_96 (dk_at dksX5_pass_2 4 rfl rfl)
theorem dX5_pass_53 : decode cX5_pass 53 = .ok (.putfield 100, 3) := dk_181 0 100 (dk_at dksX5_pass_2 5 rfl rfl)
theorem dX5_pass_56 : decode cX5_pass 56 = .ok (.aload_n 0, 1) := dk_42 (dk_at dksX5_pass_2 8 rfl rfl)
theorem dX5_pass_57 : decode cX5_pass 57 = .ok (.getfield 93, 3) := dk_180 0 93 (dk_at dksX5_pass_2 9 rfl rfl)
theorem dX5_pass_60 : decode cX5_pass 60 = .ok (.ifCond .ne 10, 3) := dk_154 0 10 (dk_at dksX5_pass_2 12 rfl rfl)
theorem dX5_pass_63 : decode cX5_pass 63 = .ok (.aload_n 0, 1) := dk_42 (dk_at dksX5_pass_2 15 rfl rfl)
theorem dX5_pass_64 : decode cX5_pass 64 = .ok (.getfield 100, 3) := dk_180 0 100 (dk_at dksX5_pass_2 16 rfl rfl)
theorem dX5_pass_67 : decode cX5_pass 67 = .ok (.goto 4, 3) := dk_167 0 4 (dk_at dksX5_pass_2 19 rfl rfl)
theorem dX5_pass_70 : decode cX5_pass 70 = .ok (.iconst 0, 1) := dk_3 (dk_at dksX5_pass_2 22 rfl rfl)
theorem dX5_pass_71 : decode cX5_pass 71 = .ok (.ireturn, 1) := dk_172 (dk_at dksX5_pass_2 23 rfl rfl)
abbrev cX5_in : ByteArray := prog_10_method_3_code
def yX5_in : MethodName := ⟨RX5, "in", "(III)Z"⟩
def dkwX5_in_0 : List UInt8 := [26, 27, 161, 0, 12, 26, 28, 163, 0, 7, 4, 167, 0, 4, 3, 172]
abbrev dktX5_in_0 : List UInt8 := dkwX5_in_0 ++ []
theorem dksX5_in_0 : cX5_in.data.toList.drop 0 = dktX5_in_0 := by decide +kernel
theorem dX5_in_0 : decode cX5_in 0 = .ok (.iload_n 0, 1) := dk_26 (dk_at dksX5_in_0 0 rfl rfl)
theorem dX5_in_1 : decode cX5_in 1 = .ok (.iload_n 1, 1) := dk_27 (dk_at dksX5_in_0 1 rfl rfl)
theorem dX5_in_2 : decode cX5_in 2 = .ok (.if_icmp .lt 12, 3) := dk_161 0 12 (dk_at dksX5_in_0 2 rfl rfl)
theorem dX5_in_5 : decode cX5_in 5 = .ok (.iload_n 0, 1) := dk_26 (dk_at dksX5_in_0 5 rfl rfl)
theorem dX5_in_6 : decode cX5_in 6 = .ok (.iload_n 2, 1) := dk_28 (dk_at dksX5_in_0 6 rfl rfl)
theorem dX5_in_7 : decode cX5_in 7 = .ok (.if_icmp .gt 7, 3) := dk_163 0 7 (dk_at dksX5_in_0 7 rfl rfl)
theorem dX5_in_10 : decode cX5_in 10 = .ok (.iconst 1, 1) := dk_4 (dk_at dksX5_in_0 10 rfl rfl)
theorem dX5_in_11 : decode cX5_in 11 = .ok (.goto 4, 3) := dk_167 0 4 (dk_at dksX5_in_0 11 rfl rfl)
theorem dX5_in_14 : decode cX5_in 14 = .ok (.iconst 0, 1) := dk_3 (dk_at dksX5_in_0 14 rfl rfl)
theorem dX5_in_15 : decode cX5_in 15 = .ok (.ireturn, 1) := dk_172 (dk_at dksX5_in_0 15 rfl rfl)
abbrev cX5_skew : ByteArray := prog_10_method_6_code
def yX5_skew : MethodName := ⟨RX5, "skew", "(II)I"⟩
def dkwX5_skew_2 : List UInt8 := [42, 180, 0, 7, 27, 28, 79, 29, 172]
abbrev dktX5_skew_2 : List UInt8 := dkwX5_skew_2 ++ []
def dkwX5_skew_1 : List UInt8 := [5, 167, 0, 4, 3, 181, 0, 93, 42, 180, 0, 93, 158, 0, 5, 3, 172, 42, 180, 0, 7, 27, 46, 62]
abbrev dktX5_skew_1 : List UInt8 := dkwX5_skew_1 ++ dktX5_skew_2
def dkwX5_skew_0 : List UInt8 := [42, 27, 3, 6, 184, 0, 96, 154, 0, 7, 4, 167, 0, 18, 28, 16, 251, 8, 184, 0, 96, 154, 0, 7]
abbrev dktX5_skew_0 : List UInt8 := dkwX5_skew_0 ++ dktX5_skew_1
theorem dksX5_skew_0 : cX5_skew.data.toList.drop 0 = dktX5_skew_0 := by decide +kernel
theorem dksX5_skew_1 : cX5_skew.data.toList.drop 24 = dktX5_skew_1 := dk_seg dksX5_skew_0 24 rfl rfl
theorem dksX5_skew_2 : cX5_skew.data.toList.drop 48 = dktX5_skew_2 := dk_seg dksX5_skew_1 24 rfl rfl
theorem dX5_skew_0 : decode cX5_skew 0 = .ok (.aload_n 0, 1) := dk_42 (dk_at dksX5_skew_0 0 rfl rfl)
theorem dX5_skew_1 : decode cX5_skew 1 = .ok (.iload_n 1, 1) := dk_27 (dk_at dksX5_skew_0 1 rfl rfl)
theorem dX5_skew_2 : decode cX5_skew 2 = .ok (.iconst 0, 1) := dk_3 (dk_at dksX5_skew_0 2 rfl rfl)
theorem dX5_skew_3 : decode cX5_skew 3 = .ok (.iconst 3, 1) := dk_6 (dk_at dksX5_skew_0 3 rfl rfl)
theorem dX5_skew_4 : decode cX5_skew 4 = .ok (.invokestatic 96, 3) := dk_184 0 96 (dk_at dksX5_skew_0 4 rfl rfl)
theorem dX5_skew_7 : decode cX5_skew 7 = .ok (.ifCond .ne 7, 3) := dk_154 0 7 (dk_at dksX5_skew_0 7 rfl rfl)
theorem dX5_skew_10 : decode cX5_skew 10 = .ok (.iconst 1, 1) := dk_4 (dk_at dksX5_skew_0 10 rfl rfl)
theorem dX5_skew_11 : decode cX5_skew 11 = .ok (.goto 18, 3) := dk_167 0 18 (dk_at dksX5_skew_0 11 rfl rfl)
theorem dX5_skew_14 : decode cX5_skew 14 = .ok (.iload_n 2, 1) := dk_28 (dk_at dksX5_skew_0 14 rfl rfl)
theorem dX5_skew_15 : decode cX5_skew 15 = .ok (.bipush (-5), 2) := dk_16 251 (dk_at dksX5_skew_0 15 rfl rfl)
theorem dX5_skew_17 : decode cX5_skew 17 = .ok (.iconst 5, 1) := dk_8 (dk_at dksX5_skew_0 17 rfl rfl)
theorem dX5_skew_18 : decode cX5_skew 18 = .ok (.invokestatic 96, 3) := dk_184 0 96 (dk_at dksX5_skew_0 18 rfl rfl)
theorem dX5_skew_21 : decode cX5_skew 21 = .ok (.ifCond .ne 7, 3) := dk_154 0 7 (dk_at dksX5_skew_0 21 rfl rfl)
theorem dX5_skew_24 : decode cX5_skew 24 = .ok (.iconst 2, 1) := dk_5 (dk_at dksX5_skew_1 0 rfl rfl)
theorem dX5_skew_25 : decode cX5_skew 25 = .ok (.goto 4, 3) := dk_167 0 4 (dk_at dksX5_skew_1 1 rfl rfl)
theorem dX5_skew_28 : decode cX5_skew 28 = .ok (.iconst 0, 1) := dk_3 (dk_at dksX5_skew_1 4 rfl rfl)
theorem dX5_skew_29 : decode cX5_skew 29 = .ok (.putfield 93, 3) := dk_181 0 93 (dk_at dksX5_skew_1 5 rfl rfl)
theorem dX5_skew_32 : decode cX5_skew 32 = .ok (.aload_n 0, 1) := dk_42 (dk_at dksX5_skew_1 8 rfl rfl)
theorem dX5_skew_33 : decode cX5_skew 33 = .ok (.getfield 93, 3) := dk_180 0 93 (dk_at dksX5_skew_1 9 rfl rfl)
theorem dX5_skew_36 : decode cX5_skew 36 = .ok (.ifCond .le 5, 3) := dk_158 0 5 (dk_at dksX5_skew_1 12 rfl rfl)
theorem dX5_skew_39 : decode cX5_skew 39 = .ok (.iconst 0, 1) := dk_3 (dk_at dksX5_skew_1 15 rfl rfl)
theorem dX5_skew_40 : decode cX5_skew 40 = .ok (.ireturn, 1) := dk_172 (dk_at dksX5_skew_1 16 rfl rfl)
theorem dX5_skew_41 : decode cX5_skew 41 = .ok (.aload_n 0, 1) := dk_42 (dk_at dksX5_skew_1 17 rfl rfl)
theorem dX5_skew_42 : decode cX5_skew 42 = .ok (.getfield 7, 3) := dk_180 0 7 (dk_at dksX5_skew_1 18 rfl rfl)
theorem dX5_skew_45 : decode cX5_skew 45 = .ok (.iload_n 1, 1) := dk_27 (dk_at dksX5_skew_1 21 rfl rfl)
theorem dX5_skew_46 : decode cX5_skew 46 = .ok (.iaload, 1) := dk_46 (dk_at dksX5_skew_1 22 rfl rfl)
theorem dX5_skew_47 : decode cX5_skew 47 = .ok (.istore_n 3, 1) := dk_62 (dk_at dksX5_skew_1 23 rfl rfl)
theorem dX5_skew_48 : decode cX5_skew 48 = .ok (.aload_n 0, 1) := dk_42 (dk_at dksX5_skew_2 0 rfl rfl)
theorem dX5_skew_49 : decode cX5_skew 49 = .ok (.getfield 7, 3) := dk_180 0 7 (dk_at dksX5_skew_2 1 rfl rfl)
theorem dX5_skew_52 : decode cX5_skew 52 = .ok (.iload_n 1, 1) := dk_27 (dk_at dksX5_skew_2 4 rfl rfl)
theorem dX5_skew_53 : decode cX5_skew 53 = .ok (.iload_n 2, 1) := dk_28 (dk_at dksX5_skew_2 5 rfl rfl)
theorem dX5_skew_54 : decode cX5_skew 54 = .ok (.iastore, 1) := dk_79 (dk_at dksX5_skew_2 6 rfl rfl)
theorem dX5_skew_55 : decode cX5_skew 55 = .ok (.iload_n 3, 1) := dk_29 (dk_at dksX5_skew_2 7 rfl rfl)
theorem dX5_skew_56 : decode cX5_skew 56 = .ok (.ireturn, 1) := dk_172 (dk_at dksX5_skew_2 8 rfl rfl)
abbrev cX5_clock : ByteArray := prog_10_method_8_code
def yX5_clock : MethodName := ⟨RX5, "clock", "(I)I"⟩
def dkwX5_clock_1 : List UInt8 := [167, 0, 4, 3, 181, 0, 93, 42, 180, 0, 93, 154, 0, 11, 42, 27, 182, 0, 107, 167, 0, 4, 3, 172]
abbrev dktX5_clock_1 : List UInt8 := dkwX5_clock_1 ++ []
def dkwX5_clock_0 : List UInt8 := [42, 27, 3, 6, 184, 0, 96, 154, 0, 7, 4, 167, 0, 17, 42, 180, 0, 16, 27, 51, 153, 0, 7, 5]
abbrev dktX5_clock_0 : List UInt8 := dkwX5_clock_0 ++ dktX5_clock_1
theorem dksX5_clock_0 : cX5_clock.data.toList.drop 0 = dktX5_clock_0 := by decide +kernel
theorem dksX5_clock_1 : cX5_clock.data.toList.drop 24 = dktX5_clock_1 := dk_seg dksX5_clock_0 24 rfl rfl
theorem dX5_clock_0 : decode cX5_clock 0 = .ok (.aload_n 0, 1) := dk_42 (dk_at dksX5_clock_0 0 rfl rfl)
theorem dX5_clock_1 : decode cX5_clock 1 = .ok (.iload_n 1, 1) := dk_27 (dk_at dksX5_clock_0 1 rfl rfl)
theorem dX5_clock_2 : decode cX5_clock 2 = .ok (.iconst 0, 1) := dk_3 (dk_at dksX5_clock_0 2 rfl rfl)
theorem dX5_clock_3 : decode cX5_clock 3 = .ok (.iconst 3, 1) := dk_6 (dk_at dksX5_clock_0 3 rfl rfl)
theorem dX5_clock_4 : decode cX5_clock 4 = .ok (.invokestatic 96, 3) := dk_184 0 96 (dk_at dksX5_clock_0 4 rfl rfl)
theorem dX5_clock_7 : decode cX5_clock 7 = .ok (.ifCond .ne 7, 3) := dk_154 0 7 (dk_at dksX5_clock_0 7 rfl rfl)
theorem dX5_clock_10 : decode cX5_clock 10 = .ok (.iconst 1, 1) := dk_4 (dk_at dksX5_clock_0 10 rfl rfl)
theorem dX5_clock_11 : decode cX5_clock 11 = .ok (.goto 17, 3) := dk_167 0 17 (dk_at dksX5_clock_0 11 rfl rfl)
theorem dX5_clock_14 : decode cX5_clock 14 = .ok (.aload_n 0, 1) := dk_42 (dk_at dksX5_clock_0 14 rfl rfl)
theorem dX5_clock_15 : decode cX5_clock 15 = .ok (.getfield 16, 3) := dk_180 0 16 (dk_at dksX5_clock_0 15 rfl rfl)
theorem dX5_clock_18 : decode cX5_clock 18 = .ok (.iload_n 1, 1) := dk_27 (dk_at dksX5_clock_0 18 rfl rfl)
theorem dX5_clock_19 : decode cX5_clock 19 = .ok (.baload, 1) := dk_51 (dk_at dksX5_clock_0 19 rfl rfl)
theorem dX5_clock_20 : decode cX5_clock 20 = .ok (.ifCond .eq 7, 3) := dk_153 0 7 (dk_at dksX5_clock_0 20 rfl rfl)
theorem dX5_clock_23 : decode cX5_clock 23 = .ok (.iconst 2, 1) := dk_5 (dk_at dksX5_clock_0 23 rfl rfl)
theorem dX5_clock_24 : decode cX5_clock 24 = .ok (.goto 4, 3) := dk_167 0 4 (dk_at dksX5_clock_1 0 rfl rfl)
theorem dX5_clock_27 : decode cX5_clock 27 = .ok (.iconst 0, 1) := dk_3 (dk_at dksX5_clock_1 3 rfl rfl)
theorem dX5_clock_28 : decode cX5_clock 28 = .ok (.putfield 93, 3) := dk_181 0 93 (dk_at dksX5_clock_1 4 rfl rfl)
theorem dX5_clock_31 : decode cX5_clock 31 = .ok (.aload_n 0, 1) := dk_42 (dk_at dksX5_clock_1 7 rfl rfl)
theorem dX5_clock_32 : decode cX5_clock 32 = .ok (.getfield 93, 3) := dk_180 0 93 (dk_at dksX5_clock_1 8 rfl rfl)
theorem dX5_clock_35 : decode cX5_clock 35 = .ok (.ifCond .ne 11, 3) := dk_154 0 11 (dk_at dksX5_clock_1 11 rfl rfl)
theorem dX5_clock_38 : decode cX5_clock 38 = .ok (.aload_n 0, 1) := dk_42 (dk_at dksX5_clock_1 14 rfl rfl)
theorem dX5_clock_39 : decode cX5_clock 39 = .ok (.iload_n 1, 1) := dk_27 (dk_at dksX5_clock_1 15 rfl rfl)
theorem dX5_clock_40 : decode cX5_clock 40 = .ok (.invokevirtual 107, 3) := dk_182 0 107 (dk_at dksX5_clock_1 16 rfl rfl)
theorem dX5_clock_43 : decode cX5_clock 43 = .ok (.goto 4, 3) := dk_167 0 4 (dk_at dksX5_clock_1 19 rfl rfl)
theorem dX5_clock_46 : decode cX5_clock 46 = .ok (.iconst 0, 1) := dk_3 (dk_at dksX5_clock_1 22 rfl rfl)
theorem dX5_clock_47 : decode cX5_clock 47 = .ok (.ireturn, 1) := dk_172 (dk_at dksX5_clock_1 23 rfl rfl)
abbrev cX5_asks : ByteArray := prog_10_method_7_code
def yX5_asks : MethodName := ⟨RX5, "asks", "(I)I"⟩
def dkwX5_asks_1 : List UInt8 := [46, 4, 96, 184, 0, 103, 79, 42, 180, 0, 13, 27, 46, 172]
abbrev dktX5_asks_1 : List UInt8 := dkwX5_asks_1 ++ []
def dkwX5_asks_0 : List UInt8 := [42, 180, 0, 13, 27, 16, 10, 42, 180, 0, 100, 42, 180, 0, 7, 27, 46, 96, 104, 42, 180, 0, 13, 27]
abbrev dktX5_asks_0 : List UInt8 := dkwX5_asks_0 ++ dktX5_asks_1
theorem dksX5_asks_0 : cX5_asks.data.toList.drop 0 = dktX5_asks_0 := by decide +kernel
theorem dksX5_asks_1 : cX5_asks.data.toList.drop 24 = dktX5_asks_1 := dk_seg dksX5_asks_0 24 rfl rfl
theorem dX5_asks_0 : decode cX5_asks 0 = .ok (.aload_n 0, 1) := dk_42 (dk_at dksX5_asks_0 0 rfl rfl)
theorem dX5_asks_1 : decode cX5_asks 1 = .ok (.getfield 13, 3) := dk_180 0 13 (dk_at dksX5_asks_0 1 rfl rfl)
theorem dX5_asks_4 : decode cX5_asks 4 = .ok (.iload_n 1, 1) := dk_27 (dk_at dksX5_asks_0 4 rfl rfl)
theorem dX5_asks_5 : decode cX5_asks 5 = .ok (.bipush 10, 2) := dk_16 10 (dk_at dksX5_asks_0 5 rfl rfl)
theorem dX5_asks_7 : decode cX5_asks 7 = .ok (.aload_n 0, 1) := dk_42 (dk_at dksX5_asks_0 7 rfl rfl)
theorem dX5_asks_8 : decode cX5_asks 8 = .ok (.getfield 100, 3) := dk_180 0 100 (dk_at dksX5_asks_0 8 rfl rfl)
theorem dX5_asks_11 : decode cX5_asks 11 = .ok (.aload_n 0, 1) := dk_42 (dk_at dksX5_asks_0 11 rfl rfl)
theorem dX5_asks_12 : decode cX5_asks 12 = .ok (.getfield 7, 3) := dk_180 0 7 (dk_at dksX5_asks_0 12 rfl rfl)
theorem dX5_asks_15 : decode cX5_asks 15 = .ok (.iload_n 1, 1) := dk_27 (dk_at dksX5_asks_0 15 rfl rfl)
theorem dX5_asks_16 : decode cX5_asks 16 = .ok (.iaload, 1) := dk_46 (dk_at dksX5_asks_0 16 rfl rfl)
theorem dX5_asks_17 : decode cX5_asks 17 = .ok (.iadd, 1) := dk_96 (dk_at dksX5_asks_0 17 rfl rfl)
theorem dX5_asks_18 : decode cX5_asks 18 = .ok (.imul, 1) := dk_104 (dk_at dksX5_asks_0 18 rfl rfl)
theorem dX5_asks_19 : decode cX5_asks 19 = .ok (.aload_n 0, 1) := dk_42 (dk_at dksX5_asks_0 19 rfl rfl)
theorem dX5_asks_20 : decode cX5_asks 20 = .ok (.getfield 13, 3) := dk_180 0 13 (dk_at dksX5_asks_0 20 rfl rfl)
theorem dX5_asks_23 : decode cX5_asks 23 = .ok (.iload_n 1, 1) := dk_27 (dk_at dksX5_asks_0 23 rfl rfl)
theorem dX5_asks_24 : decode cX5_asks 24 = .ok (.iaload, 1) := dk_46 (dk_at dksX5_asks_1 0 rfl rfl)
theorem dX5_asks_25 : decode cX5_asks 25 = .ok (.iconst 1, 1) := dk_4 (dk_at dksX5_asks_1 1 rfl rfl)
theorem dX5_asks_26 : decode cX5_asks 26 = .ok (.iadd, 1) := dk_96 (dk_at dksX5_asks_1 2 rfl rfl)
theorem dX5_asks_27 : decode cX5_asks 27 = .ok (.invokestatic 103, 3) := dk_184 0 103 (dk_at dksX5_asks_1 3 rfl rfl)
theorem dX5_asks_30 : decode cX5_asks 30 = .ok (.iastore, 1) := dk_79 (dk_at dksX5_asks_1 6 rfl rfl)
theorem dX5_asks_31 : decode cX5_asks 31 = .ok (.aload_n 0, 1) := dk_42 (dk_at dksX5_asks_1 7 rfl rfl)
theorem dX5_asks_32 : decode cX5_asks 32 = .ok (.getfield 13, 3) := dk_180 0 13 (dk_at dksX5_asks_1 8 rfl rfl)
theorem dX5_asks_35 : decode cX5_asks 35 = .ok (.iload_n 1, 1) := dk_27 (dk_at dksX5_asks_1 11 rfl rfl)
theorem dX5_asks_36 : decode cX5_asks 36 = .ok (.iaload, 1) := dk_46 (dk_at dksX5_asks_1 12 rfl rfl)
theorem dX5_asks_37 : decode cX5_asks 37 = .ok (.ireturn, 1) := dk_172 (dk_at dksX5_asks_1 13 rfl rfl)
abbrev cX5_greater : ByteArray := prog_10_method_4_code
def yX5_greater : MethodName := ⟨RX5, "greater", "(II)I"⟩
def dkwX5_greater_0 : List UInt8 := [26, 27, 164, 0, 7, 26, 167, 0, 4, 27, 172]
abbrev dktX5_greater_0 : List UInt8 := dkwX5_greater_0 ++ []
theorem dksX5_greater_0 : cX5_greater.data.toList.drop 0 = dktX5_greater_0 := by decide +kernel
theorem dX5_greater_0 : decode cX5_greater 0 = .ok (.iload_n 0, 1) := dk_26 (dk_at dksX5_greater_0 0 rfl rfl)
theorem dX5_greater_1 : decode cX5_greater 1 = .ok (.iload_n 1, 1) := dk_27 (dk_at dksX5_greater_0 1 rfl rfl)
theorem dX5_greater_2 : decode cX5_greater 2 = .ok (.if_icmp .le 7, 3) := dk_164 0 7 (dk_at dksX5_greater_0 2 rfl rfl)
theorem dX5_greater_5 : decode cX5_greater 5 = .ok (.iload_n 0, 1) := dk_26 (dk_at dksX5_greater_0 5 rfl rfl)
theorem dX5_greater_6 : decode cX5_greater 6 = .ok (.goto 4, 3) := dk_167 0 4 (dk_at dksX5_greater_0 6 rfl rfl)
theorem dX5_greater_9 : decode cX5_greater 9 = .ok (.iload_n 1, 1) := dk_27 (dk_at dksX5_greater_0 9 rfl rfl)
theorem dX5_greater_10 : decode cX5_greater 10 = .ok (.ireturn, 1) := dk_172 (dk_at dksX5_greater_0 10 rfl rfl)
abbrev cX5_closed : ByteArray := prog_10_method_10_code
def yX5_closed : MethodName := ⟨RX5, "closed", "()I"⟩
def dkwX5_closed_0 : List UInt8 := [42, 3, 181, 0, 93, 42, 182, 0, 111, 172]
abbrev dktX5_closed_0 : List UInt8 := dkwX5_closed_0 ++ []
theorem dksX5_closed_0 : cX5_closed.data.toList.drop 0 = dktX5_closed_0 := by decide +kernel
theorem dX5_closed_0 : decode cX5_closed 0 = .ok (.aload_n 0, 1) := dk_42 (dk_at dksX5_closed_0 0 rfl rfl)
theorem dX5_closed_1 : decode cX5_closed 1 = .ok (.iconst 0, 1) := dk_3 (dk_at dksX5_closed_0 1 rfl rfl)
theorem dX5_closed_2 : decode cX5_closed 2 = .ok (.putfield 93, 3) := dk_181 0 93 (dk_at dksX5_closed_0 2 rfl rfl)
theorem dX5_closed_5 : decode cX5_closed 5 = .ok (.aload_n 0, 1) := dk_42 (dk_at dksX5_closed_0 5 rfl rfl)
theorem dX5_closed_6 : decode cX5_closed 6 = .ok (.invokevirtual 111, 3) := dk_182 0 111 (dk_at dksX5_closed_0 6 rfl rfl)
theorem dX5_closed_9 : decode cX5_closed 9 = .ok (.ireturn, 1) := dk_172 (dk_at dksX5_closed_0 9 rfl rfl)
abbrev cX5_closedNow : ByteArray := prog_10_method_9_code
def yX5_closedNow : MethodName := ⟨RX5, "closedNow", "()I"⟩
def dkwX5_closedNow_0 : List UInt8 := [3, 16, 10, 42, 180, 0, 100, 16, 15, 100, 104, 184, 0, 103, 172]
abbrev dktX5_closedNow_0 : List UInt8 := dkwX5_closedNow_0 ++ []
theorem dksX5_closedNow_0 : cX5_closedNow.data.toList.drop 0 = dktX5_closedNow_0 := by decide +kernel
theorem dX5_closedNow_0 : decode cX5_closedNow 0 = .ok (.iconst 0, 1) := dk_3 (dk_at dksX5_closedNow_0 0 rfl rfl)
theorem dX5_closedNow_1 : decode cX5_closedNow 1 = .ok (.bipush 10, 2) := dk_16 10 (dk_at dksX5_closedNow_0 1 rfl rfl)
theorem dX5_closedNow_3 : decode cX5_closedNow 3 = .ok (.aload_n 0, 1) := dk_42 (dk_at dksX5_closedNow_0 3 rfl rfl)
theorem dX5_closedNow_4 : decode cX5_closedNow 4 = .ok (.getfield 100, 3) := dk_180 0 100 (dk_at dksX5_closedNow_0 4 rfl rfl)
theorem dX5_closedNow_7 : decode cX5_closedNow 7 = .ok (.bipush 15, 2) := dk_16 15 (dk_at dksX5_closedNow_0 7 rfl rfl)
theorem dX5_closedNow_9 : decode cX5_closedNow 9 = .ok (.isub, 1) := dk_100 (dk_at dksX5_closedNow_0 9 rfl rfl)
theorem dX5_closedNow_10 : decode cX5_closedNow 10 = .ok (.imul, 1) := dk_104 (dk_at dksX5_closedNow_0 10 rfl rfl)
theorem dX5_closedNow_11 : decode cX5_closedNow 11 = .ok (.invokestatic 103, 3) := dk_184 0 103 (dk_at dksX5_closedNow_0 11 rfl rfl)
theorem dX5_closedNow_14 : decode cX5_closedNow 14 = .ok (.ireturn, 1) := dk_172 (dk_at dksX5_closedNow_0 14 rfl rfl)
abbrev cX5_down : ByteArray := prog_10_method_13_code
def yX5_down : MethodName := ⟨RX5, "down", "(I)I"⟩
def dkwX5_down_4 : List UInt8 := [132, 3, 1, 167, 255, 209, 28, 172]
abbrev dktX5_down_4 : List UInt8 := dkwX5_down_4 ++ []
def dkwX5_down_3 : List UInt8 := [2, 159, 0, 22, 42, 180, 0, 33, 29, 51, 154, 0, 13, 42, 180, 0, 30, 29, 2, 79, 132, 2, 1]
abbrev dktX5_down_3 : List UInt8 := dkwX5_down_3 ++ dktX5_down_4
def dkwX5_down_2 : List UInt8 := [61, 3, 62, 29, 16, 32, 162, 0, 47, 42, 29, 182, 0, 118, 27, 160, 0, 32, 42, 180, 0, 30, 29, 46]
abbrev dktX5_down_2 : List UInt8 := dkwX5_down_2 ++ dktX5_down_3
def dkwX5_down_1 : List UInt8 := [167, 0, 4, 3, 181, 0, 93, 42, 180, 0, 93, 158, 0, 5, 3, 172, 42, 180, 0, 16, 27, 4, 84, 3]
abbrev dktX5_down_1 : List UInt8 := dkwX5_down_1 ++ dktX5_down_2
def dkwX5_down_0 : List UInt8 := [42, 27, 3, 6, 184, 0, 96, 154, 0, 7, 4, 167, 0, 17, 42, 180, 0, 16, 27, 51, 153, 0, 7, 5]
abbrev dktX5_down_0 : List UInt8 := dkwX5_down_0 ++ dktX5_down_1
theorem dksX5_down_0 : cX5_down.data.toList.drop 0 = dktX5_down_0 := by decide +kernel
theorem dksX5_down_1 : cX5_down.data.toList.drop 24 = dktX5_down_1 := dk_seg dksX5_down_0 24 rfl rfl
theorem dksX5_down_2 : cX5_down.data.toList.drop 48 = dktX5_down_2 := dk_seg dksX5_down_1 24 rfl rfl
theorem dksX5_down_3 : cX5_down.data.toList.drop 72 = dktX5_down_3 := dk_seg dksX5_down_2 24 rfl rfl
theorem dksX5_down_4 : cX5_down.data.toList.drop 95 = dktX5_down_4 := dk_seg dksX5_down_3 23 rfl rfl
theorem dX5_down_0 : decode cX5_down 0 = .ok (.aload_n 0, 1) := dk_42 (dk_at dksX5_down_0 0 rfl rfl)
theorem dX5_down_1 : decode cX5_down 1 = .ok (.iload_n 1, 1) := dk_27 (dk_at dksX5_down_0 1 rfl rfl)
theorem dX5_down_2 : decode cX5_down 2 = .ok (.iconst 0, 1) := dk_3 (dk_at dksX5_down_0 2 rfl rfl)
theorem dX5_down_3 : decode cX5_down 3 = .ok (.iconst 3, 1) := dk_6 (dk_at dksX5_down_0 3 rfl rfl)
theorem dX5_down_4 : decode cX5_down 4 = .ok (.invokestatic 96, 3) := dk_184 0 96 (dk_at dksX5_down_0 4 rfl rfl)
theorem dX5_down_7 : decode cX5_down 7 = .ok (.ifCond .ne 7, 3) := dk_154 0 7 (dk_at dksX5_down_0 7 rfl rfl)
theorem dX5_down_10 : decode cX5_down 10 = .ok (.iconst 1, 1) := dk_4 (dk_at dksX5_down_0 10 rfl rfl)
theorem dX5_down_11 : decode cX5_down 11 = .ok (.goto 17, 3) := dk_167 0 17 (dk_at dksX5_down_0 11 rfl rfl)
theorem dX5_down_14 : decode cX5_down 14 = .ok (.aload_n 0, 1) := dk_42 (dk_at dksX5_down_0 14 rfl rfl)
theorem dX5_down_15 : decode cX5_down 15 = .ok (.getfield 16, 3) := dk_180 0 16 (dk_at dksX5_down_0 15 rfl rfl)
theorem dX5_down_18 : decode cX5_down 18 = .ok (.iload_n 1, 1) := dk_27 (dk_at dksX5_down_0 18 rfl rfl)
theorem dX5_down_19 : decode cX5_down 19 = .ok (.baload, 1) := dk_51 (dk_at dksX5_down_0 19 rfl rfl)
theorem dX5_down_20 : decode cX5_down 20 = .ok (.ifCond .eq 7, 3) := dk_153 0 7 (dk_at dksX5_down_0 20 rfl rfl)
theorem dX5_down_23 : decode cX5_down 23 = .ok (.iconst 2, 1) := dk_5 (dk_at dksX5_down_0 23 rfl rfl)
theorem dX5_down_24 : decode cX5_down 24 = .ok (.goto 4, 3) := dk_167 0 4 (dk_at dksX5_down_1 0 rfl rfl)
theorem dX5_down_27 : decode cX5_down 27 = .ok (.iconst 0, 1) := dk_3 (dk_at dksX5_down_1 3 rfl rfl)
theorem dX5_down_28 : decode cX5_down 28 = .ok (.putfield 93, 3) := dk_181 0 93 (dk_at dksX5_down_1 4 rfl rfl)
theorem dX5_down_31 : decode cX5_down 31 = .ok (.aload_n 0, 1) := dk_42 (dk_at dksX5_down_1 7 rfl rfl)
theorem dX5_down_32 : decode cX5_down 32 = .ok (.getfield 93, 3) := dk_180 0 93 (dk_at dksX5_down_1 8 rfl rfl)
theorem dX5_down_35 : decode cX5_down 35 = .ok (.ifCond .le 5, 3) := dk_158 0 5 (dk_at dksX5_down_1 11 rfl rfl)
theorem dX5_down_38 : decode cX5_down 38 = .ok (.iconst 0, 1) := dk_3 (dk_at dksX5_down_1 14 rfl rfl)
theorem dX5_down_39 : decode cX5_down 39 = .ok (.ireturn, 1) := dk_172 (dk_at dksX5_down_1 15 rfl rfl)
theorem dX5_down_40 : decode cX5_down 40 = .ok (.aload_n 0, 1) := dk_42 (dk_at dksX5_down_1 16 rfl rfl)
theorem dX5_down_41 : decode cX5_down 41 = .ok (.getfield 16, 3) := dk_180 0 16 (dk_at dksX5_down_1 17 rfl rfl)
theorem dX5_down_44 : decode cX5_down 44 = .ok (.iload_n 1, 1) := dk_27 (dk_at dksX5_down_1 20 rfl rfl)
theorem dX5_down_45 : decode cX5_down 45 = .ok (.iconst 1, 1) := dk_4 (dk_at dksX5_down_1 21 rfl rfl)
theorem dX5_down_46 : decode cX5_down 46 = .ok (.bastore, 1) := dk_84 (dk_at dksX5_down_1 22 rfl rfl)
theorem dX5_down_47 : decode cX5_down 47 = .ok (.iconst 0, 1) := dk_3 (dk_at dksX5_down_1 23 rfl rfl)
theorem dX5_down_48 : decode cX5_down 48 = .ok (.istore_n 2, 1) := dk_61 (dk_at dksX5_down_2 0 rfl rfl)
theorem dX5_down_49 : decode cX5_down 49 = .ok (.iconst 0, 1) := dk_3 (dk_at dksX5_down_2 1 rfl rfl)
theorem dX5_down_50 : decode cX5_down 50 = .ok (.istore_n 3, 1) := dk_62 (dk_at dksX5_down_2 2 rfl rfl)
theorem dX5_down_51 : decode cX5_down 51 = .ok (.iload_n 3, 1) := dk_29 (dk_at dksX5_down_2 3 rfl rfl)
theorem dX5_down_52 : decode cX5_down 52 = .ok (.bipush 32, 2) := dk_16 32 (dk_at dksX5_down_2 4 rfl rfl)
theorem dX5_down_54 : decode cX5_down 54 = .ok (.if_icmp .ge 47, 3) := dk_162 0 47 (dk_at dksX5_down_2 6 rfl rfl)
theorem dX5_down_57 : decode cX5_down 57 = .ok (.aload_n 0, 1) := dk_42 (dk_at dksX5_down_2 9 rfl rfl)
theorem dX5_down_58 : decode cX5_down 58 = .ok (.iload_n 3, 1) := dk_29 (dk_at dksX5_down_2 10 rfl rfl)
theorem dX5_down_59 : decode cX5_down 59 = .ok (.invokevirtual 118, 3) := dk_182 0 118 (dk_at dksX5_down_2 11 rfl rfl)
theorem dX5_down_62 : decode cX5_down 62 = .ok (.iload_n 1, 1) := dk_27 (dk_at dksX5_down_2 14 rfl rfl)
theorem dX5_down_63 : decode cX5_down 63 = .ok (.if_icmp .ne 32, 3) := dk_160 0 32 (dk_at dksX5_down_2 15 rfl rfl)
theorem dX5_down_66 : decode cX5_down 66 = .ok (.aload_n 0, 1) := dk_42 (dk_at dksX5_down_2 18 rfl rfl)
theorem dX5_down_67 : decode cX5_down 67 = .ok (.getfield 30, 3) := dk_180 0 30 (dk_at dksX5_down_2 19 rfl rfl)
theorem dX5_down_70 : decode cX5_down 70 = .ok (.iload_n 3, 1) := dk_29 (dk_at dksX5_down_2 22 rfl rfl)
theorem dX5_down_71 : decode cX5_down 71 = .ok (.iaload, 1) := dk_46 (dk_at dksX5_down_2 23 rfl rfl)
theorem dX5_down_72 : decode cX5_down 72 = .ok (.iconst (-1), 1) := dk_2 (dk_at dksX5_down_3 0 rfl rfl)
theorem dX5_down_73 : decode cX5_down 73 = .ok (.if_icmp .eq 22, 3) := dk_159 0 22 (dk_at dksX5_down_3 1 rfl rfl)
theorem dX5_down_76 : decode cX5_down 76 = .ok (.aload_n 0, 1) := dk_42 (dk_at dksX5_down_3 4 rfl rfl)
theorem dX5_down_77 : decode cX5_down 77 = .ok (.getfield 33, 3) := dk_180 0 33 (dk_at dksX5_down_3 5 rfl rfl)
theorem dX5_down_80 : decode cX5_down 80 = .ok (.iload_n 3, 1) := dk_29 (dk_at dksX5_down_3 8 rfl rfl)
theorem dX5_down_81 : decode cX5_down 81 = .ok (.baload, 1) := dk_51 (dk_at dksX5_down_3 9 rfl rfl)
theorem dX5_down_82 : decode cX5_down 82 = .ok (.ifCond .ne 13, 3) := dk_154 0 13 (dk_at dksX5_down_3 10 rfl rfl)
theorem dX5_down_85 : decode cX5_down 85 = .ok (.aload_n 0, 1) := dk_42 (dk_at dksX5_down_3 13 rfl rfl)
theorem dX5_down_86 : decode cX5_down 86 = .ok (.getfield 30, 3) := dk_180 0 30 (dk_at dksX5_down_3 14 rfl rfl)
theorem dX5_down_89 : decode cX5_down 89 = .ok (.iload_n 3, 1) := dk_29 (dk_at dksX5_down_3 17 rfl rfl)
theorem dX5_down_90 : decode cX5_down 90 = .ok (.iconst (-1), 1) := dk_2 (dk_at dksX5_down_3 18 rfl rfl)
theorem dX5_down_91 : decode cX5_down 91 = .ok (.iastore, 1) := dk_79 (dk_at dksX5_down_3 19 rfl rfl)
theorem dX5_down_92 : decode cX5_down 92 = .ok (.iinc 2 1, 3) := dk_132 2 1 (dk_at dksX5_down_3 20 rfl rfl)
theorem dX5_down_95 : decode cX5_down 95 = .ok (.iinc 3 1, 3) := dk_132 3 1 (dk_at dksX5_down_4 0 rfl rfl)
theorem dX5_down_98 : decode cX5_down 98 = .ok (.goto (-47), 3) := dk_167 255 209 (dk_at dksX5_down_4 3 rfl rfl)
theorem dX5_down_101 : decode cX5_down 101 = .ok (.iload_n 2, 1) := dk_28 (dk_at dksX5_down_4 6 rfl rfl)
theorem dX5_down_102 : decode cX5_down 102 = .ok (.ireturn, 1) := dk_172 (dk_at dksX5_down_4 7 rfl rfl)
abbrev cX5_nodeOf : ByteArray := prog_10_method_12_code
def yX5_nodeOf : MethodName := ⟨RX5, "nodeOf", "(I)I"⟩
def dkwX5_nodeOf_0 : List UInt8 := [42, 180, 0, 27, 42, 27, 182, 0, 115, 46, 172]
abbrev dktX5_nodeOf_0 : List UInt8 := dkwX5_nodeOf_0 ++ []
theorem dksX5_nodeOf_0 : cX5_nodeOf.data.toList.drop 0 = dktX5_nodeOf_0 := by decide +kernel
theorem dX5_nodeOf_0 : decode cX5_nodeOf 0 = .ok (.aload_n 0, 1) := dk_42 (dk_at dksX5_nodeOf_0 0 rfl rfl)
theorem dX5_nodeOf_1 : decode cX5_nodeOf 1 = .ok (.getfield 27, 3) := dk_180 0 27 (dk_at dksX5_nodeOf_0 1 rfl rfl)
theorem dX5_nodeOf_4 : decode cX5_nodeOf 4 = .ok (.aload_n 0, 1) := dk_42 (dk_at dksX5_nodeOf_0 4 rfl rfl)
theorem dX5_nodeOf_5 : decode cX5_nodeOf 5 = .ok (.iload_n 1, 1) := dk_27 (dk_at dksX5_nodeOf_0 5 rfl rfl)
theorem dX5_nodeOf_6 : decode cX5_nodeOf 6 = .ok (.invokevirtual 115, 3) := dk_182 0 115 (dk_at dksX5_nodeOf_0 6 rfl rfl)
theorem dX5_nodeOf_9 : decode cX5_nodeOf 9 = .ok (.iaload, 1) := dk_46 (dk_at dksX5_nodeOf_0 9 rfl rfl)
theorem dX5_nodeOf_10 : decode cX5_nodeOf 10 = .ok (.ireturn, 1) := dk_172 (dk_at dksX5_nodeOf_0 10 rfl rfl)
abbrev cX5_rangeOf : ByteArray := prog_10_method_11_code
def yX5_rangeOf : MethodName := ⟨RX5, "rangeOf", "(I)I"⟩
def dkwX5_rangeOf_1 : List UInt8 := [132, 2, 1, 167, 255, 231, 28, 172]
abbrev dktX5_rangeOf_1 : List UInt8 := dkwX5_rangeOf_1 ++ []
def dkwX5_rangeOf_0 : List UInt8 := [3, 61, 28, 4, 96, 42, 180, 0, 20, 162, 0, 21, 42, 180, 0, 24, 28, 4, 96, 46, 27, 163, 0, 9]
abbrev dktX5_rangeOf_0 : List UInt8 := dkwX5_rangeOf_0 ++ dktX5_rangeOf_1
theorem dksX5_rangeOf_0 : cX5_rangeOf.data.toList.drop 0 = dktX5_rangeOf_0 := by decide +kernel
theorem dksX5_rangeOf_1 : cX5_rangeOf.data.toList.drop 24 = dktX5_rangeOf_1 := dk_seg dksX5_rangeOf_0 24 rfl rfl
theorem dX5_rangeOf_0 : decode cX5_rangeOf 0 = .ok (.iconst 0, 1) := dk_3 (dk_at dksX5_rangeOf_0 0 rfl rfl)
theorem dX5_rangeOf_1 : decode cX5_rangeOf 1 = .ok (.istore_n 2, 1) := dk_61 (dk_at dksX5_rangeOf_0 1 rfl rfl)
theorem dX5_rangeOf_2 : decode cX5_rangeOf 2 = .ok (.iload_n 2, 1) := dk_28 (dk_at dksX5_rangeOf_0 2 rfl rfl)
theorem dX5_rangeOf_3 : decode cX5_rangeOf 3 = .ok (.iconst 1, 1) := dk_4 (dk_at dksX5_rangeOf_0 3 rfl rfl)
theorem dX5_rangeOf_4 : decode cX5_rangeOf 4 = .ok (.iadd, 1) := dk_96 (dk_at dksX5_rangeOf_0 4 rfl rfl)
theorem dX5_rangeOf_5 : decode cX5_rangeOf 5 = .ok (.aload_n 0, 1) := dk_42 (dk_at dksX5_rangeOf_0 5 rfl rfl)
theorem dX5_rangeOf_6 : decode cX5_rangeOf 6 = .ok (.getfield 20, 3) := dk_180 0 20 (dk_at dksX5_rangeOf_0 6 rfl rfl)
theorem dX5_rangeOf_9 : decode cX5_rangeOf 9 = .ok (.if_icmp .ge 21, 3) := dk_162 0 21 (dk_at dksX5_rangeOf_0 9 rfl rfl)
theorem dX5_rangeOf_12 : decode cX5_rangeOf 12 = .ok (.aload_n 0, 1) := dk_42 (dk_at dksX5_rangeOf_0 12 rfl rfl)
theorem dX5_rangeOf_13 : decode cX5_rangeOf 13 = .ok (.getfield 24, 3) := dk_180 0 24 (dk_at dksX5_rangeOf_0 13 rfl rfl)
theorem dX5_rangeOf_16 : decode cX5_rangeOf 16 = .ok (.iload_n 2, 1) := dk_28 (dk_at dksX5_rangeOf_0 16 rfl rfl)
theorem dX5_rangeOf_17 : decode cX5_rangeOf 17 = .ok (.iconst 1, 1) := dk_4 (dk_at dksX5_rangeOf_0 17 rfl rfl)
theorem dX5_rangeOf_18 : decode cX5_rangeOf 18 = .ok (.iadd, 1) := dk_96 (dk_at dksX5_rangeOf_0 18 rfl rfl)
theorem dX5_rangeOf_19 : decode cX5_rangeOf 19 = .ok (.iaload, 1) := dk_46 (dk_at dksX5_rangeOf_0 19 rfl rfl)
theorem dX5_rangeOf_20 : decode cX5_rangeOf 20 = .ok (.iload_n 1, 1) := dk_27 (dk_at dksX5_rangeOf_0 20 rfl rfl)
theorem dX5_rangeOf_21 : decode cX5_rangeOf 21 = .ok (.if_icmp .gt 9, 3) := dk_163 0 9 (dk_at dksX5_rangeOf_0 21 rfl rfl)
theorem dX5_rangeOf_24 : decode cX5_rangeOf 24 = .ok (.iinc 2 1, 3) := dk_132 2 1 (dk_at dksX5_rangeOf_1 0 rfl rfl)
theorem dX5_rangeOf_27 : decode cX5_rangeOf 27 = .ok (.goto (-25), 3) := dk_167 255 231 (dk_at dksX5_rangeOf_1 3 rfl rfl)
theorem dX5_rangeOf_30 : decode cX5_rangeOf 30 = .ok (.iload_n 2, 1) := dk_28 (dk_at dksX5_rangeOf_1 6 rfl rfl)
theorem dX5_rangeOf_31 : decode cX5_rangeOf 31 = .ok (.ireturn, 1) := dk_172 (dk_at dksX5_rangeOf_1 7 rfl rfl)
abbrev cX5_up : ByteArray := prog_10_method_15_code
def yX5_up : MethodName := ⟨RX5, "up", "(I)I"⟩
def dkwX5_up_3 : List UInt8 := [28, 182, 0, 121, 132, 3, 1, 167, 255, 232, 28, 172]
abbrev dktX5_up_3 : List UInt8 := dkwX5_up_3 ++ []
def dkwX5_up_2 : List UInt8 := [27, 182, 0, 107, 61, 3, 62, 29, 16, 32, 162, 0, 24, 42, 29, 182, 0, 118, 27, 160, 0, 9, 42, 29]
abbrev dktX5_up_2 : List UInt8 := dkwX5_up_2 ++ dktX5_up_3
def dkwX5_up_1 : List UInt8 := [167, 0, 4, 3, 181, 0, 93, 42, 180, 0, 93, 158, 0, 5, 3, 172, 42, 180, 0, 16, 27, 3, 84, 42]
abbrev dktX5_up_1 : List UInt8 := dkwX5_up_1 ++ dktX5_up_2
def dkwX5_up_0 : List UInt8 := [42, 27, 3, 6, 184, 0, 96, 154, 0, 7, 4, 167, 0, 17, 42, 180, 0, 16, 27, 51, 154, 0, 7, 5]
abbrev dktX5_up_0 : List UInt8 := dkwX5_up_0 ++ dktX5_up_1
theorem dksX5_up_0 : cX5_up.data.toList.drop 0 = dktX5_up_0 := by decide +kernel
theorem dksX5_up_1 : cX5_up.data.toList.drop 24 = dktX5_up_1 := dk_seg dksX5_up_0 24 rfl rfl
theorem dksX5_up_2 : cX5_up.data.toList.drop 48 = dktX5_up_2 := dk_seg dksX5_up_1 24 rfl rfl
theorem dksX5_up_3 : cX5_up.data.toList.drop 72 = dktX5_up_3 := dk_seg dksX5_up_2 24 rfl rfl
theorem dX5_up_0 : decode cX5_up 0 = .ok (.aload_n 0, 1) := dk_42 (dk_at dksX5_up_0 0 rfl rfl)
theorem dX5_up_1 : decode cX5_up 1 = .ok (.iload_n 1, 1) := dk_27 (dk_at dksX5_up_0 1 rfl rfl)
theorem dX5_up_2 : decode cX5_up 2 = .ok (.iconst 0, 1) := dk_3 (dk_at dksX5_up_0 2 rfl rfl)
theorem dX5_up_3 : decode cX5_up 3 = .ok (.iconst 3, 1) := dk_6 (dk_at dksX5_up_0 3 rfl rfl)
theorem dX5_up_4 : decode cX5_up 4 = .ok (.invokestatic 96, 3) := dk_184 0 96 (dk_at dksX5_up_0 4 rfl rfl)
theorem dX5_up_7 : decode cX5_up 7 = .ok (.ifCond .ne 7, 3) := dk_154 0 7 (dk_at dksX5_up_0 7 rfl rfl)
theorem dX5_up_10 : decode cX5_up 10 = .ok (.iconst 1, 1) := dk_4 (dk_at dksX5_up_0 10 rfl rfl)
theorem dX5_up_11 : decode cX5_up 11 = .ok (.goto 17, 3) := dk_167 0 17 (dk_at dksX5_up_0 11 rfl rfl)
theorem dX5_up_14 : decode cX5_up 14 = .ok (.aload_n 0, 1) := dk_42 (dk_at dksX5_up_0 14 rfl rfl)
theorem dX5_up_15 : decode cX5_up 15 = .ok (.getfield 16, 3) := dk_180 0 16 (dk_at dksX5_up_0 15 rfl rfl)
theorem dX5_up_18 : decode cX5_up 18 = .ok (.iload_n 1, 1) := dk_27 (dk_at dksX5_up_0 18 rfl rfl)
theorem dX5_up_19 : decode cX5_up 19 = .ok (.baload, 1) := dk_51 (dk_at dksX5_up_0 19 rfl rfl)
theorem dX5_up_20 : decode cX5_up 20 = .ok (.ifCond .ne 7, 3) := dk_154 0 7 (dk_at dksX5_up_0 20 rfl rfl)
theorem dX5_up_23 : decode cX5_up 23 = .ok (.iconst 2, 1) := dk_5 (dk_at dksX5_up_0 23 rfl rfl)
theorem dX5_up_24 : decode cX5_up 24 = .ok (.goto 4, 3) := dk_167 0 4 (dk_at dksX5_up_1 0 rfl rfl)
theorem dX5_up_27 : decode cX5_up 27 = .ok (.iconst 0, 1) := dk_3 (dk_at dksX5_up_1 3 rfl rfl)
theorem dX5_up_28 : decode cX5_up 28 = .ok (.putfield 93, 3) := dk_181 0 93 (dk_at dksX5_up_1 4 rfl rfl)
theorem dX5_up_31 : decode cX5_up 31 = .ok (.aload_n 0, 1) := dk_42 (dk_at dksX5_up_1 7 rfl rfl)
theorem dX5_up_32 : decode cX5_up 32 = .ok (.getfield 93, 3) := dk_180 0 93 (dk_at dksX5_up_1 8 rfl rfl)
theorem dX5_up_35 : decode cX5_up 35 = .ok (.ifCond .le 5, 3) := dk_158 0 5 (dk_at dksX5_up_1 11 rfl rfl)
theorem dX5_up_38 : decode cX5_up 38 = .ok (.iconst 0, 1) := dk_3 (dk_at dksX5_up_1 14 rfl rfl)
theorem dX5_up_39 : decode cX5_up 39 = .ok (.ireturn, 1) := dk_172 (dk_at dksX5_up_1 15 rfl rfl)
theorem dX5_up_40 : decode cX5_up 40 = .ok (.aload_n 0, 1) := dk_42 (dk_at dksX5_up_1 16 rfl rfl)
theorem dX5_up_41 : decode cX5_up 41 = .ok (.getfield 16, 3) := dk_180 0 16 (dk_at dksX5_up_1 17 rfl rfl)
theorem dX5_up_44 : decode cX5_up 44 = .ok (.iload_n 1, 1) := dk_27 (dk_at dksX5_up_1 20 rfl rfl)
theorem dX5_up_45 : decode cX5_up 45 = .ok (.iconst 0, 1) := dk_3 (dk_at dksX5_up_1 21 rfl rfl)
theorem dX5_up_46 : decode cX5_up 46 = .ok (.bastore, 1) := dk_84 (dk_at dksX5_up_1 22 rfl rfl)
theorem dX5_up_47 : decode cX5_up 47 = .ok (.aload_n 0, 1) := dk_42 (dk_at dksX5_up_1 23 rfl rfl)
theorem dX5_up_48 : decode cX5_up 48 = .ok (.iload_n 1, 1) := dk_27 (dk_at dksX5_up_2 0 rfl rfl)
theorem dX5_up_49 : decode cX5_up 49 = .ok (.invokevirtual 107, 3) := dk_182 0 107 (dk_at dksX5_up_2 1 rfl rfl)
theorem dX5_up_52 : decode cX5_up 52 = .ok (.istore_n 2, 1) := dk_61 (dk_at dksX5_up_2 4 rfl rfl)
theorem dX5_up_53 : decode cX5_up 53 = .ok (.iconst 0, 1) := dk_3 (dk_at dksX5_up_2 5 rfl rfl)
theorem dX5_up_54 : decode cX5_up 54 = .ok (.istore_n 3, 1) := dk_62 (dk_at dksX5_up_2 6 rfl rfl)
theorem dX5_up_55 : decode cX5_up 55 = .ok (.iload_n 3, 1) := dk_29 (dk_at dksX5_up_2 7 rfl rfl)
theorem dX5_up_56 : decode cX5_up 56 = .ok (.bipush 32, 2) := dk_16 32 (dk_at dksX5_up_2 8 rfl rfl)
theorem dX5_up_58 : decode cX5_up 58 = .ok (.if_icmp .ge 24, 3) := dk_162 0 24 (dk_at dksX5_up_2 10 rfl rfl)
theorem dX5_up_61 : decode cX5_up 61 = .ok (.aload_n 0, 1) := dk_42 (dk_at dksX5_up_2 13 rfl rfl)
theorem dX5_up_62 : decode cX5_up 62 = .ok (.iload_n 3, 1) := dk_29 (dk_at dksX5_up_2 14 rfl rfl)
theorem dX5_up_63 : decode cX5_up 63 = .ok (.invokevirtual 118, 3) := dk_182 0 118 (dk_at dksX5_up_2 15 rfl rfl)
theorem dX5_up_66 : decode cX5_up 66 = .ok (.iload_n 1, 1) := dk_27 (dk_at dksX5_up_2 18 rfl rfl)
theorem dX5_up_67 : decode cX5_up 67 = .ok (.if_icmp .ne 9, 3) := dk_160 0 9 (dk_at dksX5_up_2 19 rfl rfl)
theorem dX5_up_70 : decode cX5_up 70 = .ok (.aload_n 0, 1) := dk_42 (dk_at dksX5_up_2 22 rfl rfl)
theorem dX5_up_71 : decode cX5_up 71 = .ok (.iload_n 3, 1) := dk_29 (dk_at dksX5_up_2 23 rfl rfl)
theorem dX5_up_72 : decode cX5_up 72 = .ok (.iload_n 2, 1) := dk_28 (dk_at dksX5_up_3 0 rfl rfl)
theorem dX5_up_73 : decode cX5_up 73 = .ok (.invokevirtual 121, 3) := dk_182 0 121 (dk_at dksX5_up_3 1 rfl rfl)
theorem dX5_up_76 : decode cX5_up 76 = .ok (.iinc 3 1, 3) := dk_132 3 1 (dk_at dksX5_up_3 4 rfl rfl)
theorem dX5_up_79 : decode cX5_up 79 = .ok (.goto (-24), 3) := dk_167 255 232 (dk_at dksX5_up_3 7 rfl rfl)
theorem dX5_up_82 : decode cX5_up 82 = .ok (.iload_n 2, 1) := dk_28 (dk_at dksX5_up_3 10 rfl rfl)
theorem dX5_up_83 : decode cX5_up 83 = .ok (.ireturn, 1) := dk_172 (dk_at dksX5_up_3 11 rfl rfl)
abbrev cX5_covers : ByteArray := prog_10_method_14_code
def yX5_covers : MethodName := ⟨RX5, "covers", "(II)V"⟩
def dkwX5_covers_1 : List UInt8 := [79, 177]
abbrev dktX5_covers_1 : List UInt8 := dkwX5_covers_1 ++ []
def dkwX5_covers_0 : List UInt8 := [28, 42, 180, 0, 39, 27, 46, 164, 0, 18, 42, 180, 0, 39, 27, 28, 79, 42, 180, 0, 42, 27, 16, 254]
abbrev dktX5_covers_0 : List UInt8 := dkwX5_covers_0 ++ dktX5_covers_1
theorem dksX5_covers_0 : cX5_covers.data.toList.drop 0 = dktX5_covers_0 := by decide +kernel
theorem dksX5_covers_1 : cX5_covers.data.toList.drop 24 = dktX5_covers_1 := dk_seg dksX5_covers_0 24 rfl rfl
theorem dX5_covers_0 : decode cX5_covers 0 = .ok (.iload_n 2, 1) := dk_28 (dk_at dksX5_covers_0 0 rfl rfl)
theorem dX5_covers_1 : decode cX5_covers 1 = .ok (.aload_n 0, 1) := dk_42 (dk_at dksX5_covers_0 1 rfl rfl)
theorem dX5_covers_2 : decode cX5_covers 2 = .ok (.getfield 39, 3) := dk_180 0 39 (dk_at dksX5_covers_0 2 rfl rfl)
theorem dX5_covers_5 : decode cX5_covers 5 = .ok (.iload_n 1, 1) := dk_27 (dk_at dksX5_covers_0 5 rfl rfl)
theorem dX5_covers_6 : decode cX5_covers 6 = .ok (.iaload, 1) := dk_46 (dk_at dksX5_covers_0 6 rfl rfl)
theorem dX5_covers_7 : decode cX5_covers 7 = .ok (.if_icmp .le 18, 3) := dk_164 0 18 (dk_at dksX5_covers_0 7 rfl rfl)
theorem dX5_covers_10 : decode cX5_covers 10 = .ok (.aload_n 0, 1) := dk_42 (dk_at dksX5_covers_0 10 rfl rfl)
theorem dX5_covers_11 : decode cX5_covers 11 = .ok (.getfield 39, 3) := dk_180 0 39 (dk_at dksX5_covers_0 11 rfl rfl)
theorem dX5_covers_14 : decode cX5_covers 14 = .ok (.iload_n 1, 1) := dk_27 (dk_at dksX5_covers_0 14 rfl rfl)
theorem dX5_covers_15 : decode cX5_covers 15 = .ok (.iload_n 2, 1) := dk_28 (dk_at dksX5_covers_0 15 rfl rfl)
theorem dX5_covers_16 : decode cX5_covers 16 = .ok (.iastore, 1) := dk_79 (dk_at dksX5_covers_0 16 rfl rfl)
theorem dX5_covers_17 : decode cX5_covers 17 = .ok (.aload_n 0, 1) := dk_42 (dk_at dksX5_covers_0 17 rfl rfl)
theorem dX5_covers_18 : decode cX5_covers 18 = .ok (.getfield 42, 3) := dk_180 0 42 (dk_at dksX5_covers_0 18 rfl rfl)
theorem dX5_covers_21 : decode cX5_covers 21 = .ok (.iload_n 1, 1) := dk_27 (dk_at dksX5_covers_0 21 rfl rfl)
theorem dX5_covers_22 : decode cX5_covers 22 = .ok (.bipush (-2), 2) := dk_16 254 (dk_at dksX5_covers_0 22 rfl rfl)
theorem dX5_covers_24 : decode cX5_covers 24 = .ok (.iastore, 1) := dk_79 (dk_at dksX5_covers_1 0 rfl rfl)
theorem dX5_covers_25 : decode cX5_covers 25 = .ok (.return_, 1) := dk_177 (dk_at dksX5_covers_1 1 rfl rfl)
abbrev cX5_sync : ByteArray := prog_10_method_16_code
def yX5_sync : MethodName := ⟨RX5, "sync", "(I)I"⟩
def dkwX5_sync_3 : List UInt8 := [51, 154, 0, 13, 42, 180, 0, 33, 29, 4, 84, 132, 2, 1, 132, 3, 1, 167, 255, 202, 28, 172]
abbrev dktX5_sync_3 : List UInt8 := dkwX5_sync_3 ++ []
def dkwX5_sync_2 : List UInt8 := [42, 29, 182, 0, 118, 27, 160, 0, 32, 42, 180, 0, 30, 29, 46, 2, 159, 0, 22, 42, 180, 0, 33, 29]
abbrev dktX5_sync_2 : List UInt8 := dkwX5_sync_2 ++ dktX5_sync_3
def dkwX5_sync_1 : List UInt8 := [167, 0, 4, 3, 181, 0, 93, 3, 61, 3, 62, 29, 16, 32, 162, 0, 54, 42, 180, 0, 93, 154, 0, 47]
abbrev dktX5_sync_1 : List UInt8 := dkwX5_sync_1 ++ dktX5_sync_2
def dkwX5_sync_0 : List UInt8 := [42, 27, 3, 6, 184, 0, 96, 154, 0, 7, 4, 167, 0, 17, 42, 180, 0, 16, 27, 51, 153, 0, 7, 5]
abbrev dktX5_sync_0 : List UInt8 := dkwX5_sync_0 ++ dktX5_sync_1
theorem dksX5_sync_0 : cX5_sync.data.toList.drop 0 = dktX5_sync_0 := by decide +kernel
theorem dksX5_sync_1 : cX5_sync.data.toList.drop 24 = dktX5_sync_1 := dk_seg dksX5_sync_0 24 rfl rfl
theorem dksX5_sync_2 : cX5_sync.data.toList.drop 48 = dktX5_sync_2 := dk_seg dksX5_sync_1 24 rfl rfl
theorem dksX5_sync_3 : cX5_sync.data.toList.drop 72 = dktX5_sync_3 := dk_seg dksX5_sync_2 24 rfl rfl
theorem dX5_sync_0 : decode cX5_sync 0 = .ok (.aload_n 0, 1) := dk_42 (dk_at dksX5_sync_0 0 rfl rfl)
theorem dX5_sync_1 : decode cX5_sync 1 = .ok (.iload_n 1, 1) := dk_27 (dk_at dksX5_sync_0 1 rfl rfl)
theorem dX5_sync_2 : decode cX5_sync 2 = .ok (.iconst 0, 1) := dk_3 (dk_at dksX5_sync_0 2 rfl rfl)
theorem dX5_sync_3 : decode cX5_sync 3 = .ok (.iconst 3, 1) := dk_6 (dk_at dksX5_sync_0 3 rfl rfl)
theorem dX5_sync_4 : decode cX5_sync 4 = .ok (.invokestatic 96, 3) := dk_184 0 96 (dk_at dksX5_sync_0 4 rfl rfl)
theorem dX5_sync_7 : decode cX5_sync 7 = .ok (.ifCond .ne 7, 3) := dk_154 0 7 (dk_at dksX5_sync_0 7 rfl rfl)
theorem dX5_sync_10 : decode cX5_sync 10 = .ok (.iconst 1, 1) := dk_4 (dk_at dksX5_sync_0 10 rfl rfl)
theorem dX5_sync_11 : decode cX5_sync 11 = .ok (.goto 17, 3) := dk_167 0 17 (dk_at dksX5_sync_0 11 rfl rfl)
theorem dX5_sync_14 : decode cX5_sync 14 = .ok (.aload_n 0, 1) := dk_42 (dk_at dksX5_sync_0 14 rfl rfl)
theorem dX5_sync_15 : decode cX5_sync 15 = .ok (.getfield 16, 3) := dk_180 0 16 (dk_at dksX5_sync_0 15 rfl rfl)
theorem dX5_sync_18 : decode cX5_sync 18 = .ok (.iload_n 1, 1) := dk_27 (dk_at dksX5_sync_0 18 rfl rfl)
theorem dX5_sync_19 : decode cX5_sync 19 = .ok (.baload, 1) := dk_51 (dk_at dksX5_sync_0 19 rfl rfl)
theorem dX5_sync_20 : decode cX5_sync 20 = .ok (.ifCond .eq 7, 3) := dk_153 0 7 (dk_at dksX5_sync_0 20 rfl rfl)
theorem dX5_sync_23 : decode cX5_sync 23 = .ok (.iconst 2, 1) := dk_5 (dk_at dksX5_sync_0 23 rfl rfl)
theorem dX5_sync_24 : decode cX5_sync 24 = .ok (.goto 4, 3) := dk_167 0 4 (dk_at dksX5_sync_1 0 rfl rfl)
theorem dX5_sync_27 : decode cX5_sync 27 = .ok (.iconst 0, 1) := dk_3 (dk_at dksX5_sync_1 3 rfl rfl)
theorem dX5_sync_28 : decode cX5_sync 28 = .ok (.putfield 93, 3) := dk_181 0 93 (dk_at dksX5_sync_1 4 rfl rfl)
theorem dX5_sync_31 : decode cX5_sync 31 = .ok (.iconst 0, 1) := dk_3 (dk_at dksX5_sync_1 7 rfl rfl)
theorem dX5_sync_32 : decode cX5_sync 32 = .ok (.istore_n 2, 1) := dk_61 (dk_at dksX5_sync_1 8 rfl rfl)
theorem dX5_sync_33 : decode cX5_sync 33 = .ok (.iconst 0, 1) := dk_3 (dk_at dksX5_sync_1 9 rfl rfl)
theorem dX5_sync_34 : decode cX5_sync 34 = .ok (.istore_n 3, 1) := dk_62 (dk_at dksX5_sync_1 10 rfl rfl)
theorem dX5_sync_35 : decode cX5_sync 35 = .ok (.iload_n 3, 1) := dk_29 (dk_at dksX5_sync_1 11 rfl rfl)
theorem dX5_sync_36 : decode cX5_sync 36 = .ok (.bipush 32, 2) := dk_16 32 (dk_at dksX5_sync_1 12 rfl rfl)
theorem dX5_sync_38 : decode cX5_sync 38 = .ok (.if_icmp .ge 54, 3) := dk_162 0 54 (dk_at dksX5_sync_1 14 rfl rfl)
theorem dX5_sync_41 : decode cX5_sync 41 = .ok (.aload_n 0, 1) := dk_42 (dk_at dksX5_sync_1 17 rfl rfl)
theorem dX5_sync_42 : decode cX5_sync 42 = .ok (.getfield 93, 3) := dk_180 0 93 (dk_at dksX5_sync_1 18 rfl rfl)
theorem dX5_sync_45 : decode cX5_sync 45 = .ok (.ifCond .ne 47, 3) := dk_154 0 47 (dk_at dksX5_sync_1 21 rfl rfl)
theorem dX5_sync_48 : decode cX5_sync 48 = .ok (.aload_n 0, 1) := dk_42 (dk_at dksX5_sync_2 0 rfl rfl)
theorem dX5_sync_49 : decode cX5_sync 49 = .ok (.iload_n 3, 1) := dk_29 (dk_at dksX5_sync_2 1 rfl rfl)
theorem dX5_sync_50 : decode cX5_sync 50 = .ok (.invokevirtual 118, 3) := dk_182 0 118 (dk_at dksX5_sync_2 2 rfl rfl)
theorem dX5_sync_53 : decode cX5_sync 53 = .ok (.iload_n 1, 1) := dk_27 (dk_at dksX5_sync_2 5 rfl rfl)
theorem dX5_sync_54 : decode cX5_sync 54 = .ok (.if_icmp .ne 32, 3) := dk_160 0 32 (dk_at dksX5_sync_2 6 rfl rfl)
theorem dX5_sync_57 : decode cX5_sync 57 = .ok (.aload_n 0, 1) := dk_42 (dk_at dksX5_sync_2 9 rfl rfl)
theorem dX5_sync_58 : decode cX5_sync 58 = .ok (.getfield 30, 3) := dk_180 0 30 (dk_at dksX5_sync_2 10 rfl rfl)
theorem dX5_sync_61 : decode cX5_sync 61 = .ok (.iload_n 3, 1) := dk_29 (dk_at dksX5_sync_2 13 rfl rfl)
theorem dX5_sync_62 : decode cX5_sync 62 = .ok (.iaload, 1) := dk_46 (dk_at dksX5_sync_2 14 rfl rfl)
theorem dX5_sync_63 : decode cX5_sync 63 = .ok (.iconst (-1), 1) := dk_2 (dk_at dksX5_sync_2 15 rfl rfl)
theorem dX5_sync_64 : decode cX5_sync 64 = .ok (.if_icmp .eq 22, 3) := dk_159 0 22 (dk_at dksX5_sync_2 16 rfl rfl)
theorem dX5_sync_67 : decode cX5_sync 67 = .ok (.aload_n 0, 1) := dk_42 (dk_at dksX5_sync_2 19 rfl rfl)
theorem dX5_sync_68 : decode cX5_sync 68 = .ok (.getfield 33, 3) := dk_180 0 33 (dk_at dksX5_sync_2 20 rfl rfl)
theorem dX5_sync_71 : decode cX5_sync 71 = .ok (.iload_n 3, 1) := dk_29 (dk_at dksX5_sync_2 23 rfl rfl)
theorem dX5_sync_72 : decode cX5_sync 72 = .ok (.baload, 1) := dk_51 (dk_at dksX5_sync_3 0 rfl rfl)
theorem dX5_sync_73 : decode cX5_sync 73 = .ok (.ifCond .ne 13, 3) := dk_154 0 13 (dk_at dksX5_sync_3 1 rfl rfl)
theorem dX5_sync_76 : decode cX5_sync 76 = .ok (.aload_n 0, 1) := dk_42 (dk_at dksX5_sync_3 4 rfl rfl)
theorem dX5_sync_77 : decode cX5_sync 77 = .ok (.getfield 33, 3) := dk_180 0 33 (dk_at dksX5_sync_3 5 rfl rfl)
theorem dX5_sync_80 : decode cX5_sync 80 = .ok (.iload_n 3, 1) := dk_29 (dk_at dksX5_sync_3 8 rfl rfl)
theorem dX5_sync_81 : decode cX5_sync 81 = .ok (.iconst 1, 1) := dk_4 (dk_at dksX5_sync_3 9 rfl rfl)
theorem dX5_sync_82 : decode cX5_sync 82 = .ok (.bastore, 1) := dk_84 (dk_at dksX5_sync_3 10 rfl rfl)
theorem dX5_sync_83 : decode cX5_sync 83 = .ok (.iinc 2 1, 3) := dk_132 2 1 (dk_at dksX5_sync_3 11 rfl rfl)
theorem dX5_sync_86 : decode cX5_sync 86 = .ok (.iinc 3 1, 3) := dk_132 3 1 (dk_at dksX5_sync_3 14 rfl rfl)
theorem dX5_sync_89 : decode cX5_sync 89 = .ok (.goto (-54), 3) := dk_167 255 202 (dk_at dksX5_sync_3 17 rfl rfl)
theorem dX5_sync_92 : decode cX5_sync 92 = .ok (.iload_n 2, 1) := dk_28 (dk_at dksX5_sync_3 20 rfl rfl)
theorem dX5_sync_93 : decode cX5_sync 93 = .ok (.ireturn, 1) := dk_172 (dk_at dksX5_sync_3 21 rfl rfl)
abbrev cX5_split : ByteArray := prog_10_method_17_code
def yX5_split : MethodName := ⟨RX5, "split", "(I)I"⟩
def dkwX5_split_5 : List UInt8 := [100, 46, 79, 42, 89, 180, 0, 20, 4, 96, 181, 0, 20, 42, 180, 0, 20, 172]
abbrev dktX5_split_5 : List UInt8 := dkwX5_split_5 ++ []
def dkwX5_split_4 : List UInt8 := [132, 3, 255, 167, 255, 220, 42, 180, 0, 24, 28, 27, 79, 42, 180, 0, 27, 28, 42, 180, 0, 27, 28, 4]
abbrev dktX5_split_4 : List UInt8 := dkwX5_split_4 ++ dktX5_split_5
def dkwX5_split_3 : List UInt8 := [180, 0, 24, 29, 4, 100, 46, 79, 42, 180, 0, 27, 29, 42, 180, 0, 27, 29, 4, 100, 46, 79]
abbrev dktX5_split_3 : List UInt8 := dkwX5_split_3 ++ dktX5_split_4
def dkwX5_split_2 : List UInt8 := [182, 0, 115, 4, 96, 61, 42, 180, 0, 20, 62, 29, 28, 164, 0, 37, 42, 180, 0, 24, 29, 42]
abbrev dktX5_split_2 : List UInt8 := dkwX5_split_2 ++ dktX5_split_3
def dkwX5_split_1 : List UInt8 := [46, 27, 160, 0, 7, 5, 167, 0, 4, 3, 181, 0, 93, 42, 180, 0, 93, 158, 0, 5, 3, 172, 42, 27]
abbrev dktX5_split_1 : List UInt8 := dkwX5_split_1 ++ dktX5_split_2
def dkwX5_split_0 : List UInt8 := [42, 27, 4, 16, 31, 184, 0, 96, 154, 0, 7, 4, 167, 0, 22, 42, 180, 0, 24, 42, 27, 182, 0, 115]
abbrev dktX5_split_0 : List UInt8 := dkwX5_split_0 ++ dktX5_split_1
theorem dksX5_split_0 : cX5_split.data.toList.drop 0 = dktX5_split_0 := by decide +kernel
theorem dksX5_split_1 : cX5_split.data.toList.drop 24 = dktX5_split_1 := dk_seg dksX5_split_0 24 rfl rfl
theorem dksX5_split_2 : cX5_split.data.toList.drop 48 = dktX5_split_2 := dk_seg dksX5_split_1 24 rfl rfl
theorem dksX5_split_3 : cX5_split.data.toList.drop 70 = dktX5_split_3 := dk_seg dksX5_split_2 22 rfl rfl
theorem dksX5_split_4 : cX5_split.data.toList.drop 92 = dktX5_split_4 := dk_seg dksX5_split_3 22 rfl rfl
theorem dksX5_split_5 : cX5_split.data.toList.drop 116 = dktX5_split_5 := dk_seg dksX5_split_4 24 rfl rfl
theorem dX5_split_0 : decode cX5_split 0 = .ok (.aload_n 0, 1) := dk_42 (dk_at dksX5_split_0 0 rfl rfl)
theorem dX5_split_1 : decode cX5_split 1 = .ok (.iload_n 1, 1) := dk_27 (dk_at dksX5_split_0 1 rfl rfl)
theorem dX5_split_2 : decode cX5_split 2 = .ok (.iconst 1, 1) := dk_4 (dk_at dksX5_split_0 2 rfl rfl)
theorem dX5_split_3 : decode cX5_split 3 = .ok (.bipush 31, 2) := dk_16 31 (dk_at dksX5_split_0 3 rfl rfl)
theorem dX5_split_5 : decode cX5_split 5 = .ok (.invokestatic 96, 3) := dk_184 0 96 (dk_at dksX5_split_0 5 rfl rfl)
theorem dX5_split_8 : decode cX5_split 8 = .ok (.ifCond .ne 7, 3) := dk_154 0 7 (dk_at dksX5_split_0 8 rfl rfl)
theorem dX5_split_11 : decode cX5_split 11 = .ok (.iconst 1, 1) := dk_4 (dk_at dksX5_split_0 11 rfl rfl)
theorem dX5_split_12 : decode cX5_split 12 = .ok (.goto 22, 3) := dk_167 0 22 (dk_at dksX5_split_0 12 rfl rfl)
theorem dX5_split_15 : decode cX5_split 15 = .ok (.aload_n 0, 1) := dk_42 (dk_at dksX5_split_0 15 rfl rfl)
theorem dX5_split_16 : decode cX5_split 16 = .ok (.getfield 24, 3) := dk_180 0 24 (dk_at dksX5_split_0 16 rfl rfl)
theorem dX5_split_19 : decode cX5_split 19 = .ok (.aload_n 0, 1) := dk_42 (dk_at dksX5_split_0 19 rfl rfl)
theorem dX5_split_20 : decode cX5_split 20 = .ok (.iload_n 1, 1) := dk_27 (dk_at dksX5_split_0 20 rfl rfl)
theorem dX5_split_21 : decode cX5_split 21 = .ok (.invokevirtual 115, 3) := dk_182 0 115 (dk_at dksX5_split_0 21 rfl rfl)
theorem dX5_split_24 : decode cX5_split 24 = .ok (.iaload, 1) := dk_46 (dk_at dksX5_split_1 0 rfl rfl)
theorem dX5_split_25 : decode cX5_split 25 = .ok (.iload_n 1, 1) := dk_27 (dk_at dksX5_split_1 1 rfl rfl)
theorem dX5_split_26 : decode cX5_split 26 = .ok (.if_icmp .ne 7, 3) := dk_160 0 7 (dk_at dksX5_split_1 2 rfl rfl)
theorem dX5_split_29 : decode cX5_split 29 = .ok (.iconst 2, 1) := dk_5 (dk_at dksX5_split_1 5 rfl rfl)
theorem dX5_split_30 : decode cX5_split 30 = .ok (.goto 4, 3) := dk_167 0 4 (dk_at dksX5_split_1 6 rfl rfl)
theorem dX5_split_33 : decode cX5_split 33 = .ok (.iconst 0, 1) := dk_3 (dk_at dksX5_split_1 9 rfl rfl)
theorem dX5_split_34 : decode cX5_split 34 = .ok (.putfield 93, 3) := dk_181 0 93 (dk_at dksX5_split_1 10 rfl rfl)
theorem dX5_split_37 : decode cX5_split 37 = .ok (.aload_n 0, 1) := dk_42 (dk_at dksX5_split_1 13 rfl rfl)
theorem dX5_split_38 : decode cX5_split 38 = .ok (.getfield 93, 3) := dk_180 0 93 (dk_at dksX5_split_1 14 rfl rfl)
theorem dX5_split_41 : decode cX5_split 41 = .ok (.ifCond .le 5, 3) := dk_158 0 5 (dk_at dksX5_split_1 17 rfl rfl)
theorem dX5_split_44 : decode cX5_split 44 = .ok (.iconst 0, 1) := dk_3 (dk_at dksX5_split_1 20 rfl rfl)
theorem dX5_split_45 : decode cX5_split 45 = .ok (.ireturn, 1) := dk_172 (dk_at dksX5_split_1 21 rfl rfl)
theorem dX5_split_46 : decode cX5_split 46 = .ok (.aload_n 0, 1) := dk_42 (dk_at dksX5_split_1 22 rfl rfl)
theorem dX5_split_47 : decode cX5_split 47 = .ok (.iload_n 1, 1) := dk_27 (dk_at dksX5_split_1 23 rfl rfl)
theorem dX5_split_48 : decode cX5_split 48 = .ok (.invokevirtual 115, 3) := dk_182 0 115 (dk_at dksX5_split_2 0 rfl rfl)
theorem dX5_split_51 : decode cX5_split 51 = .ok (.iconst 1, 1) := dk_4 (dk_at dksX5_split_2 3 rfl rfl)
theorem dX5_split_52 : decode cX5_split 52 = .ok (.iadd, 1) := dk_96 (dk_at dksX5_split_2 4 rfl rfl)
theorem dX5_split_53 : decode cX5_split 53 = .ok (.istore_n 2, 1) := dk_61 (dk_at dksX5_split_2 5 rfl rfl)
theorem dX5_split_54 : decode cX5_split 54 = .ok (.aload_n 0, 1) := dk_42 (dk_at dksX5_split_2 6 rfl rfl)
theorem dX5_split_55 : decode cX5_split 55 = .ok (.getfield 20, 3) := dk_180 0 20 (dk_at dksX5_split_2 7 rfl rfl)
theorem dX5_split_58 : decode cX5_split 58 = .ok (.istore_n 3, 1) := dk_62 (dk_at dksX5_split_2 10 rfl rfl)
theorem dX5_split_59 : decode cX5_split 59 = .ok (.iload_n 3, 1) := dk_29 (dk_at dksX5_split_2 11 rfl rfl)
theorem dX5_split_60 : decode cX5_split 60 = .ok (.iload_n 2, 1) := dk_28 (dk_at dksX5_split_2 12 rfl rfl)
theorem dX5_split_61 : decode cX5_split 61 = .ok (.if_icmp .le 37, 3) := dk_164 0 37 (dk_at dksX5_split_2 13 rfl rfl)
theorem dX5_split_64 : decode cX5_split 64 = .ok (.aload_n 0, 1) := dk_42 (dk_at dksX5_split_2 16 rfl rfl)
theorem dX5_split_65 : decode cX5_split 65 = .ok (.getfield 24, 3) := dk_180 0 24 (dk_at dksX5_split_2 17 rfl rfl)
theorem dX5_split_68 : decode cX5_split 68 = .ok (.iload_n 3, 1) := dk_29 (dk_at dksX5_split_2 20 rfl rfl)
theorem dX5_split_69 : decode cX5_split 69 = .ok (.aload_n 0, 1) := dk_42 (dk_at dksX5_split_2 21 rfl rfl)
theorem dX5_split_70 : decode cX5_split 70 = .ok (.getfield 24, 3) := dk_180 0 24 (dk_at dksX5_split_3 0 rfl rfl)
theorem dX5_split_73 : decode cX5_split 73 = .ok (.iload_n 3, 1) := dk_29 (dk_at dksX5_split_3 3 rfl rfl)
theorem dX5_split_74 : decode cX5_split 74 = .ok (.iconst 1, 1) := dk_4 (dk_at dksX5_split_3 4 rfl rfl)
theorem dX5_split_75 : decode cX5_split 75 = .ok (.isub, 1) := dk_100 (dk_at dksX5_split_3 5 rfl rfl)
theorem dX5_split_76 : decode cX5_split 76 = .ok (.iaload, 1) := dk_46 (dk_at dksX5_split_3 6 rfl rfl)
theorem dX5_split_77 : decode cX5_split 77 = .ok (.iastore, 1) := dk_79 (dk_at dksX5_split_3 7 rfl rfl)
theorem dX5_split_78 : decode cX5_split 78 = .ok (.aload_n 0, 1) := dk_42 (dk_at dksX5_split_3 8 rfl rfl)
theorem dX5_split_79 : decode cX5_split 79 = .ok (.getfield 27, 3) := dk_180 0 27 (dk_at dksX5_split_3 9 rfl rfl)
theorem dX5_split_82 : decode cX5_split 82 = .ok (.iload_n 3, 1) := dk_29 (dk_at dksX5_split_3 12 rfl rfl)
theorem dX5_split_83 : decode cX5_split 83 = .ok (.aload_n 0, 1) := dk_42 (dk_at dksX5_split_3 13 rfl rfl)
theorem dX5_split_84 : decode cX5_split 84 = .ok (.getfield 27, 3) := dk_180 0 27 (dk_at dksX5_split_3 14 rfl rfl)
theorem dX5_split_87 : decode cX5_split 87 = .ok (.iload_n 3, 1) := dk_29 (dk_at dksX5_split_3 17 rfl rfl)
theorem dX5_split_88 : decode cX5_split 88 = .ok (.iconst 1, 1) := dk_4 (dk_at dksX5_split_3 18 rfl rfl)
theorem dX5_split_89 : decode cX5_split 89 = .ok (.isub, 1) := dk_100 (dk_at dksX5_split_3 19 rfl rfl)
theorem dX5_split_90 : decode cX5_split 90 = .ok (.iaload, 1) := dk_46 (dk_at dksX5_split_3 20 rfl rfl)
theorem dX5_split_91 : decode cX5_split 91 = .ok (.iastore, 1) := dk_79 (dk_at dksX5_split_3 21 rfl rfl)
theorem dX5_split_92 : decode cX5_split 92 = .ok (.iinc 3 (-1), 3) := dk_132 3 255 (dk_at dksX5_split_4 0 rfl rfl)
theorem dX5_split_95 : decode cX5_split 95 = .ok (.goto (-36), 3) := dk_167 255 220 (dk_at dksX5_split_4 3 rfl rfl)
theorem dX5_split_98 : decode cX5_split 98 = .ok (.aload_n 0, 1) := dk_42 (dk_at dksX5_split_4 6 rfl rfl)
theorem dX5_split_99 : decode cX5_split 99 = .ok (.getfield 24, 3) := dk_180 0 24 (dk_at dksX5_split_4 7 rfl rfl)
theorem dX5_split_102 : decode cX5_split 102 = .ok (.iload_n 2, 1) := dk_28 (dk_at dksX5_split_4 10 rfl rfl)
theorem dX5_split_103 : decode cX5_split 103 = .ok (.iload_n 1, 1) := dk_27 (dk_at dksX5_split_4 11 rfl rfl)
theorem dX5_split_104 : decode cX5_split 104 = .ok (.iastore, 1) := dk_79 (dk_at dksX5_split_4 12 rfl rfl)
theorem dX5_split_105 : decode cX5_split 105 = .ok (.aload_n 0, 1) := dk_42 (dk_at dksX5_split_4 13 rfl rfl)
theorem dX5_split_106 : decode cX5_split 106 = .ok (.getfield 27, 3) := dk_180 0 27 (dk_at dksX5_split_4 14 rfl rfl)
theorem dX5_split_109 : decode cX5_split 109 = .ok (.iload_n 2, 1) := dk_28 (dk_at dksX5_split_4 17 rfl rfl)
theorem dX5_split_110 : decode cX5_split 110 = .ok (.aload_n 0, 1) := dk_42 (dk_at dksX5_split_4 18 rfl rfl)
theorem dX5_split_111 : decode cX5_split 111 = .ok (.getfield 27, 3) := dk_180 0 27 (dk_at dksX5_split_4 19 rfl rfl)
theorem dX5_split_114 : decode cX5_split 114 = .ok (.iload_n 2, 1) := dk_28 (dk_at dksX5_split_4 22 rfl rfl)
theorem dX5_split_115 : decode cX5_split 115 = .ok (.iconst 1, 1) := dk_4 (dk_at dksX5_split_4 23 rfl rfl)
theorem dX5_split_116 : decode cX5_split 116 = .ok (.isub, 1) := dk_100 (dk_at dksX5_split_5 0 rfl rfl)
theorem dX5_split_117 : decode cX5_split 117 = .ok (.iaload, 1) := dk_46 (dk_at dksX5_split_5 1 rfl rfl)
theorem dX5_split_118 : decode cX5_split 118 = .ok (.iastore, 1) := dk_79 (dk_at dksX5_split_5 2 rfl rfl)
theorem dX5_split_119 : decode cX5_split 119 = .ok (.aload_n 0, 1) := dk_42 (dk_at dksX5_split_5 3 rfl rfl)
theorem dX5_split_120 : decode cX5_split 120 = .ok (.dup, 1) := dk_89 (dk_at dksX5_split_5 4 rfl rfl)
theorem dX5_split_121 : decode cX5_split 121 = .ok (.getfield 20, 3) := dk_180 0 20 (dk_at dksX5_split_5 5 rfl rfl)
theorem dX5_split_124 : decode cX5_split 124 = .ok (.iconst 1, 1) := dk_4 (dk_at dksX5_split_5 8 rfl rfl)
theorem dX5_split_125 : decode cX5_split 125 = .ok (.iadd, 1) := dk_96 (dk_at dksX5_split_5 9 rfl rfl)
theorem dX5_split_126 : decode cX5_split 126 = .ok (.putfield 20, 3) := dk_181 0 20 (dk_at dksX5_split_5 10 rfl rfl)
theorem dX5_split_129 : decode cX5_split 129 = .ok (.aload_n 0, 1) := dk_42 (dk_at dksX5_split_5 13 rfl rfl)
theorem dX5_split_130 : decode cX5_split 130 = .ok (.getfield 20, 3) := dk_180 0 20 (dk_at dksX5_split_5 14 rfl rfl)
theorem dX5_split_133 : decode cX5_split 133 = .ok (.ireturn, 1) := dk_172 (dk_at dksX5_split_5 17 rfl rfl)
abbrev cX5_merge : ByteArray := prog_10_method_18_code
def yX5_merge : MethodName := ⟨RX5, "merge", "(I)I"⟩
def dkwX5_merge_4 : List UInt8 := [180, 0, 27, 28, 4, 96, 46, 79, 132, 2, 1, 167, 255, 217, 42, 180, 0, 20, 172]
abbrev dktX5_merge_4 : List UInt8 := dkwX5_merge_4 ++ []
def dkwX5_merge_3 : List UInt8 := [162, 0, 37, 42, 180, 0, 24, 28, 42, 180, 0, 24, 28, 4, 96, 46, 79, 42, 180, 0, 27, 28, 42]
abbrev dktX5_merge_3 : List UInt8 := dkwX5_merge_3 ++ dktX5_merge_4
def dkwX5_merge_2 : List UInt8 := [158, 0, 5, 3, 172, 42, 89, 180, 0, 20, 4, 100, 181, 0, 20, 27, 4, 96, 61, 28, 42, 180, 0, 20]
abbrev dktX5_merge_2 : List UInt8 := dkwX5_merge_2 ++ dktX5_merge_3
def dkwX5_merge_1 : List UInt8 := [46, 42, 180, 0, 27, 27, 4, 96, 46, 159, 0, 7, 5, 167, 0, 4, 3, 181, 0, 93, 42, 180, 0, 93]
abbrev dktX5_merge_1 : List UInt8 := dkwX5_merge_1 ++ dktX5_merge_2
def dkwX5_merge_0 : List UInt8 := [42, 27, 3, 42, 180, 0, 20, 5, 100, 184, 0, 96, 154, 0, 7, 4, 167, 0, 25, 42, 180, 0, 27, 27]
abbrev dktX5_merge_0 : List UInt8 := dkwX5_merge_0 ++ dktX5_merge_1
theorem dksX5_merge_0 : cX5_merge.data.toList.drop 0 = dktX5_merge_0 := by decide +kernel
theorem dksX5_merge_1 : cX5_merge.data.toList.drop 24 = dktX5_merge_1 := dk_seg dksX5_merge_0 24 rfl rfl
theorem dksX5_merge_2 : cX5_merge.data.toList.drop 48 = dktX5_merge_2 := dk_seg dksX5_merge_1 24 rfl rfl
theorem dksX5_merge_3 : cX5_merge.data.toList.drop 72 = dktX5_merge_3 := dk_seg dksX5_merge_2 24 rfl rfl
theorem dksX5_merge_4 : cX5_merge.data.toList.drop 95 = dktX5_merge_4 := dk_seg dksX5_merge_3 23 rfl rfl
theorem dX5_merge_0 : decode cX5_merge 0 = .ok (.aload_n 0, 1) := dk_42 (dk_at dksX5_merge_0 0 rfl rfl)
theorem dX5_merge_1 : decode cX5_merge 1 = .ok (.iload_n 1, 1) := dk_27 (dk_at dksX5_merge_0 1 rfl rfl)
theorem dX5_merge_2 : decode cX5_merge 2 = .ok (.iconst 0, 1) := dk_3 (dk_at dksX5_merge_0 2 rfl rfl)
theorem dX5_merge_3 : decode cX5_merge 3 = .ok (.aload_n 0, 1) := dk_42 (dk_at dksX5_merge_0 3 rfl rfl)
theorem dX5_merge_4 : decode cX5_merge 4 = .ok (.getfield 20, 3) := dk_180 0 20 (dk_at dksX5_merge_0 4 rfl rfl)
theorem dX5_merge_7 : decode cX5_merge 7 = .ok (.iconst 2, 1) := dk_5 (dk_at dksX5_merge_0 7 rfl rfl)
theorem dX5_merge_8 : decode cX5_merge 8 = .ok (.isub, 1) := dk_100 (dk_at dksX5_merge_0 8 rfl rfl)
theorem dX5_merge_9 : decode cX5_merge 9 = .ok (.invokestatic 96, 3) := dk_184 0 96 (dk_at dksX5_merge_0 9 rfl rfl)
theorem dX5_merge_12 : decode cX5_merge 12 = .ok (.ifCond .ne 7, 3) := dk_154 0 7 (dk_at dksX5_merge_0 12 rfl rfl)
theorem dX5_merge_15 : decode cX5_merge 15 = .ok (.iconst 1, 1) := dk_4 (dk_at dksX5_merge_0 15 rfl rfl)
theorem dX5_merge_16 : decode cX5_merge 16 = .ok (.goto 25, 3) := dk_167 0 25 (dk_at dksX5_merge_0 16 rfl rfl)
theorem dX5_merge_19 : decode cX5_merge 19 = .ok (.aload_n 0, 1) := dk_42 (dk_at dksX5_merge_0 19 rfl rfl)
theorem dX5_merge_20 : decode cX5_merge 20 = .ok (.getfield 27, 3) := dk_180 0 27 (dk_at dksX5_merge_0 20 rfl rfl)
theorem dX5_merge_23 : decode cX5_merge 23 = .ok (.iload_n 1, 1) := dk_27 (dk_at dksX5_merge_0 23 rfl rfl)
theorem dX5_merge_24 : decode cX5_merge 24 = .ok (.iaload, 1) := dk_46 (dk_at dksX5_merge_1 0 rfl rfl)
theorem dX5_merge_25 : decode cX5_merge 25 = .ok (.aload_n 0, 1) := dk_42 (dk_at dksX5_merge_1 1 rfl rfl)
theorem dX5_merge_26 : decode cX5_merge 26 = .ok (.getfield 27, 3) := dk_180 0 27 (dk_at dksX5_merge_1 2 rfl rfl)
theorem dX5_merge_29 : decode cX5_merge 29 = .ok (.iload_n 1, 1) := dk_27 (dk_at dksX5_merge_1 5 rfl rfl)
theorem dX5_merge_30 : decode cX5_merge 30 = .ok (.iconst 1, 1) := dk_4 (dk_at dksX5_merge_1 6 rfl rfl)
theorem dX5_merge_31 : decode cX5_merge 31 = .ok (.iadd, 1) := dk_96 (dk_at dksX5_merge_1 7 rfl rfl)
theorem dX5_merge_32 : decode cX5_merge 32 = .ok (.iaload, 1) := dk_46 (dk_at dksX5_merge_1 8 rfl rfl)
theorem dX5_merge_33 : decode cX5_merge 33 = .ok (.if_icmp .eq 7, 3) := dk_159 0 7 (dk_at dksX5_merge_1 9 rfl rfl)
theorem dX5_merge_36 : decode cX5_merge 36 = .ok (.iconst 2, 1) := dk_5 (dk_at dksX5_merge_1 12 rfl rfl)
theorem dX5_merge_37 : decode cX5_merge 37 = .ok (.goto 4, 3) := dk_167 0 4 (dk_at dksX5_merge_1 13 rfl rfl)
theorem dX5_merge_40 : decode cX5_merge 40 = .ok (.iconst 0, 1) := dk_3 (dk_at dksX5_merge_1 16 rfl rfl)
theorem dX5_merge_41 : decode cX5_merge 41 = .ok (.putfield 93, 3) := dk_181 0 93 (dk_at dksX5_merge_1 17 rfl rfl)
theorem dX5_merge_44 : decode cX5_merge 44 = .ok (.aload_n 0, 1) := dk_42 (dk_at dksX5_merge_1 20 rfl rfl)
theorem dX5_merge_45 : decode cX5_merge 45 = .ok (.getfield 93, 3) := dk_180 0 93 (dk_at dksX5_merge_1 21 rfl rfl)
theorem dX5_merge_48 : decode cX5_merge 48 = .ok (.ifCond .le 5, 3) := dk_158 0 5 (dk_at dksX5_merge_2 0 rfl rfl)
theorem dX5_merge_51 : decode cX5_merge 51 = .ok (.iconst 0, 1) := dk_3 (dk_at dksX5_merge_2 3 rfl rfl)
theorem dX5_merge_52 : decode cX5_merge 52 = .ok (.ireturn, 1) := dk_172 (dk_at dksX5_merge_2 4 rfl rfl)
theorem dX5_merge_53 : decode cX5_merge 53 = .ok (.aload_n 0, 1) := dk_42 (dk_at dksX5_merge_2 5 rfl rfl)
theorem dX5_merge_54 : decode cX5_merge 54 = .ok (.dup, 1) := dk_89 (dk_at dksX5_merge_2 6 rfl rfl)
theorem dX5_merge_55 : decode cX5_merge 55 = .ok (.getfield 20, 3) := dk_180 0 20 (dk_at dksX5_merge_2 7 rfl rfl)
theorem dX5_merge_58 : decode cX5_merge 58 = .ok (.iconst 1, 1) := dk_4 (dk_at dksX5_merge_2 10 rfl rfl)
theorem dX5_merge_59 : decode cX5_merge 59 = .ok (.isub, 1) := dk_100 (dk_at dksX5_merge_2 11 rfl rfl)
theorem dX5_merge_60 : decode cX5_merge 60 = .ok (.putfield 20, 3) := dk_181 0 20 (dk_at dksX5_merge_2 12 rfl rfl)
theorem dX5_merge_63 : decode cX5_merge 63 = .ok (.iload_n 1, 1) := dk_27 (dk_at dksX5_merge_2 15 rfl rfl)
theorem dX5_merge_64 : decode cX5_merge 64 = .ok (.iconst 1, 1) := dk_4 (dk_at dksX5_merge_2 16 rfl rfl)
theorem dX5_merge_65 : decode cX5_merge 65 = .ok (.iadd, 1) := dk_96 (dk_at dksX5_merge_2 17 rfl rfl)
theorem dX5_merge_66 : decode cX5_merge 66 = .ok (.istore_n 2, 1) := dk_61 (dk_at dksX5_merge_2 18 rfl rfl)
theorem dX5_merge_67 : decode cX5_merge 67 = .ok (.iload_n 2, 1) := dk_28 (dk_at dksX5_merge_2 19 rfl rfl)
theorem dX5_merge_68 : decode cX5_merge 68 = .ok (.aload_n 0, 1) := dk_42 (dk_at dksX5_merge_2 20 rfl rfl)
theorem dX5_merge_69 : decode cX5_merge 69 = .ok (.getfield 20, 3) := dk_180 0 20 (dk_at dksX5_merge_2 21 rfl rfl)
theorem dX5_merge_72 : decode cX5_merge 72 = .ok (.if_icmp .ge 37, 3) := dk_162 0 37 (dk_at dksX5_merge_3 0 rfl rfl)
theorem dX5_merge_75 : decode cX5_merge 75 = .ok (.aload_n 0, 1) := dk_42 (dk_at dksX5_merge_3 3 rfl rfl)
theorem dX5_merge_76 : decode cX5_merge 76 = .ok (.getfield 24, 3) := dk_180 0 24 (dk_at dksX5_merge_3 4 rfl rfl)
theorem dX5_merge_79 : decode cX5_merge 79 = .ok (.iload_n 2, 1) := dk_28 (dk_at dksX5_merge_3 7 rfl rfl)
theorem dX5_merge_80 : decode cX5_merge 80 = .ok (.aload_n 0, 1) := dk_42 (dk_at dksX5_merge_3 8 rfl rfl)
theorem dX5_merge_81 : decode cX5_merge 81 = .ok (.getfield 24, 3) := dk_180 0 24 (dk_at dksX5_merge_3 9 rfl rfl)
theorem dX5_merge_84 : decode cX5_merge 84 = .ok (.iload_n 2, 1) := dk_28 (dk_at dksX5_merge_3 12 rfl rfl)
theorem dX5_merge_85 : decode cX5_merge 85 = .ok (.iconst 1, 1) := dk_4 (dk_at dksX5_merge_3 13 rfl rfl)
theorem dX5_merge_86 : decode cX5_merge 86 = .ok (.iadd, 1) := dk_96 (dk_at dksX5_merge_3 14 rfl rfl)
theorem dX5_merge_87 : decode cX5_merge 87 = .ok (.iaload, 1) := dk_46 (dk_at dksX5_merge_3 15 rfl rfl)
theorem dX5_merge_88 : decode cX5_merge 88 = .ok (.iastore, 1) := dk_79 (dk_at dksX5_merge_3 16 rfl rfl)
theorem dX5_merge_89 : decode cX5_merge 89 = .ok (.aload_n 0, 1) := dk_42 (dk_at dksX5_merge_3 17 rfl rfl)
theorem dX5_merge_90 : decode cX5_merge 90 = .ok (.getfield 27, 3) := dk_180 0 27 (dk_at dksX5_merge_3 18 rfl rfl)
theorem dX5_merge_93 : decode cX5_merge 93 = .ok (.iload_n 2, 1) := dk_28 (dk_at dksX5_merge_3 21 rfl rfl)
theorem dX5_merge_94 : decode cX5_merge 94 = .ok (.aload_n 0, 1) := dk_42 (dk_at dksX5_merge_3 22 rfl rfl)
theorem dX5_merge_95 : decode cX5_merge 95 = .ok (.getfield 27, 3) := dk_180 0 27 (dk_at dksX5_merge_4 0 rfl rfl)
theorem dX5_merge_98 : decode cX5_merge 98 = .ok (.iload_n 2, 1) := dk_28 (dk_at dksX5_merge_4 3 rfl rfl)
theorem dX5_merge_99 : decode cX5_merge 99 = .ok (.iconst 1, 1) := dk_4 (dk_at dksX5_merge_4 4 rfl rfl)
theorem dX5_merge_100 : decode cX5_merge 100 = .ok (.iadd, 1) := dk_96 (dk_at dksX5_merge_4 5 rfl rfl)
theorem dX5_merge_101 : decode cX5_merge 101 = .ok (.iaload, 1) := dk_46 (dk_at dksX5_merge_4 6 rfl rfl)
theorem dX5_merge_102 : decode cX5_merge 102 = .ok (.iastore, 1) := dk_79 (dk_at dksX5_merge_4 7 rfl rfl)
theorem dX5_merge_103 : decode cX5_merge 103 = .ok (.iinc 2 1, 3) := dk_132 2 1 (dk_at dksX5_merge_4 8 rfl rfl)
theorem dX5_merge_106 : decode cX5_merge 106 = .ok (.goto (-39), 3) := dk_167 255 217 (dk_at dksX5_merge_4 11 rfl rfl)
theorem dX5_merge_109 : decode cX5_merge 109 = .ok (.aload_n 0, 1) := dk_42 (dk_at dksX5_merge_4 14 rfl rfl)
theorem dX5_merge_110 : decode cX5_merge 110 = .ok (.getfield 20, 3) := dk_180 0 20 (dk_at dksX5_merge_4 15 rfl rfl)
theorem dX5_merge_113 : decode cX5_merge 113 = .ok (.ireturn, 1) := dk_172 (dk_at dksX5_merge_4 18 rfl rfl)
abbrev cX5_move : ByteArray := prog_10_method_19_code
def yX5_move : MethodName := ⟨RX5, "move", "(II)I"⟩
def dkwX5_move_5 : List UInt8 := [180, 0, 27, 27, 28, 79, 29, 172]
abbrev dktX5_move_5 : List UInt8 := dkwX5_move_5 ++ []
def dkwX5_move_4 : List UInt8 := [182, 0, 115, 27, 160, 0, 11, 42, 21, 5, 21, 4, 182, 0, 121, 132, 5, 1, 167, 255, 228, 42]
abbrev dktX5_move_4 : List UInt8 := dkwX5_move_4 ++ dktX5_move_5
def dkwX5_move_3 : List UInt8 := [27, 46, 62, 42, 29, 182, 0, 107, 54, 4, 3, 54, 5, 21, 5, 16, 32, 162, 0, 27, 42, 21, 5]
abbrev dktX5_move_3 : List UInt8 := dkwX5_move_3 ++ dktX5_move_4
def dkwX5_move_2 : List UInt8 := [153, 0, 7, 5, 167, 0, 4, 3, 181, 0, 93, 42, 180, 0, 93, 158, 0, 5, 3, 172, 42, 180, 0, 27]
abbrev dktX5_move_2 : List UInt8 := dkwX5_move_2 ++ dktX5_move_3
def dkwX5_move_1 : List UInt8 := [4, 167, 0, 31, 42, 180, 0, 16, 28, 51, 154, 0, 17, 42, 180, 0, 16, 42, 180, 0, 27, 27, 46, 51]
abbrev dktX5_move_1 : List UInt8 := dkwX5_move_1 ++ dktX5_move_2
def dkwX5_move_0 : List UInt8 := [42, 27, 3, 42, 180, 0, 20, 4, 100, 184, 0, 96, 153, 0, 12, 28, 3, 6, 184, 0, 96, 154, 0, 7]
abbrev dktX5_move_0 : List UInt8 := dkwX5_move_0 ++ dktX5_move_1
theorem dksX5_move_0 : cX5_move.data.toList.drop 0 = dktX5_move_0 := by decide +kernel
theorem dksX5_move_1 : cX5_move.data.toList.drop 24 = dktX5_move_1 := dk_seg dksX5_move_0 24 rfl rfl
theorem dksX5_move_2 : cX5_move.data.toList.drop 48 = dktX5_move_2 := dk_seg dksX5_move_1 24 rfl rfl
theorem dksX5_move_3 : cX5_move.data.toList.drop 72 = dktX5_move_3 := dk_seg dksX5_move_2 24 rfl rfl
theorem dksX5_move_4 : cX5_move.data.toList.drop 95 = dktX5_move_4 := dk_seg dksX5_move_3 23 rfl rfl
theorem dksX5_move_5 : cX5_move.data.toList.drop 117 = dktX5_move_5 := dk_seg dksX5_move_4 22 rfl rfl
theorem dX5_move_0 : decode cX5_move 0 = .ok (.aload_n 0, 1) := dk_42 (dk_at dksX5_move_0 0 rfl rfl)
theorem dX5_move_1 : decode cX5_move 1 = .ok (.iload_n 1, 1) := dk_27 (dk_at dksX5_move_0 1 rfl rfl)
theorem dX5_move_2 : decode cX5_move 2 = .ok (.iconst 0, 1) := dk_3 (dk_at dksX5_move_0 2 rfl rfl)
theorem dX5_move_3 : decode cX5_move 3 = .ok (.aload_n 0, 1) := dk_42 (dk_at dksX5_move_0 3 rfl rfl)
theorem dX5_move_4 : decode cX5_move 4 = .ok (.getfield 20, 3) := dk_180 0 20 (dk_at dksX5_move_0 4 rfl rfl)
theorem dX5_move_7 : decode cX5_move 7 = .ok (.iconst 1, 1) := dk_4 (dk_at dksX5_move_0 7 rfl rfl)
theorem dX5_move_8 : decode cX5_move 8 = .ok (.isub, 1) := dk_100 (dk_at dksX5_move_0 8 rfl rfl)
theorem dX5_move_9 : decode cX5_move 9 = .ok (.invokestatic 96, 3) := dk_184 0 96 (dk_at dksX5_move_0 9 rfl rfl)
theorem dX5_move_12 : decode cX5_move 12 = .ok (.ifCond .eq 12, 3) := dk_153 0 12 (dk_at dksX5_move_0 12 rfl rfl)
theorem dX5_move_15 : decode cX5_move 15 = .ok (.iload_n 2, 1) := dk_28 (dk_at dksX5_move_0 15 rfl rfl)
theorem dX5_move_16 : decode cX5_move 16 = .ok (.iconst 0, 1) := dk_3 (dk_at dksX5_move_0 16 rfl rfl)
theorem dX5_move_17 : decode cX5_move 17 = .ok (.iconst 3, 1) := dk_6 (dk_at dksX5_move_0 17 rfl rfl)
theorem dX5_move_18 : decode cX5_move 18 = .ok (.invokestatic 96, 3) := dk_184 0 96 (dk_at dksX5_move_0 18 rfl rfl)
theorem dX5_move_21 : decode cX5_move 21 = .ok (.ifCond .ne 7, 3) := dk_154 0 7 (dk_at dksX5_move_0 21 rfl rfl)
theorem dX5_move_24 : decode cX5_move 24 = .ok (.iconst 1, 1) := dk_4 (dk_at dksX5_move_1 0 rfl rfl)
theorem dX5_move_25 : decode cX5_move 25 = .ok (.goto 31, 3) := dk_167 0 31 (dk_at dksX5_move_1 1 rfl rfl)
theorem dX5_move_28 : decode cX5_move 28 = .ok (.aload_n 0, 1) := dk_42 (dk_at dksX5_move_1 4 rfl rfl)
theorem dX5_move_29 : decode cX5_move 29 = .ok (.getfield 16, 3) := dk_180 0 16 (dk_at dksX5_move_1 5 rfl rfl)
theorem dX5_move_32 : decode cX5_move 32 = .ok (.iload_n 2, 1) := dk_28 (dk_at dksX5_move_1 8 rfl rfl)
theorem dX5_move_33 : decode cX5_move 33 = .ok (.baload, 1) := dk_51 (dk_at dksX5_move_1 9 rfl rfl)
theorem dX5_move_34 : decode cX5_move 34 = .ok (.ifCond .ne 17, 3) := dk_154 0 17 (dk_at dksX5_move_1 10 rfl rfl)
theorem dX5_move_37 : decode cX5_move 37 = .ok (.aload_n 0, 1) := dk_42 (dk_at dksX5_move_1 13 rfl rfl)
theorem dX5_move_38 : decode cX5_move 38 = .ok (.getfield 16, 3) := dk_180 0 16 (dk_at dksX5_move_1 14 rfl rfl)
theorem dX5_move_41 : decode cX5_move 41 = .ok (.aload_n 0, 1) := dk_42 (dk_at dksX5_move_1 17 rfl rfl)
theorem dX5_move_42 : decode cX5_move 42 = .ok (.getfield 27, 3) := dk_180 0 27 (dk_at dksX5_move_1 18 rfl rfl)
theorem dX5_move_45 : decode cX5_move 45 = .ok (.iload_n 1, 1) := dk_27 (dk_at dksX5_move_1 21 rfl rfl)
theorem dX5_move_46 : decode cX5_move 46 = .ok (.iaload, 1) := dk_46 (dk_at dksX5_move_1 22 rfl rfl)
theorem dX5_move_47 : decode cX5_move 47 = .ok (.baload, 1) := dk_51 (dk_at dksX5_move_1 23 rfl rfl)
theorem dX5_move_48 : decode cX5_move 48 = .ok (.ifCond .eq 7, 3) := dk_153 0 7 (dk_at dksX5_move_2 0 rfl rfl)
theorem dX5_move_51 : decode cX5_move 51 = .ok (.iconst 2, 1) := dk_5 (dk_at dksX5_move_2 3 rfl rfl)
theorem dX5_move_52 : decode cX5_move 52 = .ok (.goto 4, 3) := dk_167 0 4 (dk_at dksX5_move_2 4 rfl rfl)
theorem dX5_move_55 : decode cX5_move 55 = .ok (.iconst 0, 1) := dk_3 (dk_at dksX5_move_2 7 rfl rfl)
theorem dX5_move_56 : decode cX5_move 56 = .ok (.putfield 93, 3) := dk_181 0 93 (dk_at dksX5_move_2 8 rfl rfl)
theorem dX5_move_59 : decode cX5_move 59 = .ok (.aload_n 0, 1) := dk_42 (dk_at dksX5_move_2 11 rfl rfl)
theorem dX5_move_60 : decode cX5_move 60 = .ok (.getfield 93, 3) := dk_180 0 93 (dk_at dksX5_move_2 12 rfl rfl)
theorem dX5_move_63 : decode cX5_move 63 = .ok (.ifCond .le 5, 3) := dk_158 0 5 (dk_at dksX5_move_2 15 rfl rfl)
theorem dX5_move_66 : decode cX5_move 66 = .ok (.iconst 0, 1) := dk_3 (dk_at dksX5_move_2 18 rfl rfl)
theorem dX5_move_67 : decode cX5_move 67 = .ok (.ireturn, 1) := dk_172 (dk_at dksX5_move_2 19 rfl rfl)
theorem dX5_move_68 : decode cX5_move 68 = .ok (.aload_n 0, 1) := dk_42 (dk_at dksX5_move_2 20 rfl rfl)
theorem dX5_move_69 : decode cX5_move 69 = .ok (.getfield 27, 3) := dk_180 0 27 (dk_at dksX5_move_2 21 rfl rfl)
theorem dX5_move_72 : decode cX5_move 72 = .ok (.iload_n 1, 1) := dk_27 (dk_at dksX5_move_3 0 rfl rfl)
theorem dX5_move_73 : decode cX5_move 73 = .ok (.iaload, 1) := dk_46 (dk_at dksX5_move_3 1 rfl rfl)
theorem dX5_move_74 : decode cX5_move 74 = .ok (.istore_n 3, 1) := dk_62 (dk_at dksX5_move_3 2 rfl rfl)
theorem dX5_move_75 : decode cX5_move 75 = .ok (.aload_n 0, 1) := dk_42 (dk_at dksX5_move_3 3 rfl rfl)
theorem dX5_move_76 : decode cX5_move 76 = .ok (.iload_n 3, 1) := dk_29 (dk_at dksX5_move_3 4 rfl rfl)
theorem dX5_move_77 : decode cX5_move 77 = .ok (.invokevirtual 107, 3) := dk_182 0 107 (dk_at dksX5_move_3 5 rfl rfl)
theorem dX5_move_80 : decode cX5_move 80 = .ok (.istore 4, 2) := dk_54 4 (dk_at dksX5_move_3 8 rfl rfl)
theorem dX5_move_82 : decode cX5_move 82 = .ok (.iconst 0, 1) := dk_3 (dk_at dksX5_move_3 10 rfl rfl)
theorem dX5_move_83 : decode cX5_move 83 = .ok (.istore 5, 2) := dk_54 5 (dk_at dksX5_move_3 11 rfl rfl)
theorem dX5_move_85 : decode cX5_move 85 = .ok (.iload 5, 2) := dk_21 5 (dk_at dksX5_move_3 13 rfl rfl)
theorem dX5_move_87 : decode cX5_move 87 = .ok (.bipush 32, 2) := dk_16 32 (dk_at dksX5_move_3 15 rfl rfl)
theorem dX5_move_89 : decode cX5_move 89 = .ok (.if_icmp .ge 27, 3) := dk_162 0 27 (dk_at dksX5_move_3 17 rfl rfl)
theorem dX5_move_92 : decode cX5_move 92 = .ok (.aload_n 0, 1) := dk_42 (dk_at dksX5_move_3 20 rfl rfl)
theorem dX5_move_93 : decode cX5_move 93 = .ok (.iload 5, 2) := dk_21 5 (dk_at dksX5_move_3 21 rfl rfl)
theorem dX5_move_95 : decode cX5_move 95 = .ok (.invokevirtual 115, 3) := dk_182 0 115 (dk_at dksX5_move_4 0 rfl rfl)
theorem dX5_move_98 : decode cX5_move 98 = .ok (.iload_n 1, 1) := dk_27 (dk_at dksX5_move_4 3 rfl rfl)
theorem dX5_move_99 : decode cX5_move 99 = .ok (.if_icmp .ne 11, 3) := dk_160 0 11 (dk_at dksX5_move_4 4 rfl rfl)
theorem dX5_move_102 : decode cX5_move 102 = .ok (.aload_n 0, 1) := dk_42 (dk_at dksX5_move_4 7 rfl rfl)
theorem dX5_move_103 : decode cX5_move 103 = .ok (.iload 5, 2) := dk_21 5 (dk_at dksX5_move_4 8 rfl rfl)
theorem dX5_move_105 : decode cX5_move 105 = .ok (.iload 4, 2) := dk_21 4 (dk_at dksX5_move_4 10 rfl rfl)
theorem dX5_move_107 : decode cX5_move 107 = .ok (.invokevirtual 121, 3) := dk_182 0 121 (dk_at dksX5_move_4 12 rfl rfl)
theorem dX5_move_110 : decode cX5_move 110 = .ok (.iinc 5 1, 3) := dk_132 5 1 (dk_at dksX5_move_4 15 rfl rfl)
theorem dX5_move_113 : decode cX5_move 113 = .ok (.goto (-28), 3) := dk_167 255 228 (dk_at dksX5_move_4 18 rfl rfl)
theorem dX5_move_116 : decode cX5_move 116 = .ok (.aload_n 0, 1) := dk_42 (dk_at dksX5_move_4 21 rfl rfl)
theorem dX5_move_117 : decode cX5_move 117 = .ok (.getfield 27, 3) := dk_180 0 27 (dk_at dksX5_move_5 0 rfl rfl)
theorem dX5_move_120 : decode cX5_move 120 = .ok (.iload_n 1, 1) := dk_27 (dk_at dksX5_move_5 3 rfl rfl)
theorem dX5_move_121 : decode cX5_move 121 = .ok (.iload_n 2, 1) := dk_28 (dk_at dksX5_move_5 4 rfl rfl)
theorem dX5_move_122 : decode cX5_move 122 = .ok (.iastore, 1) := dk_79 (dk_at dksX5_move_5 5 rfl rfl)
theorem dX5_move_123 : decode cX5_move 123 = .ok (.iload_n 3, 1) := dk_29 (dk_at dksX5_move_5 6 rfl rfl)
theorem dX5_move_124 : decode cX5_move 124 = .ok (.ireturn, 1) := dk_172 (dk_at dksX5_move_5 7 rfl rfl)
abbrev cX5_begin : ByteArray := prog_10_method_20_code
def yX5_begin : MethodName := ⟨RX5, "begin", "(II)I"⟩
def dkwX5_begin_7 : List UInt8 := [180, 0, 81, 7, 29, 104, 21, 4, 96, 2, 79, 132, 4, 1, 167, 255, 235, 42, 29, 182, 0, 128, 29, 172]
abbrev dktX5_begin_7 : List UInt8 := dkwX5_begin_7 ++ []
def dkwX5_begin_6 : List UInt8 := [42, 180, 0, 72, 29, 3, 79, 42, 180, 0, 75, 29, 2, 79, 3, 54, 4, 21, 4, 7, 162, 0, 21, 42]
abbrev dktX5_begin_6 : List UInt8 := dkwX5_begin_6 ++ dktX5_begin_7
def dkwX5_begin_5 : List UInt8 := [180, 0, 66, 29, 42, 180, 0, 60, 29, 46, 16, 100, 96, 79, 42, 180, 0, 69, 29, 42, 180, 0, 100, 79]
abbrev dktX5_begin_5 : List UInt8 := dkwX5_begin_5 ++ dktX5_begin_6
def dkwX5_begin_4 : List UInt8 := [180, 0, 60, 29, 42, 27, 182, 0, 107, 79, 42, 180, 0, 63, 29, 42, 180, 0, 60, 29, 46, 79, 42]
abbrev dktX5_begin_4 : List UInt8 := dkwX5_begin_4 ++ dktX5_begin_5
def dkwX5_begin_3 : List UInt8 := [180, 0, 125, 4, 96, 181, 0, 125, 42, 180, 0, 54, 29, 27, 79, 42, 180, 0, 57, 29, 28, 79, 42]
abbrev dktX5_begin_3 : List UInt8 := dkwX5_begin_3 ++ dktX5_begin_4
def dkwX5_begin_2 : List UInt8 := [167, 0, 4, 3, 181, 0, 93, 42, 180, 0, 93, 158, 0, 5, 3, 172, 42, 180, 0, 125, 62, 42, 89]
abbrev dktX5_begin_2 : List UInt8 := dkwX5_begin_2 ++ dktX5_begin_3
def dkwX5_begin_1 : List UInt8 := [5, 167, 0, 26, 42, 180, 0, 16, 27, 51, 154, 0, 12, 42, 180, 0, 125, 16, 40, 160, 0, 7, 6]
abbrev dktX5_begin_1 : List UInt8 := dkwX5_begin_1 ++ dktX5_begin_2
def dkwX5_begin_0 : List UInt8 := [42, 27, 3, 6, 184, 0, 96, 154, 0, 7, 4, 167, 0, 40, 28, 3, 16, 9, 184, 0, 96, 154, 0, 7]
abbrev dktX5_begin_0 : List UInt8 := dkwX5_begin_0 ++ dktX5_begin_1
theorem dksX5_begin_0 : cX5_begin.data.toList.drop 0 = dktX5_begin_0 := by decide +kernel
theorem dksX5_begin_1 : cX5_begin.data.toList.drop 24 = dktX5_begin_1 := dk_seg dksX5_begin_0 24 rfl rfl
theorem dksX5_begin_2 : cX5_begin.data.toList.drop 47 = dktX5_begin_2 := dk_seg dksX5_begin_1 23 rfl rfl
theorem dksX5_begin_3 : cX5_begin.data.toList.drop 70 = dktX5_begin_3 := dk_seg dksX5_begin_2 23 rfl rfl
theorem dksX5_begin_4 : cX5_begin.data.toList.drop 93 = dktX5_begin_4 := dk_seg dksX5_begin_3 23 rfl rfl
theorem dksX5_begin_5 : cX5_begin.data.toList.drop 116 = dktX5_begin_5 := dk_seg dksX5_begin_4 23 rfl rfl
theorem dksX5_begin_6 : cX5_begin.data.toList.drop 140 = dktX5_begin_6 := dk_seg dksX5_begin_5 24 rfl rfl
theorem dksX5_begin_7 : cX5_begin.data.toList.drop 164 = dktX5_begin_7 := dk_seg dksX5_begin_6 24 rfl rfl
theorem dX5_begin_0 : decode cX5_begin 0 = .ok (.aload_n 0, 1) := dk_42 (dk_at dksX5_begin_0 0 rfl rfl)
theorem dX5_begin_1 : decode cX5_begin 1 = .ok (.iload_n 1, 1) := dk_27 (dk_at dksX5_begin_0 1 rfl rfl)
theorem dX5_begin_2 : decode cX5_begin 2 = .ok (.iconst 0, 1) := dk_3 (dk_at dksX5_begin_0 2 rfl rfl)
theorem dX5_begin_3 : decode cX5_begin 3 = .ok (.iconst 3, 1) := dk_6 (dk_at dksX5_begin_0 3 rfl rfl)
theorem dX5_begin_4 : decode cX5_begin 4 = .ok (.invokestatic 96, 3) := dk_184 0 96 (dk_at dksX5_begin_0 4 rfl rfl)
theorem dX5_begin_7 : decode cX5_begin 7 = .ok (.ifCond .ne 7, 3) := dk_154 0 7 (dk_at dksX5_begin_0 7 rfl rfl)
theorem dX5_begin_10 : decode cX5_begin 10 = .ok (.iconst 1, 1) := dk_4 (dk_at dksX5_begin_0 10 rfl rfl)
theorem dX5_begin_11 : decode cX5_begin 11 = .ok (.goto 40, 3) := dk_167 0 40 (dk_at dksX5_begin_0 11 rfl rfl)
theorem dX5_begin_14 : decode cX5_begin 14 = .ok (.iload_n 2, 1) := dk_28 (dk_at dksX5_begin_0 14 rfl rfl)
theorem dX5_begin_15 : decode cX5_begin 15 = .ok (.iconst 0, 1) := dk_3 (dk_at dksX5_begin_0 15 rfl rfl)
theorem dX5_begin_16 : decode cX5_begin 16 = .ok (.bipush 9, 2) := dk_16 9 (dk_at dksX5_begin_0 16 rfl rfl)
theorem dX5_begin_18 : decode cX5_begin 18 = .ok (.invokestatic 96, 3) := dk_184 0 96 (dk_at dksX5_begin_0 18 rfl rfl)
theorem dX5_begin_21 : decode cX5_begin 21 = .ok (.ifCond .ne 7, 3) := dk_154 0 7 (dk_at dksX5_begin_0 21 rfl rfl)
theorem dX5_begin_24 : decode cX5_begin 24 = .ok (.iconst 2, 1) := dk_5 (dk_at dksX5_begin_1 0 rfl rfl)
theorem dX5_begin_25 : decode cX5_begin 25 = .ok (.goto 26, 3) := dk_167 0 26 (dk_at dksX5_begin_1 1 rfl rfl)
theorem dX5_begin_28 : decode cX5_begin 28 = .ok (.aload_n 0, 1) := dk_42 (dk_at dksX5_begin_1 4 rfl rfl)
theorem dX5_begin_29 : decode cX5_begin 29 = .ok (.getfield 16, 3) := dk_180 0 16 (dk_at dksX5_begin_1 5 rfl rfl)
theorem dX5_begin_32 : decode cX5_begin 32 = .ok (.iload_n 1, 1) := dk_27 (dk_at dksX5_begin_1 8 rfl rfl)
theorem dX5_begin_33 : decode cX5_begin 33 = .ok (.baload, 1) := dk_51 (dk_at dksX5_begin_1 9 rfl rfl)
theorem dX5_begin_34 : decode cX5_begin 34 = .ok (.ifCond .ne 12, 3) := dk_154 0 12 (dk_at dksX5_begin_1 10 rfl rfl)
theorem dX5_begin_37 : decode cX5_begin 37 = .ok (.aload_n 0, 1) := dk_42 (dk_at dksX5_begin_1 13 rfl rfl)
theorem dX5_begin_38 : decode cX5_begin 38 = .ok (.getfield 125, 3) := dk_180 0 125 (dk_at dksX5_begin_1 14 rfl rfl)
theorem dX5_begin_41 : decode cX5_begin 41 = .ok (.bipush 40, 2) := dk_16 40 (dk_at dksX5_begin_1 17 rfl rfl)
theorem dX5_begin_43 : decode cX5_begin 43 = .ok (.if_icmp .ne 7, 3) := dk_160 0 7 (dk_at dksX5_begin_1 19 rfl rfl)
theorem dX5_begin_46 : decode cX5_begin 46 = .ok (.iconst 3, 1) := dk_6 (dk_at dksX5_begin_1 22 rfl rfl)
theorem dX5_begin_47 : decode cX5_begin 47 = .ok (.goto 4, 3) := dk_167 0 4 (dk_at dksX5_begin_2 0 rfl rfl)
theorem dX5_begin_50 : decode cX5_begin 50 = .ok (.iconst 0, 1) := dk_3 (dk_at dksX5_begin_2 3 rfl rfl)
theorem dX5_begin_51 : decode cX5_begin 51 = .ok (.putfield 93, 3) := dk_181 0 93 (dk_at dksX5_begin_2 4 rfl rfl)
theorem dX5_begin_54 : decode cX5_begin 54 = .ok (.aload_n 0, 1) := dk_42 (dk_at dksX5_begin_2 7 rfl rfl)
theorem dX5_begin_55 : decode cX5_begin 55 = .ok (.getfield 93, 3) := dk_180 0 93 (dk_at dksX5_begin_2 8 rfl rfl)
theorem dX5_begin_58 : decode cX5_begin 58 = .ok (.ifCond .le 5, 3) := dk_158 0 5 (dk_at dksX5_begin_2 11 rfl rfl)
theorem dX5_begin_61 : decode cX5_begin 61 = .ok (.iconst 0, 1) := dk_3 (dk_at dksX5_begin_2 14 rfl rfl)
theorem dX5_begin_62 : decode cX5_begin 62 = .ok (.ireturn, 1) := dk_172 (dk_at dksX5_begin_2 15 rfl rfl)
theorem dX5_begin_63 : decode cX5_begin 63 = .ok (.aload_n 0, 1) := dk_42 (dk_at dksX5_begin_2 16 rfl rfl)
theorem dX5_begin_64 : decode cX5_begin 64 = .ok (.getfield 125, 3) := dk_180 0 125 (dk_at dksX5_begin_2 17 rfl rfl)
theorem dX5_begin_67 : decode cX5_begin 67 = .ok (.istore_n 3, 1) := dk_62 (dk_at dksX5_begin_2 20 rfl rfl)
theorem dX5_begin_68 : decode cX5_begin 68 = .ok (.aload_n 0, 1) := dk_42 (dk_at dksX5_begin_2 21 rfl rfl)
theorem dX5_begin_69 : decode cX5_begin 69 = .ok (.dup, 1) := dk_89 (dk_at dksX5_begin_2 22 rfl rfl)
theorem dX5_begin_70 : decode cX5_begin 70 = .ok (.getfield 125, 3) := dk_180 0 125 (dk_at dksX5_begin_3 0 rfl rfl)
theorem dX5_begin_73 : decode cX5_begin 73 = .ok (.iconst 1, 1) := dk_4 (dk_at dksX5_begin_3 3 rfl rfl)
theorem dX5_begin_74 : decode cX5_begin 74 = .ok (.iadd, 1) := dk_96 (dk_at dksX5_begin_3 4 rfl rfl)
theorem dX5_begin_75 : decode cX5_begin 75 = .ok (.putfield 125, 3) := dk_181 0 125 (dk_at dksX5_begin_3 5 rfl rfl)
theorem dX5_begin_78 : decode cX5_begin 78 = .ok (.aload_n 0, 1) := dk_42 (dk_at dksX5_begin_3 8 rfl rfl)
theorem dX5_begin_79 : decode cX5_begin 79 = .ok (.getfield 54, 3) := dk_180 0 54 (dk_at dksX5_begin_3 9 rfl rfl)
theorem dX5_begin_82 : decode cX5_begin 82 = .ok (.iload_n 3, 1) := dk_29 (dk_at dksX5_begin_3 12 rfl rfl)
theorem dX5_begin_83 : decode cX5_begin 83 = .ok (.iload_n 1, 1) := dk_27 (dk_at dksX5_begin_3 13 rfl rfl)
theorem dX5_begin_84 : decode cX5_begin 84 = .ok (.iastore, 1) := dk_79 (dk_at dksX5_begin_3 14 rfl rfl)
theorem dX5_begin_85 : decode cX5_begin 85 = .ok (.aload_n 0, 1) := dk_42 (dk_at dksX5_begin_3 15 rfl rfl)
theorem dX5_begin_86 : decode cX5_begin 86 = .ok (.getfield 57, 3) := dk_180 0 57 (dk_at dksX5_begin_3 16 rfl rfl)
theorem dX5_begin_89 : decode cX5_begin 89 = .ok (.iload_n 3, 1) := dk_29 (dk_at dksX5_begin_3 19 rfl rfl)
theorem dX5_begin_90 : decode cX5_begin 90 = .ok (.iload_n 2, 1) := dk_28 (dk_at dksX5_begin_3 20 rfl rfl)
theorem dX5_begin_91 : decode cX5_begin 91 = .ok (.iastore, 1) := dk_79 (dk_at dksX5_begin_3 21 rfl rfl)
theorem dX5_begin_92 : decode cX5_begin 92 = .ok (.aload_n 0, 1) := dk_42 (dk_at dksX5_begin_3 22 rfl rfl)
theorem dX5_begin_93 : decode cX5_begin 93 = .ok (.getfield 60, 3) := dk_180 0 60 (dk_at dksX5_begin_4 0 rfl rfl)
theorem dX5_begin_96 : decode cX5_begin 96 = .ok (.iload_n 3, 1) := dk_29 (dk_at dksX5_begin_4 3 rfl rfl)
theorem dX5_begin_97 : decode cX5_begin 97 = .ok (.aload_n 0, 1) := dk_42 (dk_at dksX5_begin_4 4 rfl rfl)
theorem dX5_begin_98 : decode cX5_begin 98 = .ok (.iload_n 1, 1) := dk_27 (dk_at dksX5_begin_4 5 rfl rfl)
theorem dX5_begin_99 : decode cX5_begin 99 = .ok (.invokevirtual 107, 3) := dk_182 0 107 (dk_at dksX5_begin_4 6 rfl rfl)
theorem dX5_begin_102 : decode cX5_begin 102 = .ok (.iastore, 1) := dk_79 (dk_at dksX5_begin_4 9 rfl rfl)
theorem dX5_begin_103 : decode cX5_begin 103 = .ok (.aload_n 0, 1) := dk_42 (dk_at dksX5_begin_4 10 rfl rfl)
theorem dX5_begin_104 : decode cX5_begin 104 = .ok (.getfield 63, 3) := dk_180 0 63 (dk_at dksX5_begin_4 11 rfl rfl)
theorem dX5_begin_107 : decode cX5_begin 107 = .ok (.iload_n 3, 1) := dk_29 (dk_at dksX5_begin_4 14 rfl rfl)
theorem dX5_begin_108 : decode cX5_begin 108 = .ok (.aload_n 0, 1) := dk_42 (dk_at dksX5_begin_4 15 rfl rfl)
theorem dX5_begin_109 : decode cX5_begin 109 = .ok (.getfield 60, 3) := dk_180 0 60 (dk_at dksX5_begin_4 16 rfl rfl)
theorem dX5_begin_112 : decode cX5_begin 112 = .ok (.iload_n 3, 1) := dk_29 (dk_at dksX5_begin_4 19 rfl rfl)
theorem dX5_begin_113 : decode cX5_begin 113 = .ok (.iaload, 1) := dk_46 (dk_at dksX5_begin_4 20 rfl rfl)
theorem dX5_begin_114 : decode cX5_begin 114 = .ok (.iastore, 1) := dk_79 (dk_at dksX5_begin_4 21 rfl rfl)
theorem dX5_begin_115 : decode cX5_begin 115 = .ok (.aload_n 0, 1) := dk_42 (dk_at dksX5_begin_4 22 rfl rfl)
theorem dX5_begin_116 : decode cX5_begin 116 = .ok (.getfield 66, 3) := dk_180 0 66 (dk_at dksX5_begin_5 0 rfl rfl)
theorem dX5_begin_119 : decode cX5_begin 119 = .ok (.iload_n 3, 1) := dk_29 (dk_at dksX5_begin_5 3 rfl rfl)
theorem dX5_begin_120 : decode cX5_begin 120 = .ok (.aload_n 0, 1) := dk_42 (dk_at dksX5_begin_5 4 rfl rfl)
theorem dX5_begin_121 : decode cX5_begin 121 = .ok (.getfield 60, 3) := dk_180 0 60 (dk_at dksX5_begin_5 5 rfl rfl)
theorem dX5_begin_124 : decode cX5_begin 124 = .ok (.iload_n 3, 1) := dk_29 (dk_at dksX5_begin_5 8 rfl rfl)
theorem dX5_begin_125 : decode cX5_begin 125 = .ok (.iaload, 1) := dk_46 (dk_at dksX5_begin_5 9 rfl rfl)
theorem dX5_begin_126 : decode cX5_begin 126 = .ok (.bipush 100, 2) := dk_16 100 (dk_at dksX5_begin_5 10 rfl rfl)
theorem dX5_begin_128 : decode cX5_begin 128 = .ok (.iadd, 1) := dk_96 (dk_at dksX5_begin_5 12 rfl rfl)
theorem dX5_begin_129 : decode cX5_begin 129 = .ok (.iastore, 1) := dk_79 (dk_at dksX5_begin_5 13 rfl rfl)
theorem dX5_begin_130 : decode cX5_begin 130 = .ok (.aload_n 0, 1) := dk_42 (dk_at dksX5_begin_5 14 rfl rfl)
theorem dX5_begin_131 : decode cX5_begin 131 = .ok (.getfield 69, 3) := dk_180 0 69 (dk_at dksX5_begin_5 15 rfl rfl)
theorem dX5_begin_134 : decode cX5_begin 134 = .ok (.iload_n 3, 1) := dk_29 (dk_at dksX5_begin_5 18 rfl rfl)
theorem dX5_begin_135 : decode cX5_begin 135 = .ok (.aload_n 0, 1) := dk_42 (dk_at dksX5_begin_5 19 rfl rfl)
theorem dX5_begin_136 : decode cX5_begin 136 = .ok (.getfield 100, 3) := dk_180 0 100 (dk_at dksX5_begin_5 20 rfl rfl)
theorem dX5_begin_139 : decode cX5_begin 139 = .ok (.iastore, 1) := dk_79 (dk_at dksX5_begin_5 23 rfl rfl)
theorem dX5_begin_140 : decode cX5_begin 140 = .ok (.aload_n 0, 1) := dk_42 (dk_at dksX5_begin_6 0 rfl rfl)
theorem dX5_begin_141 : decode cX5_begin 141 = .ok (.getfield 72, 3) := dk_180 0 72 (dk_at dksX5_begin_6 1 rfl rfl)
theorem dX5_begin_144 : decode cX5_begin 144 = .ok (.iload_n 3, 1) := dk_29 (dk_at dksX5_begin_6 4 rfl rfl)
theorem dX5_begin_145 : decode cX5_begin 145 = .ok (.iconst 0, 1) := dk_3 (dk_at dksX5_begin_6 5 rfl rfl)
theorem dX5_begin_146 : decode cX5_begin 146 = .ok (.iastore, 1) := dk_79 (dk_at dksX5_begin_6 6 rfl rfl)
theorem dX5_begin_147 : decode cX5_begin 147 = .ok (.aload_n 0, 1) := dk_42 (dk_at dksX5_begin_6 7 rfl rfl)
theorem dX5_begin_148 : decode cX5_begin 148 = .ok (.getfield 75, 3) := dk_180 0 75 (dk_at dksX5_begin_6 8 rfl rfl)
theorem dX5_begin_151 : decode cX5_begin 151 = .ok (.iload_n 3, 1) := dk_29 (dk_at dksX5_begin_6 11 rfl rfl)
theorem dX5_begin_152 : decode cX5_begin 152 = .ok (.iconst (-1), 1) := dk_2 (dk_at dksX5_begin_6 12 rfl rfl)
theorem dX5_begin_153 : decode cX5_begin 153 = .ok (.iastore, 1) := dk_79 (dk_at dksX5_begin_6 13 rfl rfl)
theorem dX5_begin_154 : decode cX5_begin 154 = .ok (.iconst 0, 1) := dk_3 (dk_at dksX5_begin_6 14 rfl rfl)
theorem dX5_begin_155 : decode cX5_begin 155 = .ok (.istore 4, 2) := dk_54 4 (dk_at dksX5_begin_6 15 rfl rfl)
theorem dX5_begin_157 : decode cX5_begin 157 = .ok (.iload 4, 2) := dk_21 4 (dk_at dksX5_begin_6 17 rfl rfl)
theorem dX5_begin_159 : decode cX5_begin 159 = .ok (.iconst 4, 1) := dk_7 (dk_at dksX5_begin_6 19 rfl rfl)
theorem dX5_begin_160 : decode cX5_begin 160 = .ok (.if_icmp .ge 21, 3) := dk_162 0 21 (dk_at dksX5_begin_6 20 rfl rfl)
theorem dX5_begin_163 : decode cX5_begin 163 = .ok (.aload_n 0, 1) := dk_42 (dk_at dksX5_begin_6 23 rfl rfl)
theorem dX5_begin_164 : decode cX5_begin 164 = .ok (.getfield 81, 3) := dk_180 0 81 (dk_at dksX5_begin_7 0 rfl rfl)
theorem dX5_begin_167 : decode cX5_begin 167 = .ok (.iconst 4, 1) := dk_7 (dk_at dksX5_begin_7 3 rfl rfl)
theorem dX5_begin_168 : decode cX5_begin 168 = .ok (.iload_n 3, 1) := dk_29 (dk_at dksX5_begin_7 4 rfl rfl)
theorem dX5_begin_169 : decode cX5_begin 169 = .ok (.imul, 1) := dk_104 (dk_at dksX5_begin_7 5 rfl rfl)
theorem dX5_begin_170 : decode cX5_begin 170 = .ok (.iload 4, 2) := dk_21 4 (dk_at dksX5_begin_7 6 rfl rfl)
theorem dX5_begin_172 : decode cX5_begin 172 = .ok (.iadd, 1) := dk_96 (dk_at dksX5_begin_7 8 rfl rfl)
theorem dX5_begin_173 : decode cX5_begin 173 = .ok (.iconst (-1), 1) := dk_2 (dk_at dksX5_begin_7 9 rfl rfl)
theorem dX5_begin_174 : decode cX5_begin 174 = .ok (.iastore, 1) := dk_79 (dk_at dksX5_begin_7 10 rfl rfl)
theorem dX5_begin_175 : decode cX5_begin 175 = .ok (.iinc 4 1, 3) := dk_132 4 1 (dk_at dksX5_begin_7 11 rfl rfl)
theorem dX5_begin_178 : decode cX5_begin 178 = .ok (.goto (-21), 3) := dk_167 255 235 (dk_at dksX5_begin_7 14 rfl rfl)
theorem dX5_begin_181 : decode cX5_begin 181 = .ok (.aload_n 0, 1) := dk_42 (dk_at dksX5_begin_7 17 rfl rfl)
theorem dX5_begin_182 : decode cX5_begin 182 = .ok (.iload_n 3, 1) := dk_29 (dk_at dksX5_begin_7 18 rfl rfl)
theorem dX5_begin_183 : decode cX5_begin 183 = .ok (.invokevirtual 128, 3) := dk_182 0 128 (dk_at dksX5_begin_7 19 rfl rfl)
theorem dX5_begin_186 : decode cX5_begin 186 = .ok (.iload_n 3, 1) := dk_29 (dk_at dksX5_begin_7 22 rfl rfl)
theorem dX5_begin_187 : decode cX5_begin 187 = .ok (.ireturn, 1) := dk_172 (dk_at dksX5_begin_7 23 rfl rfl)
abbrev cX5_forgets : ByteArray := prog_10_method_21_code
def yX5_forgets : MethodName := ⟨RX5, "forgets", "(I)V"⟩
def dkwX5_forgets_1 : List UInt8 := [16, 32, 27, 104, 28, 96, 2, 79, 132, 2, 1, 167, 255, 223, 177]
abbrev dktX5_forgets_1 : List UInt8 := dkwX5_forgets_1 ++ []
def dkwX5_forgets_0 : List UInt8 := [3, 61, 28, 16, 32, 162, 0, 33, 42, 180, 0, 84, 16, 32, 27, 104, 28, 96, 2, 79, 42, 180, 0, 87]
abbrev dktX5_forgets_0 : List UInt8 := dkwX5_forgets_0 ++ dktX5_forgets_1
theorem dksX5_forgets_0 : cX5_forgets.data.toList.drop 0 = dktX5_forgets_0 := by decide +kernel
theorem dksX5_forgets_1 : cX5_forgets.data.toList.drop 24 = dktX5_forgets_1 := dk_seg dksX5_forgets_0 24 rfl rfl
theorem dX5_forgets_0 : decode cX5_forgets 0 = .ok (.iconst 0, 1) := dk_3 (dk_at dksX5_forgets_0 0 rfl rfl)
theorem dX5_forgets_1 : decode cX5_forgets 1 = .ok (.istore_n 2, 1) := dk_61 (dk_at dksX5_forgets_0 1 rfl rfl)
theorem dX5_forgets_2 : decode cX5_forgets 2 = .ok (.iload_n 2, 1) := dk_28 (dk_at dksX5_forgets_0 2 rfl rfl)
theorem dX5_forgets_3 : decode cX5_forgets 3 = .ok (.bipush 32, 2) := dk_16 32 (dk_at dksX5_forgets_0 3 rfl rfl)
theorem dX5_forgets_5 : decode cX5_forgets 5 = .ok (.if_icmp .ge 33, 3) := dk_162 0 33 (dk_at dksX5_forgets_0 5 rfl rfl)
theorem dX5_forgets_8 : decode cX5_forgets 8 = .ok (.aload_n 0, 1) := dk_42 (dk_at dksX5_forgets_0 8 rfl rfl)
theorem dX5_forgets_9 : decode cX5_forgets 9 = .ok (.getfield 84, 3) := dk_180 0 84 (dk_at dksX5_forgets_0 9 rfl rfl)
theorem dX5_forgets_12 : decode cX5_forgets 12 = .ok (.bipush 32, 2) := dk_16 32 (dk_at dksX5_forgets_0 12 rfl rfl)
theorem dX5_forgets_14 : decode cX5_forgets 14 = .ok (.iload_n 1, 1) := dk_27 (dk_at dksX5_forgets_0 14 rfl rfl)
theorem dX5_forgets_15 : decode cX5_forgets 15 = .ok (.imul, 1) := dk_104 (dk_at dksX5_forgets_0 15 rfl rfl)
theorem dX5_forgets_16 : decode cX5_forgets 16 = .ok (.iload_n 2, 1) := dk_28 (dk_at dksX5_forgets_0 16 rfl rfl)
theorem dX5_forgets_17 : decode cX5_forgets 17 = .ok (.iadd, 1) := dk_96 (dk_at dksX5_forgets_0 17 rfl rfl)
theorem dX5_forgets_18 : decode cX5_forgets 18 = .ok (.iconst (-1), 1) := dk_2 (dk_at dksX5_forgets_0 18 rfl rfl)
theorem dX5_forgets_19 : decode cX5_forgets 19 = .ok (.iastore, 1) := dk_79 (dk_at dksX5_forgets_0 19 rfl rfl)
theorem dX5_forgets_20 : decode cX5_forgets 20 = .ok (.aload_n 0, 1) := dk_42 (dk_at dksX5_forgets_0 20 rfl rfl)
theorem dX5_forgets_21 : decode cX5_forgets 21 = .ok (.getfield 87, 3) := dk_180 0 87 (dk_at dksX5_forgets_0 21 rfl rfl)
theorem dX5_forgets_24 : decode cX5_forgets 24 = .ok (.bipush 32, 2) := dk_16 32 (dk_at dksX5_forgets_1 0 rfl rfl)
theorem dX5_forgets_26 : decode cX5_forgets 26 = .ok (.iload_n 1, 1) := dk_27 (dk_at dksX5_forgets_1 2 rfl rfl)
theorem dX5_forgets_27 : decode cX5_forgets 27 = .ok (.imul, 1) := dk_104 (dk_at dksX5_forgets_1 3 rfl rfl)
theorem dX5_forgets_28 : decode cX5_forgets 28 = .ok (.iload_n 2, 1) := dk_28 (dk_at dksX5_forgets_1 4 rfl rfl)
theorem dX5_forgets_29 : decode cX5_forgets 29 = .ok (.iadd, 1) := dk_96 (dk_at dksX5_forgets_1 5 rfl rfl)
theorem dX5_forgets_30 : decode cX5_forgets 30 = .ok (.iconst (-1), 1) := dk_2 (dk_at dksX5_forgets_1 6 rfl rfl)
theorem dX5_forgets_31 : decode cX5_forgets 31 = .ok (.iastore, 1) := dk_79 (dk_at dksX5_forgets_1 7 rfl rfl)
theorem dX5_forgets_32 : decode cX5_forgets 32 = .ok (.iinc 2 1, 3) := dk_132 2 1 (dk_at dksX5_forgets_1 8 rfl rfl)
theorem dX5_forgets_35 : decode cX5_forgets 35 = .ok (.goto (-33), 3) := dk_167 255 223 (dk_at dksX5_forgets_1 11 rfl rfl)
theorem dX5_forgets_38 : decode cX5_forgets 38 = .ok (.return_, 1) := dk_177 (dk_at dksX5_forgets_1 14 rfl rfl)
abbrev cX5_get : ByteArray := prog_10_method_37_code
def yX5_get : MethodName := ⟨RX5, "get", "(II)I"⟩
def dkwX5_get_12 : List UInt8 := [180, 0, 60, 29, 46, 182, 0, 156, 21, 7, 172]
abbrev dktX5_get_12 : List UInt8 := dkwX5_get_12 ++ []
def dkwX5_get_11 : List UInt8 := [46, 182, 0, 182, 54, 7, 42, 180, 0, 84, 16, 32, 29, 104, 28, 96, 21, 7, 79, 42, 29, 28, 42]
abbrev dktX5_get_11 : List UInt8 := dkwX5_get_11 ++ dktX5_get_12
def dkwX5_get_10 : List UInt8 := [180, 0, 63, 29, 46, 21, 9, 184, 0, 103, 79, 4, 54, 6, 167, 255, 86, 42, 28, 42, 180, 0, 60, 29]
abbrev dktX5_get_10 : List UInt8 := dkwX5_get_10 ++ dktX5_get_11
def dkwX5_get_9 : List UInt8 := [42, 29, 21, 9, 182, 0, 179, 172, 42, 180, 0, 60, 29, 21, 9, 79, 42, 180, 0, 63, 29, 42]
abbrev dktX5_get_9 : List UInt8 := dkwX5_get_9 ++ dktX5_get_10
def dkwX5_get_8 : List UInt8 := [154, 0, 60, 21, 9, 42, 180, 0, 60, 29, 46, 164, 0, 49, 42, 29, 21, 9, 182, 0, 176, 154, 0, 11]
abbrev dktX5_get_8 : List UInt8 := dkwX5_get_8 ++ dktX5_get_9
def dkwX5_get_7 : List UInt8 := [54, 6, 167, 0, 9, 42, 29, 182, 0, 173, 172, 42, 28, 21, 5, 182, 0, 150, 54, 9, 21, 6]
abbrev dktX5_get_7 : List UInt8 := dkwX5_get_7 ++ dktX5_get_8
def dkwX5_get_6 : List UInt8 := [180, 0, 63, 21, 7, 21, 8, 4, 96, 79, 167, 0, 25, 42, 29, 21, 7, 182, 0, 170, 153, 0, 9, 4]
abbrev dktX5_get_6 : List UInt8 := dkwX5_get_6 ++ dktX5_get_7
def dkwX5_get_5 : List UInt8 := [46, 21, 8, 163, 0, 55, 42, 180, 0, 57, 29, 46, 42, 180, 0, 57, 21, 7, 46, 164, 0, 17, 42]
abbrev dktX5_get_5 : List UInt8 := dkwX5_get_5 ++ dktX5_get_6
def dkwX5_get_4 : List UInt8 := [180, 0, 60, 29, 46, 21, 5, 184, 0, 103, 54, 8, 21, 7, 2, 159, 0, 67, 42, 180, 0, 63, 21, 7]
abbrev dktX5_get_4 : List UInt8 := dkwX5_get_4 ++ dktX5_get_5
def dkwX5_get_3 : List UInt8 := [46, 54, 5, 4, 54, 6, 21, 6, 153, 0, 171, 3, 54, 6, 42, 29, 28, 182, 0, 153, 54, 7, 42]
abbrev dktX5_get_3 : List UInt8 := dkwX5_get_3 ++ dktX5_get_4
def dkwX5_get_2 : List UInt8 := [180, 0, 87, 16, 32, 29, 104, 28, 96, 46, 172, 42, 180, 0, 81, 7, 29, 104, 42, 28, 182, 0, 118, 96]
abbrev dktX5_get_2 : List UInt8 := dkwX5_get_2 ++ dktX5_get_3
def dkwX5_get_1 : List UInt8 := [153, 0, 6, 21, 4, 172, 42, 180, 0, 87, 16, 32, 29, 104, 28, 96, 46, 2, 159, 0, 15, 42]
abbrev dktX5_get_1 : List UInt8 := dkwX5_get_1 ++ dktX5_get_2
def dkwX5_get_0 : List UInt8 := [42, 27, 28, 182, 0, 163, 154, 0, 5, 3, 172, 27, 62, 42, 29, 28, 182, 0, 167, 54, 4, 21, 4]
abbrev dktX5_get_0 : List UInt8 := dkwX5_get_0 ++ dktX5_get_1
theorem dksX5_get_0 : cX5_get.data.toList.drop 0 = dktX5_get_0 := by decide +kernel
theorem dksX5_get_1 : cX5_get.data.toList.drop 23 = dktX5_get_1 := dk_seg dksX5_get_0 23 rfl rfl
theorem dksX5_get_2 : cX5_get.data.toList.drop 45 = dktX5_get_2 := dk_seg dksX5_get_1 22 rfl rfl
theorem dksX5_get_3 : cX5_get.data.toList.drop 69 = dktX5_get_3 := dk_seg dksX5_get_2 24 rfl rfl
theorem dksX5_get_4 : cX5_get.data.toList.drop 92 = dktX5_get_4 := dk_seg dksX5_get_3 23 rfl rfl
theorem dksX5_get_5 : cX5_get.data.toList.drop 116 = dktX5_get_5 := dk_seg dksX5_get_4 24 rfl rfl
theorem dksX5_get_6 : cX5_get.data.toList.drop 139 = dktX5_get_6 := dk_seg dksX5_get_5 23 rfl rfl
theorem dksX5_get_7 : cX5_get.data.toList.drop 163 = dktX5_get_7 := dk_seg dksX5_get_6 24 rfl rfl
theorem dksX5_get_8 : cX5_get.data.toList.drop 185 = dktX5_get_8 := dk_seg dksX5_get_7 22 rfl rfl
theorem dksX5_get_9 : cX5_get.data.toList.drop 209 = dktX5_get_9 := dk_seg dksX5_get_8 24 rfl rfl
theorem dksX5_get_10 : cX5_get.data.toList.drop 231 = dktX5_get_10 := dk_seg dksX5_get_9 22 rfl rfl
theorem dksX5_get_11 : cX5_get.data.toList.drop 255 = dktX5_get_11 := dk_seg dksX5_get_10 24 rfl rfl
theorem dksX5_get_12 : cX5_get.data.toList.drop 278 = dktX5_get_12 := dk_seg dksX5_get_11 23 rfl rfl
theorem dX5_get_0 : decode cX5_get 0 = .ok (.aload_n 0, 1) := dk_42 (dk_at dksX5_get_0 0 rfl rfl)
theorem dX5_get_1 : decode cX5_get 1 = .ok (.iload_n 1, 1) := dk_27 (dk_at dksX5_get_0 1 rfl rfl)
theorem dX5_get_2 : decode cX5_get 2 = .ok (.iload_n 2, 1) := dk_28 (dk_at dksX5_get_0 2 rfl rfl)
theorem dX5_get_3 : decode cX5_get 3 = .ok (.invokevirtual 163, 3) := dk_182 0 163 (dk_at dksX5_get_0 3 rfl rfl)
theorem dX5_get_6 : decode cX5_get 6 = .ok (.ifCond .ne 5, 3) := dk_154 0 5 (dk_at dksX5_get_0 6 rfl rfl)
theorem dX5_get_9 : decode cX5_get 9 = .ok (.iconst 0, 1) := dk_3 (dk_at dksX5_get_0 9 rfl rfl)
theorem dX5_get_10 : decode cX5_get 10 = .ok (.ireturn, 1) := dk_172 (dk_at dksX5_get_0 10 rfl rfl)
theorem dX5_get_11 : decode cX5_get 11 = .ok (.iload_n 1, 1) := dk_27 (dk_at dksX5_get_0 11 rfl rfl)
theorem dX5_get_12 : decode cX5_get 12 = .ok (.istore_n 3, 1) := dk_62 (dk_at dksX5_get_0 12 rfl rfl)
theorem dX5_get_13 : decode cX5_get 13 = .ok (.aload_n 0, 1) := dk_42 (dk_at dksX5_get_0 13 rfl rfl)
theorem dX5_get_14 : decode cX5_get 14 = .ok (.iload_n 3, 1) := dk_29 (dk_at dksX5_get_0 14 rfl rfl)
theorem dX5_get_15 : decode cX5_get 15 = .ok (.iload_n 2, 1) := dk_28 (dk_at dksX5_get_0 15 rfl rfl)
theorem dX5_get_16 : decode cX5_get 16 = .ok (.invokevirtual 167, 3) := dk_182 0 167 (dk_at dksX5_get_0 16 rfl rfl)
theorem dX5_get_19 : decode cX5_get 19 = .ok (.istore 4, 2) := dk_54 4 (dk_at dksX5_get_0 19 rfl rfl)
theorem dX5_get_21 : decode cX5_get 21 = .ok (.iload 4, 2) := dk_21 4 (dk_at dksX5_get_0 21 rfl rfl)
theorem dX5_get_23 : decode cX5_get 23 = .ok (.ifCond .eq 6, 3) := dk_153 0 6 (dk_at dksX5_get_1 0 rfl rfl)
theorem dX5_get_26 : decode cX5_get 26 = .ok (.iload 4, 2) := dk_21 4 (dk_at dksX5_get_1 3 rfl rfl)
theorem dX5_get_28 : decode cX5_get 28 = .ok (.ireturn, 1) := dk_172 (dk_at dksX5_get_1 5 rfl rfl)
theorem dX5_get_29 : decode cX5_get 29 = .ok (.aload_n 0, 1) := dk_42 (dk_at dksX5_get_1 6 rfl rfl)
theorem dX5_get_30 : decode cX5_get 30 = .ok (.getfield 87, 3) := dk_180 0 87 (dk_at dksX5_get_1 7 rfl rfl)
theorem dX5_get_33 : decode cX5_get 33 = .ok (.bipush 32, 2) := dk_16 32 (dk_at dksX5_get_1 10 rfl rfl)
theorem dX5_get_35 : decode cX5_get 35 = .ok (.iload_n 3, 1) := dk_29 (dk_at dksX5_get_1 12 rfl rfl)
theorem dX5_get_36 : decode cX5_get 36 = .ok (.imul, 1) := dk_104 (dk_at dksX5_get_1 13 rfl rfl)
theorem dX5_get_37 : decode cX5_get 37 = .ok (.iload_n 2, 1) := dk_28 (dk_at dksX5_get_1 14 rfl rfl)
theorem dX5_get_38 : decode cX5_get 38 = .ok (.iadd, 1) := dk_96 (dk_at dksX5_get_1 15 rfl rfl)
theorem dX5_get_39 : decode cX5_get 39 = .ok (.iaload, 1) := dk_46 (dk_at dksX5_get_1 16 rfl rfl)
theorem dX5_get_40 : decode cX5_get 40 = .ok (.iconst (-1), 1) := dk_2 (dk_at dksX5_get_1 17 rfl rfl)
theorem dX5_get_41 : decode cX5_get 41 = .ok (.if_icmp .eq 15, 3) := dk_159 0 15 (dk_at dksX5_get_1 18 rfl rfl)
theorem dX5_get_44 : decode cX5_get 44 = .ok (.aload_n 0, 1) := dk_42 (dk_at dksX5_get_1 21 rfl rfl)
theorem dX5_get_45 : decode cX5_get 45 = .ok (.getfield 87, 3) := dk_180 0 87 (dk_at dksX5_get_2 0 rfl rfl)
theorem dX5_get_48 : decode cX5_get 48 = .ok (.bipush 32, 2) := dk_16 32 (dk_at dksX5_get_2 3 rfl rfl)
theorem dX5_get_50 : decode cX5_get 50 = .ok (.iload_n 3, 1) := dk_29 (dk_at dksX5_get_2 5 rfl rfl)
theorem dX5_get_51 : decode cX5_get 51 = .ok (.imul, 1) := dk_104 (dk_at dksX5_get_2 6 rfl rfl)
theorem dX5_get_52 : decode cX5_get 52 = .ok (.iload_n 2, 1) := dk_28 (dk_at dksX5_get_2 7 rfl rfl)
theorem dX5_get_53 : decode cX5_get 53 = .ok (.iadd, 1) := dk_96 (dk_at dksX5_get_2 8 rfl rfl)
theorem dX5_get_54 : decode cX5_get 54 = .ok (.iaload, 1) := dk_46 (dk_at dksX5_get_2 9 rfl rfl)
theorem dX5_get_55 : decode cX5_get 55 = .ok (.ireturn, 1) := dk_172 (dk_at dksX5_get_2 10 rfl rfl)
theorem dX5_get_56 : decode cX5_get 56 = .ok (.aload_n 0, 1) := dk_42 (dk_at dksX5_get_2 11 rfl rfl)
theorem dX5_get_57 : decode cX5_get 57 = .ok (.getfield 81, 3) := dk_180 0 81 (dk_at dksX5_get_2 12 rfl rfl)
theorem dX5_get_60 : decode cX5_get 60 = .ok (.iconst 4, 1) := dk_7 (dk_at dksX5_get_2 15 rfl rfl)
theorem dX5_get_61 : decode cX5_get 61 = .ok (.iload_n 3, 1) := dk_29 (dk_at dksX5_get_2 16 rfl rfl)
theorem dX5_get_62 : decode cX5_get 62 = .ok (.imul, 1) := dk_104 (dk_at dksX5_get_2 17 rfl rfl)
theorem dX5_get_63 : decode cX5_get 63 = .ok (.aload_n 0, 1) := dk_42 (dk_at dksX5_get_2 18 rfl rfl)
theorem dX5_get_64 : decode cX5_get 64 = .ok (.iload_n 2, 1) := dk_28 (dk_at dksX5_get_2 19 rfl rfl)
theorem dX5_get_65 : decode cX5_get 65 = .ok (.invokevirtual 118, 3) := dk_182 0 118 (dk_at dksX5_get_2 20 rfl rfl)
theorem dX5_get_68 : decode cX5_get 68 = .ok (.iadd, 1) := dk_96 (dk_at dksX5_get_2 23 rfl rfl)
theorem dX5_get_69 : decode cX5_get 69 = .ok (.iaload, 1) := dk_46 (dk_at dksX5_get_3 0 rfl rfl)
theorem dX5_get_70 : decode cX5_get 70 = .ok (.istore 5, 2) := dk_54 5 (dk_at dksX5_get_3 1 rfl rfl)
theorem dX5_get_72 : decode cX5_get 72 = .ok (.iconst 1, 1) := dk_4 (dk_at dksX5_get_3 3 rfl rfl)
theorem dX5_get_73 : decode cX5_get 73 = .ok (.istore 6, 2) := dk_54 6 (dk_at dksX5_get_3 4 rfl rfl)
theorem dX5_get_75 : decode cX5_get 75 = .ok (.iload 6, 2) := dk_21 6 (dk_at dksX5_get_3 6 rfl rfl)
theorem dX5_get_77 : decode cX5_get 77 = .ok (.ifCond .eq 171, 3) := dk_153 0 171 (dk_at dksX5_get_3 8 rfl rfl)
theorem dX5_get_80 : decode cX5_get 80 = .ok (.iconst 0, 1) := dk_3 (dk_at dksX5_get_3 11 rfl rfl)
theorem dX5_get_81 : decode cX5_get 81 = .ok (.istore 6, 2) := dk_54 6 (dk_at dksX5_get_3 12 rfl rfl)
theorem dX5_get_83 : decode cX5_get 83 = .ok (.aload_n 0, 1) := dk_42 (dk_at dksX5_get_3 14 rfl rfl)
theorem dX5_get_84 : decode cX5_get 84 = .ok (.iload_n 3, 1) := dk_29 (dk_at dksX5_get_3 15 rfl rfl)
theorem dX5_get_85 : decode cX5_get 85 = .ok (.iload_n 2, 1) := dk_28 (dk_at dksX5_get_3 16 rfl rfl)
theorem dX5_get_86 : decode cX5_get 86 = .ok (.invokevirtual 153, 3) := dk_182 0 153 (dk_at dksX5_get_3 17 rfl rfl)
theorem dX5_get_89 : decode cX5_get 89 = .ok (.istore 7, 2) := dk_54 7 (dk_at dksX5_get_3 20 rfl rfl)
theorem dX5_get_91 : decode cX5_get 91 = .ok (.aload_n 0, 1) := dk_42 (dk_at dksX5_get_3 22 rfl rfl)
theorem dX5_get_92 : decode cX5_get 92 = .ok (.getfield 60, 3) := dk_180 0 60 (dk_at dksX5_get_4 0 rfl rfl)
theorem dX5_get_95 : decode cX5_get 95 = .ok (.iload_n 3, 1) := dk_29 (dk_at dksX5_get_4 3 rfl rfl)
theorem dX5_get_96 : decode cX5_get 96 = .ok (.iaload, 1) := dk_46 (dk_at dksX5_get_4 4 rfl rfl)
theorem dX5_get_97 : decode cX5_get 97 = .ok (.iload 5, 2) := dk_21 5 (dk_at dksX5_get_4 5 rfl rfl)
theorem dX5_get_99 : decode cX5_get 99 = .ok (.invokestatic 103, 3) := dk_184 0 103 (dk_at dksX5_get_4 7 rfl rfl)
theorem dX5_get_102 : decode cX5_get 102 = .ok (.istore 8, 2) := dk_54 8 (dk_at dksX5_get_4 10 rfl rfl)
theorem dX5_get_104 : decode cX5_get 104 = .ok (.iload 7, 2) := dk_21 7 (dk_at dksX5_get_4 12 rfl rfl)
theorem dX5_get_106 : decode cX5_get 106 = .ok (.iconst (-1), 1) := dk_2 (dk_at dksX5_get_4 14 rfl rfl)
theorem dX5_get_107 : decode cX5_get 107 = .ok (.if_icmp .eq 67, 3) := dk_159 0 67 (dk_at dksX5_get_4 15 rfl rfl)
theorem dX5_get_110 : decode cX5_get 110 = .ok (.aload_n 0, 1) := dk_42 (dk_at dksX5_get_4 18 rfl rfl)
theorem dX5_get_111 : decode cX5_get 111 = .ok (.getfield 63, 3) := dk_180 0 63 (dk_at dksX5_get_4 19 rfl rfl)
theorem dX5_get_114 : decode cX5_get 114 = .ok (.iload 7, 2) := dk_21 7 (dk_at dksX5_get_4 22 rfl rfl)
theorem dX5_get_116 : decode cX5_get 116 = .ok (.iaload, 1) := dk_46 (dk_at dksX5_get_5 0 rfl rfl)
theorem dX5_get_117 : decode cX5_get 117 = .ok (.iload 8, 2) := dk_21 8 (dk_at dksX5_get_5 1 rfl rfl)
theorem dX5_get_119 : decode cX5_get 119 = .ok (.if_icmp .gt 55, 3) := dk_163 0 55 (dk_at dksX5_get_5 3 rfl rfl)
theorem dX5_get_122 : decode cX5_get 122 = .ok (.aload_n 0, 1) := dk_42 (dk_at dksX5_get_5 6 rfl rfl)
theorem dX5_get_123 : decode cX5_get 123 = .ok (.getfield 57, 3) := dk_180 0 57 (dk_at dksX5_get_5 7 rfl rfl)
theorem dX5_get_126 : decode cX5_get 126 = .ok (.iload_n 3, 1) := dk_29 (dk_at dksX5_get_5 10 rfl rfl)
theorem dX5_get_127 : decode cX5_get 127 = .ok (.iaload, 1) := dk_46 (dk_at dksX5_get_5 11 rfl rfl)
theorem dX5_get_128 : decode cX5_get 128 = .ok (.aload_n 0, 1) := dk_42 (dk_at dksX5_get_5 12 rfl rfl)
theorem dX5_get_129 : decode cX5_get 129 = .ok (.getfield 57, 3) := dk_180 0 57 (dk_at dksX5_get_5 13 rfl rfl)
theorem dX5_get_132 : decode cX5_get 132 = .ok (.iload 7, 2) := dk_21 7 (dk_at dksX5_get_5 16 rfl rfl)
theorem dX5_get_134 : decode cX5_get 134 = .ok (.iaload, 1) := dk_46 (dk_at dksX5_get_5 18 rfl rfl)
theorem dX5_get_135 : decode cX5_get 135 = .ok (.if_icmp .le 17, 3) := dk_164 0 17 (dk_at dksX5_get_5 19 rfl rfl)
theorem dX5_get_138 : decode cX5_get 138 = .ok (.aload_n 0, 1) := dk_42 (dk_at dksX5_get_5 22 rfl rfl)
theorem dX5_get_139 : decode cX5_get 139 = .ok (.getfield 63, 3) := dk_180 0 63 (dk_at dksX5_get_6 0 rfl rfl)
theorem dX5_get_142 : decode cX5_get 142 = .ok (.iload 7, 2) := dk_21 7 (dk_at dksX5_get_6 3 rfl rfl)
theorem dX5_get_144 : decode cX5_get 144 = .ok (.iload 8, 2) := dk_21 8 (dk_at dksX5_get_6 5 rfl rfl)
theorem dX5_get_146 : decode cX5_get 146 = .ok (.iconst 1, 1) := dk_4 (dk_at dksX5_get_6 7 rfl rfl)
theorem dX5_get_147 : decode cX5_get 147 = .ok (.iadd, 1) := dk_96 (dk_at dksX5_get_6 8 rfl rfl)
theorem dX5_get_148 : decode cX5_get 148 = .ok (.iastore, 1) := dk_79 (dk_at dksX5_get_6 9 rfl rfl)
theorem dX5_get_149 : decode cX5_get 149 = .ok (.goto 25, 3) := dk_167 0 25 (dk_at dksX5_get_6 10 rfl rfl)
theorem dX5_get_152 : decode cX5_get 152 = .ok (.aload_n 0, 1) := dk_42 (dk_at dksX5_get_6 13 rfl rfl)
theorem dX5_get_153 : decode cX5_get 153 = .ok (.iload_n 3, 1) := dk_29 (dk_at dksX5_get_6 14 rfl rfl)
theorem dX5_get_154 : decode cX5_get 154 = .ok (.iload 7, 2) := dk_21 7 (dk_at dksX5_get_6 15 rfl rfl)
theorem dX5_get_156 : decode cX5_get 156 = .ok (.invokevirtual 170, 3) := dk_182 0 170 (dk_at dksX5_get_6 17 rfl rfl)
theorem dX5_get_159 : decode cX5_get 159 = .ok (.ifCond .eq 9, 3) := dk_153 0 9 (dk_at dksX5_get_6 20 rfl rfl)
theorem dX5_get_162 : decode cX5_get 162 = .ok (.iconst 1, 1) := dk_4 (dk_at dksX5_get_6 23 rfl rfl)
theorem dX5_get_163 : decode cX5_get 163 = .ok (.istore 6, 2) := dk_54 6 (dk_at dksX5_get_7 0 rfl rfl)
theorem dX5_get_165 : decode cX5_get 165 = .ok (.goto 9, 3) := dk_167 0 9 (dk_at dksX5_get_7 2 rfl rfl)
theorem dX5_get_168 : decode cX5_get 168 = .ok (.aload_n 0, 1) := dk_42 (dk_at dksX5_get_7 5 rfl rfl)
theorem dX5_get_169 : decode cX5_get 169 = .ok (.iload_n 3, 1) := dk_29 (dk_at dksX5_get_7 6 rfl rfl)
theorem dX5_get_170 : decode cX5_get 170 = .ok (.invokevirtual 173, 3) := dk_182 0 173 (dk_at dksX5_get_7 7 rfl rfl)
theorem dX5_get_173 : decode cX5_get 173 = .ok (.ireturn, 1) := dk_172 (dk_at dksX5_get_7 10 rfl rfl)
theorem dX5_get_174 : decode cX5_get 174 = .ok (.aload_n 0, 1) := dk_42 (dk_at dksX5_get_7 11 rfl rfl)
theorem dX5_get_175 : decode cX5_get 175 = .ok (.iload_n 2, 1) := dk_28 (dk_at dksX5_get_7 12 rfl rfl)
theorem dX5_get_176 : decode cX5_get 176 = .ok (.iload 5, 2) := dk_21 5 (dk_at dksX5_get_7 13 rfl rfl)
theorem dX5_get_178 : decode cX5_get 178 = .ok (.invokevirtual 150, 3) := dk_182 0 150 (dk_at dksX5_get_7 15 rfl rfl)
theorem dX5_get_181 : decode cX5_get 181 = .ok (.istore 9, 2) := dk_54 9 (dk_at dksX5_get_7 18 rfl rfl)
theorem dX5_get_183 : decode cX5_get 183 = .ok (.iload 6, 2) := dk_21 6 (dk_at dksX5_get_7 20 rfl rfl)
theorem dX5_get_185 : decode cX5_get 185 = .ok (.ifCond .ne 60, 3) := dk_154 0 60 (dk_at dksX5_get_8 0 rfl rfl)
theorem dX5_get_188 : decode cX5_get 188 = .ok (.iload 9, 2) := dk_21 9 (dk_at dksX5_get_8 3 rfl rfl)
theorem dX5_get_190 : decode cX5_get 190 = .ok (.aload_n 0, 1) := dk_42 (dk_at dksX5_get_8 5 rfl rfl)
theorem dX5_get_191 : decode cX5_get 191 = .ok (.getfield 60, 3) := dk_180 0 60 (dk_at dksX5_get_8 6 rfl rfl)
theorem dX5_get_194 : decode cX5_get 194 = .ok (.iload_n 3, 1) := dk_29 (dk_at dksX5_get_8 9 rfl rfl)
theorem dX5_get_195 : decode cX5_get 195 = .ok (.iaload, 1) := dk_46 (dk_at dksX5_get_8 10 rfl rfl)
theorem dX5_get_196 : decode cX5_get 196 = .ok (.if_icmp .le 49, 3) := dk_164 0 49 (dk_at dksX5_get_8 11 rfl rfl)
theorem dX5_get_199 : decode cX5_get 199 = .ok (.aload_n 0, 1) := dk_42 (dk_at dksX5_get_8 14 rfl rfl)
theorem dX5_get_200 : decode cX5_get 200 = .ok (.iload_n 3, 1) := dk_29 (dk_at dksX5_get_8 15 rfl rfl)
theorem dX5_get_201 : decode cX5_get 201 = .ok (.iload 9, 2) := dk_21 9 (dk_at dksX5_get_8 16 rfl rfl)
theorem dX5_get_203 : decode cX5_get 203 = .ok (.invokevirtual 176, 3) := dk_182 0 176 (dk_at dksX5_get_8 18 rfl rfl)
theorem dX5_get_206 : decode cX5_get 206 = .ok (.ifCond .ne 11, 3) := dk_154 0 11 (dk_at dksX5_get_8 21 rfl rfl)
theorem dX5_get_209 : decode cX5_get 209 = .ok (.aload_n 0, 1) := dk_42 (dk_at dksX5_get_9 0 rfl rfl)
theorem dX5_get_210 : decode cX5_get 210 = .ok (.iload_n 3, 1) := dk_29 (dk_at dksX5_get_9 1 rfl rfl)
theorem dX5_get_211 : decode cX5_get 211 = .ok (.iload 9, 2) := dk_21 9 (dk_at dksX5_get_9 2 rfl rfl)
theorem dX5_get_213 : decode cX5_get 213 = .ok (.invokevirtual 179, 3) := dk_182 0 179 (dk_at dksX5_get_9 4 rfl rfl)
theorem dX5_get_216 : decode cX5_get 216 = .ok (.ireturn, 1) := dk_172 (dk_at dksX5_get_9 7 rfl rfl)
theorem dX5_get_217 : decode cX5_get 217 = .ok (.aload_n 0, 1) := dk_42 (dk_at dksX5_get_9 8 rfl rfl)
theorem dX5_get_218 : decode cX5_get 218 = .ok (.getfield 60, 3) := dk_180 0 60 (dk_at dksX5_get_9 9 rfl rfl)
theorem dX5_get_221 : decode cX5_get 221 = .ok (.iload_n 3, 1) := dk_29 (dk_at dksX5_get_9 12 rfl rfl)
theorem dX5_get_222 : decode cX5_get 222 = .ok (.iload 9, 2) := dk_21 9 (dk_at dksX5_get_9 13 rfl rfl)
theorem dX5_get_224 : decode cX5_get 224 = .ok (.iastore, 1) := dk_79 (dk_at dksX5_get_9 15 rfl rfl)
theorem dX5_get_225 : decode cX5_get 225 = .ok (.aload_n 0, 1) := dk_42 (dk_at dksX5_get_9 16 rfl rfl)
theorem dX5_get_226 : decode cX5_get 226 = .ok (.getfield 63, 3) := dk_180 0 63 (dk_at dksX5_get_9 17 rfl rfl)
theorem dX5_get_229 : decode cX5_get 229 = .ok (.iload_n 3, 1) := dk_29 (dk_at dksX5_get_9 20 rfl rfl)
theorem dX5_get_230 : decode cX5_get 230 = .ok (.aload_n 0, 1) := dk_42 (dk_at dksX5_get_9 21 rfl rfl)
theorem dX5_get_231 : decode cX5_get 231 = .ok (.getfield 63, 3) := dk_180 0 63 (dk_at dksX5_get_10 0 rfl rfl)
theorem dX5_get_234 : decode cX5_get 234 = .ok (.iload_n 3, 1) := dk_29 (dk_at dksX5_get_10 3 rfl rfl)
theorem dX5_get_235 : decode cX5_get 235 = .ok (.iaload, 1) := dk_46 (dk_at dksX5_get_10 4 rfl rfl)
theorem dX5_get_236 : decode cX5_get 236 = .ok (.iload 9, 2) := dk_21 9 (dk_at dksX5_get_10 5 rfl rfl)
theorem dX5_get_238 : decode cX5_get 238 = .ok (.invokestatic 103, 3) := dk_184 0 103 (dk_at dksX5_get_10 7 rfl rfl)
theorem dX5_get_241 : decode cX5_get 241 = .ok (.iastore, 1) := dk_79 (dk_at dksX5_get_10 10 rfl rfl)
theorem dX5_get_242 : decode cX5_get 242 = .ok (.iconst 1, 1) := dk_4 (dk_at dksX5_get_10 11 rfl rfl)
theorem dX5_get_243 : decode cX5_get 243 = .ok (.istore 6, 2) := dk_54 6 (dk_at dksX5_get_10 12 rfl rfl)
theorem dX5_get_245 : decode cX5_get 245 = .ok (.goto (-170), 3) := dk_167 255 86 (dk_at dksX5_get_10 14 rfl rfl)
theorem dX5_get_248 : decode cX5_get 248 = .ok (.aload_n 0, 1) := dk_42 (dk_at dksX5_get_10 17 rfl rfl)
theorem dX5_get_249 : decode cX5_get 249 = .ok (.iload_n 2, 1) := dk_28 (dk_at dksX5_get_10 18 rfl rfl)
theorem dX5_get_250 : decode cX5_get 250 = .ok (.aload_n 0, 1) := dk_42 (dk_at dksX5_get_10 19 rfl rfl)
theorem dX5_get_251 : decode cX5_get 251 = .ok (.getfield 60, 3) := dk_180 0 60 (dk_at dksX5_get_10 20 rfl rfl)
theorem dX5_get_254 : decode cX5_get 254 = .ok (.iload_n 3, 1) := dk_29 (dk_at dksX5_get_10 23 rfl rfl)
theorem dX5_get_255 : decode cX5_get 255 = .ok (.iaload, 1) := dk_46 (dk_at dksX5_get_11 0 rfl rfl)
theorem dX5_get_256 : decode cX5_get 256 = .ok (.invokevirtual 182, 3) := dk_182 0 182 (dk_at dksX5_get_11 1 rfl rfl)
theorem dX5_get_259 : decode cX5_get 259 = .ok (.istore 7, 2) := dk_54 7 (dk_at dksX5_get_11 4 rfl rfl)
theorem dX5_get_261 : decode cX5_get 261 = .ok (.aload_n 0, 1) := dk_42 (dk_at dksX5_get_11 6 rfl rfl)
theorem dX5_get_262 : decode cX5_get 262 = .ok (.getfield 84, 3) := dk_180 0 84 (dk_at dksX5_get_11 7 rfl rfl)
theorem dX5_get_265 : decode cX5_get 265 = .ok (.bipush 32, 2) := dk_16 32 (dk_at dksX5_get_11 10 rfl rfl)
theorem dX5_get_267 : decode cX5_get 267 = .ok (.iload_n 3, 1) := dk_29 (dk_at dksX5_get_11 12 rfl rfl)
theorem dX5_get_268 : decode cX5_get 268 = .ok (.imul, 1) := dk_104 (dk_at dksX5_get_11 13 rfl rfl)
theorem dX5_get_269 : decode cX5_get 269 = .ok (.iload_n 2, 1) := dk_28 (dk_at dksX5_get_11 14 rfl rfl)
theorem dX5_get_270 : decode cX5_get 270 = .ok (.iadd, 1) := dk_96 (dk_at dksX5_get_11 15 rfl rfl)
theorem dX5_get_271 : decode cX5_get 271 = .ok (.iload 7, 2) := dk_21 7 (dk_at dksX5_get_11 16 rfl rfl)
theorem dX5_get_273 : decode cX5_get 273 = .ok (.iastore, 1) := dk_79 (dk_at dksX5_get_11 18 rfl rfl)
theorem dX5_get_274 : decode cX5_get 274 = .ok (.aload_n 0, 1) := dk_42 (dk_at dksX5_get_11 19 rfl rfl)
theorem dX5_get_275 : decode cX5_get 275 = .ok (.iload_n 3, 1) := dk_29 (dk_at dksX5_get_11 20 rfl rfl)
theorem dX5_get_276 : decode cX5_get 276 = .ok (.iload_n 2, 1) := dk_28 (dk_at dksX5_get_11 21 rfl rfl)
theorem dX5_get_277 : decode cX5_get 277 = .ok (.aload_n 0, 1) := dk_42 (dk_at dksX5_get_11 22 rfl rfl)
theorem dX5_get_278 : decode cX5_get 278 = .ok (.getfield 60, 3) := dk_180 0 60 (dk_at dksX5_get_12 0 rfl rfl)
theorem dX5_get_281 : decode cX5_get 281 = .ok (.iload_n 3, 1) := dk_29 (dk_at dksX5_get_12 3 rfl rfl)
theorem dX5_get_282 : decode cX5_get 282 = .ok (.iaload, 1) := dk_46 (dk_at dksX5_get_12 4 rfl rfl)
theorem dX5_get_283 : decode cX5_get 283 = .ok (.invokevirtual 156, 3) := dk_182 0 156 (dk_at dksX5_get_12 5 rfl rfl)
theorem dX5_get_286 : decode cX5_get 286 = .ok (.iload 7, 2) := dk_21 7 (dk_at dksX5_get_12 8 rfl rfl)
theorem dX5_get_288 : decode cX5_get 288 = .ok (.ireturn, 1) := dk_172 (dk_at dksX5_get_12 10 rfl rfl)
abbrev cX5_areThere : ByteArray := prog_10_method_36_code
def yX5_areThere : MethodName := ⟨RX5, "areThere", "(II)Z"⟩
def dkwX5_areThere_1 : List UInt8 := [153, 0, 7, 3, 167, 0, 4, 4, 181, 0, 93, 42, 180, 0, 93, 154, 0, 7, 4, 167, 0, 4, 3, 172]
abbrev dktX5_areThere_1 : List UInt8 := dkwX5_areThere_1 ++ []
def dkwX5_areThere_0 : List UInt8 := [42, 27, 3, 42, 180, 0, 125, 4, 100, 184, 0, 96, 153, 0, 17, 28, 3, 16, 31, 184, 0, 96]
abbrev dktX5_areThere_0 : List UInt8 := dkwX5_areThere_0 ++ dktX5_areThere_1
theorem dksX5_areThere_0 : cX5_areThere.data.toList.drop 0 = dktX5_areThere_0 := by decide +kernel
theorem dksX5_areThere_1 : cX5_areThere.data.toList.drop 22 = dktX5_areThere_1 := dk_seg dksX5_areThere_0 22 rfl rfl
theorem dX5_areThere_0 : decode cX5_areThere 0 = .ok (.aload_n 0, 1) := dk_42 (dk_at dksX5_areThere_0 0 rfl rfl)
theorem dX5_areThere_1 : decode cX5_areThere 1 = .ok (.iload_n 1, 1) := dk_27 (dk_at dksX5_areThere_0 1 rfl rfl)
theorem dX5_areThere_2 : decode cX5_areThere 2 = .ok (.iconst 0, 1) := dk_3 (dk_at dksX5_areThere_0 2 rfl rfl)
theorem dX5_areThere_3 : decode cX5_areThere 3 = .ok (.aload_n 0, 1) := dk_42 (dk_at dksX5_areThere_0 3 rfl rfl)
theorem dX5_areThere_4 : decode cX5_areThere 4 = .ok (.getfield 125, 3) := dk_180 0 125 (dk_at dksX5_areThere_0 4 rfl rfl)
theorem dX5_areThere_7 : decode cX5_areThere 7 = .ok (.iconst 1, 1) := dk_4 (dk_at dksX5_areThere_0 7 rfl rfl)
theorem dX5_areThere_8 : decode cX5_areThere 8 = .ok (.isub, 1) := dk_100 (dk_at dksX5_areThere_0 8 rfl rfl)
theorem dX5_areThere_9 : decode cX5_areThere 9 = .ok (.invokestatic 96, 3) := dk_184 0 96 (dk_at dksX5_areThere_0 9 rfl rfl)
theorem dX5_areThere_12 : decode cX5_areThere 12 = .ok (.ifCond .eq 17, 3) := dk_153 0 17 (dk_at dksX5_areThere_0 12 rfl rfl)
theorem dX5_areThere_15 : decode cX5_areThere 15 = .ok (.iload_n 2, 1) := dk_28 (dk_at dksX5_areThere_0 15 rfl rfl)
theorem dX5_areThere_16 : decode cX5_areThere 16 = .ok (.iconst 0, 1) := dk_3 (dk_at dksX5_areThere_0 16 rfl rfl)
theorem dX5_areThere_17 : decode cX5_areThere 17 = .ok (.bipush 31, 2) := dk_16 31 (dk_at dksX5_areThere_0 17 rfl rfl)
theorem dX5_areThere_19 : decode cX5_areThere 19 = .ok (.invokestatic 96, 3) := dk_184 0 96 (dk_at dksX5_areThere_0 19 rfl rfl)
theorem dX5_areThere_22 : decode cX5_areThere 22 = .ok (.ifCond .eq 7, 3) := dk_153 0 7 (dk_at dksX5_areThere_1 0 rfl rfl)
theorem dX5_areThere_25 : decode cX5_areThere 25 = .ok (.iconst 0, 1) := dk_3 (dk_at dksX5_areThere_1 3 rfl rfl)
theorem dX5_areThere_26 : decode cX5_areThere 26 = .ok (.goto 4, 3) := dk_167 0 4 (dk_at dksX5_areThere_1 4 rfl rfl)
theorem dX5_areThere_29 : decode cX5_areThere 29 = .ok (.iconst 1, 1) := dk_4 (dk_at dksX5_areThere_1 7 rfl rfl)
theorem dX5_areThere_30 : decode cX5_areThere 30 = .ok (.putfield 93, 3) := dk_181 0 93 (dk_at dksX5_areThere_1 8 rfl rfl)
theorem dX5_areThere_33 : decode cX5_areThere 33 = .ok (.aload_n 0, 1) := dk_42 (dk_at dksX5_areThere_1 11 rfl rfl)
theorem dX5_areThere_34 : decode cX5_areThere 34 = .ok (.getfield 93, 3) := dk_180 0 93 (dk_at dksX5_areThere_1 12 rfl rfl)
theorem dX5_areThere_37 : decode cX5_areThere 37 = .ok (.ifCond .ne 7, 3) := dk_154 0 7 (dk_at dksX5_areThere_1 15 rfl rfl)
theorem dX5_areThere_40 : decode cX5_areThere 40 = .ok (.iconst 1, 1) := dk_4 (dk_at dksX5_areThere_1 18 rfl rfl)
theorem dX5_areThere_41 : decode cX5_areThere 41 = .ok (.goto 4, 3) := dk_167 0 4 (dk_at dksX5_areThere_1 19 rfl rfl)
theorem dX5_areThere_44 : decode cX5_areThere 44 = .ok (.iconst 0, 1) := dk_3 (dk_at dksX5_areThere_1 22 rfl rfl)
theorem dX5_areThere_45 : decode cX5_areThere 45 = .ok (.ireturn, 1) := dk_172 (dk_at dksX5_areThere_1 23 rfl rfl)
abbrev cX5_opens : ByteArray := prog_10_method_35_code
def yX5_opens : MethodName := ⟨RX5, "opens", "(II)I"⟩
def dkwX5_opens_5 : List UInt8 := [167, 0, 9, 42, 180, 0, 66, 27, 46, 79, 3, 172]
abbrev dktX5_opens_5 : List UInt8 := dkwX5_opens_5 ++ []
def dkwX5_opens_4 : List UInt8 := [54, 4, 42, 180, 0, 81, 7, 27, 104, 29, 96, 21, 4, 42, 180, 0, 66, 27, 46, 162, 0, 8, 21, 4]
abbrev dktX5_opens_4 : List UInt8 := dkwX5_opens_4 ++ dktX5_opens_5
def dkwX5_opens_3 : List UInt8 := [184, 0, 103, 79, 42, 180, 0, 81, 7, 27, 104, 29, 96, 46, 2, 160, 0, 42, 42, 29, 182, 0, 107]
abbrev dktX5_opens_3 : List UInt8 := dkwX5_opens_3 ++ dktX5_opens_4
def dkwX5_opens_2 : List UInt8 := [180, 0, 75, 27, 2, 79, 42, 180, 0, 13, 29, 42, 180, 0, 13, 29, 46, 42, 180, 0, 60, 27, 46]
abbrev dktX5_opens_2 : List UInt8 := dkwX5_opens_2 ++ dktX5_opens_3
def dkwX5_opens_1 : List UInt8 := [180, 0, 54, 27, 46, 51, 154, 0, 12, 42, 180, 0, 16, 29, 51, 153, 0, 6, 16, 242, 172, 42]
abbrev dktX5_opens_1 : List UInt8 := dkwX5_opens_1 ++ dktX5_opens_2
def dkwX5_opens_0 : List UInt8 := [42, 180, 0, 72, 27, 46, 153, 0, 6, 16, 243, 172, 42, 28, 182, 0, 118, 62, 42, 180, 0, 16, 42]
abbrev dktX5_opens_0 : List UInt8 := dkwX5_opens_0 ++ dktX5_opens_1
theorem dksX5_opens_0 : cX5_opens.data.toList.drop 0 = dktX5_opens_0 := by decide +kernel
theorem dksX5_opens_1 : cX5_opens.data.toList.drop 23 = dktX5_opens_1 := dk_seg dksX5_opens_0 23 rfl rfl
theorem dksX5_opens_2 : cX5_opens.data.toList.drop 45 = dktX5_opens_2 := dk_seg dksX5_opens_1 22 rfl rfl
theorem dksX5_opens_3 : cX5_opens.data.toList.drop 68 = dktX5_opens_3 := dk_seg dksX5_opens_2 23 rfl rfl
theorem dksX5_opens_4 : cX5_opens.data.toList.drop 91 = dktX5_opens_4 := dk_seg dksX5_opens_3 23 rfl rfl
theorem dksX5_opens_5 : cX5_opens.data.toList.drop 115 = dktX5_opens_5 := dk_seg dksX5_opens_4 24 rfl rfl
theorem dX5_opens_0 : decode cX5_opens 0 = .ok (.aload_n 0, 1) := dk_42 (dk_at dksX5_opens_0 0 rfl rfl)
theorem dX5_opens_1 : decode cX5_opens 1 = .ok (.getfield 72, 3) := dk_180 0 72 (dk_at dksX5_opens_0 1 rfl rfl)
theorem dX5_opens_4 : decode cX5_opens 4 = .ok (.iload_n 1, 1) := dk_27 (dk_at dksX5_opens_0 4 rfl rfl)
theorem dX5_opens_5 : decode cX5_opens 5 = .ok (.iaload, 1) := dk_46 (dk_at dksX5_opens_0 5 rfl rfl)
theorem dX5_opens_6 : decode cX5_opens 6 = .ok (.ifCond .eq 6, 3) := dk_153 0 6 (dk_at dksX5_opens_0 6 rfl rfl)
theorem dX5_opens_9 : decode cX5_opens 9 = .ok (.bipush (-13), 2) := dk_16 243 (dk_at dksX5_opens_0 9 rfl rfl)
theorem dX5_opens_11 : decode cX5_opens 11 = .ok (.ireturn, 1) := dk_172 (dk_at dksX5_opens_0 11 rfl rfl)
theorem dX5_opens_12 : decode cX5_opens 12 = .ok (.aload_n 0, 1) := dk_42 (dk_at dksX5_opens_0 12 rfl rfl)
theorem dX5_opens_13 : decode cX5_opens 13 = .ok (.iload_n 2, 1) := dk_28 (dk_at dksX5_opens_0 13 rfl rfl)
theorem dX5_opens_14 : decode cX5_opens 14 = .ok (.invokevirtual 118, 3) := dk_182 0 118 (dk_at dksX5_opens_0 14 rfl rfl)
theorem dX5_opens_17 : decode cX5_opens 17 = .ok (.istore_n 3, 1) := dk_62 (dk_at dksX5_opens_0 17 rfl rfl)
theorem dX5_opens_18 : decode cX5_opens 18 = .ok (.aload_n 0, 1) := dk_42 (dk_at dksX5_opens_0 18 rfl rfl)
theorem dX5_opens_19 : decode cX5_opens 19 = .ok (.getfield 16, 3) := dk_180 0 16 (dk_at dksX5_opens_0 19 rfl rfl)
theorem dX5_opens_22 : decode cX5_opens 22 = .ok (.aload_n 0, 1) := dk_42 (dk_at dksX5_opens_0 22 rfl rfl)
theorem dX5_opens_23 : decode cX5_opens 23 = .ok (.getfield 54, 3) := dk_180 0 54 (dk_at dksX5_opens_1 0 rfl rfl)
theorem dX5_opens_26 : decode cX5_opens 26 = .ok (.iload_n 1, 1) := dk_27 (dk_at dksX5_opens_1 3 rfl rfl)
theorem dX5_opens_27 : decode cX5_opens 27 = .ok (.iaload, 1) := dk_46 (dk_at dksX5_opens_1 4 rfl rfl)
theorem dX5_opens_28 : decode cX5_opens 28 = .ok (.baload, 1) := dk_51 (dk_at dksX5_opens_1 5 rfl rfl)
theorem dX5_opens_29 : decode cX5_opens 29 = .ok (.ifCond .ne 12, 3) := dk_154 0 12 (dk_at dksX5_opens_1 6 rfl rfl)
theorem dX5_opens_32 : decode cX5_opens 32 = .ok (.aload_n 0, 1) := dk_42 (dk_at dksX5_opens_1 9 rfl rfl)
theorem dX5_opens_33 : decode cX5_opens 33 = .ok (.getfield 16, 3) := dk_180 0 16 (dk_at dksX5_opens_1 10 rfl rfl)
theorem dX5_opens_36 : decode cX5_opens 36 = .ok (.iload_n 3, 1) := dk_29 (dk_at dksX5_opens_1 13 rfl rfl)
theorem dX5_opens_37 : decode cX5_opens 37 = .ok (.baload, 1) := dk_51 (dk_at dksX5_opens_1 14 rfl rfl)
theorem dX5_opens_38 : decode cX5_opens 38 = .ok (.ifCond .eq 6, 3) := dk_153 0 6 (dk_at dksX5_opens_1 15 rfl rfl)
theorem dX5_opens_41 : decode cX5_opens 41 = .ok (.bipush (-14), 2) := dk_16 242 (dk_at dksX5_opens_1 18 rfl rfl)
theorem dX5_opens_43 : decode cX5_opens 43 = .ok (.ireturn, 1) := dk_172 (dk_at dksX5_opens_1 20 rfl rfl)
theorem dX5_opens_44 : decode cX5_opens 44 = .ok (.aload_n 0, 1) := dk_42 (dk_at dksX5_opens_1 21 rfl rfl)
theorem dX5_opens_45 : decode cX5_opens 45 = .ok (.getfield 75, 3) := dk_180 0 75 (dk_at dksX5_opens_2 0 rfl rfl)
theorem dX5_opens_48 : decode cX5_opens 48 = .ok (.iload_n 1, 1) := dk_27 (dk_at dksX5_opens_2 3 rfl rfl)
theorem dX5_opens_49 : decode cX5_opens 49 = .ok (.iconst (-1), 1) := dk_2 (dk_at dksX5_opens_2 4 rfl rfl)
theorem dX5_opens_50 : decode cX5_opens 50 = .ok (.iastore, 1) := dk_79 (dk_at dksX5_opens_2 5 rfl rfl)
theorem dX5_opens_51 : decode cX5_opens 51 = .ok (.aload_n 0, 1) := dk_42 (dk_at dksX5_opens_2 6 rfl rfl)
theorem dX5_opens_52 : decode cX5_opens 52 = .ok (.getfield 13, 3) := dk_180 0 13 (dk_at dksX5_opens_2 7 rfl rfl)
theorem dX5_opens_55 : decode cX5_opens 55 = .ok (.iload_n 3, 1) := dk_29 (dk_at dksX5_opens_2 10 rfl rfl)
theorem dX5_opens_56 : decode cX5_opens 56 = .ok (.aload_n 0, 1) := dk_42 (dk_at dksX5_opens_2 11 rfl rfl)
theorem dX5_opens_57 : decode cX5_opens 57 = .ok (.getfield 13, 3) := dk_180 0 13 (dk_at dksX5_opens_2 12 rfl rfl)
theorem dX5_opens_60 : decode cX5_opens 60 = .ok (.iload_n 3, 1) := dk_29 (dk_at dksX5_opens_2 15 rfl rfl)
theorem dX5_opens_61 : decode cX5_opens 61 = .ok (.iaload, 1) := dk_46 (dk_at dksX5_opens_2 16 rfl rfl)
theorem dX5_opens_62 : decode cX5_opens 62 = .ok (.aload_n 0, 1) := dk_42 (dk_at dksX5_opens_2 17 rfl rfl)
theorem dX5_opens_63 : decode cX5_opens 63 = .ok (.getfield 60, 3) := dk_180 0 60 (dk_at dksX5_opens_2 18 rfl rfl)
theorem dX5_opens_66 : decode cX5_opens 66 = .ok (.iload_n 1, 1) := dk_27 (dk_at dksX5_opens_2 21 rfl rfl)
theorem dX5_opens_67 : decode cX5_opens 67 = .ok (.iaload, 1) := dk_46 (dk_at dksX5_opens_2 22 rfl rfl)
theorem dX5_opens_68 : decode cX5_opens 68 = .ok (.invokestatic 103, 3) := dk_184 0 103 (dk_at dksX5_opens_3 0 rfl rfl)
theorem dX5_opens_71 : decode cX5_opens 71 = .ok (.iastore, 1) := dk_79 (dk_at dksX5_opens_3 3 rfl rfl)
theorem dX5_opens_72 : decode cX5_opens 72 = .ok (.aload_n 0, 1) := dk_42 (dk_at dksX5_opens_3 4 rfl rfl)
theorem dX5_opens_73 : decode cX5_opens 73 = .ok (.getfield 81, 3) := dk_180 0 81 (dk_at dksX5_opens_3 5 rfl rfl)
theorem dX5_opens_76 : decode cX5_opens 76 = .ok (.iconst 4, 1) := dk_7 (dk_at dksX5_opens_3 8 rfl rfl)
theorem dX5_opens_77 : decode cX5_opens 77 = .ok (.iload_n 1, 1) := dk_27 (dk_at dksX5_opens_3 9 rfl rfl)
theorem dX5_opens_78 : decode cX5_opens 78 = .ok (.imul, 1) := dk_104 (dk_at dksX5_opens_3 10 rfl rfl)
theorem dX5_opens_79 : decode cX5_opens 79 = .ok (.iload_n 3, 1) := dk_29 (dk_at dksX5_opens_3 11 rfl rfl)
theorem dX5_opens_80 : decode cX5_opens 80 = .ok (.iadd, 1) := dk_96 (dk_at dksX5_opens_3 12 rfl rfl)
theorem dX5_opens_81 : decode cX5_opens 81 = .ok (.iaload, 1) := dk_46 (dk_at dksX5_opens_3 13 rfl rfl)
theorem dX5_opens_82 : decode cX5_opens 82 = .ok (.iconst (-1), 1) := dk_2 (dk_at dksX5_opens_3 14 rfl rfl)
theorem dX5_opens_83 : decode cX5_opens 83 = .ok (.if_icmp .ne 42, 3) := dk_160 0 42 (dk_at dksX5_opens_3 15 rfl rfl)
theorem dX5_opens_86 : decode cX5_opens 86 = .ok (.aload_n 0, 1) := dk_42 (dk_at dksX5_opens_3 18 rfl rfl)
theorem dX5_opens_87 : decode cX5_opens 87 = .ok (.iload_n 3, 1) := dk_29 (dk_at dksX5_opens_3 19 rfl rfl)
theorem dX5_opens_88 : decode cX5_opens 88 = .ok (.invokevirtual 107, 3) := dk_182 0 107 (dk_at dksX5_opens_3 20 rfl rfl)
theorem dX5_opens_91 : decode cX5_opens 91 = .ok (.istore 4, 2) := dk_54 4 (dk_at dksX5_opens_4 0 rfl rfl)
theorem dX5_opens_93 : decode cX5_opens 93 = .ok (.aload_n 0, 1) := dk_42 (dk_at dksX5_opens_4 2 rfl rfl)
theorem dX5_opens_94 : decode cX5_opens 94 = .ok (.getfield 81, 3) := dk_180 0 81 (dk_at dksX5_opens_4 3 rfl rfl)
theorem dX5_opens_97 : decode cX5_opens 97 = .ok (.iconst 4, 1) := dk_7 (dk_at dksX5_opens_4 6 rfl rfl)
theorem dX5_opens_98 : decode cX5_opens 98 = .ok (.iload_n 1, 1) := dk_27 (dk_at dksX5_opens_4 7 rfl rfl)
theorem dX5_opens_99 : decode cX5_opens 99 = .ok (.imul, 1) := dk_104 (dk_at dksX5_opens_4 8 rfl rfl)
theorem dX5_opens_100 : decode cX5_opens 100 = .ok (.iload_n 3, 1) := dk_29 (dk_at dksX5_opens_4 9 rfl rfl)
theorem dX5_opens_101 : decode cX5_opens 101 = .ok (.iadd, 1) := dk_96 (dk_at dksX5_opens_4 10 rfl rfl)
theorem dX5_opens_102 : decode cX5_opens 102 = .ok (.iload 4, 2) := dk_21 4 (dk_at dksX5_opens_4 11 rfl rfl)
theorem dX5_opens_104 : decode cX5_opens 104 = .ok (.aload_n 0, 1) := dk_42 (dk_at dksX5_opens_4 13 rfl rfl)
theorem dX5_opens_105 : decode cX5_opens 105 = .ok (.getfield 66, 3) := dk_180 0 66 (dk_at dksX5_opens_4 14 rfl rfl)
theorem dX5_opens_108 : decode cX5_opens 108 = .ok (.iload_n 1, 1) := dk_27 (dk_at dksX5_opens_4 17 rfl rfl)
theorem dX5_opens_109 : decode cX5_opens 109 = .ok (.iaload, 1) := dk_46 (dk_at dksX5_opens_4 18 rfl rfl)
theorem dX5_opens_110 : decode cX5_opens 110 = .ok (.if_icmp .ge 8, 3) := dk_162 0 8 (dk_at dksX5_opens_4 19 rfl rfl)
theorem dX5_opens_113 : decode cX5_opens 113 = .ok (.iload 4, 2) := dk_21 4 (dk_at dksX5_opens_4 22 rfl rfl)
theorem dX5_opens_115 : decode cX5_opens 115 = .ok (.goto 9, 3) := dk_167 0 9 (dk_at dksX5_opens_5 0 rfl rfl)
theorem dX5_opens_118 : decode cX5_opens 118 = .ok (.aload_n 0, 1) := dk_42 (dk_at dksX5_opens_5 3 rfl rfl)
theorem dX5_opens_119 : decode cX5_opens 119 = .ok (.getfield 66, 3) := dk_180 0 66 (dk_at dksX5_opens_5 4 rfl rfl)
theorem dX5_opens_122 : decode cX5_opens 122 = .ok (.iload_n 1, 1) := dk_27 (dk_at dksX5_opens_5 7 rfl rfl)
theorem dX5_opens_123 : decode cX5_opens 123 = .ok (.iaload, 1) := dk_46 (dk_at dksX5_opens_5 8 rfl rfl)
theorem dX5_opens_124 : decode cX5_opens 124 = .ok (.iastore, 1) := dk_79 (dk_at dksX5_opens_5 9 rfl rfl)
theorem dX5_opens_125 : decode cX5_opens 125 = .ok (.iconst 0, 1) := dk_3 (dk_at dksX5_opens_5 10 rfl rfl)
theorem dX5_opens_126 : decode cX5_opens 126 = .ok (.ireturn, 1) := dk_172 (dk_at dksX5_opens_5 11 rfl rfl)
abbrev cX5_meets : ByteArray := prog_10_method_26_code
def yX5_meets : MethodName := ⟨RX5, "meets", "(II)I"⟩
def dkwX5_meets_3 : List UInt8 := [154, 0, 7, 29, 167, 0, 4, 2, 172]
abbrev dktX5_meets_3 : List UInt8 := dkwX5_meets_3 ++ []
def dkwX5_meets_2 : List UInt8 := [79, 42, 180, 0, 72, 29, 46, 6, 160, 0, 10, 42, 180, 0, 30, 28, 2, 79, 42, 180, 0, 72, 29, 46]
abbrev dktX5_meets_2 : List UInt8 := dkwX5_meets_2 ++ dktX5_meets_3
def dkwX5_meets_1 : List UInt8 := [46, 4, 160, 0, 8, 42, 29, 182, 0, 144, 42, 29, 182, 0, 147, 153, 0, 10, 42, 180, 0, 72, 29, 6]
abbrev dktX5_meets_1 : List UInt8 := dkwX5_meets_1 ++ dktX5_meets_2
def dkwX5_meets_0 : List UInt8 := [42, 180, 0, 30, 28, 46, 62, 29, 2, 159, 0, 8, 29, 27, 160, 0, 5, 2, 172, 42, 180, 0, 72, 29]
abbrev dktX5_meets_0 : List UInt8 := dkwX5_meets_0 ++ dktX5_meets_1
theorem dksX5_meets_0 : cX5_meets.data.toList.drop 0 = dktX5_meets_0 := by decide +kernel
theorem dksX5_meets_1 : cX5_meets.data.toList.drop 24 = dktX5_meets_1 := dk_seg dksX5_meets_0 24 rfl rfl
theorem dksX5_meets_2 : cX5_meets.data.toList.drop 48 = dktX5_meets_2 := dk_seg dksX5_meets_1 24 rfl rfl
theorem dksX5_meets_3 : cX5_meets.data.toList.drop 72 = dktX5_meets_3 := dk_seg dksX5_meets_2 24 rfl rfl
theorem dX5_meets_0 : decode cX5_meets 0 = .ok (.aload_n 0, 1) := dk_42 (dk_at dksX5_meets_0 0 rfl rfl)
theorem dX5_meets_1 : decode cX5_meets 1 = .ok (.getfield 30, 3) := dk_180 0 30 (dk_at dksX5_meets_0 1 rfl rfl)
theorem dX5_meets_4 : decode cX5_meets 4 = .ok (.iload_n 2, 1) := dk_28 (dk_at dksX5_meets_0 4 rfl rfl)
theorem dX5_meets_5 : decode cX5_meets 5 = .ok (.iaload, 1) := dk_46 (dk_at dksX5_meets_0 5 rfl rfl)
theorem dX5_meets_6 : decode cX5_meets 6 = .ok (.istore_n 3, 1) := dk_62 (dk_at dksX5_meets_0 6 rfl rfl)
theorem dX5_meets_7 : decode cX5_meets 7 = .ok (.iload_n 3, 1) := dk_29 (dk_at dksX5_meets_0 7 rfl rfl)
theorem dX5_meets_8 : decode cX5_meets 8 = .ok (.iconst (-1), 1) := dk_2 (dk_at dksX5_meets_0 8 rfl rfl)
theorem dX5_meets_9 : decode cX5_meets 9 = .ok (.if_icmp .eq 8, 3) := dk_159 0 8 (dk_at dksX5_meets_0 9 rfl rfl)
theorem dX5_meets_12 : decode cX5_meets 12 = .ok (.iload_n 3, 1) := dk_29 (dk_at dksX5_meets_0 12 rfl rfl)
theorem dX5_meets_13 : decode cX5_meets 13 = .ok (.iload_n 1, 1) := dk_27 (dk_at dksX5_meets_0 13 rfl rfl)
theorem dX5_meets_14 : decode cX5_meets 14 = .ok (.if_icmp .ne 5, 3) := dk_160 0 5 (dk_at dksX5_meets_0 14 rfl rfl)
theorem dX5_meets_17 : decode cX5_meets 17 = .ok (.iconst (-1), 1) := dk_2 (dk_at dksX5_meets_0 17 rfl rfl)
theorem dX5_meets_18 : decode cX5_meets 18 = .ok (.ireturn, 1) := dk_172 (dk_at dksX5_meets_0 18 rfl rfl)
theorem dX5_meets_19 : decode cX5_meets 19 = .ok (.aload_n 0, 1) := dk_42 (dk_at dksX5_meets_0 19 rfl rfl)
theorem dX5_meets_20 : decode cX5_meets 20 = .ok (.getfield 72, 3) := dk_180 0 72 (dk_at dksX5_meets_0 20 rfl rfl)
theorem dX5_meets_23 : decode cX5_meets 23 = .ok (.iload_n 3, 1) := dk_29 (dk_at dksX5_meets_0 23 rfl rfl)
theorem dX5_meets_24 : decode cX5_meets 24 = .ok (.iaload, 1) := dk_46 (dk_at dksX5_meets_1 0 rfl rfl)
theorem dX5_meets_25 : decode cX5_meets 25 = .ok (.iconst 1, 1) := dk_4 (dk_at dksX5_meets_1 1 rfl rfl)
theorem dX5_meets_26 : decode cX5_meets 26 = .ok (.if_icmp .ne 8, 3) := dk_160 0 8 (dk_at dksX5_meets_1 2 rfl rfl)
theorem dX5_meets_29 : decode cX5_meets 29 = .ok (.aload_n 0, 1) := dk_42 (dk_at dksX5_meets_1 5 rfl rfl)
theorem dX5_meets_30 : decode cX5_meets 30 = .ok (.iload_n 3, 1) := dk_29 (dk_at dksX5_meets_1 6 rfl rfl)
theorem dX5_meets_31 : decode cX5_meets 31 = .ok (.invokevirtual 144, 3) := dk_182 0 144 (dk_at dksX5_meets_1 7 rfl rfl)
theorem dX5_meets_34 : decode cX5_meets 34 = .ok (.aload_n 0, 1) := dk_42 (dk_at dksX5_meets_1 10 rfl rfl)
theorem dX5_meets_35 : decode cX5_meets 35 = .ok (.iload_n 3, 1) := dk_29 (dk_at dksX5_meets_1 11 rfl rfl)
theorem dX5_meets_36 : decode cX5_meets 36 = .ok (.invokevirtual 147, 3) := dk_182 0 147 (dk_at dksX5_meets_1 12 rfl rfl)
theorem dX5_meets_39 : decode cX5_meets 39 = .ok (.ifCond .eq 10, 3) := dk_153 0 10 (dk_at dksX5_meets_1 15 rfl rfl)
theorem dX5_meets_42 : decode cX5_meets 42 = .ok (.aload_n 0, 1) := dk_42 (dk_at dksX5_meets_1 18 rfl rfl)
theorem dX5_meets_43 : decode cX5_meets 43 = .ok (.getfield 72, 3) := dk_180 0 72 (dk_at dksX5_meets_1 19 rfl rfl)
theorem dX5_meets_46 : decode cX5_meets 46 = .ok (.iload_n 3, 1) := dk_29 (dk_at dksX5_meets_1 22 rfl rfl)
theorem dX5_meets_47 : decode cX5_meets 47 = .ok (.iconst 3, 1) := dk_6 (dk_at dksX5_meets_1 23 rfl rfl)
theorem dX5_meets_48 : decode cX5_meets 48 = .ok (.iastore, 1) := dk_79 (dk_at dksX5_meets_2 0 rfl rfl)
theorem dX5_meets_49 : decode cX5_meets 49 = .ok (.aload_n 0, 1) := dk_42 (dk_at dksX5_meets_2 1 rfl rfl)
theorem dX5_meets_50 : decode cX5_meets 50 = .ok (.getfield 72, 3) := dk_180 0 72 (dk_at dksX5_meets_2 2 rfl rfl)
theorem dX5_meets_53 : decode cX5_meets 53 = .ok (.iload_n 3, 1) := dk_29 (dk_at dksX5_meets_2 5 rfl rfl)
theorem dX5_meets_54 : decode cX5_meets 54 = .ok (.iaload, 1) := dk_46 (dk_at dksX5_meets_2 6 rfl rfl)
theorem dX5_meets_55 : decode cX5_meets 55 = .ok (.iconst 3, 1) := dk_6 (dk_at dksX5_meets_2 7 rfl rfl)
theorem dX5_meets_56 : decode cX5_meets 56 = .ok (.if_icmp .ne 10, 3) := dk_160 0 10 (dk_at dksX5_meets_2 8 rfl rfl)
theorem dX5_meets_59 : decode cX5_meets 59 = .ok (.aload_n 0, 1) := dk_42 (dk_at dksX5_meets_2 11 rfl rfl)
theorem dX5_meets_60 : decode cX5_meets 60 = .ok (.getfield 30, 3) := dk_180 0 30 (dk_at dksX5_meets_2 12 rfl rfl)
theorem dX5_meets_63 : decode cX5_meets 63 = .ok (.iload_n 2, 1) := dk_28 (dk_at dksX5_meets_2 15 rfl rfl)
theorem dX5_meets_64 : decode cX5_meets 64 = .ok (.iconst (-1), 1) := dk_2 (dk_at dksX5_meets_2 16 rfl rfl)
theorem dX5_meets_65 : decode cX5_meets 65 = .ok (.iastore, 1) := dk_79 (dk_at dksX5_meets_2 17 rfl rfl)
theorem dX5_meets_66 : decode cX5_meets 66 = .ok (.aload_n 0, 1) := dk_42 (dk_at dksX5_meets_2 18 rfl rfl)
theorem dX5_meets_67 : decode cX5_meets 67 = .ok (.getfield 72, 3) := dk_180 0 72 (dk_at dksX5_meets_2 19 rfl rfl)
theorem dX5_meets_70 : decode cX5_meets 70 = .ok (.iload_n 3, 1) := dk_29 (dk_at dksX5_meets_2 22 rfl rfl)
theorem dX5_meets_71 : decode cX5_meets 71 = .ok (.iaload, 1) := dk_46 (dk_at dksX5_meets_2 23 rfl rfl)
theorem dX5_meets_72 : decode cX5_meets 72 = .ok (.ifCond .ne 7, 3) := dk_154 0 7 (dk_at dksX5_meets_3 0 rfl rfl)
theorem dX5_meets_75 : decode cX5_meets 75 = .ok (.iload_n 3, 1) := dk_29 (dk_at dksX5_meets_3 3 rfl rfl)
theorem dX5_meets_76 : decode cX5_meets 76 = .ok (.goto 4, 3) := dk_167 0 4 (dk_at dksX5_meets_3 4 rfl rfl)
theorem dX5_meets_79 : decode cX5_meets 79 = .ok (.iconst (-1), 1) := dk_2 (dk_at dksX5_meets_3 7 rfl rfl)
theorem dX5_meets_80 : decode cX5_meets 80 = .ok (.ireturn, 1) := dk_172 (dk_at dksX5_meets_3 8 rfl rfl)
abbrev cX5_recovers : ByteArray := prog_10_method_25_code
def yX5_recovers : MethodName := ⟨RX5, "recovers", "(I)V"⟩
def dkwX5_recovers_0 : List UInt8 := [42, 27, 182, 0, 138, 153, 0, 11, 42, 27, 182, 0, 142, 167, 0, 10, 42, 180, 0, 72, 27, 6, 79, 177]
abbrev dktX5_recovers_0 : List UInt8 := dkwX5_recovers_0 ++ []
theorem dksX5_recovers_0 : cX5_recovers.data.toList.drop 0 = dktX5_recovers_0 := by decide +kernel
theorem dX5_recovers_0 : decode cX5_recovers 0 = .ok (.aload_n 0, 1) := dk_42 (dk_at dksX5_recovers_0 0 rfl rfl)
theorem dX5_recovers_1 : decode cX5_recovers 1 = .ok (.iload_n 1, 1) := dk_27 (dk_at dksX5_recovers_0 1 rfl rfl)
theorem dX5_recovers_2 : decode cX5_recovers 2 = .ok (.invokevirtual 138, 3) := dk_182 0 138 (dk_at dksX5_recovers_0 2 rfl rfl)
theorem dX5_recovers_5 : decode cX5_recovers 5 = .ok (.ifCond .eq 11, 3) := dk_153 0 11 (dk_at dksX5_recovers_0 5 rfl rfl)
theorem dX5_recovers_8 : decode cX5_recovers 8 = .ok (.aload_n 0, 1) := dk_42 (dk_at dksX5_recovers_0 8 rfl rfl)
theorem dX5_recovers_9 : decode cX5_recovers 9 = .ok (.iload_n 1, 1) := dk_27 (dk_at dksX5_recovers_0 9 rfl rfl)
theorem dX5_recovers_10 : decode cX5_recovers 10 = .ok (.invokevirtual 142, 3) := dk_182 0 142 (dk_at dksX5_recovers_0 10 rfl rfl)
theorem dX5_recovers_13 : decode cX5_recovers 13 = .ok (.goto 10, 3) := dk_167 0 10 (dk_at dksX5_recovers_0 13 rfl rfl)
theorem dX5_recovers_16 : decode cX5_recovers 16 = .ok (.aload_n 0, 1) := dk_42 (dk_at dksX5_recovers_0 16 rfl rfl)
theorem dX5_recovers_17 : decode cX5_recovers 17 = .ok (.getfield 72, 3) := dk_180 0 72 (dk_at dksX5_recovers_0 17 rfl rfl)
theorem dX5_recovers_20 : decode cX5_recovers 20 = .ok (.iload_n 1, 1) := dk_27 (dk_at dksX5_recovers_0 20 rfl rfl)
theorem dX5_recovers_21 : decode cX5_recovers 21 = .ok (.iconst 3, 1) := dk_6 (dk_at dksX5_recovers_0 21 rfl rfl)
theorem dX5_recovers_22 : decode cX5_recovers 22 = .ok (.iastore, 1) := dk_79 (dk_at dksX5_recovers_0 22 rfl rfl)
theorem dX5_recovers_23 : decode cX5_recovers 23 = .ok (.return_, 1) := dk_177 (dk_at dksX5_recovers_0 23 rfl rfl)
abbrev cX5_hasAllIntents : ByteArray := prog_10_method_24_code
def yX5_hasAllIntents : MethodName := ⟨RX5, "hasAllIntents", "(I)Z"⟩
def dkwX5_hasAllIntents_2 : List UInt8 := [167, 255, 212, 28, 172]
abbrev dktX5_hasAllIntents_2 : List UInt8 := dkwX5_hasAllIntents_2 ++ []
def dkwX5_hasAllIntents_1 : List UInt8 := [46, 2, 159, 0, 13, 42, 180, 0, 30, 29, 46, 27, 160, 0, 7, 4, 167, 0, 4, 3, 61, 132, 3, 1]
abbrev dktX5_hasAllIntents_1 : List UInt8 := dkwX5_hasAllIntents_1 ++ dktX5_hasAllIntents_2
def dkwX5_hasAllIntents_0 : List UInt8 := [4, 61, 3, 62, 29, 16, 32, 162, 0, 44, 28, 153, 0, 32, 42, 180, 0, 87, 16, 32, 27, 104, 29, 96]
abbrev dktX5_hasAllIntents_0 : List UInt8 := dkwX5_hasAllIntents_0 ++ dktX5_hasAllIntents_1
theorem dksX5_hasAllIntents_0 : cX5_hasAllIntents.data.toList.drop 0 = dktX5_hasAllIntents_0 := by decide +kernel
theorem dksX5_hasAllIntents_1 : cX5_hasAllIntents.data.toList.drop 24 = dktX5_hasAllIntents_1 := dk_seg dksX5_hasAllIntents_0 24 rfl rfl
theorem dksX5_hasAllIntents_2 : cX5_hasAllIntents.data.toList.drop 48 = dktX5_hasAllIntents_2 := dk_seg dksX5_hasAllIntents_1 24 rfl rfl
theorem dX5_hasAllIntents_0 : decode cX5_hasAllIntents 0 = .ok (.iconst 1, 1) := dk_4 (dk_at dksX5_hasAllIntents_0 0 rfl rfl)
theorem dX5_hasAllIntents_1 : decode cX5_hasAllIntents 1 = .ok (.istore_n 2, 1) := dk_61 (dk_at dksX5_hasAllIntents_0 1 rfl rfl)
theorem dX5_hasAllIntents_2 : decode cX5_hasAllIntents 2 = .ok (.iconst 0, 1) := dk_3 (dk_at dksX5_hasAllIntents_0 2 rfl rfl)
theorem dX5_hasAllIntents_3 : decode cX5_hasAllIntents 3 = .ok (.istore_n 3, 1) := dk_62 (dk_at dksX5_hasAllIntents_0 3 rfl rfl)
theorem dX5_hasAllIntents_4 : decode cX5_hasAllIntents 4 = .ok (.iload_n 3, 1) := dk_29 (dk_at dksX5_hasAllIntents_0 4 rfl rfl)
theorem dX5_hasAllIntents_5 : decode cX5_hasAllIntents 5 = .ok (.bipush 32, 2) := dk_16 32 (dk_at dksX5_hasAllIntents_0 5 rfl rfl)
theorem dX5_hasAllIntents_7 : decode cX5_hasAllIntents 7 = .ok (.if_icmp .ge 44, 3) := dk_162 0 44 (dk_at dksX5_hasAllIntents_0 7 rfl rfl)
theorem dX5_hasAllIntents_10 : decode cX5_hasAllIntents 10 = .ok (.iload_n 2, 1) := dk_28 (dk_at dksX5_hasAllIntents_0 10 rfl rfl)
theorem dX5_hasAllIntents_11 : decode cX5_hasAllIntents 11 = .ok (.ifCond .eq 32, 3) := dk_153 0 32 (dk_at dksX5_hasAllIntents_0 11 rfl rfl)
theorem dX5_hasAllIntents_14 : decode cX5_hasAllIntents 14 = .ok (.aload_n 0, 1) := dk_42 (dk_at dksX5_hasAllIntents_0 14 rfl rfl)
theorem dX5_hasAllIntents_15 : decode cX5_hasAllIntents 15 = .ok (.getfield 87, 3) := dk_180 0 87 (dk_at dksX5_hasAllIntents_0 15 rfl rfl)
theorem dX5_hasAllIntents_18 : decode cX5_hasAllIntents 18 = .ok (.bipush 32, 2) := dk_16 32 (dk_at dksX5_hasAllIntents_0 18 rfl rfl)
theorem dX5_hasAllIntents_20 : decode cX5_hasAllIntents 20 = .ok (.iload_n 1, 1) := dk_27 (dk_at dksX5_hasAllIntents_0 20 rfl rfl)
theorem dX5_hasAllIntents_21 : decode cX5_hasAllIntents 21 = .ok (.imul, 1) := dk_104 (dk_at dksX5_hasAllIntents_0 21 rfl rfl)
theorem dX5_hasAllIntents_22 : decode cX5_hasAllIntents 22 = .ok (.iload_n 3, 1) := dk_29 (dk_at dksX5_hasAllIntents_0 22 rfl rfl)
theorem dX5_hasAllIntents_23 : decode cX5_hasAllIntents 23 = .ok (.iadd, 1) := dk_96 (dk_at dksX5_hasAllIntents_0 23 rfl rfl)
theorem dX5_hasAllIntents_24 : decode cX5_hasAllIntents 24 = .ok (.iaload, 1) := dk_46 (dk_at dksX5_hasAllIntents_1 0 rfl rfl)
theorem dX5_hasAllIntents_25 : decode cX5_hasAllIntents 25 = .ok (.iconst (-1), 1) := dk_2 (dk_at dksX5_hasAllIntents_1 1 rfl rfl)
theorem dX5_hasAllIntents_26 : decode cX5_hasAllIntents 26 = .ok (.if_icmp .eq 13, 3) := dk_159 0 13 (dk_at dksX5_hasAllIntents_1 2 rfl rfl)
theorem dX5_hasAllIntents_29 : decode cX5_hasAllIntents 29 = .ok (.aload_n 0, 1) := dk_42 (dk_at dksX5_hasAllIntents_1 5 rfl rfl)
theorem dX5_hasAllIntents_30 : decode cX5_hasAllIntents 30 = .ok (.getfield 30, 3) := dk_180 0 30 (dk_at dksX5_hasAllIntents_1 6 rfl rfl)
theorem dX5_hasAllIntents_33 : decode cX5_hasAllIntents 33 = .ok (.iload_n 3, 1) := dk_29 (dk_at dksX5_hasAllIntents_1 9 rfl rfl)
theorem dX5_hasAllIntents_34 : decode cX5_hasAllIntents 34 = .ok (.iaload, 1) := dk_46 (dk_at dksX5_hasAllIntents_1 10 rfl rfl)
theorem dX5_hasAllIntents_35 : decode cX5_hasAllIntents 35 = .ok (.iload_n 1, 1) := dk_27 (dk_at dksX5_hasAllIntents_1 11 rfl rfl)
theorem dX5_hasAllIntents_36 : decode cX5_hasAllIntents 36 = .ok (.if_icmp .ne 7, 3) := dk_160 0 7 (dk_at dksX5_hasAllIntents_1 12 rfl rfl)
theorem dX5_hasAllIntents_39 : decode cX5_hasAllIntents 39 = .ok (.iconst 1, 1) := dk_4 (dk_at dksX5_hasAllIntents_1 15 rfl rfl)
theorem dX5_hasAllIntents_40 : decode cX5_hasAllIntents 40 = .ok (.goto 4, 3) := dk_167 0 4 (dk_at dksX5_hasAllIntents_1 16 rfl rfl)
theorem dX5_hasAllIntents_43 : decode cX5_hasAllIntents 43 = .ok (.iconst 0, 1) := dk_3 (dk_at dksX5_hasAllIntents_1 19 rfl rfl)
theorem dX5_hasAllIntents_44 : decode cX5_hasAllIntents 44 = .ok (.istore_n 2, 1) := dk_61 (dk_at dksX5_hasAllIntents_1 20 rfl rfl)
theorem dX5_hasAllIntents_45 : decode cX5_hasAllIntents 45 = .ok (.iinc 3 1, 3) := dk_132 3 1 (dk_at dksX5_hasAllIntents_1 21 rfl rfl)
theorem dX5_hasAllIntents_48 : decode cX5_hasAllIntents 48 = .ok (.goto (-44), 3) := dk_167 255 212 (dk_at dksX5_hasAllIntents_2 0 rfl rfl)
theorem dX5_hasAllIntents_51 : decode cX5_hasAllIntents 51 = .ok (.iload_n 2, 1) := dk_28 (dk_at dksX5_hasAllIntents_2 3 rfl rfl)
theorem dX5_hasAllIntents_52 : decode cX5_hasAllIntents 52 = .ok (.ireturn, 1) := dk_172 (dk_at dksX5_hasAllIntents_2 4 rfl rfl)
abbrev cX5_commits : ByteArray := prog_10_method_23_code
def yX5_commits : MethodName := ⟨RX5, "commits", "(I)V"⟩
def dkwX5_commits_4 : List UInt8 := [181, 0, 135, 42, 180, 0, 30, 28, 2, 79, 132, 2, 1, 167, 255, 180, 177]
abbrev dktX5_commits_4 : List UInt8 := dkwX5_commits_4 ++ []
def dkwX5_commits_3 : List UInt8 := [42, 180, 0, 51, 42, 180, 0, 135, 42, 180, 0, 36, 28, 46, 79, 42, 89, 180, 0, 135, 4, 96]
abbrev dktX5_commits_3 : List UInt8 := dkwX5_commits_3 ++ dktX5_commits_4
def dkwX5_commits_2 : List UInt8 := [180, 0, 45, 42, 180, 0, 135, 28, 79, 42, 180, 0, 48, 42, 180, 0, 135, 42, 180, 0, 63, 27, 46, 79]
abbrev dktX5_commits_2 : List UInt8 := dkwX5_commits_2 ++ dktX5_commits_3
def dkwX5_commits_1 : List UInt8 := [181, 0, 132, 3, 61, 28, 16, 32, 162, 0, 76, 42, 180, 0, 30, 28, 46, 27, 160, 0, 60, 42]
abbrev dktX5_commits_1 : List UInt8 := dkwX5_commits_1 ++ dktX5_commits_2
def dkwX5_commits_0 : List UInt8 := [42, 180, 0, 72, 27, 5, 79, 42, 180, 0, 78, 27, 42, 180, 0, 132, 79, 42, 89, 180, 0, 132, 4, 96]
abbrev dktX5_commits_0 : List UInt8 := dkwX5_commits_0 ++ dktX5_commits_1
theorem dksX5_commits_0 : cX5_commits.data.toList.drop 0 = dktX5_commits_0 := by decide +kernel
theorem dksX5_commits_1 : cX5_commits.data.toList.drop 24 = dktX5_commits_1 := dk_seg dksX5_commits_0 24 rfl rfl
theorem dksX5_commits_2 : cX5_commits.data.toList.drop 46 = dktX5_commits_2 := dk_seg dksX5_commits_1 22 rfl rfl
theorem dksX5_commits_3 : cX5_commits.data.toList.drop 70 = dktX5_commits_3 := dk_seg dksX5_commits_2 24 rfl rfl
theorem dksX5_commits_4 : cX5_commits.data.toList.drop 92 = dktX5_commits_4 := dk_seg dksX5_commits_3 22 rfl rfl
theorem dX5_commits_0 : decode cX5_commits 0 = .ok (.aload_n 0, 1) := dk_42 (dk_at dksX5_commits_0 0 rfl rfl)
theorem dX5_commits_1 : decode cX5_commits 1 = .ok (.getfield 72, 3) := dk_180 0 72 (dk_at dksX5_commits_0 1 rfl rfl)
theorem dX5_commits_4 : decode cX5_commits 4 = .ok (.iload_n 1, 1) := dk_27 (dk_at dksX5_commits_0 4 rfl rfl)
theorem dX5_commits_5 : decode cX5_commits 5 = .ok (.iconst 2, 1) := dk_5 (dk_at dksX5_commits_0 5 rfl rfl)
theorem dX5_commits_6 : decode cX5_commits 6 = .ok (.iastore, 1) := dk_79 (dk_at dksX5_commits_0 6 rfl rfl)
theorem dX5_commits_7 : decode cX5_commits 7 = .ok (.aload_n 0, 1) := dk_42 (dk_at dksX5_commits_0 7 rfl rfl)
theorem dX5_commits_8 : decode cX5_commits 8 = .ok (.getfield 78, 3) := dk_180 0 78 (dk_at dksX5_commits_0 8 rfl rfl)
theorem dX5_commits_11 : decode cX5_commits 11 = .ok (.iload_n 1, 1) := dk_27 (dk_at dksX5_commits_0 11 rfl rfl)
theorem dX5_commits_12 : decode cX5_commits 12 = .ok (.aload_n 0, 1) := dk_42 (dk_at dksX5_commits_0 12 rfl rfl)
theorem dX5_commits_13 : decode cX5_commits 13 = .ok (.getfield 132, 3) := dk_180 0 132 (dk_at dksX5_commits_0 13 rfl rfl)
theorem dX5_commits_16 : decode cX5_commits 16 = .ok (.iastore, 1) := dk_79 (dk_at dksX5_commits_0 16 rfl rfl)
theorem dX5_commits_17 : decode cX5_commits 17 = .ok (.aload_n 0, 1) := dk_42 (dk_at dksX5_commits_0 17 rfl rfl)
theorem dX5_commits_18 : decode cX5_commits 18 = .ok (.dup, 1) := dk_89 (dk_at dksX5_commits_0 18 rfl rfl)
theorem dX5_commits_19 : decode cX5_commits 19 = .ok (.getfield 132, 3) := dk_180 0 132 (dk_at dksX5_commits_0 19 rfl rfl)
theorem dX5_commits_22 : decode cX5_commits 22 = .ok (.iconst 1, 1) := dk_4 (dk_at dksX5_commits_0 22 rfl rfl)
theorem dX5_commits_23 : decode cX5_commits 23 = .ok (.iadd, 1) := dk_96 (dk_at dksX5_commits_0 23 rfl rfl)
theorem dX5_commits_24 : decode cX5_commits 24 = .ok (.putfield 132, 3) := dk_181 0 132 (dk_at dksX5_commits_1 0 rfl rfl)
theorem dX5_commits_27 : decode cX5_commits 27 = .ok (.iconst 0, 1) := dk_3 (dk_at dksX5_commits_1 3 rfl rfl)
theorem dX5_commits_28 : decode cX5_commits 28 = .ok (.istore_n 2, 1) := dk_61 (dk_at dksX5_commits_1 4 rfl rfl)
theorem dX5_commits_29 : decode cX5_commits 29 = .ok (.iload_n 2, 1) := dk_28 (dk_at dksX5_commits_1 5 rfl rfl)
theorem dX5_commits_30 : decode cX5_commits 30 = .ok (.bipush 32, 2) := dk_16 32 (dk_at dksX5_commits_1 6 rfl rfl)
theorem dX5_commits_32 : decode cX5_commits 32 = .ok (.if_icmp .ge 76, 3) := dk_162 0 76 (dk_at dksX5_commits_1 8 rfl rfl)
theorem dX5_commits_35 : decode cX5_commits 35 = .ok (.aload_n 0, 1) := dk_42 (dk_at dksX5_commits_1 11 rfl rfl)
theorem dX5_commits_36 : decode cX5_commits 36 = .ok (.getfield 30, 3) := dk_180 0 30 (dk_at dksX5_commits_1 12 rfl rfl)
theorem dX5_commits_39 : decode cX5_commits 39 = .ok (.iload_n 2, 1) := dk_28 (dk_at dksX5_commits_1 15 rfl rfl)
theorem dX5_commits_40 : decode cX5_commits 40 = .ok (.iaload, 1) := dk_46 (dk_at dksX5_commits_1 16 rfl rfl)
theorem dX5_commits_41 : decode cX5_commits 41 = .ok (.iload_n 1, 1) := dk_27 (dk_at dksX5_commits_1 17 rfl rfl)
theorem dX5_commits_42 : decode cX5_commits 42 = .ok (.if_icmp .ne 60, 3) := dk_160 0 60 (dk_at dksX5_commits_1 18 rfl rfl)
theorem dX5_commits_45 : decode cX5_commits 45 = .ok (.aload_n 0, 1) := dk_42 (dk_at dksX5_commits_1 21 rfl rfl)
theorem dX5_commits_46 : decode cX5_commits 46 = .ok (.getfield 45, 3) := dk_180 0 45 (dk_at dksX5_commits_2 0 rfl rfl)
theorem dX5_commits_49 : decode cX5_commits 49 = .ok (.aload_n 0, 1) := dk_42 (dk_at dksX5_commits_2 3 rfl rfl)
theorem dX5_commits_50 : decode cX5_commits 50 = .ok (.getfield 135, 3) := dk_180 0 135 (dk_at dksX5_commits_2 4 rfl rfl)
theorem dX5_commits_53 : decode cX5_commits 53 = .ok (.iload_n 2, 1) := dk_28 (dk_at dksX5_commits_2 7 rfl rfl)
theorem dX5_commits_54 : decode cX5_commits 54 = .ok (.iastore, 1) := dk_79 (dk_at dksX5_commits_2 8 rfl rfl)
theorem dX5_commits_55 : decode cX5_commits 55 = .ok (.aload_n 0, 1) := dk_42 (dk_at dksX5_commits_2 9 rfl rfl)
theorem dX5_commits_56 : decode cX5_commits 56 = .ok (.getfield 48, 3) := dk_180 0 48 (dk_at dksX5_commits_2 10 rfl rfl)
theorem dX5_commits_59 : decode cX5_commits 59 = .ok (.aload_n 0, 1) := dk_42 (dk_at dksX5_commits_2 13 rfl rfl)
theorem dX5_commits_60 : decode cX5_commits 60 = .ok (.getfield 135, 3) := dk_180 0 135 (dk_at dksX5_commits_2 14 rfl rfl)
theorem dX5_commits_63 : decode cX5_commits 63 = .ok (.aload_n 0, 1) := dk_42 (dk_at dksX5_commits_2 17 rfl rfl)
theorem dX5_commits_64 : decode cX5_commits 64 = .ok (.getfield 63, 3) := dk_180 0 63 (dk_at dksX5_commits_2 18 rfl rfl)
theorem dX5_commits_67 : decode cX5_commits 67 = .ok (.iload_n 1, 1) := dk_27 (dk_at dksX5_commits_2 21 rfl rfl)
theorem dX5_commits_68 : decode cX5_commits 68 = .ok (.iaload, 1) := dk_46 (dk_at dksX5_commits_2 22 rfl rfl)
theorem dX5_commits_69 : decode cX5_commits 69 = .ok (.iastore, 1) := dk_79 (dk_at dksX5_commits_2 23 rfl rfl)
theorem dX5_commits_70 : decode cX5_commits 70 = .ok (.aload_n 0, 1) := dk_42 (dk_at dksX5_commits_3 0 rfl rfl)
theorem dX5_commits_71 : decode cX5_commits 71 = .ok (.getfield 51, 3) := dk_180 0 51 (dk_at dksX5_commits_3 1 rfl rfl)
theorem dX5_commits_74 : decode cX5_commits 74 = .ok (.aload_n 0, 1) := dk_42 (dk_at dksX5_commits_3 4 rfl rfl)
theorem dX5_commits_75 : decode cX5_commits 75 = .ok (.getfield 135, 3) := dk_180 0 135 (dk_at dksX5_commits_3 5 rfl rfl)
theorem dX5_commits_78 : decode cX5_commits 78 = .ok (.aload_n 0, 1) := dk_42 (dk_at dksX5_commits_3 8 rfl rfl)
theorem dX5_commits_79 : decode cX5_commits 79 = .ok (.getfield 36, 3) := dk_180 0 36 (dk_at dksX5_commits_3 9 rfl rfl)
theorem dX5_commits_82 : decode cX5_commits 82 = .ok (.iload_n 2, 1) := dk_28 (dk_at dksX5_commits_3 12 rfl rfl)
theorem dX5_commits_83 : decode cX5_commits 83 = .ok (.iaload, 1) := dk_46 (dk_at dksX5_commits_3 13 rfl rfl)
theorem dX5_commits_84 : decode cX5_commits 84 = .ok (.iastore, 1) := dk_79 (dk_at dksX5_commits_3 14 rfl rfl)
theorem dX5_commits_85 : decode cX5_commits 85 = .ok (.aload_n 0, 1) := dk_42 (dk_at dksX5_commits_3 15 rfl rfl)
theorem dX5_commits_86 : decode cX5_commits 86 = .ok (.dup, 1) := dk_89 (dk_at dksX5_commits_3 16 rfl rfl)
theorem dX5_commits_87 : decode cX5_commits 87 = .ok (.getfield 135, 3) := dk_180 0 135 (dk_at dksX5_commits_3 17 rfl rfl)
theorem dX5_commits_90 : decode cX5_commits 90 = .ok (.iconst 1, 1) := dk_4 (dk_at dksX5_commits_3 20 rfl rfl)
theorem dX5_commits_91 : decode cX5_commits 91 = .ok (.iadd, 1) := dk_96 (dk_at dksX5_commits_3 21 rfl rfl)
theorem dX5_commits_92 : decode cX5_commits 92 = .ok (.putfield 135, 3) := dk_181 0 135 (dk_at dksX5_commits_4 0 rfl rfl)
theorem dX5_commits_95 : decode cX5_commits 95 = .ok (.aload_n 0, 1) := dk_42 (dk_at dksX5_commits_4 3 rfl rfl)
theorem dX5_commits_96 : decode cX5_commits 96 = .ok (.getfield 30, 3) := dk_180 0 30 (dk_at dksX5_commits_4 4 rfl rfl)
theorem dX5_commits_99 : decode cX5_commits 99 = .ok (.iload_n 2, 1) := dk_28 (dk_at dksX5_commits_4 7 rfl rfl)
theorem dX5_commits_100 : decode cX5_commits 100 = .ok (.iconst (-1), 1) := dk_2 (dk_at dksX5_commits_4 8 rfl rfl)
theorem dX5_commits_101 : decode cX5_commits 101 = .ok (.iastore, 1) := dk_79 (dk_at dksX5_commits_4 9 rfl rfl)
theorem dX5_commits_102 : decode cX5_commits 102 = .ok (.iinc 2 1, 3) := dk_132 2 1 (dk_at dksX5_commits_4 10 rfl rfl)
theorem dX5_commits_105 : decode cX5_commits 105 = .ok (.goto (-76), 3) := dk_167 255 180 (dk_at dksX5_commits_4 13 rfl rfl)
theorem dX5_commits_108 : decode cX5_commits 108 = .ok (.return_, 1) := dk_177 (dk_at dksX5_commits_4 16 rfl rfl)
abbrev cX5_isVanished : ByteArray := prog_10_method_22_code
def yX5_isVanished : MethodName := ⟨RX5, "isVanished", "(I)Z"⟩
def dkwX5_isVanished_1 : List UInt8 := [180, 0, 69, 27, 46, 16, 20, 96, 164, 0, 7, 4, 167, 0, 4, 3, 172]
abbrev dktX5_isVanished_1 : List UInt8 := dkwX5_isVanished_1 ++ []
def dkwX5_isVanished_0 : List UInt8 := [42, 180, 0, 72, 27, 46, 153, 0, 13, 42, 180, 0, 72, 27, 46, 4, 160, 0, 23, 42, 180, 0, 100, 42]
abbrev dktX5_isVanished_0 : List UInt8 := dkwX5_isVanished_0 ++ dktX5_isVanished_1
theorem dksX5_isVanished_0 : cX5_isVanished.data.toList.drop 0 = dktX5_isVanished_0 := by decide +kernel
theorem dksX5_isVanished_1 : cX5_isVanished.data.toList.drop 24 = dktX5_isVanished_1 := dk_seg dksX5_isVanished_0 24 rfl rfl
theorem dX5_isVanished_0 : decode cX5_isVanished 0 = .ok (.aload_n 0, 1) := dk_42 (dk_at dksX5_isVanished_0 0 rfl rfl)
theorem dX5_isVanished_1 : decode cX5_isVanished 1 = .ok (.getfield 72, 3) := dk_180 0 72 (dk_at dksX5_isVanished_0 1 rfl rfl)
theorem dX5_isVanished_4 : decode cX5_isVanished 4 = .ok (.iload_n 1, 1) := dk_27 (dk_at dksX5_isVanished_0 4 rfl rfl)
theorem dX5_isVanished_5 : decode cX5_isVanished 5 = .ok (.iaload, 1) := dk_46 (dk_at dksX5_isVanished_0 5 rfl rfl)
theorem dX5_isVanished_6 : decode cX5_isVanished 6 = .ok (.ifCond .eq 13, 3) := dk_153 0 13 (dk_at dksX5_isVanished_0 6 rfl rfl)
theorem dX5_isVanished_9 : decode cX5_isVanished 9 = .ok (.aload_n 0, 1) := dk_42 (dk_at dksX5_isVanished_0 9 rfl rfl)
theorem dX5_isVanished_10 : decode cX5_isVanished 10 = .ok (.getfield 72, 3) := dk_180 0 72 (dk_at dksX5_isVanished_0 10 rfl rfl)
theorem dX5_isVanished_13 : decode cX5_isVanished 13 = .ok (.iload_n 1, 1) := dk_27 (dk_at dksX5_isVanished_0 13 rfl rfl)
theorem dX5_isVanished_14 : decode cX5_isVanished 14 = .ok (.iaload, 1) := dk_46 (dk_at dksX5_isVanished_0 14 rfl rfl)
theorem dX5_isVanished_15 : decode cX5_isVanished 15 = .ok (.iconst 1, 1) := dk_4 (dk_at dksX5_isVanished_0 15 rfl rfl)
theorem dX5_isVanished_16 : decode cX5_isVanished 16 = .ok (.if_icmp .ne 23, 3) := dk_160 0 23 (dk_at dksX5_isVanished_0 16 rfl rfl)
theorem dX5_isVanished_19 : decode cX5_isVanished 19 = .ok (.aload_n 0, 1) := dk_42 (dk_at dksX5_isVanished_0 19 rfl rfl)
theorem dX5_isVanished_20 : decode cX5_isVanished 20 = .ok (.getfield 100, 3) := dk_180 0 100 (dk_at dksX5_isVanished_0 20 rfl rfl)
theorem dX5_isVanished_23 : decode cX5_isVanished 23 = .ok (.aload_n 0, 1) := dk_42 (dk_at dksX5_isVanished_0 23 rfl rfl)
theorem dX5_isVanished_24 : decode cX5_isVanished 24 = .ok (.getfield 69, 3) := dk_180 0 69 (dk_at dksX5_isVanished_1 0 rfl rfl)
theorem dX5_isVanished_27 : decode cX5_isVanished 27 = .ok (.iload_n 1, 1) := dk_27 (dk_at dksX5_isVanished_1 3 rfl rfl)
theorem dX5_isVanished_28 : decode cX5_isVanished 28 = .ok (.iaload, 1) := dk_46 (dk_at dksX5_isVanished_1 4 rfl rfl)
theorem dX5_isVanished_29 : decode cX5_isVanished 29 = .ok (.bipush 20, 2) := dk_16 20 (dk_at dksX5_isVanished_1 5 rfl rfl)
theorem dX5_isVanished_31 : decode cX5_isVanished 31 = .ok (.iadd, 1) := dk_96 (dk_at dksX5_isVanished_1 7 rfl rfl)
theorem dX5_isVanished_32 : decode cX5_isVanished 32 = .ok (.if_icmp .le 7, 3) := dk_164 0 7 (dk_at dksX5_isVanished_1 8 rfl rfl)
theorem dX5_isVanished_35 : decode cX5_isVanished 35 = .ok (.iconst 1, 1) := dk_4 (dk_at dksX5_isVanished_1 11 rfl rfl)
theorem dX5_isVanished_36 : decode cX5_isVanished 36 = .ok (.goto 4, 3) := dk_167 0 4 (dk_at dksX5_isVanished_1 12 rfl rfl)
theorem dX5_isVanished_39 : decode cX5_isVanished 39 = .ok (.iconst 0, 1) := dk_3 (dk_at dksX5_isVanished_1 15 rfl rfl)
theorem dX5_isVanished_40 : decode cX5_isVanished 40 = .ok (.ireturn, 1) := dk_172 (dk_at dksX5_isVanished_1 16 rfl rfl)
abbrev cX5_comesAnew : ByteArray := prog_10_method_33_code
def yX5_comesAnew : MethodName := ⟨RX5, "comesAnew", "(II)Z"⟩
def dkwX5_comesAnew_5 : List UInt8 := [159, 0, 7, 4, 167, 0, 4, 3, 172]
abbrev dktX5_comesAnew_5 : List UInt8 := dkwX5_comesAnew_5 ++ []
def dkwX5_comesAnew_4 : List UInt8 := [21, 4, 27, 159, 0, 5, 3, 172, 42, 180, 0, 72, 29, 6, 79, 42, 180, 0, 75, 27, 2, 79, 29, 27]
abbrev dktX5_comesAnew_4 : List UInt8 := dkwX5_comesAnew_4 ++ dktX5_comesAnew_5
def dkwX5_comesAnew_3 : List UInt8 := [164, 0, 8, 21, 4, 167, 0, 4, 29, 62, 42, 21, 4, 182, 0, 160, 54, 4, 132, 5, 1, 167, 255, 181]
abbrev dktX5_comesAnew_3 : List UInt8 := dkwX5_comesAnew_3 ++ dktX5_comesAnew_4
def dkwX5_comesAnew_2 : List UInt8 := [161, 0, 25, 42, 180, 0, 57, 21, 4, 46, 42, 180, 0, 57, 29, 46, 160, 0, 14, 21, 4, 29]
abbrev dktX5_comesAnew_2 : List UInt8 := dkwX5_comesAnew_2 ++ dktX5_comesAnew_3
def dkwX5_comesAnew_1 : List UInt8 := [159, 0, 69, 21, 5, 16, 40, 162, 0, 62, 42, 180, 0, 57, 21, 4, 46, 42, 180, 0, 57, 29, 46]
abbrev dktX5_comesAnew_1 : List UInt8 := dkwX5_comesAnew_1 ++ dktX5_comesAnew_2
def dkwX5_comesAnew_0 : List UInt8 := [42, 180, 0, 75, 27, 28, 79, 27, 62, 28, 54, 4, 3, 54, 5, 21, 4, 2, 159, 0, 75, 21, 4, 27]
abbrev dktX5_comesAnew_0 : List UInt8 := dkwX5_comesAnew_0 ++ dktX5_comesAnew_1
theorem dksX5_comesAnew_0 : cX5_comesAnew.data.toList.drop 0 = dktX5_comesAnew_0 := by decide +kernel
theorem dksX5_comesAnew_1 : cX5_comesAnew.data.toList.drop 24 = dktX5_comesAnew_1 := dk_seg dksX5_comesAnew_0 24 rfl rfl
theorem dksX5_comesAnew_2 : cX5_comesAnew.data.toList.drop 47 = dktX5_comesAnew_2 := dk_seg dksX5_comesAnew_1 23 rfl rfl
theorem dksX5_comesAnew_3 : cX5_comesAnew.data.toList.drop 69 = dktX5_comesAnew_3 := dk_seg dksX5_comesAnew_2 22 rfl rfl
theorem dksX5_comesAnew_4 : cX5_comesAnew.data.toList.drop 93 = dktX5_comesAnew_4 := dk_seg dksX5_comesAnew_3 24 rfl rfl
theorem dksX5_comesAnew_5 : cX5_comesAnew.data.toList.drop 117 = dktX5_comesAnew_5 := dk_seg dksX5_comesAnew_4 24 rfl rfl
theorem dX5_comesAnew_0 : decode cX5_comesAnew 0 = .ok (.aload_n 0, 1) := dk_42 (dk_at dksX5_comesAnew_0 0 rfl rfl)
theorem dX5_comesAnew_1 : decode cX5_comesAnew 1 = .ok (.getfield 75, 3) := dk_180 0 75 (dk_at dksX5_comesAnew_0 1 rfl rfl)
theorem dX5_comesAnew_4 : decode cX5_comesAnew 4 = .ok (.iload_n 1, 1) := dk_27 (dk_at dksX5_comesAnew_0 4 rfl rfl)
theorem dX5_comesAnew_5 : decode cX5_comesAnew 5 = .ok (.iload_n 2, 1) := dk_28 (dk_at dksX5_comesAnew_0 5 rfl rfl)
theorem dX5_comesAnew_6 : decode cX5_comesAnew 6 = .ok (.iastore, 1) := dk_79 (dk_at dksX5_comesAnew_0 6 rfl rfl)
theorem dX5_comesAnew_7 : decode cX5_comesAnew 7 = .ok (.iload_n 1, 1) := dk_27 (dk_at dksX5_comesAnew_0 7 rfl rfl)
theorem dX5_comesAnew_8 : decode cX5_comesAnew 8 = .ok (.istore_n 3, 1) := dk_62 (dk_at dksX5_comesAnew_0 8 rfl rfl)
theorem dX5_comesAnew_9 : decode cX5_comesAnew 9 = .ok (.iload_n 2, 1) := dk_28 (dk_at dksX5_comesAnew_0 9 rfl rfl)
theorem dX5_comesAnew_10 : decode cX5_comesAnew 10 = .ok (.istore 4, 2) := dk_54 4 (dk_at dksX5_comesAnew_0 10 rfl rfl)
theorem dX5_comesAnew_12 : decode cX5_comesAnew 12 = .ok (.iconst 0, 1) := dk_3 (dk_at dksX5_comesAnew_0 12 rfl rfl)
theorem dX5_comesAnew_13 : decode cX5_comesAnew 13 = .ok (.istore 5, 2) := dk_54 5 (dk_at dksX5_comesAnew_0 13 rfl rfl)
theorem dX5_comesAnew_15 : decode cX5_comesAnew 15 = .ok (.iload 4, 2) := dk_21 4 (dk_at dksX5_comesAnew_0 15 rfl rfl)
theorem dX5_comesAnew_17 : decode cX5_comesAnew 17 = .ok (.iconst (-1), 1) := dk_2 (dk_at dksX5_comesAnew_0 17 rfl rfl)
theorem dX5_comesAnew_18 : decode cX5_comesAnew 18 = .ok (.if_icmp .eq 75, 3) := dk_159 0 75 (dk_at dksX5_comesAnew_0 18 rfl rfl)
theorem dX5_comesAnew_21 : decode cX5_comesAnew 21 = .ok (.iload 4, 2) := dk_21 4 (dk_at dksX5_comesAnew_0 21 rfl rfl)
theorem dX5_comesAnew_23 : decode cX5_comesAnew 23 = .ok (.iload_n 1, 1) := dk_27 (dk_at dksX5_comesAnew_0 23 rfl rfl)
theorem dX5_comesAnew_24 : decode cX5_comesAnew 24 = .ok (.if_icmp .eq 69, 3) := dk_159 0 69 (dk_at dksX5_comesAnew_1 0 rfl rfl)
theorem dX5_comesAnew_27 : decode cX5_comesAnew 27 = .ok (.iload 5, 2) := dk_21 5 (dk_at dksX5_comesAnew_1 3 rfl rfl)
theorem dX5_comesAnew_29 : decode cX5_comesAnew 29 = .ok (.bipush 40, 2) := dk_16 40 (dk_at dksX5_comesAnew_1 5 rfl rfl)
theorem dX5_comesAnew_31 : decode cX5_comesAnew 31 = .ok (.if_icmp .ge 62, 3) := dk_162 0 62 (dk_at dksX5_comesAnew_1 7 rfl rfl)
theorem dX5_comesAnew_34 : decode cX5_comesAnew 34 = .ok (.aload_n 0, 1) := dk_42 (dk_at dksX5_comesAnew_1 10 rfl rfl)
theorem dX5_comesAnew_35 : decode cX5_comesAnew 35 = .ok (.getfield 57, 3) := dk_180 0 57 (dk_at dksX5_comesAnew_1 11 rfl rfl)
theorem dX5_comesAnew_38 : decode cX5_comesAnew 38 = .ok (.iload 4, 2) := dk_21 4 (dk_at dksX5_comesAnew_1 14 rfl rfl)
theorem dX5_comesAnew_40 : decode cX5_comesAnew 40 = .ok (.iaload, 1) := dk_46 (dk_at dksX5_comesAnew_1 16 rfl rfl)
theorem dX5_comesAnew_41 : decode cX5_comesAnew 41 = .ok (.aload_n 0, 1) := dk_42 (dk_at dksX5_comesAnew_1 17 rfl rfl)
theorem dX5_comesAnew_42 : decode cX5_comesAnew 42 = .ok (.getfield 57, 3) := dk_180 0 57 (dk_at dksX5_comesAnew_1 18 rfl rfl)
theorem dX5_comesAnew_45 : decode cX5_comesAnew 45 = .ok (.iload_n 3, 1) := dk_29 (dk_at dksX5_comesAnew_1 21 rfl rfl)
theorem dX5_comesAnew_46 : decode cX5_comesAnew 46 = .ok (.iaload, 1) := dk_46 (dk_at dksX5_comesAnew_1 22 rfl rfl)
theorem dX5_comesAnew_47 : decode cX5_comesAnew 47 = .ok (.if_icmp .lt 25, 3) := dk_161 0 25 (dk_at dksX5_comesAnew_2 0 rfl rfl)
theorem dX5_comesAnew_50 : decode cX5_comesAnew 50 = .ok (.aload_n 0, 1) := dk_42 (dk_at dksX5_comesAnew_2 3 rfl rfl)
theorem dX5_comesAnew_51 : decode cX5_comesAnew 51 = .ok (.getfield 57, 3) := dk_180 0 57 (dk_at dksX5_comesAnew_2 4 rfl rfl)
theorem dX5_comesAnew_54 : decode cX5_comesAnew 54 = .ok (.iload 4, 2) := dk_21 4 (dk_at dksX5_comesAnew_2 7 rfl rfl)
theorem dX5_comesAnew_56 : decode cX5_comesAnew 56 = .ok (.iaload, 1) := dk_46 (dk_at dksX5_comesAnew_2 9 rfl rfl)
theorem dX5_comesAnew_57 : decode cX5_comesAnew 57 = .ok (.aload_n 0, 1) := dk_42 (dk_at dksX5_comesAnew_2 10 rfl rfl)
theorem dX5_comesAnew_58 : decode cX5_comesAnew 58 = .ok (.getfield 57, 3) := dk_180 0 57 (dk_at dksX5_comesAnew_2 11 rfl rfl)
theorem dX5_comesAnew_61 : decode cX5_comesAnew 61 = .ok (.iload_n 3, 1) := dk_29 (dk_at dksX5_comesAnew_2 14 rfl rfl)
theorem dX5_comesAnew_62 : decode cX5_comesAnew 62 = .ok (.iaload, 1) := dk_46 (dk_at dksX5_comesAnew_2 15 rfl rfl)
theorem dX5_comesAnew_63 : decode cX5_comesAnew 63 = .ok (.if_icmp .ne 14, 3) := dk_160 0 14 (dk_at dksX5_comesAnew_2 16 rfl rfl)
theorem dX5_comesAnew_66 : decode cX5_comesAnew 66 = .ok (.iload 4, 2) := dk_21 4 (dk_at dksX5_comesAnew_2 19 rfl rfl)
theorem dX5_comesAnew_68 : decode cX5_comesAnew 68 = .ok (.iload_n 3, 1) := dk_29 (dk_at dksX5_comesAnew_2 21 rfl rfl)
theorem dX5_comesAnew_69 : decode cX5_comesAnew 69 = .ok (.if_icmp .le 8, 3) := dk_164 0 8 (dk_at dksX5_comesAnew_3 0 rfl rfl)
theorem dX5_comesAnew_72 : decode cX5_comesAnew 72 = .ok (.iload 4, 2) := dk_21 4 (dk_at dksX5_comesAnew_3 3 rfl rfl)
theorem dX5_comesAnew_74 : decode cX5_comesAnew 74 = .ok (.goto 4, 3) := dk_167 0 4 (dk_at dksX5_comesAnew_3 5 rfl rfl)
theorem dX5_comesAnew_77 : decode cX5_comesAnew 77 = .ok (.iload_n 3, 1) := dk_29 (dk_at dksX5_comesAnew_3 8 rfl rfl)
theorem dX5_comesAnew_78 : decode cX5_comesAnew 78 = .ok (.istore_n 3, 1) := dk_62 (dk_at dksX5_comesAnew_3 9 rfl rfl)
theorem dX5_comesAnew_79 : decode cX5_comesAnew 79 = .ok (.aload_n 0, 1) := dk_42 (dk_at dksX5_comesAnew_3 10 rfl rfl)
theorem dX5_comesAnew_80 : decode cX5_comesAnew 80 = .ok (.iload 4, 2) := dk_21 4 (dk_at dksX5_comesAnew_3 11 rfl rfl)
theorem dX5_comesAnew_82 : decode cX5_comesAnew 82 = .ok (.invokevirtual 160, 3) := dk_182 0 160 (dk_at dksX5_comesAnew_3 13 rfl rfl)
theorem dX5_comesAnew_85 : decode cX5_comesAnew 85 = .ok (.istore 4, 2) := dk_54 4 (dk_at dksX5_comesAnew_3 16 rfl rfl)
theorem dX5_comesAnew_87 : decode cX5_comesAnew 87 = .ok (.iinc 5 1, 3) := dk_132 5 1 (dk_at dksX5_comesAnew_3 18 rfl rfl)
theorem dX5_comesAnew_90 : decode cX5_comesAnew 90 = .ok (.goto (-75), 3) := dk_167 255 181 (dk_at dksX5_comesAnew_3 21 rfl rfl)
theorem dX5_comesAnew_93 : decode cX5_comesAnew 93 = .ok (.iload 4, 2) := dk_21 4 (dk_at dksX5_comesAnew_4 0 rfl rfl)
theorem dX5_comesAnew_95 : decode cX5_comesAnew 95 = .ok (.iload_n 1, 1) := dk_27 (dk_at dksX5_comesAnew_4 2 rfl rfl)
theorem dX5_comesAnew_96 : decode cX5_comesAnew 96 = .ok (.if_icmp .eq 5, 3) := dk_159 0 5 (dk_at dksX5_comesAnew_4 3 rfl rfl)
theorem dX5_comesAnew_99 : decode cX5_comesAnew 99 = .ok (.iconst 0, 1) := dk_3 (dk_at dksX5_comesAnew_4 6 rfl rfl)
theorem dX5_comesAnew_100 : decode cX5_comesAnew 100 = .ok (.ireturn, 1) := dk_172 (dk_at dksX5_comesAnew_4 7 rfl rfl)
theorem dX5_comesAnew_101 : decode cX5_comesAnew 101 = .ok (.aload_n 0, 1) := dk_42 (dk_at dksX5_comesAnew_4 8 rfl rfl)
theorem dX5_comesAnew_102 : decode cX5_comesAnew 102 = .ok (.getfield 72, 3) := dk_180 0 72 (dk_at dksX5_comesAnew_4 9 rfl rfl)
theorem dX5_comesAnew_105 : decode cX5_comesAnew 105 = .ok (.iload_n 3, 1) := dk_29 (dk_at dksX5_comesAnew_4 12 rfl rfl)
theorem dX5_comesAnew_106 : decode cX5_comesAnew 106 = .ok (.iconst 3, 1) := dk_6 (dk_at dksX5_comesAnew_4 13 rfl rfl)
theorem dX5_comesAnew_107 : decode cX5_comesAnew 107 = .ok (.iastore, 1) := dk_79 (dk_at dksX5_comesAnew_4 14 rfl rfl)
theorem dX5_comesAnew_108 : decode cX5_comesAnew 108 = .ok (.aload_n 0, 1) := dk_42 (dk_at dksX5_comesAnew_4 15 rfl rfl)
theorem dX5_comesAnew_109 : decode cX5_comesAnew 109 = .ok (.getfield 75, 3) := dk_180 0 75 (dk_at dksX5_comesAnew_4 16 rfl rfl)
theorem dX5_comesAnew_112 : decode cX5_comesAnew 112 = .ok (.iload_n 1, 1) := dk_27 (dk_at dksX5_comesAnew_4 19 rfl rfl)
theorem dX5_comesAnew_113 : decode cX5_comesAnew 113 = .ok (.iconst (-1), 1) := dk_2 (dk_at dksX5_comesAnew_4 20 rfl rfl)
theorem dX5_comesAnew_114 : decode cX5_comesAnew 114 = .ok (.iastore, 1) := dk_79 (dk_at dksX5_comesAnew_4 21 rfl rfl)
theorem dX5_comesAnew_115 : decode cX5_comesAnew 115 = .ok (.iload_n 3, 1) := dk_29 (dk_at dksX5_comesAnew_4 22 rfl rfl)
theorem dX5_comesAnew_116 : decode cX5_comesAnew 116 = .ok (.iload_n 1, 1) := dk_27 (dk_at dksX5_comesAnew_4 23 rfl rfl)
theorem dX5_comesAnew_117 : decode cX5_comesAnew 117 = .ok (.if_icmp .eq 7, 3) := dk_159 0 7 (dk_at dksX5_comesAnew_5 0 rfl rfl)
theorem dX5_comesAnew_120 : decode cX5_comesAnew 120 = .ok (.iconst 1, 1) := dk_4 (dk_at dksX5_comesAnew_5 3 rfl rfl)
theorem dX5_comesAnew_121 : decode cX5_comesAnew 121 = .ok (.goto 4, 3) := dk_167 0 4 (dk_at dksX5_comesAnew_5 4 rfl rfl)
theorem dX5_comesAnew_124 : decode cX5_comesAnew 124 = .ok (.iconst 0, 1) := dk_3 (dk_at dksX5_comesAnew_5 7 rfl rfl)
theorem dX5_comesAnew_125 : decode cX5_comesAnew 125 = .ok (.ireturn, 1) := dk_172 (dk_at dksX5_comesAnew_5 8 rfl rfl)
abbrev cX5_waitsFor : ByteArray := prog_10_method_32_code
def yX5_waitsFor : MethodName := ⟨RX5, "waitsFor", "(I)I"⟩
def dkwX5_waitsFor_1 : List UInt8 := [180, 0, 75, 27, 46, 46, 154, 0, 12, 42, 180, 0, 75, 27, 46, 167, 0, 4, 2, 172]
abbrev dktX5_waitsFor_1 : List UInt8 := dkwX5_waitsFor_1 ++ []
def dkwX5_waitsFor_0 : List UInt8 := [42, 180, 0, 72, 27, 46, 154, 0, 36, 42, 180, 0, 75, 27, 46, 2, 159, 0, 26, 42, 180, 0, 72, 42]
abbrev dktX5_waitsFor_0 : List UInt8 := dkwX5_waitsFor_0 ++ dktX5_waitsFor_1
theorem dksX5_waitsFor_0 : cX5_waitsFor.data.toList.drop 0 = dktX5_waitsFor_0 := by decide +kernel
theorem dksX5_waitsFor_1 : cX5_waitsFor.data.toList.drop 24 = dktX5_waitsFor_1 := dk_seg dksX5_waitsFor_0 24 rfl rfl
theorem dX5_waitsFor_0 : decode cX5_waitsFor 0 = .ok (.aload_n 0, 1) := dk_42 (dk_at dksX5_waitsFor_0 0 rfl rfl)
theorem dX5_waitsFor_1 : decode cX5_waitsFor 1 = .ok (.getfield 72, 3) := dk_180 0 72 (dk_at dksX5_waitsFor_0 1 rfl rfl)
theorem dX5_waitsFor_4 : decode cX5_waitsFor 4 = .ok (.iload_n 1, 1) := dk_27 (dk_at dksX5_waitsFor_0 4 rfl rfl)
theorem dX5_waitsFor_5 : decode cX5_waitsFor 5 = .ok (.iaload, 1) := dk_46 (dk_at dksX5_waitsFor_0 5 rfl rfl)
theorem dX5_waitsFor_6 : decode cX5_waitsFor 6 = .ok (.ifCond .ne 36, 3) := dk_154 0 36 (dk_at dksX5_waitsFor_0 6 rfl rfl)
theorem dX5_waitsFor_9 : decode cX5_waitsFor 9 = .ok (.aload_n 0, 1) := dk_42 (dk_at dksX5_waitsFor_0 9 rfl rfl)
theorem dX5_waitsFor_10 : decode cX5_waitsFor 10 = .ok (.getfield 75, 3) := dk_180 0 75 (dk_at dksX5_waitsFor_0 10 rfl rfl)
theorem dX5_waitsFor_13 : decode cX5_waitsFor 13 = .ok (.iload_n 1, 1) := dk_27 (dk_at dksX5_waitsFor_0 13 rfl rfl)
theorem dX5_waitsFor_14 : decode cX5_waitsFor 14 = .ok (.iaload, 1) := dk_46 (dk_at dksX5_waitsFor_0 14 rfl rfl)
theorem dX5_waitsFor_15 : decode cX5_waitsFor 15 = .ok (.iconst (-1), 1) := dk_2 (dk_at dksX5_waitsFor_0 15 rfl rfl)
theorem dX5_waitsFor_16 : decode cX5_waitsFor 16 = .ok (.if_icmp .eq 26, 3) := dk_159 0 26 (dk_at dksX5_waitsFor_0 16 rfl rfl)
theorem dX5_waitsFor_19 : decode cX5_waitsFor 19 = .ok (.aload_n 0, 1) := dk_42 (dk_at dksX5_waitsFor_0 19 rfl rfl)
theorem dX5_waitsFor_20 : decode cX5_waitsFor 20 = .ok (.getfield 72, 3) := dk_180 0 72 (dk_at dksX5_waitsFor_0 20 rfl rfl)
theorem dX5_waitsFor_23 : decode cX5_waitsFor 23 = .ok (.aload_n 0, 1) := dk_42 (dk_at dksX5_waitsFor_0 23 rfl rfl)
theorem dX5_waitsFor_24 : decode cX5_waitsFor 24 = .ok (.getfield 75, 3) := dk_180 0 75 (dk_at dksX5_waitsFor_1 0 rfl rfl)
theorem dX5_waitsFor_27 : decode cX5_waitsFor 27 = .ok (.iload_n 1, 1) := dk_27 (dk_at dksX5_waitsFor_1 3 rfl rfl)
theorem dX5_waitsFor_28 : decode cX5_waitsFor 28 = .ok (.iaload, 1) := dk_46 (dk_at dksX5_waitsFor_1 4 rfl rfl)
theorem dX5_waitsFor_29 : decode cX5_waitsFor 29 = .ok (.iaload, 1) := dk_46 (dk_at dksX5_waitsFor_1 5 rfl rfl)
theorem dX5_waitsFor_30 : decode cX5_waitsFor 30 = .ok (.ifCond .ne 12, 3) := dk_154 0 12 (dk_at dksX5_waitsFor_1 6 rfl rfl)
theorem dX5_waitsFor_33 : decode cX5_waitsFor 33 = .ok (.aload_n 0, 1) := dk_42 (dk_at dksX5_waitsFor_1 9 rfl rfl)
theorem dX5_waitsFor_34 : decode cX5_waitsFor 34 = .ok (.getfield 75, 3) := dk_180 0 75 (dk_at dksX5_waitsFor_1 10 rfl rfl)
theorem dX5_waitsFor_37 : decode cX5_waitsFor 37 = .ok (.iload_n 1, 1) := dk_27 (dk_at dksX5_waitsFor_1 13 rfl rfl)
theorem dX5_waitsFor_38 : decode cX5_waitsFor 38 = .ok (.iaload, 1) := dk_46 (dk_at dksX5_waitsFor_1 14 rfl rfl)
theorem dX5_waitsFor_39 : decode cX5_waitsFor 39 = .ok (.goto 4, 3) := dk_167 0 4 (dk_at dksX5_waitsFor_1 15 rfl rfl)
theorem dX5_waitsFor_42 : decode cX5_waitsFor 42 = .ok (.iconst (-1), 1) := dk_2 (dk_at dksX5_waitsFor_1 18 rfl rfl)
theorem dX5_waitsFor_43 : decode cX5_waitsFor 43 = .ok (.ireturn, 1) := dk_172 (dk_at dksX5_waitsFor_1 19 rfl rfl)
abbrev cX5_waitAnswer : ByteArray := prog_10_method_34_code
def yX5_waitAnswer : MethodName := ⟨RX5, "waitAnswer", "(I)I"⟩
def dkwX5_waitAnswer_0 : List UInt8 := [42, 180, 0, 72, 27, 46, 154, 0, 8, 16, 245, 167, 0, 5, 16, 243, 172]
abbrev dktX5_waitAnswer_0 : List UInt8 := dkwX5_waitAnswer_0 ++ []
theorem dksX5_waitAnswer_0 : cX5_waitAnswer.data.toList.drop 0 = dktX5_waitAnswer_0 := by decide +kernel
theorem dX5_waitAnswer_0 : decode cX5_waitAnswer 0 = .ok (.aload_n 0, 1) := dk_42 (dk_at dksX5_waitAnswer_0 0 rfl rfl)
theorem dX5_waitAnswer_1 : decode cX5_waitAnswer 1 = .ok (.getfield 72, 3) := dk_180 0 72 (dk_at dksX5_waitAnswer_0 1 rfl rfl)
theorem dX5_waitAnswer_4 : decode cX5_waitAnswer 4 = .ok (.iload_n 1, 1) := dk_27 (dk_at dksX5_waitAnswer_0 4 rfl rfl)
theorem dX5_waitAnswer_5 : decode cX5_waitAnswer 5 = .ok (.iaload, 1) := dk_46 (dk_at dksX5_waitAnswer_0 5 rfl rfl)
theorem dX5_waitAnswer_6 : decode cX5_waitAnswer 6 = .ok (.ifCond .ne 8, 3) := dk_154 0 8 (dk_at dksX5_waitAnswer_0 6 rfl rfl)
theorem dX5_waitAnswer_9 : decode cX5_waitAnswer 9 = .ok (.bipush (-11), 2) := dk_16 245 (dk_at dksX5_waitAnswer_0 9 rfl rfl)
theorem dX5_waitAnswer_11 : decode cX5_waitAnswer 11 = .ok (.goto 5, 3) := dk_167 0 5 (dk_at dksX5_waitAnswer_0 11 rfl rfl)
theorem dX5_waitAnswer_14 : decode cX5_waitAnswer 14 = .ok (.bipush (-13), 2) := dk_16 243 (dk_at dksX5_waitAnswer_0 14 rfl rfl)
theorem dX5_waitAnswer_16 : decode cX5_waitAnswer 16 = .ok (.ireturn, 1) := dk_172 (dk_at dksX5_waitAnswer_0 16 rfl rfl)
abbrev cX5_latest : ByteArray := prog_10_method_27_code
def yX5_latest : MethodName := ⟨RX5, "latest", "(II)I"⟩
def dkwX5_latest_2 : List UInt8 := [184, 0, 103, 167, 0, 4, 29, 62, 132, 4, 1, 167, 255, 206, 29, 172]
abbrev dktX5_latest_2 : List UInt8 := dkwX5_latest_2 ++ []
def dkwX5_latest_1 : List UInt8 := [160, 0, 28, 42, 180, 0, 48, 21, 4, 46, 28, 163, 0, 17, 29, 42, 180, 0, 48, 21, 4, 46]
abbrev dktX5_latest_1 : List UInt8 := dkwX5_latest_1 ++ dktX5_latest_2
def dkwX5_latest_0 : List UInt8 := [2, 62, 3, 54, 4, 21, 4, 42, 180, 0, 135, 162, 0, 47, 42, 180, 0, 45, 21, 4, 46, 27]
abbrev dktX5_latest_0 : List UInt8 := dkwX5_latest_0 ++ dktX5_latest_1
theorem dksX5_latest_0 : cX5_latest.data.toList.drop 0 = dktX5_latest_0 := by decide +kernel
theorem dksX5_latest_1 : cX5_latest.data.toList.drop 22 = dktX5_latest_1 := dk_seg dksX5_latest_0 22 rfl rfl
theorem dksX5_latest_2 : cX5_latest.data.toList.drop 44 = dktX5_latest_2 := dk_seg dksX5_latest_1 22 rfl rfl
theorem dX5_latest_0 : decode cX5_latest 0 = .ok (.iconst (-1), 1) := dk_2 (dk_at dksX5_latest_0 0 rfl rfl)
theorem dX5_latest_1 : decode cX5_latest 1 = .ok (.istore_n 3, 1) := dk_62 (dk_at dksX5_latest_0 1 rfl rfl)
theorem dX5_latest_2 : decode cX5_latest 2 = .ok (.iconst 0, 1) := dk_3 (dk_at dksX5_latest_0 2 rfl rfl)
theorem dX5_latest_3 : decode cX5_latest 3 = .ok (.istore 4, 2) := dk_54 4 (dk_at dksX5_latest_0 3 rfl rfl)
theorem dX5_latest_5 : decode cX5_latest 5 = .ok (.iload 4, 2) := dk_21 4 (dk_at dksX5_latest_0 5 rfl rfl)
theorem dX5_latest_7 : decode cX5_latest 7 = .ok (.aload_n 0, 1) := dk_42 (dk_at dksX5_latest_0 7 rfl rfl)
theorem dX5_latest_8 : decode cX5_latest 8 = .ok (.getfield 135, 3) := dk_180 0 135 (dk_at dksX5_latest_0 8 rfl rfl)
theorem dX5_latest_11 : decode cX5_latest 11 = .ok (.if_icmp .ge 47, 3) := dk_162 0 47 (dk_at dksX5_latest_0 11 rfl rfl)
theorem dX5_latest_14 : decode cX5_latest 14 = .ok (.aload_n 0, 1) := dk_42 (dk_at dksX5_latest_0 14 rfl rfl)
theorem dX5_latest_15 : decode cX5_latest 15 = .ok (.getfield 45, 3) := dk_180 0 45 (dk_at dksX5_latest_0 15 rfl rfl)
theorem dX5_latest_18 : decode cX5_latest 18 = .ok (.iload 4, 2) := dk_21 4 (dk_at dksX5_latest_0 18 rfl rfl)
theorem dX5_latest_20 : decode cX5_latest 20 = .ok (.iaload, 1) := dk_46 (dk_at dksX5_latest_0 20 rfl rfl)
theorem dX5_latest_21 : decode cX5_latest 21 = .ok (.iload_n 1, 1) := dk_27 (dk_at dksX5_latest_0 21 rfl rfl)
theorem dX5_latest_22 : decode cX5_latest 22 = .ok (.if_icmp .ne 28, 3) := dk_160 0 28 (dk_at dksX5_latest_1 0 rfl rfl)
theorem dX5_latest_25 : decode cX5_latest 25 = .ok (.aload_n 0, 1) := dk_42 (dk_at dksX5_latest_1 3 rfl rfl)
theorem dX5_latest_26 : decode cX5_latest 26 = .ok (.getfield 48, 3) := dk_180 0 48 (dk_at dksX5_latest_1 4 rfl rfl)
theorem dX5_latest_29 : decode cX5_latest 29 = .ok (.iload 4, 2) := dk_21 4 (dk_at dksX5_latest_1 7 rfl rfl)
theorem dX5_latest_31 : decode cX5_latest 31 = .ok (.iaload, 1) := dk_46 (dk_at dksX5_latest_1 9 rfl rfl)
theorem dX5_latest_32 : decode cX5_latest 32 = .ok (.iload_n 2, 1) := dk_28 (dk_at dksX5_latest_1 10 rfl rfl)
theorem dX5_latest_33 : decode cX5_latest 33 = .ok (.if_icmp .gt 17, 3) := dk_163 0 17 (dk_at dksX5_latest_1 11 rfl rfl)
theorem dX5_latest_36 : decode cX5_latest 36 = .ok (.iload_n 3, 1) := dk_29 (dk_at dksX5_latest_1 14 rfl rfl)
theorem dX5_latest_37 : decode cX5_latest 37 = .ok (.aload_n 0, 1) := dk_42 (dk_at dksX5_latest_1 15 rfl rfl)
theorem dX5_latest_38 : decode cX5_latest 38 = .ok (.getfield 48, 3) := dk_180 0 48 (dk_at dksX5_latest_1 16 rfl rfl)
theorem dX5_latest_41 : decode cX5_latest 41 = .ok (.iload 4, 2) := dk_21 4 (dk_at dksX5_latest_1 19 rfl rfl)
theorem dX5_latest_43 : decode cX5_latest 43 = .ok (.iaload, 1) := dk_46 (dk_at dksX5_latest_1 21 rfl rfl)
theorem dX5_latest_44 : decode cX5_latest 44 = .ok (.invokestatic 103, 3) := dk_184 0 103 (dk_at dksX5_latest_2 0 rfl rfl)
theorem dX5_latest_47 : decode cX5_latest 47 = .ok (.goto 4, 3) := dk_167 0 4 (dk_at dksX5_latest_2 3 rfl rfl)
theorem dX5_latest_50 : decode cX5_latest 50 = .ok (.iload_n 3, 1) := dk_29 (dk_at dksX5_latest_2 6 rfl rfl)
theorem dX5_latest_51 : decode cX5_latest 51 = .ok (.istore_n 3, 1) := dk_62 (dk_at dksX5_latest_2 7 rfl rfl)
theorem dX5_latest_52 : decode cX5_latest 52 = .ok (.iinc 4 1, 3) := dk_132 4 1 (dk_at dksX5_latest_2 8 rfl rfl)
theorem dX5_latest_55 : decode cX5_latest 55 = .ok (.goto (-50), 3) := dk_167 255 206 (dk_at dksX5_latest_2 11 rfl rfl)
theorem dX5_latest_58 : decode cX5_latest 58 = .ok (.iload_n 3, 1) := dk_29 (dk_at dksX5_latest_2 14 rfl rfl)
theorem dX5_latest_59 : decode cX5_latest 59 = .ok (.ireturn, 1) := dk_172 (dk_at dksX5_latest_2 15 rfl rfl)
abbrev cX5_refreshes : ByteArray := prog_10_method_30_code
def yX5_refreshes : MethodName := ⟨RX5, "refreshes", "(II)Z"⟩
def dkwX5_refreshes_5 : List UInt8 := [132, 3, 1, 167, 255, 225, 4, 172]
abbrev dktX5_refreshes_5 : List UInt8 := dkwX5_refreshes_5 ++ []
def dkwX5_refreshes_4 : List UInt8 := [42, 180, 0, 84, 16, 32, 27, 104, 29, 96, 46, 2, 159, 0, 10, 42, 27, 29, 28, 182, 0, 156]
abbrev dktX5_refreshes_4 : List UInt8 := dkwX5_refreshes_4 ++ dktX5_refreshes_5
def dkwX5_refreshes_3 : List UInt8 := [180, 0, 60, 27, 46, 164, 0, 5, 3, 172, 132, 3, 1, 167, 255, 175, 3, 62, 29, 16, 32, 162, 0, 31]
abbrev dktX5_refreshes_3 : List UInt8 := dkwX5_refreshes_3 ++ dktX5_refreshes_4
def dkwX5_refreshes_2 : List UInt8 := [2, 159, 0, 14, 42, 180, 0, 63, 21, 4, 46, 28, 164, 0, 18, 42, 29, 28, 182, 0, 150, 42]
abbrev dktX5_refreshes_2 : List UInt8 := dkwX5_refreshes_2 ++ dktX5_refreshes_3
def dkwX5_refreshes_1 : List UInt8 := [180, 0, 16, 42, 29, 182, 0, 118, 51, 153, 0, 5, 3, 172, 42, 27, 29, 182, 0, 153, 54, 4, 21, 4]
abbrev dktX5_refreshes_1 : List UInt8 := dkwX5_refreshes_1 ++ dktX5_refreshes_2
def dkwX5_refreshes_0 : List UInt8 := [3, 62, 29, 16, 32, 162, 0, 81, 42, 180, 0, 84, 16, 32, 27, 104, 29, 96, 46, 2, 159, 0, 60, 42]
abbrev dktX5_refreshes_0 : List UInt8 := dkwX5_refreshes_0 ++ dktX5_refreshes_1
theorem dksX5_refreshes_0 : cX5_refreshes.data.toList.drop 0 = dktX5_refreshes_0 := by decide +kernel
theorem dksX5_refreshes_1 : cX5_refreshes.data.toList.drop 24 = dktX5_refreshes_1 := dk_seg dksX5_refreshes_0 24 rfl rfl
theorem dksX5_refreshes_2 : cX5_refreshes.data.toList.drop 48 = dktX5_refreshes_2 := dk_seg dksX5_refreshes_1 24 rfl rfl
theorem dksX5_refreshes_3 : cX5_refreshes.data.toList.drop 70 = dktX5_refreshes_3 := dk_seg dksX5_refreshes_2 22 rfl rfl
theorem dksX5_refreshes_4 : cX5_refreshes.data.toList.drop 94 = dktX5_refreshes_4 := dk_seg dksX5_refreshes_3 24 rfl rfl
theorem dksX5_refreshes_5 : cX5_refreshes.data.toList.drop 116 = dktX5_refreshes_5 := dk_seg dksX5_refreshes_4 22 rfl rfl
theorem dX5_refreshes_0 : decode cX5_refreshes 0 = .ok (.iconst 0, 1) := dk_3 (dk_at dksX5_refreshes_0 0 rfl rfl)
theorem dX5_refreshes_1 : decode cX5_refreshes 1 = .ok (.istore_n 3, 1) := dk_62 (dk_at dksX5_refreshes_0 1 rfl rfl)
theorem dX5_refreshes_2 : decode cX5_refreshes 2 = .ok (.iload_n 3, 1) := dk_29 (dk_at dksX5_refreshes_0 2 rfl rfl)
theorem dX5_refreshes_3 : decode cX5_refreshes 3 = .ok (.bipush 32, 2) := dk_16 32 (dk_at dksX5_refreshes_0 3 rfl rfl)
theorem dX5_refreshes_5 : decode cX5_refreshes 5 = .ok (.if_icmp .ge 81, 3) := dk_162 0 81 (dk_at dksX5_refreshes_0 5 rfl rfl)
theorem dX5_refreshes_8 : decode cX5_refreshes 8 = .ok (.aload_n 0, 1) := dk_42 (dk_at dksX5_refreshes_0 8 rfl rfl)
theorem dX5_refreshes_9 : decode cX5_refreshes 9 = .ok (.getfield 84, 3) := dk_180 0 84 (dk_at dksX5_refreshes_0 9 rfl rfl)
theorem dX5_refreshes_12 : decode cX5_refreshes 12 = .ok (.bipush 32, 2) := dk_16 32 (dk_at dksX5_refreshes_0 12 rfl rfl)
theorem dX5_refreshes_14 : decode cX5_refreshes 14 = .ok (.iload_n 1, 1) := dk_27 (dk_at dksX5_refreshes_0 14 rfl rfl)
theorem dX5_refreshes_15 : decode cX5_refreshes 15 = .ok (.imul, 1) := dk_104 (dk_at dksX5_refreshes_0 15 rfl rfl)
theorem dX5_refreshes_16 : decode cX5_refreshes 16 = .ok (.iload_n 3, 1) := dk_29 (dk_at dksX5_refreshes_0 16 rfl rfl)
theorem dX5_refreshes_17 : decode cX5_refreshes 17 = .ok (.iadd, 1) := dk_96 (dk_at dksX5_refreshes_0 17 rfl rfl)
theorem dX5_refreshes_18 : decode cX5_refreshes 18 = .ok (.iaload, 1) := dk_46 (dk_at dksX5_refreshes_0 18 rfl rfl)
theorem dX5_refreshes_19 : decode cX5_refreshes 19 = .ok (.iconst (-1), 1) := dk_2 (dk_at dksX5_refreshes_0 19 rfl rfl)
theorem dX5_refreshes_20 : decode cX5_refreshes 20 = .ok (.if_icmp .eq 60, 3) := dk_159 0 60 (dk_at dksX5_refreshes_0 20 rfl rfl)
theorem dX5_refreshes_23 : decode cX5_refreshes 23 = .ok (.aload_n 0, 1) := dk_42 (dk_at dksX5_refreshes_0 23 rfl rfl)
theorem dX5_refreshes_24 : decode cX5_refreshes 24 = .ok (.getfield 16, 3) := dk_180 0 16 (dk_at dksX5_refreshes_1 0 rfl rfl)
theorem dX5_refreshes_27 : decode cX5_refreshes 27 = .ok (.aload_n 0, 1) := dk_42 (dk_at dksX5_refreshes_1 3 rfl rfl)
theorem dX5_refreshes_28 : decode cX5_refreshes 28 = .ok (.iload_n 3, 1) := dk_29 (dk_at dksX5_refreshes_1 4 rfl rfl)
theorem dX5_refreshes_29 : decode cX5_refreshes 29 = .ok (.invokevirtual 118, 3) := dk_182 0 118 (dk_at dksX5_refreshes_1 5 rfl rfl)
theorem dX5_refreshes_32 : decode cX5_refreshes 32 = .ok (.baload, 1) := dk_51 (dk_at dksX5_refreshes_1 8 rfl rfl)
theorem dX5_refreshes_33 : decode cX5_refreshes 33 = .ok (.ifCond .eq 5, 3) := dk_153 0 5 (dk_at dksX5_refreshes_1 9 rfl rfl)
theorem dX5_refreshes_36 : decode cX5_refreshes 36 = .ok (.iconst 0, 1) := dk_3 (dk_at dksX5_refreshes_1 12 rfl rfl)
theorem dX5_refreshes_37 : decode cX5_refreshes 37 = .ok (.ireturn, 1) := dk_172 (dk_at dksX5_refreshes_1 13 rfl rfl)
theorem dX5_refreshes_38 : decode cX5_refreshes 38 = .ok (.aload_n 0, 1) := dk_42 (dk_at dksX5_refreshes_1 14 rfl rfl)
theorem dX5_refreshes_39 : decode cX5_refreshes 39 = .ok (.iload_n 1, 1) := dk_27 (dk_at dksX5_refreshes_1 15 rfl rfl)
theorem dX5_refreshes_40 : decode cX5_refreshes 40 = .ok (.iload_n 3, 1) := dk_29 (dk_at dksX5_refreshes_1 16 rfl rfl)
theorem dX5_refreshes_41 : decode cX5_refreshes 41 = .ok (.invokevirtual 153, 3) := dk_182 0 153 (dk_at dksX5_refreshes_1 17 rfl rfl)
theorem dX5_refreshes_44 : decode cX5_refreshes 44 = .ok (.istore 4, 2) := dk_54 4 (dk_at dksX5_refreshes_1 20 rfl rfl)
theorem dX5_refreshes_46 : decode cX5_refreshes 46 = .ok (.iload 4, 2) := dk_21 4 (dk_at dksX5_refreshes_1 22 rfl rfl)
theorem dX5_refreshes_48 : decode cX5_refreshes 48 = .ok (.iconst (-1), 1) := dk_2 (dk_at dksX5_refreshes_2 0 rfl rfl)
theorem dX5_refreshes_49 : decode cX5_refreshes 49 = .ok (.if_icmp .eq 14, 3) := dk_159 0 14 (dk_at dksX5_refreshes_2 1 rfl rfl)
theorem dX5_refreshes_52 : decode cX5_refreshes 52 = .ok (.aload_n 0, 1) := dk_42 (dk_at dksX5_refreshes_2 4 rfl rfl)
theorem dX5_refreshes_53 : decode cX5_refreshes 53 = .ok (.getfield 63, 3) := dk_180 0 63 (dk_at dksX5_refreshes_2 5 rfl rfl)
theorem dX5_refreshes_56 : decode cX5_refreshes 56 = .ok (.iload 4, 2) := dk_21 4 (dk_at dksX5_refreshes_2 8 rfl rfl)
theorem dX5_refreshes_58 : decode cX5_refreshes 58 = .ok (.iaload, 1) := dk_46 (dk_at dksX5_refreshes_2 10 rfl rfl)
theorem dX5_refreshes_59 : decode cX5_refreshes 59 = .ok (.iload_n 2, 1) := dk_28 (dk_at dksX5_refreshes_2 11 rfl rfl)
theorem dX5_refreshes_60 : decode cX5_refreshes 60 = .ok (.if_icmp .le 18, 3) := dk_164 0 18 (dk_at dksX5_refreshes_2 12 rfl rfl)
theorem dX5_refreshes_63 : decode cX5_refreshes 63 = .ok (.aload_n 0, 1) := dk_42 (dk_at dksX5_refreshes_2 15 rfl rfl)
theorem dX5_refreshes_64 : decode cX5_refreshes 64 = .ok (.iload_n 3, 1) := dk_29 (dk_at dksX5_refreshes_2 16 rfl rfl)
theorem dX5_refreshes_65 : decode cX5_refreshes 65 = .ok (.iload_n 2, 1) := dk_28 (dk_at dksX5_refreshes_2 17 rfl rfl)
theorem dX5_refreshes_66 : decode cX5_refreshes 66 = .ok (.invokevirtual 150, 3) := dk_182 0 150 (dk_at dksX5_refreshes_2 18 rfl rfl)
theorem dX5_refreshes_69 : decode cX5_refreshes 69 = .ok (.aload_n 0, 1) := dk_42 (dk_at dksX5_refreshes_2 21 rfl rfl)
theorem dX5_refreshes_70 : decode cX5_refreshes 70 = .ok (.getfield 60, 3) := dk_180 0 60 (dk_at dksX5_refreshes_3 0 rfl rfl)
theorem dX5_refreshes_73 : decode cX5_refreshes 73 = .ok (.iload_n 1, 1) := dk_27 (dk_at dksX5_refreshes_3 3 rfl rfl)
theorem dX5_refreshes_74 : decode cX5_refreshes 74 = .ok (.iaload, 1) := dk_46 (dk_at dksX5_refreshes_3 4 rfl rfl)
theorem dX5_refreshes_75 : decode cX5_refreshes 75 = .ok (.if_icmp .le 5, 3) := dk_164 0 5 (dk_at dksX5_refreshes_3 5 rfl rfl)
theorem dX5_refreshes_78 : decode cX5_refreshes 78 = .ok (.iconst 0, 1) := dk_3 (dk_at dksX5_refreshes_3 8 rfl rfl)
theorem dX5_refreshes_79 : decode cX5_refreshes 79 = .ok (.ireturn, 1) := dk_172 (dk_at dksX5_refreshes_3 9 rfl rfl)
theorem dX5_refreshes_80 : decode cX5_refreshes 80 = .ok (.iinc 3 1, 3) := dk_132 3 1 (dk_at dksX5_refreshes_3 10 rfl rfl)
theorem dX5_refreshes_83 : decode cX5_refreshes 83 = .ok (.goto (-81), 3) := dk_167 255 175 (dk_at dksX5_refreshes_3 13 rfl rfl)
theorem dX5_refreshes_86 : decode cX5_refreshes 86 = .ok (.iconst 0, 1) := dk_3 (dk_at dksX5_refreshes_3 16 rfl rfl)
theorem dX5_refreshes_87 : decode cX5_refreshes 87 = .ok (.istore_n 3, 1) := dk_62 (dk_at dksX5_refreshes_3 17 rfl rfl)
theorem dX5_refreshes_88 : decode cX5_refreshes 88 = .ok (.iload_n 3, 1) := dk_29 (dk_at dksX5_refreshes_3 18 rfl rfl)
theorem dX5_refreshes_89 : decode cX5_refreshes 89 = .ok (.bipush 32, 2) := dk_16 32 (dk_at dksX5_refreshes_3 19 rfl rfl)
theorem dX5_refreshes_91 : decode cX5_refreshes 91 = .ok (.if_icmp .ge 31, 3) := dk_162 0 31 (dk_at dksX5_refreshes_3 21 rfl rfl)
theorem dX5_refreshes_94 : decode cX5_refreshes 94 = .ok (.aload_n 0, 1) := dk_42 (dk_at dksX5_refreshes_4 0 rfl rfl)
theorem dX5_refreshes_95 : decode cX5_refreshes 95 = .ok (.getfield 84, 3) := dk_180 0 84 (dk_at dksX5_refreshes_4 1 rfl rfl)
theorem dX5_refreshes_98 : decode cX5_refreshes 98 = .ok (.bipush 32, 2) := dk_16 32 (dk_at dksX5_refreshes_4 4 rfl rfl)
theorem dX5_refreshes_100 : decode cX5_refreshes 100 = .ok (.iload_n 1, 1) := dk_27 (dk_at dksX5_refreshes_4 6 rfl rfl)
theorem dX5_refreshes_101 : decode cX5_refreshes 101 = .ok (.imul, 1) := dk_104 (dk_at dksX5_refreshes_4 7 rfl rfl)
theorem dX5_refreshes_102 : decode cX5_refreshes 102 = .ok (.iload_n 3, 1) := dk_29 (dk_at dksX5_refreshes_4 8 rfl rfl)
theorem dX5_refreshes_103 : decode cX5_refreshes 103 = .ok (.iadd, 1) := dk_96 (dk_at dksX5_refreshes_4 9 rfl rfl)
theorem dX5_refreshes_104 : decode cX5_refreshes 104 = .ok (.iaload, 1) := dk_46 (dk_at dksX5_refreshes_4 10 rfl rfl)
theorem dX5_refreshes_105 : decode cX5_refreshes 105 = .ok (.iconst (-1), 1) := dk_2 (dk_at dksX5_refreshes_4 11 rfl rfl)
theorem dX5_refreshes_106 : decode cX5_refreshes 106 = .ok (.if_icmp .eq 10, 3) := dk_159 0 10 (dk_at dksX5_refreshes_4 12 rfl rfl)
theorem dX5_refreshes_109 : decode cX5_refreshes 109 = .ok (.aload_n 0, 1) := dk_42 (dk_at dksX5_refreshes_4 15 rfl rfl)
theorem dX5_refreshes_110 : decode cX5_refreshes 110 = .ok (.iload_n 1, 1) := dk_27 (dk_at dksX5_refreshes_4 16 rfl rfl)
theorem dX5_refreshes_111 : decode cX5_refreshes 111 = .ok (.iload_n 3, 1) := dk_29 (dk_at dksX5_refreshes_4 17 rfl rfl)
theorem dX5_refreshes_112 : decode cX5_refreshes 112 = .ok (.iload_n 2, 1) := dk_28 (dk_at dksX5_refreshes_4 18 rfl rfl)
theorem dX5_refreshes_113 : decode cX5_refreshes 113 = .ok (.invokevirtual 156, 3) := dk_182 0 156 (dk_at dksX5_refreshes_4 19 rfl rfl)
theorem dX5_refreshes_116 : decode cX5_refreshes 116 = .ok (.iinc 3 1, 3) := dk_132 3 1 (dk_at dksX5_refreshes_5 0 rfl rfl)
theorem dX5_refreshes_119 : decode cX5_refreshes 119 = .ok (.goto (-31), 3) := dk_167 255 225 (dk_at dksX5_refreshes_5 3 rfl rfl)
theorem dX5_refreshes_122 : decode cX5_refreshes 122 = .ok (.iconst 1, 1) := dk_4 (dk_at dksX5_refreshes_5 6 rfl rfl)
theorem dX5_refreshes_123 : decode cX5_refreshes 123 = .ok (.ireturn, 1) := dk_172 (dk_at dksX5_refreshes_5 7 rfl rfl)
abbrev cX5_marks : ByteArray := prog_10_method_29_code
def yX5_marks : MethodName := ⟨RX5, "marks", "(III)V"⟩
def dkwX5_marks_2 : List UInt8 := [180, 0, 42, 28, 16, 254, 79, 177]
abbrev dktX5_marks_2 : List UInt8 := dkwX5_marks_2 ++ []
def dkwX5_marks_1 : List UInt8 := [167, 0, 31, 29, 42, 180, 0, 39, 28, 46, 160, 0, 21, 42, 180, 0, 42, 28, 46, 27, 159, 0, 11, 42]
abbrev dktX5_marks_1 : List UInt8 := dkwX5_marks_1 ++ dktX5_marks_2
def dkwX5_marks_0 : List UInt8 := [29, 42, 180, 0, 39, 28, 46, 164, 0, 20, 42, 180, 0, 39, 28, 29, 79, 42, 180, 0, 42, 28, 27, 79]
abbrev dktX5_marks_0 : List UInt8 := dkwX5_marks_0 ++ dktX5_marks_1
theorem dksX5_marks_0 : cX5_marks.data.toList.drop 0 = dktX5_marks_0 := by decide +kernel
theorem dksX5_marks_1 : cX5_marks.data.toList.drop 24 = dktX5_marks_1 := dk_seg dksX5_marks_0 24 rfl rfl
theorem dksX5_marks_2 : cX5_marks.data.toList.drop 48 = dktX5_marks_2 := dk_seg dksX5_marks_1 24 rfl rfl
theorem dX5_marks_0 : decode cX5_marks 0 = .ok (.iload_n 3, 1) := dk_29 (dk_at dksX5_marks_0 0 rfl rfl)
theorem dX5_marks_1 : decode cX5_marks 1 = .ok (.aload_n 0, 1) := dk_42 (dk_at dksX5_marks_0 1 rfl rfl)
theorem dX5_marks_2 : decode cX5_marks 2 = .ok (.getfield 39, 3) := dk_180 0 39 (dk_at dksX5_marks_0 2 rfl rfl)
theorem dX5_marks_5 : decode cX5_marks 5 = .ok (.iload_n 2, 1) := dk_28 (dk_at dksX5_marks_0 5 rfl rfl)
theorem dX5_marks_6 : decode cX5_marks 6 = .ok (.iaload, 1) := dk_46 (dk_at dksX5_marks_0 6 rfl rfl)
theorem dX5_marks_7 : decode cX5_marks 7 = .ok (.if_icmp .le 20, 3) := dk_164 0 20 (dk_at dksX5_marks_0 7 rfl rfl)
theorem dX5_marks_10 : decode cX5_marks 10 = .ok (.aload_n 0, 1) := dk_42 (dk_at dksX5_marks_0 10 rfl rfl)
theorem dX5_marks_11 : decode cX5_marks 11 = .ok (.getfield 39, 3) := dk_180 0 39 (dk_at dksX5_marks_0 11 rfl rfl)
theorem dX5_marks_14 : decode cX5_marks 14 = .ok (.iload_n 2, 1) := dk_28 (dk_at dksX5_marks_0 14 rfl rfl)
theorem dX5_marks_15 : decode cX5_marks 15 = .ok (.iload_n 3, 1) := dk_29 (dk_at dksX5_marks_0 15 rfl rfl)
theorem dX5_marks_16 : decode cX5_marks 16 = .ok (.iastore, 1) := dk_79 (dk_at dksX5_marks_0 16 rfl rfl)
theorem dX5_marks_17 : decode cX5_marks 17 = .ok (.aload_n 0, 1) := dk_42 (dk_at dksX5_marks_0 17 rfl rfl)
theorem dX5_marks_18 : decode cX5_marks 18 = .ok (.getfield 42, 3) := dk_180 0 42 (dk_at dksX5_marks_0 18 rfl rfl)
theorem dX5_marks_21 : decode cX5_marks 21 = .ok (.iload_n 2, 1) := dk_28 (dk_at dksX5_marks_0 21 rfl rfl)
theorem dX5_marks_22 : decode cX5_marks 22 = .ok (.iload_n 1, 1) := dk_27 (dk_at dksX5_marks_0 22 rfl rfl)
theorem dX5_marks_23 : decode cX5_marks 23 = .ok (.iastore, 1) := dk_79 (dk_at dksX5_marks_0 23 rfl rfl)
theorem dX5_marks_24 : decode cX5_marks 24 = .ok (.goto 31, 3) := dk_167 0 31 (dk_at dksX5_marks_1 0 rfl rfl)
theorem dX5_marks_27 : decode cX5_marks 27 = .ok (.iload_n 3, 1) := dk_29 (dk_at dksX5_marks_1 3 rfl rfl)
theorem dX5_marks_28 : decode cX5_marks 28 = .ok (.aload_n 0, 1) := dk_42 (dk_at dksX5_marks_1 4 rfl rfl)
theorem dX5_marks_29 : decode cX5_marks 29 = .ok (.getfield 39, 3) := dk_180 0 39 (dk_at dksX5_marks_1 5 rfl rfl)
theorem dX5_marks_32 : decode cX5_marks 32 = .ok (.iload_n 2, 1) := dk_28 (dk_at dksX5_marks_1 8 rfl rfl)
theorem dX5_marks_33 : decode cX5_marks 33 = .ok (.iaload, 1) := dk_46 (dk_at dksX5_marks_1 9 rfl rfl)
theorem dX5_marks_34 : decode cX5_marks 34 = .ok (.if_icmp .ne 21, 3) := dk_160 0 21 (dk_at dksX5_marks_1 10 rfl rfl)
theorem dX5_marks_37 : decode cX5_marks 37 = .ok (.aload_n 0, 1) := dk_42 (dk_at dksX5_marks_1 13 rfl rfl)
theorem dX5_marks_38 : decode cX5_marks 38 = .ok (.getfield 42, 3) := dk_180 0 42 (dk_at dksX5_marks_1 14 rfl rfl)
theorem dX5_marks_41 : decode cX5_marks 41 = .ok (.iload_n 2, 1) := dk_28 (dk_at dksX5_marks_1 17 rfl rfl)
theorem dX5_marks_42 : decode cX5_marks 42 = .ok (.iaload, 1) := dk_46 (dk_at dksX5_marks_1 18 rfl rfl)
theorem dX5_marks_43 : decode cX5_marks 43 = .ok (.iload_n 1, 1) := dk_27 (dk_at dksX5_marks_1 19 rfl rfl)
theorem dX5_marks_44 : decode cX5_marks 44 = .ok (.if_icmp .eq 11, 3) := dk_159 0 11 (dk_at dksX5_marks_1 20 rfl rfl)
theorem dX5_marks_47 : decode cX5_marks 47 = .ok (.aload_n 0, 1) := dk_42 (dk_at dksX5_marks_1 23 rfl rfl)
theorem dX5_marks_48 : decode cX5_marks 48 = .ok (.getfield 42, 3) := dk_180 0 42 (dk_at dksX5_marks_2 0 rfl rfl)
theorem dX5_marks_51 : decode cX5_marks 51 = .ok (.iload_n 2, 1) := dk_28 (dk_at dksX5_marks_2 3 rfl rfl)
theorem dX5_marks_52 : decode cX5_marks 52 = .ok (.bipush (-2), 2) := dk_16 254 (dk_at dksX5_marks_2 4 rfl rfl)
theorem dX5_marks_54 : decode cX5_marks 54 = .ok (.iastore, 1) := dk_79 (dk_at dksX5_marks_2 6 rfl rfl)
theorem dX5_marks_55 : decode cX5_marks 55 = .ok (.return_, 1) := dk_177 (dk_at dksX5_marks_2 7 rfl rfl)
abbrev cX5_restarts : ByteArray := prog_10_method_31_code
def yX5_restarts : MethodName := ⟨RX5, "restarts", "(II)I"⟩
def dkwX5_restarts_3 : List UInt8 := [27, 46, 79, 16, 244, 172]
abbrev dktX5_restarts_3 : List UInt8 := dkwX5_restarts_3 ++ []
def dkwX5_restarts_2 : List UInt8 := [180, 0, 60, 27, 28, 42, 180, 0, 63, 27, 46, 184, 0, 103, 79, 42, 180, 0, 63, 27, 42, 180, 0, 60]
abbrev dktX5_restarts_2 : List UInt8 := dkwX5_restarts_2 ++ dktX5_restarts_3
def dkwX5_restarts_1 : List UInt8 := [167, 0, 9, 42, 180, 0, 30, 29, 46, 79, 132, 3, 1, 167, 255, 221, 42, 27, 182, 0, 128, 42]
abbrev dktX5_restarts_1 : List UInt8 := dkwX5_restarts_1 ++ dktX5_restarts_2
def dkwX5_restarts_0 : List UInt8 := [3, 62, 29, 16, 32, 162, 0, 35, 42, 180, 0, 30, 29, 42, 180, 0, 30, 29, 46, 27, 160, 0, 7, 2]
abbrev dktX5_restarts_0 : List UInt8 := dkwX5_restarts_0 ++ dktX5_restarts_1
theorem dksX5_restarts_0 : cX5_restarts.data.toList.drop 0 = dktX5_restarts_0 := by decide +kernel
theorem dksX5_restarts_1 : cX5_restarts.data.toList.drop 24 = dktX5_restarts_1 := dk_seg dksX5_restarts_0 24 rfl rfl
theorem dksX5_restarts_2 : cX5_restarts.data.toList.drop 46 = dktX5_restarts_2 := dk_seg dksX5_restarts_1 22 rfl rfl
theorem dksX5_restarts_3 : cX5_restarts.data.toList.drop 70 = dktX5_restarts_3 := dk_seg dksX5_restarts_2 24 rfl rfl
theorem dX5_restarts_0 : decode cX5_restarts 0 = .ok (.iconst 0, 1) := dk_3 (dk_at dksX5_restarts_0 0 rfl rfl)
theorem dX5_restarts_1 : decode cX5_restarts 1 = .ok (.istore_n 3, 1) := dk_62 (dk_at dksX5_restarts_0 1 rfl rfl)
theorem dX5_restarts_2 : decode cX5_restarts 2 = .ok (.iload_n 3, 1) := dk_29 (dk_at dksX5_restarts_0 2 rfl rfl)
theorem dX5_restarts_3 : decode cX5_restarts 3 = .ok (.bipush 32, 2) := dk_16 32 (dk_at dksX5_restarts_0 3 rfl rfl)
theorem dX5_restarts_5 : decode cX5_restarts 5 = .ok (.if_icmp .ge 35, 3) := dk_162 0 35 (dk_at dksX5_restarts_0 5 rfl rfl)
theorem dX5_restarts_8 : decode cX5_restarts 8 = .ok (.aload_n 0, 1) := dk_42 (dk_at dksX5_restarts_0 8 rfl rfl)
theorem dX5_restarts_9 : decode cX5_restarts 9 = .ok (.getfield 30, 3) := dk_180 0 30 (dk_at dksX5_restarts_0 9 rfl rfl)
theorem dX5_restarts_12 : decode cX5_restarts 12 = .ok (.iload_n 3, 1) := dk_29 (dk_at dksX5_restarts_0 12 rfl rfl)
theorem dX5_restarts_13 : decode cX5_restarts 13 = .ok (.aload_n 0, 1) := dk_42 (dk_at dksX5_restarts_0 13 rfl rfl)
theorem dX5_restarts_14 : decode cX5_restarts 14 = .ok (.getfield 30, 3) := dk_180 0 30 (dk_at dksX5_restarts_0 14 rfl rfl)
theorem dX5_restarts_17 : decode cX5_restarts 17 = .ok (.iload_n 3, 1) := dk_29 (dk_at dksX5_restarts_0 17 rfl rfl)
theorem dX5_restarts_18 : decode cX5_restarts 18 = .ok (.iaload, 1) := dk_46 (dk_at dksX5_restarts_0 18 rfl rfl)
theorem dX5_restarts_19 : decode cX5_restarts 19 = .ok (.iload_n 1, 1) := dk_27 (dk_at dksX5_restarts_0 19 rfl rfl)
theorem dX5_restarts_20 : decode cX5_restarts 20 = .ok (.if_icmp .ne 7, 3) := dk_160 0 7 (dk_at dksX5_restarts_0 20 rfl rfl)
theorem dX5_restarts_23 : decode cX5_restarts 23 = .ok (.iconst (-1), 1) := dk_2 (dk_at dksX5_restarts_0 23 rfl rfl)
theorem dX5_restarts_24 : decode cX5_restarts 24 = .ok (.goto 9, 3) := dk_167 0 9 (dk_at dksX5_restarts_1 0 rfl rfl)
theorem dX5_restarts_27 : decode cX5_restarts 27 = .ok (.aload_n 0, 1) := dk_42 (dk_at dksX5_restarts_1 3 rfl rfl)
theorem dX5_restarts_28 : decode cX5_restarts 28 = .ok (.getfield 30, 3) := dk_180 0 30 (dk_at dksX5_restarts_1 4 rfl rfl)
theorem dX5_restarts_31 : decode cX5_restarts 31 = .ok (.iload_n 3, 1) := dk_29 (dk_at dksX5_restarts_1 7 rfl rfl)
theorem dX5_restarts_32 : decode cX5_restarts 32 = .ok (.iaload, 1) := dk_46 (dk_at dksX5_restarts_1 8 rfl rfl)
theorem dX5_restarts_33 : decode cX5_restarts 33 = .ok (.iastore, 1) := dk_79 (dk_at dksX5_restarts_1 9 rfl rfl)
theorem dX5_restarts_34 : decode cX5_restarts 34 = .ok (.iinc 3 1, 3) := dk_132 3 1 (dk_at dksX5_restarts_1 10 rfl rfl)
theorem dX5_restarts_37 : decode cX5_restarts 37 = .ok (.goto (-35), 3) := dk_167 255 221 (dk_at dksX5_restarts_1 13 rfl rfl)
theorem dX5_restarts_40 : decode cX5_restarts 40 = .ok (.aload_n 0, 1) := dk_42 (dk_at dksX5_restarts_1 16 rfl rfl)
theorem dX5_restarts_41 : decode cX5_restarts 41 = .ok (.iload_n 1, 1) := dk_27 (dk_at dksX5_restarts_1 17 rfl rfl)
theorem dX5_restarts_42 : decode cX5_restarts 42 = .ok (.invokevirtual 128, 3) := dk_182 0 128 (dk_at dksX5_restarts_1 18 rfl rfl)
theorem dX5_restarts_45 : decode cX5_restarts 45 = .ok (.aload_n 0, 1) := dk_42 (dk_at dksX5_restarts_1 21 rfl rfl)
theorem dX5_restarts_46 : decode cX5_restarts 46 = .ok (.getfield 60, 3) := dk_180 0 60 (dk_at dksX5_restarts_2 0 rfl rfl)
theorem dX5_restarts_49 : decode cX5_restarts 49 = .ok (.iload_n 1, 1) := dk_27 (dk_at dksX5_restarts_2 3 rfl rfl)
theorem dX5_restarts_50 : decode cX5_restarts 50 = .ok (.iload_n 2, 1) := dk_28 (dk_at dksX5_restarts_2 4 rfl rfl)
theorem dX5_restarts_51 : decode cX5_restarts 51 = .ok (.aload_n 0, 1) := dk_42 (dk_at dksX5_restarts_2 5 rfl rfl)
theorem dX5_restarts_52 : decode cX5_restarts 52 = .ok (.getfield 63, 3) := dk_180 0 63 (dk_at dksX5_restarts_2 6 rfl rfl)
theorem dX5_restarts_55 : decode cX5_restarts 55 = .ok (.iload_n 1, 1) := dk_27 (dk_at dksX5_restarts_2 9 rfl rfl)
theorem dX5_restarts_56 : decode cX5_restarts 56 = .ok (.iaload, 1) := dk_46 (dk_at dksX5_restarts_2 10 rfl rfl)
theorem dX5_restarts_57 : decode cX5_restarts 57 = .ok (.invokestatic 103, 3) := dk_184 0 103 (dk_at dksX5_restarts_2 11 rfl rfl)
theorem dX5_restarts_60 : decode cX5_restarts 60 = .ok (.iastore, 1) := dk_79 (dk_at dksX5_restarts_2 14 rfl rfl)
theorem dX5_restarts_61 : decode cX5_restarts 61 = .ok (.aload_n 0, 1) := dk_42 (dk_at dksX5_restarts_2 15 rfl rfl)
theorem dX5_restarts_62 : decode cX5_restarts 62 = .ok (.getfield 63, 3) := dk_180 0 63 (dk_at dksX5_restarts_2 16 rfl rfl)
theorem dX5_restarts_65 : decode cX5_restarts 65 = .ok (.iload_n 1, 1) := dk_27 (dk_at dksX5_restarts_2 19 rfl rfl)
theorem dX5_restarts_66 : decode cX5_restarts 66 = .ok (.aload_n 0, 1) := dk_42 (dk_at dksX5_restarts_2 20 rfl rfl)
theorem dX5_restarts_67 : decode cX5_restarts 67 = .ok (.getfield 60, 3) := dk_180 0 60 (dk_at dksX5_restarts_2 21 rfl rfl)
theorem dX5_restarts_70 : decode cX5_restarts 70 = .ok (.iload_n 1, 1) := dk_27 (dk_at dksX5_restarts_3 0 rfl rfl)
theorem dX5_restarts_71 : decode cX5_restarts 71 = .ok (.iaload, 1) := dk_46 (dk_at dksX5_restarts_3 1 rfl rfl)
theorem dX5_restarts_72 : decode cX5_restarts 72 = .ok (.iastore, 1) := dk_79 (dk_at dksX5_restarts_3 2 rfl rfl)
theorem dX5_restarts_73 : decode cX5_restarts 73 = .ok (.bipush (-12), 2) := dk_16 244 (dk_at dksX5_restarts_3 3 rfl rfl)
theorem dX5_restarts_75 : decode cX5_restarts 75 = .ok (.ireturn, 1) := dk_172 (dk_at dksX5_restarts_3 5 rfl rfl)
abbrev cX5_valueAt : ByteArray := prog_10_method_28_code
def yX5_valueAt : MethodName := ⟨RX5, "valueAt", "(II)I"⟩
def dkwX5_valueAt_2 : List UInt8 := [180, 0, 51, 21, 5, 46, 167, 0, 5, 21, 4, 54, 4, 132, 5, 1, 167, 255, 208, 21, 4, 172]
abbrev dktX5_valueAt_2 : List UInt8 := dkwX5_valueAt_2 ++ []
def dkwX5_valueAt_1 : List UInt8 := [42, 180, 0, 45, 21, 5, 46, 27, 160, 0, 24, 42, 180, 0, 48, 21, 5, 46, 29, 160, 0, 13, 42]
abbrev dktX5_valueAt_1 : List UInt8 := dkwX5_valueAt_1 ++ dktX5_valueAt_2
def dkwX5_valueAt_0 : List UInt8 := [42, 27, 28, 182, 0, 150, 62, 17, 3, 232, 54, 4, 3, 54, 5, 21, 5, 42, 180, 0, 135, 162, 0, 45]
abbrev dktX5_valueAt_0 : List UInt8 := dkwX5_valueAt_0 ++ dktX5_valueAt_1
theorem dksX5_valueAt_0 : cX5_valueAt.data.toList.drop 0 = dktX5_valueAt_0 := by decide +kernel
theorem dksX5_valueAt_1 : cX5_valueAt.data.toList.drop 24 = dktX5_valueAt_1 := dk_seg dksX5_valueAt_0 24 rfl rfl
theorem dksX5_valueAt_2 : cX5_valueAt.data.toList.drop 47 = dktX5_valueAt_2 := dk_seg dksX5_valueAt_1 23 rfl rfl
theorem dX5_valueAt_0 : decode cX5_valueAt 0 = .ok (.aload_n 0, 1) := dk_42 (dk_at dksX5_valueAt_0 0 rfl rfl)
theorem dX5_valueAt_1 : decode cX5_valueAt 1 = .ok (.iload_n 1, 1) := dk_27 (dk_at dksX5_valueAt_0 1 rfl rfl)
theorem dX5_valueAt_2 : decode cX5_valueAt 2 = .ok (.iload_n 2, 1) := dk_28 (dk_at dksX5_valueAt_0 2 rfl rfl)
theorem dX5_valueAt_3 : decode cX5_valueAt 3 = .ok (.invokevirtual 150, 3) := dk_182 0 150 (dk_at dksX5_valueAt_0 3 rfl rfl)
theorem dX5_valueAt_6 : decode cX5_valueAt 6 = .ok (.istore_n 3, 1) := dk_62 (dk_at dksX5_valueAt_0 6 rfl rfl)
theorem dX5_valueAt_7 : decode cX5_valueAt 7 = .ok (.sipush 1000, 3) := dk_17 3 232 (dk_at dksX5_valueAt_0 7 rfl rfl)
theorem dX5_valueAt_10 : decode cX5_valueAt 10 = .ok (.istore 4, 2) := dk_54 4 (dk_at dksX5_valueAt_0 10 rfl rfl)
theorem dX5_valueAt_12 : decode cX5_valueAt 12 = .ok (.iconst 0, 1) := dk_3 (dk_at dksX5_valueAt_0 12 rfl rfl)
theorem dX5_valueAt_13 : decode cX5_valueAt 13 = .ok (.istore 5, 2) := dk_54 5 (dk_at dksX5_valueAt_0 13 rfl rfl)
theorem dX5_valueAt_15 : decode cX5_valueAt 15 = .ok (.iload 5, 2) := dk_21 5 (dk_at dksX5_valueAt_0 15 rfl rfl)
theorem dX5_valueAt_17 : decode cX5_valueAt 17 = .ok (.aload_n 0, 1) := dk_42 (dk_at dksX5_valueAt_0 17 rfl rfl)
theorem dX5_valueAt_18 : decode cX5_valueAt 18 = .ok (.getfield 135, 3) := dk_180 0 135 (dk_at dksX5_valueAt_0 18 rfl rfl)
theorem dX5_valueAt_21 : decode cX5_valueAt 21 = .ok (.if_icmp .ge 45, 3) := dk_162 0 45 (dk_at dksX5_valueAt_0 21 rfl rfl)
theorem dX5_valueAt_24 : decode cX5_valueAt 24 = .ok (.aload_n 0, 1) := dk_42 (dk_at dksX5_valueAt_1 0 rfl rfl)
theorem dX5_valueAt_25 : decode cX5_valueAt 25 = .ok (.getfield 45, 3) := dk_180 0 45 (dk_at dksX5_valueAt_1 1 rfl rfl)
theorem dX5_valueAt_28 : decode cX5_valueAt 28 = .ok (.iload 5, 2) := dk_21 5 (dk_at dksX5_valueAt_1 4 rfl rfl)
theorem dX5_valueAt_30 : decode cX5_valueAt 30 = .ok (.iaload, 1) := dk_46 (dk_at dksX5_valueAt_1 6 rfl rfl)
theorem dX5_valueAt_31 : decode cX5_valueAt 31 = .ok (.iload_n 1, 1) := dk_27 (dk_at dksX5_valueAt_1 7 rfl rfl)
theorem dX5_valueAt_32 : decode cX5_valueAt 32 = .ok (.if_icmp .ne 24, 3) := dk_160 0 24 (dk_at dksX5_valueAt_1 8 rfl rfl)
theorem dX5_valueAt_35 : decode cX5_valueAt 35 = .ok (.aload_n 0, 1) := dk_42 (dk_at dksX5_valueAt_1 11 rfl rfl)
theorem dX5_valueAt_36 : decode cX5_valueAt 36 = .ok (.getfield 48, 3) := dk_180 0 48 (dk_at dksX5_valueAt_1 12 rfl rfl)
theorem dX5_valueAt_39 : decode cX5_valueAt 39 = .ok (.iload 5, 2) := dk_21 5 (dk_at dksX5_valueAt_1 15 rfl rfl)
theorem dX5_valueAt_41 : decode cX5_valueAt 41 = .ok (.iaload, 1) := dk_46 (dk_at dksX5_valueAt_1 17 rfl rfl)
theorem dX5_valueAt_42 : decode cX5_valueAt 42 = .ok (.iload_n 3, 1) := dk_29 (dk_at dksX5_valueAt_1 18 rfl rfl)
theorem dX5_valueAt_43 : decode cX5_valueAt 43 = .ok (.if_icmp .ne 13, 3) := dk_160 0 13 (dk_at dksX5_valueAt_1 19 rfl rfl)
theorem dX5_valueAt_46 : decode cX5_valueAt 46 = .ok (.aload_n 0, 1) := dk_42 (dk_at dksX5_valueAt_1 22 rfl rfl)
theorem dX5_valueAt_47 : decode cX5_valueAt 47 = .ok (.getfield 51, 3) := dk_180 0 51 (dk_at dksX5_valueAt_2 0 rfl rfl)
theorem dX5_valueAt_50 : decode cX5_valueAt 50 = .ok (.iload 5, 2) := dk_21 5 (dk_at dksX5_valueAt_2 3 rfl rfl)
theorem dX5_valueAt_52 : decode cX5_valueAt 52 = .ok (.iaload, 1) := dk_46 (dk_at dksX5_valueAt_2 5 rfl rfl)
theorem dX5_valueAt_53 : decode cX5_valueAt 53 = .ok (.goto 5, 3) := dk_167 0 5 (dk_at dksX5_valueAt_2 6 rfl rfl)
theorem dX5_valueAt_56 : decode cX5_valueAt 56 = .ok (.iload 4, 2) := dk_21 4 (dk_at dksX5_valueAt_2 9 rfl rfl)
theorem dX5_valueAt_58 : decode cX5_valueAt 58 = .ok (.istore 4, 2) := dk_54 4 (dk_at dksX5_valueAt_2 11 rfl rfl)
theorem dX5_valueAt_60 : decode cX5_valueAt 60 = .ok (.iinc 5 1, 3) := dk_132 5 1 (dk_at dksX5_valueAt_2 13 rfl rfl)
theorem dX5_valueAt_63 : decode cX5_valueAt 63 = .ok (.goto (-48), 3) := dk_167 255 208 (dk_at dksX5_valueAt_2 16 rfl rfl)
theorem dX5_valueAt_66 : decode cX5_valueAt 66 = .ok (.iload 4, 2) := dk_21 4 (dk_at dksX5_valueAt_2 19 rfl rfl)
theorem dX5_valueAt_68 : decode cX5_valueAt 68 = .ok (.ireturn, 1) := dk_172 (dk_at dksX5_valueAt_2 21 rfl rfl)
abbrev cX5_put : ByteArray := prog_10_method_38_code
def yX5_put : MethodName := ⟨RX5, "put", "(III)I"⟩
def dkwX5_put_10 : List UInt8 := [29, 79, 42, 180, 0, 87, 16, 32, 21, 4, 104, 28, 96, 29, 79, 3, 172]
abbrev dktX5_put_10 : List UInt8 := dkwX5_put_10 ++ []
def dkwX5_put_9 : List UInt8 := [184, 0, 103, 79, 42, 180, 0, 30, 28, 21, 4, 79, 42, 180, 0, 33, 28, 3, 84, 42, 180, 0, 36, 28]
abbrev dktX5_put_9 : List UInt8 := dkwX5_put_9 ++ dktX5_put_10
def dkwX5_put_8 : List UInt8 := [180, 0, 63, 21, 4, 46, 167, 0, 21, 42, 180, 0, 63, 21, 4, 46, 42, 180, 0, 39, 28, 46, 4, 96]
abbrev dktX5_put_8 : List UInt8 := dkwX5_put_8 ++ dktX5_put_9
def dkwX5_put_7 : List UInt8 := [96, 184, 0, 103, 79, 42, 180, 0, 63, 21, 4, 42, 180, 0, 42, 28, 46, 21, 4, 160, 0, 13, 42]
abbrev dktX5_put_7 : List UInt8 := dkwX5_put_7 ++ dktX5_put_8
def dkwX5_put_6 : List UInt8 := [167, 255, 188, 42, 180, 0, 63, 21, 4, 42, 180, 0, 63, 21, 4, 46, 42, 28, 18, 185, 182, 0, 150, 4]
abbrev dktX5_put_6 : List UInt8 := dkwX5_put_6 ++ dktX5_put_7
def dkwX5_put_5 : List UInt8 := [182, 0, 170, 154, 0, 10, 42, 21, 4, 182, 0, 173, 172, 42, 21, 4, 28, 182, 0, 153, 54, 6]
abbrev dktX5_put_5 : List UInt8 := dkwX5_put_5 ++ dktX5_put_6
def dkwX5_put_4 : List UInt8 := [180, 0, 72, 21, 6, 6, 79, 42, 180, 0, 30, 28, 2, 79, 167, 0, 21, 42, 21, 4, 21, 6]
abbrev dktX5_put_4 : List UInt8 := dkwX5_put_4 ++ dktX5_put_5
def dkwX5_put_3 : List UInt8 := [2, 159, 0, 68, 42, 180, 0, 57, 21, 4, 46, 42, 180, 0, 57, 21, 6, 46, 164, 0, 21, 42]
abbrev dktX5_put_3 : List UInt8 := dkwX5_put_3 ++ dktX5_put_4
def dkwX5_put_2 : List UInt8 := [182, 0, 167, 54, 5, 21, 5, 153, 0, 6, 21, 5, 172, 42, 21, 4, 28, 182, 0, 153, 54, 6, 21, 6]
abbrev dktX5_put_2 : List UInt8 := dkwX5_put_2 ++ dktX5_put_3
def dkwX5_put_1 : List UInt8 := [167, 0, 4, 5, 181, 0, 93, 42, 180, 0, 93, 158, 0, 5, 3, 172, 27, 54, 4, 42, 21, 4, 28]
abbrev dktX5_put_1 : List UInt8 := dkwX5_put_1 ++ dktX5_put_2
def dkwX5_put_0 : List UInt8 := [42, 27, 28, 182, 0, 163, 154, 0, 5, 3, 172, 42, 29, 3, 17, 3, 232, 184, 0, 96, 153, 0, 7, 3]
abbrev dktX5_put_0 : List UInt8 := dkwX5_put_0 ++ dktX5_put_1
theorem dksX5_put_0 : cX5_put.data.toList.drop 0 = dktX5_put_0 := by decide +kernel
theorem dksX5_put_1 : cX5_put.data.toList.drop 24 = dktX5_put_1 := dk_seg dksX5_put_0 24 rfl rfl
theorem dksX5_put_2 : cX5_put.data.toList.drop 47 = dktX5_put_2 := dk_seg dksX5_put_1 23 rfl rfl
theorem dksX5_put_3 : cX5_put.data.toList.drop 71 = dktX5_put_3 := dk_seg dksX5_put_2 24 rfl rfl
theorem dksX5_put_4 : cX5_put.data.toList.drop 93 = dktX5_put_4 := dk_seg dksX5_put_3 22 rfl rfl
theorem dksX5_put_5 : cX5_put.data.toList.drop 115 = dktX5_put_5 := dk_seg dksX5_put_4 22 rfl rfl
theorem dksX5_put_6 : cX5_put.data.toList.drop 137 = dktX5_put_6 := dk_seg dksX5_put_5 22 rfl rfl
theorem dksX5_put_7 : cX5_put.data.toList.drop 161 = dktX5_put_7 := dk_seg dksX5_put_6 24 rfl rfl
theorem dksX5_put_8 : cX5_put.data.toList.drop 184 = dktX5_put_8 := dk_seg dksX5_put_7 23 rfl rfl
theorem dksX5_put_9 : cX5_put.data.toList.drop 208 = dktX5_put_9 := dk_seg dksX5_put_8 24 rfl rfl
theorem dksX5_put_10 : cX5_put.data.toList.drop 232 = dktX5_put_10 := dk_seg dksX5_put_9 24 rfl rfl
theorem dX5_put_0 : decode cX5_put 0 = .ok (.aload_n 0, 1) := dk_42 (dk_at dksX5_put_0 0 rfl rfl)
theorem dX5_put_1 : decode cX5_put 1 = .ok (.iload_n 1, 1) := dk_27 (dk_at dksX5_put_0 1 rfl rfl)
theorem dX5_put_2 : decode cX5_put 2 = .ok (.iload_n 2, 1) := dk_28 (dk_at dksX5_put_0 2 rfl rfl)
theorem dX5_put_3 : decode cX5_put 3 = .ok (.invokevirtual 163, 3) := dk_182 0 163 (dk_at dksX5_put_0 3 rfl rfl)
theorem dX5_put_6 : decode cX5_put 6 = .ok (.ifCond .ne 5, 3) := dk_154 0 5 (dk_at dksX5_put_0 6 rfl rfl)
theorem dX5_put_9 : decode cX5_put 9 = .ok (.iconst 0, 1) := dk_3 (dk_at dksX5_put_0 9 rfl rfl)
theorem dX5_put_10 : decode cX5_put 10 = .ok (.ireturn, 1) := dk_172 (dk_at dksX5_put_0 10 rfl rfl)
theorem dX5_put_11 : decode cX5_put 11 = .ok (.aload_n 0, 1) := dk_42 (dk_at dksX5_put_0 11 rfl rfl)
theorem dX5_put_12 : decode cX5_put 12 = .ok (.iload_n 3, 1) := dk_29 (dk_at dksX5_put_0 12 rfl rfl)
theorem dX5_put_13 : decode cX5_put 13 = .ok (.iconst 0, 1) := dk_3 (dk_at dksX5_put_0 13 rfl rfl)
theorem dX5_put_14 : decode cX5_put 14 = .ok (.sipush 1000, 3) := dk_17 3 232 (dk_at dksX5_put_0 14 rfl rfl)
theorem dX5_put_17 : decode cX5_put 17 = .ok (.invokestatic 96, 3) := dk_184 0 96 (dk_at dksX5_put_0 17 rfl rfl)
theorem dX5_put_20 : decode cX5_put 20 = .ok (.ifCond .eq 7, 3) := dk_153 0 7 (dk_at dksX5_put_0 20 rfl rfl)
theorem dX5_put_23 : decode cX5_put 23 = .ok (.iconst 0, 1) := dk_3 (dk_at dksX5_put_0 23 rfl rfl)
theorem dX5_put_24 : decode cX5_put 24 = .ok (.goto 4, 3) := dk_167 0 4 (dk_at dksX5_put_1 0 rfl rfl)
theorem dX5_put_27 : decode cX5_put 27 = .ok (.iconst 2, 1) := dk_5 (dk_at dksX5_put_1 3 rfl rfl)
theorem dX5_put_28 : decode cX5_put 28 = .ok (.putfield 93, 3) := dk_181 0 93 (dk_at dksX5_put_1 4 rfl rfl)
theorem dX5_put_31 : decode cX5_put 31 = .ok (.aload_n 0, 1) := dk_42 (dk_at dksX5_put_1 7 rfl rfl)
theorem dX5_put_32 : decode cX5_put 32 = .ok (.getfield 93, 3) := dk_180 0 93 (dk_at dksX5_put_1 8 rfl rfl)
theorem dX5_put_35 : decode cX5_put 35 = .ok (.ifCond .le 5, 3) := dk_158 0 5 (dk_at dksX5_put_1 11 rfl rfl)
theorem dX5_put_38 : decode cX5_put 38 = .ok (.iconst 0, 1) := dk_3 (dk_at dksX5_put_1 14 rfl rfl)
theorem dX5_put_39 : decode cX5_put 39 = .ok (.ireturn, 1) := dk_172 (dk_at dksX5_put_1 15 rfl rfl)
theorem dX5_put_40 : decode cX5_put 40 = .ok (.iload_n 1, 1) := dk_27 (dk_at dksX5_put_1 16 rfl rfl)
theorem dX5_put_41 : decode cX5_put 41 = .ok (.istore 4, 2) := dk_54 4 (dk_at dksX5_put_1 17 rfl rfl)
theorem dX5_put_43 : decode cX5_put 43 = .ok (.aload_n 0, 1) := dk_42 (dk_at dksX5_put_1 19 rfl rfl)
theorem dX5_put_44 : decode cX5_put 44 = .ok (.iload 4, 2) := dk_21 4 (dk_at dksX5_put_1 20 rfl rfl)
theorem dX5_put_46 : decode cX5_put 46 = .ok (.iload_n 2, 1) := dk_28 (dk_at dksX5_put_1 22 rfl rfl)
theorem dX5_put_47 : decode cX5_put 47 = .ok (.invokevirtual 167, 3) := dk_182 0 167 (dk_at dksX5_put_2 0 rfl rfl)
theorem dX5_put_50 : decode cX5_put 50 = .ok (.istore 5, 2) := dk_54 5 (dk_at dksX5_put_2 3 rfl rfl)
theorem dX5_put_52 : decode cX5_put 52 = .ok (.iload 5, 2) := dk_21 5 (dk_at dksX5_put_2 5 rfl rfl)
theorem dX5_put_54 : decode cX5_put 54 = .ok (.ifCond .eq 6, 3) := dk_153 0 6 (dk_at dksX5_put_2 7 rfl rfl)
theorem dX5_put_57 : decode cX5_put 57 = .ok (.iload 5, 2) := dk_21 5 (dk_at dksX5_put_2 10 rfl rfl)
theorem dX5_put_59 : decode cX5_put 59 = .ok (.ireturn, 1) := dk_172 (dk_at dksX5_put_2 12 rfl rfl)
theorem dX5_put_60 : decode cX5_put 60 = .ok (.aload_n 0, 1) := dk_42 (dk_at dksX5_put_2 13 rfl rfl)
theorem dX5_put_61 : decode cX5_put 61 = .ok (.iload 4, 2) := dk_21 4 (dk_at dksX5_put_2 14 rfl rfl)
theorem dX5_put_63 : decode cX5_put 63 = .ok (.iload_n 2, 1) := dk_28 (dk_at dksX5_put_2 16 rfl rfl)
theorem dX5_put_64 : decode cX5_put 64 = .ok (.invokevirtual 153, 3) := dk_182 0 153 (dk_at dksX5_put_2 17 rfl rfl)
theorem dX5_put_67 : decode cX5_put 67 = .ok (.istore 6, 2) := dk_54 6 (dk_at dksX5_put_2 20 rfl rfl)
theorem dX5_put_69 : decode cX5_put 69 = .ok (.iload 6, 2) := dk_21 6 (dk_at dksX5_put_2 22 rfl rfl)
theorem dX5_put_71 : decode cX5_put 71 = .ok (.iconst (-1), 1) := dk_2 (dk_at dksX5_put_3 0 rfl rfl)
theorem dX5_put_72 : decode cX5_put 72 = .ok (.if_icmp .eq 68, 3) := dk_159 0 68 (dk_at dksX5_put_3 1 rfl rfl)
theorem dX5_put_75 : decode cX5_put 75 = .ok (.aload_n 0, 1) := dk_42 (dk_at dksX5_put_3 4 rfl rfl)
theorem dX5_put_76 : decode cX5_put 76 = .ok (.getfield 57, 3) := dk_180 0 57 (dk_at dksX5_put_3 5 rfl rfl)
theorem dX5_put_79 : decode cX5_put 79 = .ok (.iload 4, 2) := dk_21 4 (dk_at dksX5_put_3 8 rfl rfl)
theorem dX5_put_81 : decode cX5_put 81 = .ok (.iaload, 1) := dk_46 (dk_at dksX5_put_3 10 rfl rfl)
theorem dX5_put_82 : decode cX5_put 82 = .ok (.aload_n 0, 1) := dk_42 (dk_at dksX5_put_3 11 rfl rfl)
theorem dX5_put_83 : decode cX5_put 83 = .ok (.getfield 57, 3) := dk_180 0 57 (dk_at dksX5_put_3 12 rfl rfl)
theorem dX5_put_86 : decode cX5_put 86 = .ok (.iload 6, 2) := dk_21 6 (dk_at dksX5_put_3 15 rfl rfl)
theorem dX5_put_88 : decode cX5_put 88 = .ok (.iaload, 1) := dk_46 (dk_at dksX5_put_3 17 rfl rfl)
theorem dX5_put_89 : decode cX5_put 89 = .ok (.if_icmp .le 21, 3) := dk_164 0 21 (dk_at dksX5_put_3 18 rfl rfl)
theorem dX5_put_92 : decode cX5_put 92 = .ok (.aload_n 0, 1) := dk_42 (dk_at dksX5_put_3 21 rfl rfl)
theorem dX5_put_93 : decode cX5_put 93 = .ok (.getfield 72, 3) := dk_180 0 72 (dk_at dksX5_put_4 0 rfl rfl)
theorem dX5_put_96 : decode cX5_put 96 = .ok (.iload 6, 2) := dk_21 6 (dk_at dksX5_put_4 3 rfl rfl)
theorem dX5_put_98 : decode cX5_put 98 = .ok (.iconst 3, 1) := dk_6 (dk_at dksX5_put_4 5 rfl rfl)
theorem dX5_put_99 : decode cX5_put 99 = .ok (.iastore, 1) := dk_79 (dk_at dksX5_put_4 6 rfl rfl)
theorem dX5_put_100 : decode cX5_put 100 = .ok (.aload_n 0, 1) := dk_42 (dk_at dksX5_put_4 7 rfl rfl)
theorem dX5_put_101 : decode cX5_put 101 = .ok (.getfield 30, 3) := dk_180 0 30 (dk_at dksX5_put_4 8 rfl rfl)
theorem dX5_put_104 : decode cX5_put 104 = .ok (.iload_n 2, 1) := dk_28 (dk_at dksX5_put_4 11 rfl rfl)
theorem dX5_put_105 : decode cX5_put 105 = .ok (.iconst (-1), 1) := dk_2 (dk_at dksX5_put_4 12 rfl rfl)
theorem dX5_put_106 : decode cX5_put 106 = .ok (.iastore, 1) := dk_79 (dk_at dksX5_put_4 13 rfl rfl)
theorem dX5_put_107 : decode cX5_put 107 = .ok (.goto 21, 3) := dk_167 0 21 (dk_at dksX5_put_4 14 rfl rfl)
theorem dX5_put_110 : decode cX5_put 110 = .ok (.aload_n 0, 1) := dk_42 (dk_at dksX5_put_4 17 rfl rfl)
theorem dX5_put_111 : decode cX5_put 111 = .ok (.iload 4, 2) := dk_21 4 (dk_at dksX5_put_4 18 rfl rfl)
theorem dX5_put_113 : decode cX5_put 113 = .ok (.iload 6, 2) := dk_21 6 (dk_at dksX5_put_4 20 rfl rfl)
theorem dX5_put_115 : decode cX5_put 115 = .ok (.invokevirtual 170, 3) := dk_182 0 170 (dk_at dksX5_put_5 0 rfl rfl)
theorem dX5_put_118 : decode cX5_put 118 = .ok (.ifCond .ne 10, 3) := dk_154 0 10 (dk_at dksX5_put_5 3 rfl rfl)
theorem dX5_put_121 : decode cX5_put 121 = .ok (.aload_n 0, 1) := dk_42 (dk_at dksX5_put_5 6 rfl rfl)
theorem dX5_put_122 : decode cX5_put 122 = .ok (.iload 4, 2) := dk_21 4 (dk_at dksX5_put_5 7 rfl rfl)
theorem dX5_put_124 : decode cX5_put 124 = .ok (.invokevirtual 173, 3) := dk_182 0 173 (dk_at dksX5_put_5 9 rfl rfl)
theorem dX5_put_127 : decode cX5_put 127 = .ok (.ireturn, 1) := dk_172 (dk_at dksX5_put_5 12 rfl rfl)
theorem dX5_put_128 : decode cX5_put 128 = .ok (.aload_n 0, 1) := dk_42 (dk_at dksX5_put_5 13 rfl rfl)
theorem dX5_put_129 : decode cX5_put 129 = .ok (.iload 4, 2) := dk_21 4 (dk_at dksX5_put_5 14 rfl rfl)
theorem dX5_put_131 : decode cX5_put 131 = .ok (.iload_n 2, 1) := dk_28 (dk_at dksX5_put_5 16 rfl rfl)
theorem dX5_put_132 : decode cX5_put 132 = .ok (.invokevirtual 153, 3) := dk_182 0 153 (dk_at dksX5_put_5 17 rfl rfl)
theorem dX5_put_135 : decode cX5_put 135 = .ok (.istore 6, 2) := dk_54 6 (dk_at dksX5_put_5 20 rfl rfl)
theorem dX5_put_137 : decode cX5_put 137 = .ok (.goto (-68), 3) := dk_167 255 188 (dk_at dksX5_put_6 0 rfl rfl)
theorem dX5_put_140 : decode cX5_put 140 = .ok (.aload_n 0, 1) := dk_42 (dk_at dksX5_put_6 3 rfl rfl)
theorem dX5_put_141 : decode cX5_put 141 = .ok (.getfield 63, 3) := dk_180 0 63 (dk_at dksX5_put_6 4 rfl rfl)
theorem dX5_put_144 : decode cX5_put 144 = .ok (.iload 4, 2) := dk_21 4 (dk_at dksX5_put_6 7 rfl rfl)
theorem dX5_put_146 : decode cX5_put 146 = .ok (.aload_n 0, 1) := dk_42 (dk_at dksX5_put_6 9 rfl rfl)
theorem dX5_put_147 : decode cX5_put 147 = .ok (.getfield 63, 3) := dk_180 0 63 (dk_at dksX5_put_6 10 rfl rfl)
theorem dX5_put_150 : decode cX5_put 150 = .ok (.iload 4, 2) := dk_21 4 (dk_at dksX5_put_6 13 rfl rfl)
theorem dX5_put_152 : decode cX5_put 152 = .ok (.iaload, 1) := dk_46 (dk_at dksX5_put_6 15 rfl rfl)
theorem dX5_put_153 : decode cX5_put 153 = .ok (.aload_n 0, 1) := dk_42 (dk_at dksX5_put_6 16 rfl rfl)
theorem dX5_put_154 : decode cX5_put 154 = .ok (.iload_n 2, 1) := dk_28 (dk_at dksX5_put_6 17 rfl rfl)
theorem dX5_put_155 : decode cX5_put 155 = .ok (.ldc 185, 2) := dk_18 185 (dk_at dksX5_put_6 18 rfl rfl)
theorem dX5_put_157 : decode cX5_put 157 = .ok (.invokevirtual 150, 3) := dk_182 0 150 (dk_at dksX5_put_6 20 rfl rfl)
theorem dX5_put_160 : decode cX5_put 160 = .ok (.iconst 1, 1) := dk_4 (dk_at dksX5_put_6 23 rfl rfl)
theorem dX5_put_161 : decode cX5_put 161 = .ok (.iadd, 1) := dk_96 (dk_at dksX5_put_7 0 rfl rfl)
theorem dX5_put_162 : decode cX5_put 162 = .ok (.invokestatic 103, 3) := dk_184 0 103 (dk_at dksX5_put_7 1 rfl rfl)
theorem dX5_put_165 : decode cX5_put 165 = .ok (.iastore, 1) := dk_79 (dk_at dksX5_put_7 4 rfl rfl)
theorem dX5_put_166 : decode cX5_put 166 = .ok (.aload_n 0, 1) := dk_42 (dk_at dksX5_put_7 5 rfl rfl)
theorem dX5_put_167 : decode cX5_put 167 = .ok (.getfield 63, 3) := dk_180 0 63 (dk_at dksX5_put_7 6 rfl rfl)
theorem dX5_put_170 : decode cX5_put 170 = .ok (.iload 4, 2) := dk_21 4 (dk_at dksX5_put_7 9 rfl rfl)
theorem dX5_put_172 : decode cX5_put 172 = .ok (.aload_n 0, 1) := dk_42 (dk_at dksX5_put_7 11 rfl rfl)
theorem dX5_put_173 : decode cX5_put 173 = .ok (.getfield 42, 3) := dk_180 0 42 (dk_at dksX5_put_7 12 rfl rfl)
theorem dX5_put_176 : decode cX5_put 176 = .ok (.iload_n 2, 1) := dk_28 (dk_at dksX5_put_7 15 rfl rfl)
theorem dX5_put_177 : decode cX5_put 177 = .ok (.iaload, 1) := dk_46 (dk_at dksX5_put_7 16 rfl rfl)
theorem dX5_put_178 : decode cX5_put 178 = .ok (.iload 4, 2) := dk_21 4 (dk_at dksX5_put_7 17 rfl rfl)
theorem dX5_put_180 : decode cX5_put 180 = .ok (.if_icmp .ne 13, 3) := dk_160 0 13 (dk_at dksX5_put_7 19 rfl rfl)
theorem dX5_put_183 : decode cX5_put 183 = .ok (.aload_n 0, 1) := dk_42 (dk_at dksX5_put_7 22 rfl rfl)
theorem dX5_put_184 : decode cX5_put 184 = .ok (.getfield 63, 3) := dk_180 0 63 (dk_at dksX5_put_8 0 rfl rfl)
theorem dX5_put_187 : decode cX5_put 187 = .ok (.iload 4, 2) := dk_21 4 (dk_at dksX5_put_8 3 rfl rfl)
theorem dX5_put_189 : decode cX5_put 189 = .ok (.iaload, 1) := dk_46 (dk_at dksX5_put_8 5 rfl rfl)
theorem dX5_put_190 : decode cX5_put 190 = .ok (.goto 21, 3) := dk_167 0 21 (dk_at dksX5_put_8 6 rfl rfl)
theorem dX5_put_193 : decode cX5_put 193 = .ok (.aload_n 0, 1) := dk_42 (dk_at dksX5_put_8 9 rfl rfl)
theorem dX5_put_194 : decode cX5_put 194 = .ok (.getfield 63, 3) := dk_180 0 63 (dk_at dksX5_put_8 10 rfl rfl)
theorem dX5_put_197 : decode cX5_put 197 = .ok (.iload 4, 2) := dk_21 4 (dk_at dksX5_put_8 13 rfl rfl)
theorem dX5_put_199 : decode cX5_put 199 = .ok (.iaload, 1) := dk_46 (dk_at dksX5_put_8 15 rfl rfl)
theorem dX5_put_200 : decode cX5_put 200 = .ok (.aload_n 0, 1) := dk_42 (dk_at dksX5_put_8 16 rfl rfl)
theorem dX5_put_201 : decode cX5_put 201 = .ok (.getfield 39, 3) := dk_180 0 39 (dk_at dksX5_put_8 17 rfl rfl)
theorem dX5_put_204 : decode cX5_put 204 = .ok (.iload_n 2, 1) := dk_28 (dk_at dksX5_put_8 20 rfl rfl)
theorem dX5_put_205 : decode cX5_put 205 = .ok (.iaload, 1) := dk_46 (dk_at dksX5_put_8 21 rfl rfl)
theorem dX5_put_206 : decode cX5_put 206 = .ok (.iconst 1, 1) := dk_4 (dk_at dksX5_put_8 22 rfl rfl)
theorem dX5_put_207 : decode cX5_put 207 = .ok (.iadd, 1) := dk_96 (dk_at dksX5_put_8 23 rfl rfl)
theorem dX5_put_208 : decode cX5_put 208 = .ok (.invokestatic 103, 3) := dk_184 0 103 (dk_at dksX5_put_9 0 rfl rfl)
theorem dX5_put_211 : decode cX5_put 211 = .ok (.iastore, 1) := dk_79 (dk_at dksX5_put_9 3 rfl rfl)
theorem dX5_put_212 : decode cX5_put 212 = .ok (.aload_n 0, 1) := dk_42 (dk_at dksX5_put_9 4 rfl rfl)
theorem dX5_put_213 : decode cX5_put 213 = .ok (.getfield 30, 3) := dk_180 0 30 (dk_at dksX5_put_9 5 rfl rfl)
theorem dX5_put_216 : decode cX5_put 216 = .ok (.iload_n 2, 1) := dk_28 (dk_at dksX5_put_9 8 rfl rfl)
theorem dX5_put_217 : decode cX5_put 217 = .ok (.iload 4, 2) := dk_21 4 (dk_at dksX5_put_9 9 rfl rfl)
theorem dX5_put_219 : decode cX5_put 219 = .ok (.iastore, 1) := dk_79 (dk_at dksX5_put_9 11 rfl rfl)
theorem dX5_put_220 : decode cX5_put 220 = .ok (.aload_n 0, 1) := dk_42 (dk_at dksX5_put_9 12 rfl rfl)
theorem dX5_put_221 : decode cX5_put 221 = .ok (.getfield 33, 3) := dk_180 0 33 (dk_at dksX5_put_9 13 rfl rfl)
theorem dX5_put_224 : decode cX5_put 224 = .ok (.iload_n 2, 1) := dk_28 (dk_at dksX5_put_9 16 rfl rfl)
theorem dX5_put_225 : decode cX5_put 225 = .ok (.iconst 0, 1) := dk_3 (dk_at dksX5_put_9 17 rfl rfl)
theorem dX5_put_226 : decode cX5_put 226 = .ok (.bastore, 1) := dk_84 (dk_at dksX5_put_9 18 rfl rfl)
theorem dX5_put_227 : decode cX5_put 227 = .ok (.aload_n 0, 1) := dk_42 (dk_at dksX5_put_9 19 rfl rfl)
theorem dX5_put_228 : decode cX5_put 228 = .ok (.getfield 36, 3) := dk_180 0 36 (dk_at dksX5_put_9 20 rfl rfl)
theorem dX5_put_231 : decode cX5_put 231 = .ok (.iload_n 2, 1) := dk_28 (dk_at dksX5_put_9 23 rfl rfl)
theorem dX5_put_232 : decode cX5_put 232 = .ok (.iload_n 3, 1) := dk_29 (dk_at dksX5_put_10 0 rfl rfl)
theorem dX5_put_233 : decode cX5_put 233 = .ok (.iastore, 1) := dk_79 (dk_at dksX5_put_10 1 rfl rfl)
theorem dX5_put_234 : decode cX5_put 234 = .ok (.aload_n 0, 1) := dk_42 (dk_at dksX5_put_10 2 rfl rfl)
theorem dX5_put_235 : decode cX5_put 235 = .ok (.getfield 87, 3) := dk_180 0 87 (dk_at dksX5_put_10 3 rfl rfl)
theorem dX5_put_238 : decode cX5_put 238 = .ok (.bipush 32, 2) := dk_16 32 (dk_at dksX5_put_10 6 rfl rfl)
theorem dX5_put_240 : decode cX5_put 240 = .ok (.iload 4, 2) := dk_21 4 (dk_at dksX5_put_10 8 rfl rfl)
theorem dX5_put_242 : decode cX5_put 242 = .ok (.imul, 1) := dk_104 (dk_at dksX5_put_10 10 rfl rfl)
theorem dX5_put_243 : decode cX5_put 243 = .ok (.iload_n 2, 1) := dk_28 (dk_at dksX5_put_10 11 rfl rfl)
theorem dX5_put_244 : decode cX5_put 244 = .ok (.iadd, 1) := dk_96 (dk_at dksX5_put_10 12 rfl rfl)
theorem dX5_put_245 : decode cX5_put 245 = .ok (.iload_n 3, 1) := dk_29 (dk_at dksX5_put_10 13 rfl rfl)
theorem dX5_put_246 : decode cX5_put 246 = .ok (.iastore, 1) := dk_79 (dk_at dksX5_put_10 14 rfl rfl)
theorem dX5_put_247 : decode cX5_put 247 = .ok (.iconst 0, 1) := dk_3 (dk_at dksX5_put_10 15 rfl rfl)
theorem dX5_put_248 : decode cX5_put 248 = .ok (.ireturn, 1) := dk_172 (dk_at dksX5_put_10 16 rfl rfl)
abbrev cX5_commit : ByteArray := prog_10_method_41_code
def yX5_commit : MethodName := ⟨RX5, "commit", "(IZ)I"⟩
def dkwX5_commit_11 : List UInt8 := [3, 172]
abbrev dktX5_commit_11 : List UInt8 := dkwX5_commit_11 ++ []
def dkwX5_commit_10 : List UInt8 := [28, 153, 0, 18, 21, 5, 153, 0, 13, 42, 180, 0, 72, 29, 4, 79, 167, 0, 8, 42, 29, 182, 0, 142]
abbrev dktX5_commit_10 : List UInt8 := dkwX5_commit_10 ++ dktX5_commit_11
def dkwX5_commit_9 : List UInt8 := [180, 0, 63, 29, 46, 79, 42, 29, 182, 0, 138, 154, 0, 13, 42, 180, 0, 72, 29, 6, 79, 16, 243, 172]
abbrev dktX5_commit_9 : List UInt8 := dkwX5_commit_9 ++ dktX5_commit_10
def dkwX5_commit_8 : List UInt8 := [182, 0, 176, 154, 0, 15, 42, 29, 42, 180, 0, 63, 29, 46, 182, 0, 179, 172, 42, 180, 0, 60, 29, 42]
abbrev dktX5_commit_8 : List UInt8 := dkwX5_commit_8 ++ dktX5_commit_9
def dkwX5_commit_7 : List UInt8 := [42, 180, 0, 63, 29, 46, 42, 180, 0, 60, 29, 46, 164, 0, 41, 42, 29, 42, 180, 0, 63, 29, 46]
abbrev dktX5_commit_7 : List UInt8 := dkwX5_commit_7 ++ dktX5_commit_8
def dkwX5_commit_6 : List UInt8 := [180, 0, 63, 29, 46, 42, 182, 0, 111, 4, 96, 184, 0, 103, 167, 0, 9, 42, 180, 0, 63, 29, 46, 79]
abbrev dktX5_commit_6 : List UInt8 := dkwX5_commit_6 ++ dktX5_commit_7
def dkwX5_commit_5 : List UInt8 := [182, 0, 189, 158, 0, 7, 4, 167, 0, 4, 3, 54, 5, 42, 180, 0, 63, 29, 21, 5, 153, 0, 21, 42]
abbrev dktX5_commit_5 : List UInt8 := dkwX5_commit_5 ++ dktX5_commit_6
def dkwX5_commit_4 : List UInt8 := [167, 255, 204, 21, 4, 153, 0, 6, 16, 242, 172, 42, 180, 0, 75, 29, 2, 79, 42, 29, 42, 180, 0, 87]
abbrev dktX5_commit_4 : List UInt8 := dkwX5_commit_4 ++ dktX5_commit_5
def dkwX5_commit_3 : List UInt8 := [180, 0, 16, 42, 21, 5, 182, 0, 118, 51, 153, 0, 7, 4, 167, 0, 4, 3, 54, 4, 132, 5, 1]
abbrev dktX5_commit_3 : List UInt8 := dkwX5_commit_3 ++ dktX5_commit_4
def dkwX5_commit_2 : List UInt8 := [21, 4, 154, 0, 33, 42, 180, 0, 87, 16, 32, 29, 104, 21, 5, 96, 46, 2, 159, 0, 21, 42]
abbrev dktX5_commit_2 : List UInt8 := dkwX5_commit_2 ++ dktX5_commit_3
def dkwX5_commit_1 : List UInt8 := [42, 180, 0, 16, 42, 180, 0, 54, 29, 46, 51, 54, 4, 3, 54, 5, 21, 5, 16, 32, 162, 0, 51]
abbrev dktX5_commit_1 : List UInt8 := dkwX5_commit_1 ++ dktX5_commit_2
def dkwX5_commit_0 : List UInt8 := [42, 27, 182, 0, 186, 154, 0, 5, 3, 172, 27, 62, 42, 180, 0, 72, 29, 46, 153, 0, 6, 16, 243, 172]
abbrev dktX5_commit_0 : List UInt8 := dkwX5_commit_0 ++ dktX5_commit_1
theorem dksX5_commit_0 : cX5_commit.data.toList.drop 0 = dktX5_commit_0 := by decide +kernel
theorem dksX5_commit_1 : cX5_commit.data.toList.drop 24 = dktX5_commit_1 := dk_seg dksX5_commit_0 24 rfl rfl
theorem dksX5_commit_2 : cX5_commit.data.toList.drop 47 = dktX5_commit_2 := dk_seg dksX5_commit_1 23 rfl rfl
theorem dksX5_commit_3 : cX5_commit.data.toList.drop 69 = dktX5_commit_3 := dk_seg dksX5_commit_2 22 rfl rfl
theorem dksX5_commit_4 : cX5_commit.data.toList.drop 92 = dktX5_commit_4 := dk_seg dksX5_commit_3 23 rfl rfl
theorem dksX5_commit_5 : cX5_commit.data.toList.drop 116 = dktX5_commit_5 := dk_seg dksX5_commit_4 24 rfl rfl
theorem dksX5_commit_6 : cX5_commit.data.toList.drop 140 = dktX5_commit_6 := dk_seg dksX5_commit_5 24 rfl rfl
theorem dksX5_commit_7 : cX5_commit.data.toList.drop 164 = dktX5_commit_7 := dk_seg dksX5_commit_6 24 rfl rfl
theorem dksX5_commit_8 : cX5_commit.data.toList.drop 187 = dktX5_commit_8 := dk_seg dksX5_commit_7 23 rfl rfl
theorem dksX5_commit_9 : cX5_commit.data.toList.drop 211 = dktX5_commit_9 := dk_seg dksX5_commit_8 24 rfl rfl
theorem dksX5_commit_10 : cX5_commit.data.toList.drop 235 = dktX5_commit_10 := dk_seg dksX5_commit_9 24 rfl rfl
theorem dksX5_commit_11 : cX5_commit.data.toList.drop 259 = dktX5_commit_11 := dk_seg dksX5_commit_10 24 rfl rfl
theorem dX5_commit_0 : decode cX5_commit 0 = .ok (.aload_n 0, 1) := dk_42 (dk_at dksX5_commit_0 0 rfl rfl)
theorem dX5_commit_1 : decode cX5_commit 1 = .ok (.iload_n 1, 1) := dk_27 (dk_at dksX5_commit_0 1 rfl rfl)
theorem dX5_commit_2 : decode cX5_commit 2 = .ok (.invokevirtual 186, 3) := dk_182 0 186 (dk_at dksX5_commit_0 2 rfl rfl)
theorem dX5_commit_5 : decode cX5_commit 5 = .ok (.ifCond .ne 5, 3) := dk_154 0 5 (dk_at dksX5_commit_0 5 rfl rfl)
theorem dX5_commit_8 : decode cX5_commit 8 = .ok (.iconst 0, 1) := dk_3 (dk_at dksX5_commit_0 8 rfl rfl)
theorem dX5_commit_9 : decode cX5_commit 9 = .ok (.ireturn, 1) := dk_172 (dk_at dksX5_commit_0 9 rfl rfl)
theorem dX5_commit_10 : decode cX5_commit 10 = .ok (.iload_n 1, 1) := dk_27 (dk_at dksX5_commit_0 10 rfl rfl)
theorem dX5_commit_11 : decode cX5_commit 11 = .ok (.istore_n 3, 1) := dk_62 (dk_at dksX5_commit_0 11 rfl rfl)
theorem dX5_commit_12 : decode cX5_commit 12 = .ok (.aload_n 0, 1) := dk_42 (dk_at dksX5_commit_0 12 rfl rfl)
theorem dX5_commit_13 : decode cX5_commit 13 = .ok (.getfield 72, 3) := dk_180 0 72 (dk_at dksX5_commit_0 13 rfl rfl)
theorem dX5_commit_16 : decode cX5_commit 16 = .ok (.iload_n 3, 1) := dk_29 (dk_at dksX5_commit_0 16 rfl rfl)
theorem dX5_commit_17 : decode cX5_commit 17 = .ok (.iaload, 1) := dk_46 (dk_at dksX5_commit_0 17 rfl rfl)
theorem dX5_commit_18 : decode cX5_commit 18 = .ok (.ifCond .eq 6, 3) := dk_153 0 6 (dk_at dksX5_commit_0 18 rfl rfl)
theorem dX5_commit_21 : decode cX5_commit 21 = .ok (.bipush (-13), 2) := dk_16 243 (dk_at dksX5_commit_0 21 rfl rfl)
theorem dX5_commit_23 : decode cX5_commit 23 = .ok (.ireturn, 1) := dk_172 (dk_at dksX5_commit_0 23 rfl rfl)
theorem dX5_commit_24 : decode cX5_commit 24 = .ok (.aload_n 0, 1) := dk_42 (dk_at dksX5_commit_1 0 rfl rfl)
theorem dX5_commit_25 : decode cX5_commit 25 = .ok (.getfield 16, 3) := dk_180 0 16 (dk_at dksX5_commit_1 1 rfl rfl)
theorem dX5_commit_28 : decode cX5_commit 28 = .ok (.aload_n 0, 1) := dk_42 (dk_at dksX5_commit_1 4 rfl rfl)
theorem dX5_commit_29 : decode cX5_commit 29 = .ok (.getfield 54, 3) := dk_180 0 54 (dk_at dksX5_commit_1 5 rfl rfl)
theorem dX5_commit_32 : decode cX5_commit 32 = .ok (.iload_n 3, 1) := dk_29 (dk_at dksX5_commit_1 8 rfl rfl)
theorem dX5_commit_33 : decode cX5_commit 33 = .ok (.iaload, 1) := dk_46 (dk_at dksX5_commit_1 9 rfl rfl)
theorem dX5_commit_34 : decode cX5_commit 34 = .ok (.baload, 1) := dk_51 (dk_at dksX5_commit_1 10 rfl rfl)
theorem dX5_commit_35 : decode cX5_commit 35 = .ok (.istore 4, 2) := dk_54 4 (dk_at dksX5_commit_1 11 rfl rfl)
theorem dX5_commit_37 : decode cX5_commit 37 = .ok (.iconst 0, 1) := dk_3 (dk_at dksX5_commit_1 13 rfl rfl)
theorem dX5_commit_38 : decode cX5_commit 38 = .ok (.istore 5, 2) := dk_54 5 (dk_at dksX5_commit_1 14 rfl rfl)
theorem dX5_commit_40 : decode cX5_commit 40 = .ok (.iload 5, 2) := dk_21 5 (dk_at dksX5_commit_1 16 rfl rfl)
theorem dX5_commit_42 : decode cX5_commit 42 = .ok (.bipush 32, 2) := dk_16 32 (dk_at dksX5_commit_1 18 rfl rfl)
theorem dX5_commit_44 : decode cX5_commit 44 = .ok (.if_icmp .ge 51, 3) := dk_162 0 51 (dk_at dksX5_commit_1 20 rfl rfl)
theorem dX5_commit_47 : decode cX5_commit 47 = .ok (.iload 4, 2) := dk_21 4 (dk_at dksX5_commit_2 0 rfl rfl)
theorem dX5_commit_49 : decode cX5_commit 49 = .ok (.ifCond .ne 33, 3) := dk_154 0 33 (dk_at dksX5_commit_2 2 rfl rfl)
theorem dX5_commit_52 : decode cX5_commit 52 = .ok (.aload_n 0, 1) := dk_42 (dk_at dksX5_commit_2 5 rfl rfl)
theorem dX5_commit_53 : decode cX5_commit 53 = .ok (.getfield 87, 3) := dk_180 0 87 (dk_at dksX5_commit_2 6 rfl rfl)
theorem dX5_commit_56 : decode cX5_commit 56 = .ok (.bipush 32, 2) := dk_16 32 (dk_at dksX5_commit_2 9 rfl rfl)
theorem dX5_commit_58 : decode cX5_commit 58 = .ok (.iload_n 3, 1) := dk_29 (dk_at dksX5_commit_2 11 rfl rfl)
theorem dX5_commit_59 : decode cX5_commit 59 = .ok (.imul, 1) := dk_104 (dk_at dksX5_commit_2 12 rfl rfl)
theorem dX5_commit_60 : decode cX5_commit 60 = .ok (.iload 5, 2) := dk_21 5 (dk_at dksX5_commit_2 13 rfl rfl)
theorem dX5_commit_62 : decode cX5_commit 62 = .ok (.iadd, 1) := dk_96 (dk_at dksX5_commit_2 15 rfl rfl)
theorem dX5_commit_63 : decode cX5_commit 63 = .ok (.iaload, 1) := dk_46 (dk_at dksX5_commit_2 16 rfl rfl)
theorem dX5_commit_64 : decode cX5_commit 64 = .ok (.iconst (-1), 1) := dk_2 (dk_at dksX5_commit_2 17 rfl rfl)
theorem dX5_commit_65 : decode cX5_commit 65 = .ok (.if_icmp .eq 21, 3) := dk_159 0 21 (dk_at dksX5_commit_2 18 rfl rfl)
theorem dX5_commit_68 : decode cX5_commit 68 = .ok (.aload_n 0, 1) := dk_42 (dk_at dksX5_commit_2 21 rfl rfl)
theorem dX5_commit_69 : decode cX5_commit 69 = .ok (.getfield 16, 3) := dk_180 0 16 (dk_at dksX5_commit_3 0 rfl rfl)
theorem dX5_commit_72 : decode cX5_commit 72 = .ok (.aload_n 0, 1) := dk_42 (dk_at dksX5_commit_3 3 rfl rfl)
theorem dX5_commit_73 : decode cX5_commit 73 = .ok (.iload 5, 2) := dk_21 5 (dk_at dksX5_commit_3 4 rfl rfl)
theorem dX5_commit_75 : decode cX5_commit 75 = .ok (.invokevirtual 118, 3) := dk_182 0 118 (dk_at dksX5_commit_3 6 rfl rfl)
theorem dX5_commit_78 : decode cX5_commit 78 = .ok (.baload, 1) := dk_51 (dk_at dksX5_commit_3 9 rfl rfl)
theorem dX5_commit_79 : decode cX5_commit 79 = .ok (.ifCond .eq 7, 3) := dk_153 0 7 (dk_at dksX5_commit_3 10 rfl rfl)
theorem dX5_commit_82 : decode cX5_commit 82 = .ok (.iconst 1, 1) := dk_4 (dk_at dksX5_commit_3 13 rfl rfl)
theorem dX5_commit_83 : decode cX5_commit 83 = .ok (.goto 4, 3) := dk_167 0 4 (dk_at dksX5_commit_3 14 rfl rfl)
theorem dX5_commit_86 : decode cX5_commit 86 = .ok (.iconst 0, 1) := dk_3 (dk_at dksX5_commit_3 17 rfl rfl)
theorem dX5_commit_87 : decode cX5_commit 87 = .ok (.istore 4, 2) := dk_54 4 (dk_at dksX5_commit_3 18 rfl rfl)
theorem dX5_commit_89 : decode cX5_commit 89 = .ok (.iinc 5 1, 3) := dk_132 5 1 (dk_at dksX5_commit_3 20 rfl rfl)
theorem dX5_commit_92 : decode cX5_commit 92 = .ok (.goto (-52), 3) := dk_167 255 204 (dk_at dksX5_commit_4 0 rfl rfl)
theorem dX5_commit_95 : decode cX5_commit 95 = .ok (.iload 4, 2) := dk_21 4 (dk_at dksX5_commit_4 3 rfl rfl)
theorem dX5_commit_97 : decode cX5_commit 97 = .ok (.ifCond .eq 6, 3) := dk_153 0 6 (dk_at dksX5_commit_4 5 rfl rfl)
theorem dX5_commit_100 : decode cX5_commit 100 = .ok (.bipush (-14), 2) := dk_16 242 (dk_at dksX5_commit_4 8 rfl rfl)
theorem dX5_commit_102 : decode cX5_commit 102 = .ok (.ireturn, 1) := dk_172 (dk_at dksX5_commit_4 10 rfl rfl)
theorem dX5_commit_103 : decode cX5_commit 103 = .ok (.aload_n 0, 1) := dk_42 (dk_at dksX5_commit_4 11 rfl rfl)
theorem dX5_commit_104 : decode cX5_commit 104 = .ok (.getfield 75, 3) := dk_180 0 75 (dk_at dksX5_commit_4 12 rfl rfl)
theorem dX5_commit_107 : decode cX5_commit 107 = .ok (.iload_n 3, 1) := dk_29 (dk_at dksX5_commit_4 15 rfl rfl)
theorem dX5_commit_108 : decode cX5_commit 108 = .ok (.iconst (-1), 1) := dk_2 (dk_at dksX5_commit_4 16 rfl rfl)
theorem dX5_commit_109 : decode cX5_commit 109 = .ok (.iastore, 1) := dk_79 (dk_at dksX5_commit_4 17 rfl rfl)
theorem dX5_commit_110 : decode cX5_commit 110 = .ok (.aload_n 0, 1) := dk_42 (dk_at dksX5_commit_4 18 rfl rfl)
theorem dX5_commit_111 : decode cX5_commit 111 = .ok (.iload_n 3, 1) := dk_29 (dk_at dksX5_commit_4 19 rfl rfl)
theorem dX5_commit_112 : decode cX5_commit 112 = .ok (.aload_n 0, 1) := dk_42 (dk_at dksX5_commit_4 20 rfl rfl)
theorem dX5_commit_113 : decode cX5_commit 113 = .ok (.getfield 87, 3) := dk_180 0 87 (dk_at dksX5_commit_4 21 rfl rfl)
theorem dX5_commit_116 : decode cX5_commit 116 = .ok (.invokevirtual 189, 3) := dk_182 0 189 (dk_at dksX5_commit_5 0 rfl rfl)
theorem dX5_commit_119 : decode cX5_commit 119 = .ok (.ifCond .le 7, 3) := dk_158 0 7 (dk_at dksX5_commit_5 3 rfl rfl)
theorem dX5_commit_122 : decode cX5_commit 122 = .ok (.iconst 1, 1) := dk_4 (dk_at dksX5_commit_5 6 rfl rfl)
theorem dX5_commit_123 : decode cX5_commit 123 = .ok (.goto 4, 3) := dk_167 0 4 (dk_at dksX5_commit_5 7 rfl rfl)
theorem dX5_commit_126 : decode cX5_commit 126 = .ok (.iconst 0, 1) := dk_3 (dk_at dksX5_commit_5 10 rfl rfl)
theorem dX5_commit_127 : decode cX5_commit 127 = .ok (.istore 5, 2) := dk_54 5 (dk_at dksX5_commit_5 11 rfl rfl)
theorem dX5_commit_129 : decode cX5_commit 129 = .ok (.aload_n 0, 1) := dk_42 (dk_at dksX5_commit_5 13 rfl rfl)
theorem dX5_commit_130 : decode cX5_commit 130 = .ok (.getfield 63, 3) := dk_180 0 63 (dk_at dksX5_commit_5 14 rfl rfl)
theorem dX5_commit_133 : decode cX5_commit 133 = .ok (.iload_n 3, 1) := dk_29 (dk_at dksX5_commit_5 17 rfl rfl)
theorem dX5_commit_134 : decode cX5_commit 134 = .ok (.iload 5, 2) := dk_21 5 (dk_at dksX5_commit_5 18 rfl rfl)
theorem dX5_commit_136 : decode cX5_commit 136 = .ok (.ifCond .eq 21, 3) := dk_153 0 21 (dk_at dksX5_commit_5 20 rfl rfl)
theorem dX5_commit_139 : decode cX5_commit 139 = .ok (.aload_n 0, 1) := dk_42 (dk_at dksX5_commit_5 23 rfl rfl)
theorem dX5_commit_140 : decode cX5_commit 140 = .ok (.getfield 63, 3) := dk_180 0 63 (dk_at dksX5_commit_6 0 rfl rfl)
theorem dX5_commit_143 : decode cX5_commit 143 = .ok (.iload_n 3, 1) := dk_29 (dk_at dksX5_commit_6 3 rfl rfl)
theorem dX5_commit_144 : decode cX5_commit 144 = .ok (.iaload, 1) := dk_46 (dk_at dksX5_commit_6 4 rfl rfl)
theorem dX5_commit_145 : decode cX5_commit 145 = .ok (.aload_n 0, 1) := dk_42 (dk_at dksX5_commit_6 5 rfl rfl)
theorem dX5_commit_146 : decode cX5_commit 146 = .ok (.invokevirtual 111, 3) := dk_182 0 111 (dk_at dksX5_commit_6 6 rfl rfl)
theorem dX5_commit_149 : decode cX5_commit 149 = .ok (.iconst 1, 1) := dk_4 (dk_at dksX5_commit_6 9 rfl rfl)
theorem dX5_commit_150 : decode cX5_commit 150 = .ok (.iadd, 1) := dk_96 (dk_at dksX5_commit_6 10 rfl rfl)
theorem dX5_commit_151 : decode cX5_commit 151 = .ok (.invokestatic 103, 3) := dk_184 0 103 (dk_at dksX5_commit_6 11 rfl rfl)
theorem dX5_commit_154 : decode cX5_commit 154 = .ok (.goto 9, 3) := dk_167 0 9 (dk_at dksX5_commit_6 14 rfl rfl)
theorem dX5_commit_157 : decode cX5_commit 157 = .ok (.aload_n 0, 1) := dk_42 (dk_at dksX5_commit_6 17 rfl rfl)
theorem dX5_commit_158 : decode cX5_commit 158 = .ok (.getfield 63, 3) := dk_180 0 63 (dk_at dksX5_commit_6 18 rfl rfl)
theorem dX5_commit_161 : decode cX5_commit 161 = .ok (.iload_n 3, 1) := dk_29 (dk_at dksX5_commit_6 21 rfl rfl)
theorem dX5_commit_162 : decode cX5_commit 162 = .ok (.iaload, 1) := dk_46 (dk_at dksX5_commit_6 22 rfl rfl)
theorem dX5_commit_163 : decode cX5_commit 163 = .ok (.iastore, 1) := dk_79 (dk_at dksX5_commit_6 23 rfl rfl)
theorem dX5_commit_164 : decode cX5_commit 164 = .ok (.aload_n 0, 1) := dk_42 (dk_at dksX5_commit_7 0 rfl rfl)
theorem dX5_commit_165 : decode cX5_commit 165 = .ok (.getfield 63, 3) := dk_180 0 63 (dk_at dksX5_commit_7 1 rfl rfl)
theorem dX5_commit_168 : decode cX5_commit 168 = .ok (.iload_n 3, 1) := dk_29 (dk_at dksX5_commit_7 4 rfl rfl)
theorem dX5_commit_169 : decode cX5_commit 169 = .ok (.iaload, 1) := dk_46 (dk_at dksX5_commit_7 5 rfl rfl)
theorem dX5_commit_170 : decode cX5_commit 170 = .ok (.aload_n 0, 1) := dk_42 (dk_at dksX5_commit_7 6 rfl rfl)
theorem dX5_commit_171 : decode cX5_commit 171 = .ok (.getfield 60, 3) := dk_180 0 60 (dk_at dksX5_commit_7 7 rfl rfl)
theorem dX5_commit_174 : decode cX5_commit 174 = .ok (.iload_n 3, 1) := dk_29 (dk_at dksX5_commit_7 10 rfl rfl)
theorem dX5_commit_175 : decode cX5_commit 175 = .ok (.iaload, 1) := dk_46 (dk_at dksX5_commit_7 11 rfl rfl)
theorem dX5_commit_176 : decode cX5_commit 176 = .ok (.if_icmp .le 41, 3) := dk_164 0 41 (dk_at dksX5_commit_7 12 rfl rfl)
theorem dX5_commit_179 : decode cX5_commit 179 = .ok (.aload_n 0, 1) := dk_42 (dk_at dksX5_commit_7 15 rfl rfl)
theorem dX5_commit_180 : decode cX5_commit 180 = .ok (.iload_n 3, 1) := dk_29 (dk_at dksX5_commit_7 16 rfl rfl)
theorem dX5_commit_181 : decode cX5_commit 181 = .ok (.aload_n 0, 1) := dk_42 (dk_at dksX5_commit_7 17 rfl rfl)
theorem dX5_commit_182 : decode cX5_commit 182 = .ok (.getfield 63, 3) := dk_180 0 63 (dk_at dksX5_commit_7 18 rfl rfl)
theorem dX5_commit_185 : decode cX5_commit 185 = .ok (.iload_n 3, 1) := dk_29 (dk_at dksX5_commit_7 21 rfl rfl)
theorem dX5_commit_186 : decode cX5_commit 186 = .ok (.iaload, 1) := dk_46 (dk_at dksX5_commit_7 22 rfl rfl)
theorem dX5_commit_187 : decode cX5_commit 187 = .ok (.invokevirtual 176, 3) := dk_182 0 176 (dk_at dksX5_commit_8 0 rfl rfl)
theorem dX5_commit_190 : decode cX5_commit 190 = .ok (.ifCond .ne 15, 3) := dk_154 0 15 (dk_at dksX5_commit_8 3 rfl rfl)
theorem dX5_commit_193 : decode cX5_commit 193 = .ok (.aload_n 0, 1) := dk_42 (dk_at dksX5_commit_8 6 rfl rfl)
theorem dX5_commit_194 : decode cX5_commit 194 = .ok (.iload_n 3, 1) := dk_29 (dk_at dksX5_commit_8 7 rfl rfl)
theorem dX5_commit_195 : decode cX5_commit 195 = .ok (.aload_n 0, 1) := dk_42 (dk_at dksX5_commit_8 8 rfl rfl)
theorem dX5_commit_196 : decode cX5_commit 196 = .ok (.getfield 63, 3) := dk_180 0 63 (dk_at dksX5_commit_8 9 rfl rfl)
theorem dX5_commit_199 : decode cX5_commit 199 = .ok (.iload_n 3, 1) := dk_29 (dk_at dksX5_commit_8 12 rfl rfl)
theorem dX5_commit_200 : decode cX5_commit 200 = .ok (.iaload, 1) := dk_46 (dk_at dksX5_commit_8 13 rfl rfl)
theorem dX5_commit_201 : decode cX5_commit 201 = .ok (.invokevirtual 179, 3) := dk_182 0 179 (dk_at dksX5_commit_8 14 rfl rfl)
theorem dX5_commit_204 : decode cX5_commit 204 = .ok (.ireturn, 1) := dk_172 (dk_at dksX5_commit_8 17 rfl rfl)
theorem dX5_commit_205 : decode cX5_commit 205 = .ok (.aload_n 0, 1) := dk_42 (dk_at dksX5_commit_8 18 rfl rfl)
theorem dX5_commit_206 : decode cX5_commit 206 = .ok (.getfield 60, 3) := dk_180 0 60 (dk_at dksX5_commit_8 19 rfl rfl)
theorem dX5_commit_209 : decode cX5_commit 209 = .ok (.iload_n 3, 1) := dk_29 (dk_at dksX5_commit_8 22 rfl rfl)
theorem dX5_commit_210 : decode cX5_commit 210 = .ok (.aload_n 0, 1) := dk_42 (dk_at dksX5_commit_8 23 rfl rfl)
theorem dX5_commit_211 : decode cX5_commit 211 = .ok (.getfield 63, 3) := dk_180 0 63 (dk_at dksX5_commit_9 0 rfl rfl)
theorem dX5_commit_214 : decode cX5_commit 214 = .ok (.iload_n 3, 1) := dk_29 (dk_at dksX5_commit_9 3 rfl rfl)
theorem dX5_commit_215 : decode cX5_commit 215 = .ok (.iaload, 1) := dk_46 (dk_at dksX5_commit_9 4 rfl rfl)
theorem dX5_commit_216 : decode cX5_commit 216 = .ok (.iastore, 1) := dk_79 (dk_at dksX5_commit_9 5 rfl rfl)
theorem dX5_commit_217 : decode cX5_commit 217 = .ok (.aload_n 0, 1) := dk_42 (dk_at dksX5_commit_9 6 rfl rfl)
theorem dX5_commit_218 : decode cX5_commit 218 = .ok (.iload_n 3, 1) := dk_29 (dk_at dksX5_commit_9 7 rfl rfl)
theorem dX5_commit_219 : decode cX5_commit 219 = .ok (.invokevirtual 138, 3) := dk_182 0 138 (dk_at dksX5_commit_9 8 rfl rfl)
theorem dX5_commit_222 : decode cX5_commit 222 = .ok (.ifCond .ne 13, 3) := dk_154 0 13 (dk_at dksX5_commit_9 11 rfl rfl)
theorem dX5_commit_225 : decode cX5_commit 225 = .ok (.aload_n 0, 1) := dk_42 (dk_at dksX5_commit_9 14 rfl rfl)
theorem dX5_commit_226 : decode cX5_commit 226 = .ok (.getfield 72, 3) := dk_180 0 72 (dk_at dksX5_commit_9 15 rfl rfl)
theorem dX5_commit_229 : decode cX5_commit 229 = .ok (.iload_n 3, 1) := dk_29 (dk_at dksX5_commit_9 18 rfl rfl)
theorem dX5_commit_230 : decode cX5_commit 230 = .ok (.iconst 3, 1) := dk_6 (dk_at dksX5_commit_9 19 rfl rfl)
theorem dX5_commit_231 : decode cX5_commit 231 = .ok (.iastore, 1) := dk_79 (dk_at dksX5_commit_9 20 rfl rfl)
theorem dX5_commit_232 : decode cX5_commit 232 = .ok (.bipush (-13), 2) := dk_16 243 (dk_at dksX5_commit_9 21 rfl rfl)
theorem dX5_commit_234 : decode cX5_commit 234 = .ok (.ireturn, 1) := dk_172 (dk_at dksX5_commit_9 23 rfl rfl)
theorem dX5_commit_235 : decode cX5_commit 235 = .ok (.iload_n 2, 1) := dk_28 (dk_at dksX5_commit_10 0 rfl rfl)
theorem dX5_commit_236 : decode cX5_commit 236 = .ok (.ifCond .eq 18, 3) := dk_153 0 18 (dk_at dksX5_commit_10 1 rfl rfl)
theorem dX5_commit_239 : decode cX5_commit 239 = .ok (.iload 5, 2) := dk_21 5 (dk_at dksX5_commit_10 4 rfl rfl)
theorem dX5_commit_241 : decode cX5_commit 241 = .ok (.ifCond .eq 13, 3) := dk_153 0 13 (dk_at dksX5_commit_10 6 rfl rfl)
theorem dX5_commit_244 : decode cX5_commit 244 = .ok (.aload_n 0, 1) := dk_42 (dk_at dksX5_commit_10 9 rfl rfl)
theorem dX5_commit_245 : decode cX5_commit 245 = .ok (.getfield 72, 3) := dk_180 0 72 (dk_at dksX5_commit_10 10 rfl rfl)
theorem dX5_commit_248 : decode cX5_commit 248 = .ok (.iload_n 3, 1) := dk_29 (dk_at dksX5_commit_10 13 rfl rfl)
theorem dX5_commit_249 : decode cX5_commit 249 = .ok (.iconst 1, 1) := dk_4 (dk_at dksX5_commit_10 14 rfl rfl)
theorem dX5_commit_250 : decode cX5_commit 250 = .ok (.iastore, 1) := dk_79 (dk_at dksX5_commit_10 15 rfl rfl)
theorem dX5_commit_251 : decode cX5_commit 251 = .ok (.goto 8, 3) := dk_167 0 8 (dk_at dksX5_commit_10 16 rfl rfl)
theorem dX5_commit_254 : decode cX5_commit 254 = .ok (.aload_n 0, 1) := dk_42 (dk_at dksX5_commit_10 19 rfl rfl)
theorem dX5_commit_255 : decode cX5_commit 255 = .ok (.iload_n 3, 1) := dk_29 (dk_at dksX5_commit_10 20 rfl rfl)
theorem dX5_commit_256 : decode cX5_commit 256 = .ok (.invokevirtual 142, 3) := dk_182 0 142 (dk_at dksX5_commit_10 21 rfl rfl)
theorem dX5_commit_259 : decode cX5_commit 259 = .ok (.iconst 0, 1) := dk_3 (dk_at dksX5_commit_11 0 rfl rfl)
theorem dX5_commit_260 : decode cX5_commit 260 = .ok (.ireturn, 1) := dk_172 (dk_at dksX5_commit_11 1 rfl rfl)
abbrev cX5_isTransaction : ByteArray := prog_10_method_40_code
def yX5_isTransaction : MethodName := ⟨RX5, "isTransaction", "(I)Z"⟩
def dkwX5_isTransaction_1 : List UInt8 := [180, 0, 93, 154, 0, 7, 4, 167, 0, 4, 3, 172]
abbrev dktX5_isTransaction_1 : List UInt8 := dkwX5_isTransaction_1 ++ []
def dkwX5_isTransaction_0 : List UInt8 := [42, 27, 3, 42, 180, 0, 125, 4, 100, 184, 0, 96, 153, 0, 7, 3, 167, 0, 4, 4, 181, 0, 93, 42]
abbrev dktX5_isTransaction_0 : List UInt8 := dkwX5_isTransaction_0 ++ dktX5_isTransaction_1
theorem dksX5_isTransaction_0 : cX5_isTransaction.data.toList.drop 0 = dktX5_isTransaction_0 := by decide +kernel
theorem dksX5_isTransaction_1 : cX5_isTransaction.data.toList.drop 24 = dktX5_isTransaction_1 := dk_seg dksX5_isTransaction_0 24 rfl rfl
theorem dX5_isTransaction_0 : decode cX5_isTransaction 0 = .ok (.aload_n 0, 1) := dk_42 (dk_at dksX5_isTransaction_0 0 rfl rfl)
theorem dX5_isTransaction_1 : decode cX5_isTransaction 1 = .ok (.iload_n 1, 1) := dk_27 (dk_at dksX5_isTransaction_0 1 rfl rfl)
theorem dX5_isTransaction_2 : decode cX5_isTransaction 2 = .ok (.iconst 0, 1) := dk_3 (dk_at dksX5_isTransaction_0 2 rfl rfl)
theorem dX5_isTransaction_3 : decode cX5_isTransaction 3 = .ok (.aload_n 0, 1) := dk_42 (dk_at dksX5_isTransaction_0 3 rfl rfl)
theorem dX5_isTransaction_4 : decode cX5_isTransaction 4 = .ok (.getfield 125, 3) := dk_180 0 125 (dk_at dksX5_isTransaction_0 4 rfl rfl)
theorem dX5_isTransaction_7 : decode cX5_isTransaction 7 = .ok (.iconst 1, 1) := dk_4 (dk_at dksX5_isTransaction_0 7 rfl rfl)
theorem dX5_isTransaction_8 : decode cX5_isTransaction 8 = .ok (.isub, 1) := dk_100 (dk_at dksX5_isTransaction_0 8 rfl rfl)
theorem dX5_isTransaction_9 : decode cX5_isTransaction 9 = .ok (.invokestatic 96, 3) := dk_184 0 96 (dk_at dksX5_isTransaction_0 9 rfl rfl)
theorem dX5_isTransaction_12 : decode cX5_isTransaction 12 = .ok (.ifCond .eq 7, 3) := dk_153 0 7 (dk_at dksX5_isTransaction_0 12 rfl rfl)
theorem dX5_isTransaction_15 : decode cX5_isTransaction 15 = .ok (.iconst 0, 1) := dk_3 (dk_at dksX5_isTransaction_0 15 rfl rfl)
theorem dX5_isTransaction_16 : decode cX5_isTransaction 16 = .ok (.goto 4, 3) := dk_167 0 4 (dk_at dksX5_isTransaction_0 16 rfl rfl)
theorem dX5_isTransaction_19 : decode cX5_isTransaction 19 = .ok (.iconst 1, 1) := dk_4 (dk_at dksX5_isTransaction_0 19 rfl rfl)
theorem dX5_isTransaction_20 : decode cX5_isTransaction 20 = .ok (.putfield 93, 3) := dk_181 0 93 (dk_at dksX5_isTransaction_0 20 rfl rfl)
theorem dX5_isTransaction_23 : decode cX5_isTransaction 23 = .ok (.aload_n 0, 1) := dk_42 (dk_at dksX5_isTransaction_0 23 rfl rfl)
theorem dX5_isTransaction_24 : decode cX5_isTransaction 24 = .ok (.getfield 93, 3) := dk_180 0 93 (dk_at dksX5_isTransaction_1 0 rfl rfl)
theorem dX5_isTransaction_27 : decode cX5_isTransaction 27 = .ok (.ifCond .ne 7, 3) := dk_154 0 7 (dk_at dksX5_isTransaction_1 3 rfl rfl)
theorem dX5_isTransaction_30 : decode cX5_isTransaction 30 = .ok (.iconst 1, 1) := dk_4 (dk_at dksX5_isTransaction_1 6 rfl rfl)
theorem dX5_isTransaction_31 : decode cX5_isTransaction 31 = .ok (.goto 4, 3) := dk_167 0 4 (dk_at dksX5_isTransaction_1 7 rfl rfl)
theorem dX5_isTransaction_34 : decode cX5_isTransaction 34 = .ok (.iconst 0, 1) := dk_3 (dk_at dksX5_isTransaction_1 10 rfl rfl)
theorem dX5_isTransaction_35 : decode cX5_isTransaction 35 = .ok (.ireturn, 1) := dk_172 (dk_at dksX5_isTransaction_1 11 rfl rfl)
abbrev cX5_counts : ByteArray := prog_10_method_39_code
def yX5_counts : MethodName := ⟨RX5, "counts", "(I[I)I"⟩
def dkwX5_counts_1 : List UInt8 := [159, 0, 7, 4, 167, 0, 4, 3, 96, 62, 132, 4, 1, 167, 255, 225, 29, 172]
abbrev dktX5_counts_1 : List UInt8 := dkwX5_counts_1 ++ []
def dkwX5_counts_0 : List UInt8 := [3, 62, 3, 54, 4, 21, 4, 16, 32, 162, 0, 30, 29, 44, 16, 32, 27, 104, 21, 4, 96, 46, 2]
abbrev dktX5_counts_0 : List UInt8 := dkwX5_counts_0 ++ dktX5_counts_1
theorem dksX5_counts_0 : cX5_counts.data.toList.drop 0 = dktX5_counts_0 := by decide +kernel
theorem dksX5_counts_1 : cX5_counts.data.toList.drop 23 = dktX5_counts_1 := dk_seg dksX5_counts_0 23 rfl rfl
theorem dX5_counts_0 : decode cX5_counts 0 = .ok (.iconst 0, 1) := dk_3 (dk_at dksX5_counts_0 0 rfl rfl)
theorem dX5_counts_1 : decode cX5_counts 1 = .ok (.istore_n 3, 1) := dk_62 (dk_at dksX5_counts_0 1 rfl rfl)
theorem dX5_counts_2 : decode cX5_counts 2 = .ok (.iconst 0, 1) := dk_3 (dk_at dksX5_counts_0 2 rfl rfl)
theorem dX5_counts_3 : decode cX5_counts 3 = .ok (.istore 4, 2) := dk_54 4 (dk_at dksX5_counts_0 3 rfl rfl)
theorem dX5_counts_5 : decode cX5_counts 5 = .ok (.iload 4, 2) := dk_21 4 (dk_at dksX5_counts_0 5 rfl rfl)
theorem dX5_counts_7 : decode cX5_counts 7 = .ok (.bipush 32, 2) := dk_16 32 (dk_at dksX5_counts_0 7 rfl rfl)
theorem dX5_counts_9 : decode cX5_counts 9 = .ok (.if_icmp .ge 30, 3) := dk_162 0 30 (dk_at dksX5_counts_0 9 rfl rfl)
theorem dX5_counts_12 : decode cX5_counts 12 = .ok (.iload_n 3, 1) := dk_29 (dk_at dksX5_counts_0 12 rfl rfl)
theorem dX5_counts_13 : decode cX5_counts 13 = .ok (.aload_n 2, 1) := dk_44 (dk_at dksX5_counts_0 13 rfl rfl)
theorem dX5_counts_14 : decode cX5_counts 14 = .ok (.bipush 32, 2) := dk_16 32 (dk_at dksX5_counts_0 14 rfl rfl)
theorem dX5_counts_16 : decode cX5_counts 16 = .ok (.iload_n 1, 1) := dk_27 (dk_at dksX5_counts_0 16 rfl rfl)
theorem dX5_counts_17 : decode cX5_counts 17 = .ok (.imul, 1) := dk_104 (dk_at dksX5_counts_0 17 rfl rfl)
theorem dX5_counts_18 : decode cX5_counts 18 = .ok (.iload 4, 2) := dk_21 4 (dk_at dksX5_counts_0 18 rfl rfl)
theorem dX5_counts_20 : decode cX5_counts 20 = .ok (.iadd, 1) := dk_96 (dk_at dksX5_counts_0 20 rfl rfl)
theorem dX5_counts_21 : decode cX5_counts 21 = .ok (.iaload, 1) := dk_46 (dk_at dksX5_counts_0 21 rfl rfl)
theorem dX5_counts_22 : decode cX5_counts 22 = .ok (.iconst (-1), 1) := dk_2 (dk_at dksX5_counts_0 22 rfl rfl)
theorem dX5_counts_23 : decode cX5_counts 23 = .ok (.if_icmp .eq 7, 3) := dk_159 0 7 (dk_at dksX5_counts_1 0 rfl rfl)
theorem dX5_counts_26 : decode cX5_counts 26 = .ok (.iconst 1, 1) := dk_4 (dk_at dksX5_counts_1 3 rfl rfl)
theorem dX5_counts_27 : decode cX5_counts 27 = .ok (.goto 4, 3) := dk_167 0 4 (dk_at dksX5_counts_1 4 rfl rfl)
theorem dX5_counts_30 : decode cX5_counts 30 = .ok (.iconst 0, 1) := dk_3 (dk_at dksX5_counts_1 7 rfl rfl)
theorem dX5_counts_31 : decode cX5_counts 31 = .ok (.iadd, 1) := dk_96 (dk_at dksX5_counts_1 8 rfl rfl)
theorem dX5_counts_32 : decode cX5_counts 32 = .ok (.istore_n 3, 1) := dk_62 (dk_at dksX5_counts_1 9 rfl rfl)
theorem dX5_counts_33 : decode cX5_counts 33 = .ok (.iinc 4 1, 3) := dk_132 4 1 (dk_at dksX5_counts_1 10 rfl rfl)
theorem dX5_counts_36 : decode cX5_counts 36 = .ok (.goto (-31), 3) := dk_167 255 225 (dk_at dksX5_counts_1 13 rfl rfl)
theorem dX5_counts_39 : decode cX5_counts 39 = .ok (.iload_n 3, 1) := dk_29 (dk_at dksX5_counts_1 16 rfl rfl)
theorem dX5_counts_40 : decode cX5_counts 40 = .ok (.ireturn, 1) := dk_172 (dk_at dksX5_counts_1 17 rfl rfl)
abbrev cX5_abort : ByteArray := prog_10_method_42_code
def yX5_abort : MethodName := ⟨RX5, "abort", "(I)I"⟩
def dkwX5_abort_1 : List UInt8 := [180, 0, 72, 27, 6, 79, 3, 172]
abbrev dktX5_abort_1 : List UInt8 := dkwX5_abort_1 ++ []
def dkwX5_abort_0 : List UInt8 := [42, 27, 182, 0, 186, 154, 0, 5, 3, 172, 42, 180, 0, 72, 27, 46, 153, 0, 6, 16, 243, 172, 42]
abbrev dktX5_abort_0 : List UInt8 := dkwX5_abort_0 ++ dktX5_abort_1
theorem dksX5_abort_0 : cX5_abort.data.toList.drop 0 = dktX5_abort_0 := by decide +kernel
theorem dksX5_abort_1 : cX5_abort.data.toList.drop 23 = dktX5_abort_1 := dk_seg dksX5_abort_0 23 rfl rfl
theorem dX5_abort_0 : decode cX5_abort 0 = .ok (.aload_n 0, 1) := dk_42 (dk_at dksX5_abort_0 0 rfl rfl)
theorem dX5_abort_1 : decode cX5_abort 1 = .ok (.iload_n 1, 1) := dk_27 (dk_at dksX5_abort_0 1 rfl rfl)
theorem dX5_abort_2 : decode cX5_abort 2 = .ok (.invokevirtual 186, 3) := dk_182 0 186 (dk_at dksX5_abort_0 2 rfl rfl)
theorem dX5_abort_5 : decode cX5_abort 5 = .ok (.ifCond .ne 5, 3) := dk_154 0 5 (dk_at dksX5_abort_0 5 rfl rfl)
theorem dX5_abort_8 : decode cX5_abort 8 = .ok (.iconst 0, 1) := dk_3 (dk_at dksX5_abort_0 8 rfl rfl)
theorem dX5_abort_9 : decode cX5_abort 9 = .ok (.ireturn, 1) := dk_172 (dk_at dksX5_abort_0 9 rfl rfl)
theorem dX5_abort_10 : decode cX5_abort 10 = .ok (.aload_n 0, 1) := dk_42 (dk_at dksX5_abort_0 10 rfl rfl)
theorem dX5_abort_11 : decode cX5_abort 11 = .ok (.getfield 72, 3) := dk_180 0 72 (dk_at dksX5_abort_0 11 rfl rfl)
theorem dX5_abort_14 : decode cX5_abort 14 = .ok (.iload_n 1, 1) := dk_27 (dk_at dksX5_abort_0 14 rfl rfl)
theorem dX5_abort_15 : decode cX5_abort 15 = .ok (.iaload, 1) := dk_46 (dk_at dksX5_abort_0 15 rfl rfl)
theorem dX5_abort_16 : decode cX5_abort 16 = .ok (.ifCond .eq 6, 3) := dk_153 0 6 (dk_at dksX5_abort_0 16 rfl rfl)
theorem dX5_abort_19 : decode cX5_abort 19 = .ok (.bipush (-13), 2) := dk_16 243 (dk_at dksX5_abort_0 19 rfl rfl)
theorem dX5_abort_21 : decode cX5_abort 21 = .ok (.ireturn, 1) := dk_172 (dk_at dksX5_abort_0 21 rfl rfl)
theorem dX5_abort_22 : decode cX5_abort 22 = .ok (.aload_n 0, 1) := dk_42 (dk_at dksX5_abort_0 22 rfl rfl)
theorem dX5_abort_23 : decode cX5_abort 23 = .ok (.getfield 72, 3) := dk_180 0 72 (dk_at dksX5_abort_1 0 rfl rfl)
theorem dX5_abort_26 : decode cX5_abort 26 = .ok (.iload_n 1, 1) := dk_27 (dk_at dksX5_abort_1 3 rfl rfl)
theorem dX5_abort_27 : decode cX5_abort 27 = .ok (.iconst 3, 1) := dk_6 (dk_at dksX5_abort_1 4 rfl rfl)
theorem dX5_abort_28 : decode cX5_abort 28 = .ok (.iastore, 1) := dk_79 (dk_at dksX5_abort_1 5 rfl rfl)
theorem dX5_abort_29 : decode cX5_abort 29 = .ok (.iconst 0, 1) := dk_3 (dk_at dksX5_abort_1 6 rfl rfl)
theorem dX5_abort_30 : decode cX5_abort 30 = .ok (.ireturn, 1) := dk_172 (dk_at dksX5_abort_1 7 rfl rfl)
abbrev cX5_recover : ByteArray := prog_10_method_43_code
def yX5_recover : MethodName := ⟨RX5, "recover", "(I)I"⟩
def dkwX5_recover_1 : List UInt8 := [182, 0, 144, 42, 180, 0, 72, 27, 46, 172]
abbrev dktX5_recover_1 : List UInt8 := dkwX5_recover_1 ++ []
def dkwX5_recover_0 : List UInt8 := [42, 27, 182, 0, 186, 154, 0, 5, 3, 172, 42, 180, 0, 72, 27, 46, 4, 160, 0, 8, 42, 27]
abbrev dktX5_recover_0 : List UInt8 := dkwX5_recover_0 ++ dktX5_recover_1
theorem dksX5_recover_0 : cX5_recover.data.toList.drop 0 = dktX5_recover_0 := by decide +kernel
theorem dksX5_recover_1 : cX5_recover.data.toList.drop 22 = dktX5_recover_1 := dk_seg dksX5_recover_0 22 rfl rfl
theorem dX5_recover_0 : decode cX5_recover 0 = .ok (.aload_n 0, 1) := dk_42 (dk_at dksX5_recover_0 0 rfl rfl)
theorem dX5_recover_1 : decode cX5_recover 1 = .ok (.iload_n 1, 1) := dk_27 (dk_at dksX5_recover_0 1 rfl rfl)
theorem dX5_recover_2 : decode cX5_recover 2 = .ok (.invokevirtual 186, 3) := dk_182 0 186 (dk_at dksX5_recover_0 2 rfl rfl)
theorem dX5_recover_5 : decode cX5_recover 5 = .ok (.ifCond .ne 5, 3) := dk_154 0 5 (dk_at dksX5_recover_0 5 rfl rfl)
theorem dX5_recover_8 : decode cX5_recover 8 = .ok (.iconst 0, 1) := dk_3 (dk_at dksX5_recover_0 8 rfl rfl)
theorem dX5_recover_9 : decode cX5_recover 9 = .ok (.ireturn, 1) := dk_172 (dk_at dksX5_recover_0 9 rfl rfl)
theorem dX5_recover_10 : decode cX5_recover 10 = .ok (.aload_n 0, 1) := dk_42 (dk_at dksX5_recover_0 10 rfl rfl)
theorem dX5_recover_11 : decode cX5_recover 11 = .ok (.getfield 72, 3) := dk_180 0 72 (dk_at dksX5_recover_0 11 rfl rfl)
theorem dX5_recover_14 : decode cX5_recover 14 = .ok (.iload_n 1, 1) := dk_27 (dk_at dksX5_recover_0 14 rfl rfl)
theorem dX5_recover_15 : decode cX5_recover 15 = .ok (.iaload, 1) := dk_46 (dk_at dksX5_recover_0 15 rfl rfl)
theorem dX5_recover_16 : decode cX5_recover 16 = .ok (.iconst 1, 1) := dk_4 (dk_at dksX5_recover_0 16 rfl rfl)
theorem dX5_recover_17 : decode cX5_recover 17 = .ok (.if_icmp .ne 8, 3) := dk_160 0 8 (dk_at dksX5_recover_0 17 rfl rfl)
theorem dX5_recover_20 : decode cX5_recover 20 = .ok (.aload_n 0, 1) := dk_42 (dk_at dksX5_recover_0 20 rfl rfl)
theorem dX5_recover_21 : decode cX5_recover 21 = .ok (.iload_n 1, 1) := dk_27 (dk_at dksX5_recover_0 21 rfl rfl)
theorem dX5_recover_22 : decode cX5_recover 22 = .ok (.invokevirtual 144, 3) := dk_182 0 144 (dk_at dksX5_recover_1 0 rfl rfl)
theorem dX5_recover_25 : decode cX5_recover 25 = .ok (.aload_n 0, 1) := dk_42 (dk_at dksX5_recover_1 3 rfl rfl)
theorem dX5_recover_26 : decode cX5_recover 26 = .ok (.getfield 72, 3) := dk_180 0 72 (dk_at dksX5_recover_1 4 rfl rfl)
theorem dX5_recover_29 : decode cX5_recover 29 = .ok (.iload_n 1, 1) := dk_27 (dk_at dksX5_recover_1 7 rfl rfl)
theorem dX5_recover_30 : decode cX5_recover 30 = .ok (.iaload, 1) := dk_46 (dk_at dksX5_recover_1 8 rfl rfl)
theorem dX5_recover_31 : decode cX5_recover 31 = .ok (.ireturn, 1) := dk_172 (dk_at dksX5_recover_1 9 rfl rfl)
abbrev cX5_beat : ByteArray := prog_10_method_44_code
def yX5_beat : MethodName := ⟨RX5, "beat", "(I)I"⟩
def dkwX5_beat_1 : List UInt8 := [180, 0, 69, 27, 42, 180, 0, 100, 79, 3, 172]
abbrev dktX5_beat_1 : List UInt8 := dkwX5_beat_1 ++ []
def dkwX5_beat_0 : List UInt8 := [42, 27, 182, 0, 186, 154, 0, 5, 3, 172, 42, 180, 0, 72, 27, 46, 153, 0, 6, 16, 243, 172, 42]
abbrev dktX5_beat_0 : List UInt8 := dkwX5_beat_0 ++ dktX5_beat_1
theorem dksX5_beat_0 : cX5_beat.data.toList.drop 0 = dktX5_beat_0 := by decide +kernel
theorem dksX5_beat_1 : cX5_beat.data.toList.drop 23 = dktX5_beat_1 := dk_seg dksX5_beat_0 23 rfl rfl
theorem dX5_beat_0 : decode cX5_beat 0 = .ok (.aload_n 0, 1) := dk_42 (dk_at dksX5_beat_0 0 rfl rfl)
theorem dX5_beat_1 : decode cX5_beat 1 = .ok (.iload_n 1, 1) := dk_27 (dk_at dksX5_beat_0 1 rfl rfl)
theorem dX5_beat_2 : decode cX5_beat 2 = .ok (.invokevirtual 186, 3) := dk_182 0 186 (dk_at dksX5_beat_0 2 rfl rfl)
theorem dX5_beat_5 : decode cX5_beat 5 = .ok (.ifCond .ne 5, 3) := dk_154 0 5 (dk_at dksX5_beat_0 5 rfl rfl)
theorem dX5_beat_8 : decode cX5_beat 8 = .ok (.iconst 0, 1) := dk_3 (dk_at dksX5_beat_0 8 rfl rfl)
theorem dX5_beat_9 : decode cX5_beat 9 = .ok (.ireturn, 1) := dk_172 (dk_at dksX5_beat_0 9 rfl rfl)
theorem dX5_beat_10 : decode cX5_beat 10 = .ok (.aload_n 0, 1) := dk_42 (dk_at dksX5_beat_0 10 rfl rfl)
theorem dX5_beat_11 : decode cX5_beat 11 = .ok (.getfield 72, 3) := dk_180 0 72 (dk_at dksX5_beat_0 11 rfl rfl)
theorem dX5_beat_14 : decode cX5_beat 14 = .ok (.iload_n 1, 1) := dk_27 (dk_at dksX5_beat_0 14 rfl rfl)
theorem dX5_beat_15 : decode cX5_beat 15 = .ok (.iaload, 1) := dk_46 (dk_at dksX5_beat_0 15 rfl rfl)
theorem dX5_beat_16 : decode cX5_beat 16 = .ok (.ifCond .eq 6, 3) := dk_153 0 6 (dk_at dksX5_beat_0 16 rfl rfl)
theorem dX5_beat_19 : decode cX5_beat 19 = .ok (.bipush (-13), 2) := dk_16 243 (dk_at dksX5_beat_0 19 rfl rfl)
theorem dX5_beat_21 : decode cX5_beat 21 = .ok (.ireturn, 1) := dk_172 (dk_at dksX5_beat_0 21 rfl rfl)
theorem dX5_beat_22 : decode cX5_beat 22 = .ok (.aload_n 0, 1) := dk_42 (dk_at dksX5_beat_0 22 rfl rfl)
theorem dX5_beat_23 : decode cX5_beat 23 = .ok (.getfield 69, 3) := dk_180 0 69 (dk_at dksX5_beat_1 0 rfl rfl)
theorem dX5_beat_26 : decode cX5_beat 26 = .ok (.iload_n 1, 1) := dk_27 (dk_at dksX5_beat_1 3 rfl rfl)
theorem dX5_beat_27 : decode cX5_beat 27 = .ok (.aload_n 0, 1) := dk_42 (dk_at dksX5_beat_1 4 rfl rfl)
theorem dX5_beat_28 : decode cX5_beat 28 = .ok (.getfield 100, 3) := dk_180 0 100 (dk_at dksX5_beat_1 5 rfl rfl)
theorem dX5_beat_31 : decode cX5_beat 31 = .ok (.iastore, 1) := dk_79 (dk_at dksX5_beat_1 8 rfl rfl)
theorem dX5_beat_32 : decode cX5_beat 32 = .ok (.iconst 0, 1) := dk_3 (dk_at dksX5_beat_1 9 rfl rfl)
theorem dX5_beat_33 : decode cX5_beat 33 = .ok (.ireturn, 1) := dk_172 (dk_at dksX5_beat_1 10 rfl rfl)
abbrev cX5_told : ByteArray := prog_10_method_45_code
def yX5_told : MethodName := ⟨RX5, "told", "(II)I"⟩
def dkwX5_told_6 : List UInt8 := [153, 0, 7, 4, 167, 0, 4, 3, 172]
abbrev dktX5_told_6 : List UInt8 := dkwX5_told_6 ++ []
def dkwX5_told_5 : List UInt8 := [28, 8, 160, 0, 15, 42, 29, 42, 180, 0, 87, 182, 0, 189, 167, 0, 16, 42, 29, 182, 0, 147]
abbrev dktX5_told_5 : List UInt8 := dkwX5_told_5 ++ dktX5_told_6
def dkwX5_told_4 : List UInt8 := [29, 182, 0, 160, 167, 0, 50, 28, 7, 160, 0, 15, 42, 29, 42, 180, 0, 84, 182, 0, 189, 167, 0, 33]
abbrev dktX5_told_4 : List UInt8 := dkwX5_told_4 ++ dktX5_told_5
def dkwX5_told_3 : List UInt8 := [46, 167, 0, 77, 28, 5, 160, 0, 12, 42, 180, 0, 63, 29, 46, 167, 0, 63, 28, 6, 160, 0, 11, 42]
abbrev dktX5_told_3 : List UInt8 := dkwX5_told_3 ++ dktX5_told_4
def dkwX5_told_2 : List UInt8 := [62, 28, 154, 0, 12, 42, 180, 0, 72, 29, 46, 167, 0, 91, 28, 4, 160, 0, 12, 42, 180, 0, 60, 29]
abbrev dktX5_told_2 : List UInt8 := dkwX5_told_2 ++ dktX5_told_3
def dkwX5_told_1 : List UInt8 := [184, 0, 96, 154, 0, 7, 5, 167, 0, 4, 3, 181, 0, 93, 42, 180, 0, 93, 158, 0, 5, 3, 172, 27]
abbrev dktX5_told_1 : List UInt8 := dkwX5_told_1 ++ dktX5_told_2
def dkwX5_told_0 : List UInt8 := [42, 27, 3, 42, 180, 0, 125, 4, 100, 184, 0, 96, 154, 0, 7, 4, 167, 0, 18, 28, 3, 16, 6]
abbrev dktX5_told_0 : List UInt8 := dkwX5_told_0 ++ dktX5_told_1
theorem dksX5_told_0 : cX5_told.data.toList.drop 0 = dktX5_told_0 := by decide +kernel
theorem dksX5_told_1 : cX5_told.data.toList.drop 23 = dktX5_told_1 := dk_seg dksX5_told_0 23 rfl rfl
theorem dksX5_told_2 : cX5_told.data.toList.drop 47 = dktX5_told_2 := dk_seg dksX5_told_1 24 rfl rfl
theorem dksX5_told_3 : cX5_told.data.toList.drop 71 = dktX5_told_3 := dk_seg dksX5_told_2 24 rfl rfl
theorem dksX5_told_4 : cX5_told.data.toList.drop 95 = dktX5_told_4 := dk_seg dksX5_told_3 24 rfl rfl
theorem dksX5_told_5 : cX5_told.data.toList.drop 119 = dktX5_told_5 := dk_seg dksX5_told_4 24 rfl rfl
theorem dksX5_told_6 : cX5_told.data.toList.drop 141 = dktX5_told_6 := dk_seg dksX5_told_5 22 rfl rfl
theorem dX5_told_0 : decode cX5_told 0 = .ok (.aload_n 0, 1) := dk_42 (dk_at dksX5_told_0 0 rfl rfl)
theorem dX5_told_1 : decode cX5_told 1 = .ok (.iload_n 1, 1) := dk_27 (dk_at dksX5_told_0 1 rfl rfl)
theorem dX5_told_2 : decode cX5_told 2 = .ok (.iconst 0, 1) := dk_3 (dk_at dksX5_told_0 2 rfl rfl)
theorem dX5_told_3 : decode cX5_told 3 = .ok (.aload_n 0, 1) := dk_42 (dk_at dksX5_told_0 3 rfl rfl)
theorem dX5_told_4 : decode cX5_told 4 = .ok (.getfield 125, 3) := dk_180 0 125 (dk_at dksX5_told_0 4 rfl rfl)
theorem dX5_told_7 : decode cX5_told 7 = .ok (.iconst 1, 1) := dk_4 (dk_at dksX5_told_0 7 rfl rfl)
theorem dX5_told_8 : decode cX5_told 8 = .ok (.isub, 1) := dk_100 (dk_at dksX5_told_0 8 rfl rfl)
theorem dX5_told_9 : decode cX5_told 9 = .ok (.invokestatic 96, 3) := dk_184 0 96 (dk_at dksX5_told_0 9 rfl rfl)
theorem dX5_told_12 : decode cX5_told 12 = .ok (.ifCond .ne 7, 3) := dk_154 0 7 (dk_at dksX5_told_0 12 rfl rfl)
theorem dX5_told_15 : decode cX5_told 15 = .ok (.iconst 1, 1) := dk_4 (dk_at dksX5_told_0 15 rfl rfl)
theorem dX5_told_16 : decode cX5_told 16 = .ok (.goto 18, 3) := dk_167 0 18 (dk_at dksX5_told_0 16 rfl rfl)
theorem dX5_told_19 : decode cX5_told 19 = .ok (.iload_n 2, 1) := dk_28 (dk_at dksX5_told_0 19 rfl rfl)
theorem dX5_told_20 : decode cX5_told 20 = .ok (.iconst 0, 1) := dk_3 (dk_at dksX5_told_0 20 rfl rfl)
theorem dX5_told_21 : decode cX5_told 21 = .ok (.bipush 6, 2) := dk_16 6 (dk_at dksX5_told_0 21 rfl rfl)
theorem dX5_told_23 : decode cX5_told 23 = .ok (.invokestatic 96, 3) := dk_184 0 96 (dk_at dksX5_told_1 0 rfl rfl)
theorem dX5_told_26 : decode cX5_told 26 = .ok (.ifCond .ne 7, 3) := dk_154 0 7 (dk_at dksX5_told_1 3 rfl rfl)
theorem dX5_told_29 : decode cX5_told 29 = .ok (.iconst 2, 1) := dk_5 (dk_at dksX5_told_1 6 rfl rfl)
theorem dX5_told_30 : decode cX5_told 30 = .ok (.goto 4, 3) := dk_167 0 4 (dk_at dksX5_told_1 7 rfl rfl)
theorem dX5_told_33 : decode cX5_told 33 = .ok (.iconst 0, 1) := dk_3 (dk_at dksX5_told_1 10 rfl rfl)
theorem dX5_told_34 : decode cX5_told 34 = .ok (.putfield 93, 3) := dk_181 0 93 (dk_at dksX5_told_1 11 rfl rfl)
theorem dX5_told_37 : decode cX5_told 37 = .ok (.aload_n 0, 1) := dk_42 (dk_at dksX5_told_1 14 rfl rfl)
theorem dX5_told_38 : decode cX5_told 38 = .ok (.getfield 93, 3) := dk_180 0 93 (dk_at dksX5_told_1 15 rfl rfl)
theorem dX5_told_41 : decode cX5_told 41 = .ok (.ifCond .le 5, 3) := dk_158 0 5 (dk_at dksX5_told_1 18 rfl rfl)
theorem dX5_told_44 : decode cX5_told 44 = .ok (.iconst 0, 1) := dk_3 (dk_at dksX5_told_1 21 rfl rfl)
theorem dX5_told_45 : decode cX5_told 45 = .ok (.ireturn, 1) := dk_172 (dk_at dksX5_told_1 22 rfl rfl)
theorem dX5_told_46 : decode cX5_told 46 = .ok (.iload_n 1, 1) := dk_27 (dk_at dksX5_told_1 23 rfl rfl)
theorem dX5_told_47 : decode cX5_told 47 = .ok (.istore_n 3, 1) := dk_62 (dk_at dksX5_told_2 0 rfl rfl)
theorem dX5_told_48 : decode cX5_told 48 = .ok (.iload_n 2, 1) := dk_28 (dk_at dksX5_told_2 1 rfl rfl)
theorem dX5_told_49 : decode cX5_told 49 = .ok (.ifCond .ne 12, 3) := dk_154 0 12 (dk_at dksX5_told_2 2 rfl rfl)
theorem dX5_told_52 : decode cX5_told 52 = .ok (.aload_n 0, 1) := dk_42 (dk_at dksX5_told_2 5 rfl rfl)
theorem dX5_told_53 : decode cX5_told 53 = .ok (.getfield 72, 3) := dk_180 0 72 (dk_at dksX5_told_2 6 rfl rfl)
theorem dX5_told_56 : decode cX5_told 56 = .ok (.iload_n 3, 1) := dk_29 (dk_at dksX5_told_2 9 rfl rfl)
theorem dX5_told_57 : decode cX5_told 57 = .ok (.iaload, 1) := dk_46 (dk_at dksX5_told_2 10 rfl rfl)
theorem dX5_told_58 : decode cX5_told 58 = .ok (.goto 91, 3) := dk_167 0 91 (dk_at dksX5_told_2 11 rfl rfl)
theorem dX5_told_61 : decode cX5_told 61 = .ok (.iload_n 2, 1) := dk_28 (dk_at dksX5_told_2 14 rfl rfl)
theorem dX5_told_62 : decode cX5_told 62 = .ok (.iconst 1, 1) := dk_4 (dk_at dksX5_told_2 15 rfl rfl)
theorem dX5_told_63 : decode cX5_told 63 = .ok (.if_icmp .ne 12, 3) := dk_160 0 12 (dk_at dksX5_told_2 16 rfl rfl)
theorem dX5_told_66 : decode cX5_told 66 = .ok (.aload_n 0, 1) := dk_42 (dk_at dksX5_told_2 19 rfl rfl)
theorem dX5_told_67 : decode cX5_told 67 = .ok (.getfield 60, 3) := dk_180 0 60 (dk_at dksX5_told_2 20 rfl rfl)
theorem dX5_told_70 : decode cX5_told 70 = .ok (.iload_n 3, 1) := dk_29 (dk_at dksX5_told_2 23 rfl rfl)
theorem dX5_told_71 : decode cX5_told 71 = .ok (.iaload, 1) := dk_46 (dk_at dksX5_told_3 0 rfl rfl)
theorem dX5_told_72 : decode cX5_told 72 = .ok (.goto 77, 3) := dk_167 0 77 (dk_at dksX5_told_3 1 rfl rfl)
theorem dX5_told_75 : decode cX5_told 75 = .ok (.iload_n 2, 1) := dk_28 (dk_at dksX5_told_3 4 rfl rfl)
theorem dX5_told_76 : decode cX5_told 76 = .ok (.iconst 2, 1) := dk_5 (dk_at dksX5_told_3 5 rfl rfl)
theorem dX5_told_77 : decode cX5_told 77 = .ok (.if_icmp .ne 12, 3) := dk_160 0 12 (dk_at dksX5_told_3 6 rfl rfl)
theorem dX5_told_80 : decode cX5_told 80 = .ok (.aload_n 0, 1) := dk_42 (dk_at dksX5_told_3 9 rfl rfl)
theorem dX5_told_81 : decode cX5_told 81 = .ok (.getfield 63, 3) := dk_180 0 63 (dk_at dksX5_told_3 10 rfl rfl)
theorem dX5_told_84 : decode cX5_told 84 = .ok (.iload_n 3, 1) := dk_29 (dk_at dksX5_told_3 13 rfl rfl)
theorem dX5_told_85 : decode cX5_told 85 = .ok (.iaload, 1) := dk_46 (dk_at dksX5_told_3 14 rfl rfl)
theorem dX5_told_86 : decode cX5_told 86 = .ok (.goto 63, 3) := dk_167 0 63 (dk_at dksX5_told_3 15 rfl rfl)
theorem dX5_told_89 : decode cX5_told 89 = .ok (.iload_n 2, 1) := dk_28 (dk_at dksX5_told_3 18 rfl rfl)
theorem dX5_told_90 : decode cX5_told 90 = .ok (.iconst 3, 1) := dk_6 (dk_at dksX5_told_3 19 rfl rfl)
theorem dX5_told_91 : decode cX5_told 91 = .ok (.if_icmp .ne 11, 3) := dk_160 0 11 (dk_at dksX5_told_3 20 rfl rfl)
theorem dX5_told_94 : decode cX5_told 94 = .ok (.aload_n 0, 1) := dk_42 (dk_at dksX5_told_3 23 rfl rfl)
theorem dX5_told_95 : decode cX5_told 95 = .ok (.iload_n 3, 1) := dk_29 (dk_at dksX5_told_4 0 rfl rfl)
theorem dX5_told_96 : decode cX5_told 96 = .ok (.invokevirtual 160, 3) := dk_182 0 160 (dk_at dksX5_told_4 1 rfl rfl)
theorem dX5_told_99 : decode cX5_told 99 = .ok (.goto 50, 3) := dk_167 0 50 (dk_at dksX5_told_4 4 rfl rfl)
theorem dX5_told_102 : decode cX5_told 102 = .ok (.iload_n 2, 1) := dk_28 (dk_at dksX5_told_4 7 rfl rfl)
theorem dX5_told_103 : decode cX5_told 103 = .ok (.iconst 4, 1) := dk_7 (dk_at dksX5_told_4 8 rfl rfl)
theorem dX5_told_104 : decode cX5_told 104 = .ok (.if_icmp .ne 15, 3) := dk_160 0 15 (dk_at dksX5_told_4 9 rfl rfl)
theorem dX5_told_107 : decode cX5_told 107 = .ok (.aload_n 0, 1) := dk_42 (dk_at dksX5_told_4 12 rfl rfl)
theorem dX5_told_108 : decode cX5_told 108 = .ok (.iload_n 3, 1) := dk_29 (dk_at dksX5_told_4 13 rfl rfl)
theorem dX5_told_109 : decode cX5_told 109 = .ok (.aload_n 0, 1) := dk_42 (dk_at dksX5_told_4 14 rfl rfl)
theorem dX5_told_110 : decode cX5_told 110 = .ok (.getfield 84, 3) := dk_180 0 84 (dk_at dksX5_told_4 15 rfl rfl)
theorem dX5_told_113 : decode cX5_told 113 = .ok (.invokevirtual 189, 3) := dk_182 0 189 (dk_at dksX5_told_4 18 rfl rfl)
theorem dX5_told_116 : decode cX5_told 116 = .ok (.goto 33, 3) := dk_167 0 33 (dk_at dksX5_told_4 21 rfl rfl)
theorem dX5_told_119 : decode cX5_told 119 = .ok (.iload_n 2, 1) := dk_28 (dk_at dksX5_told_5 0 rfl rfl)
theorem dX5_told_120 : decode cX5_told 120 = .ok (.iconst 5, 1) := dk_8 (dk_at dksX5_told_5 1 rfl rfl)
theorem dX5_told_121 : decode cX5_told 121 = .ok (.if_icmp .ne 15, 3) := dk_160 0 15 (dk_at dksX5_told_5 2 rfl rfl)
theorem dX5_told_124 : decode cX5_told 124 = .ok (.aload_n 0, 1) := dk_42 (dk_at dksX5_told_5 5 rfl rfl)
theorem dX5_told_125 : decode cX5_told 125 = .ok (.iload_n 3, 1) := dk_29 (dk_at dksX5_told_5 6 rfl rfl)
theorem dX5_told_126 : decode cX5_told 126 = .ok (.aload_n 0, 1) := dk_42 (dk_at dksX5_told_5 7 rfl rfl)
theorem dX5_told_127 : decode cX5_told 127 = .ok (.getfield 87, 3) := dk_180 0 87 (dk_at dksX5_told_5 8 rfl rfl)
theorem dX5_told_130 : decode cX5_told 130 = .ok (.invokevirtual 189, 3) := dk_182 0 189 (dk_at dksX5_told_5 11 rfl rfl)
theorem dX5_told_133 : decode cX5_told 133 = .ok (.goto 16, 3) := dk_167 0 16 (dk_at dksX5_told_5 14 rfl rfl)
theorem dX5_told_136 : decode cX5_told 136 = .ok (.aload_n 0, 1) := dk_42 (dk_at dksX5_told_5 17 rfl rfl)
theorem dX5_told_137 : decode cX5_told 137 = .ok (.iload_n 3, 1) := dk_29 (dk_at dksX5_told_5 18 rfl rfl)
theorem dX5_told_138 : decode cX5_told 138 = .ok (.invokevirtual 147, 3) := dk_182 0 147 (dk_at dksX5_told_5 19 rfl rfl)
theorem dX5_told_141 : decode cX5_told 141 = .ok (.ifCond .eq 7, 3) := dk_153 0 7 (dk_at dksX5_told_6 0 rfl rfl)
theorem dX5_told_144 : decode cX5_told 144 = .ok (.iconst 1, 1) := dk_4 (dk_at dksX5_told_6 3 rfl rfl)
theorem dX5_told_145 : decode cX5_told 145 = .ok (.goto 4, 3) := dk_167 0 4 (dk_at dksX5_told_6 4 rfl rfl)
theorem dX5_told_148 : decode cX5_told 148 = .ok (.iconst 0, 1) := dk_3 (dk_at dksX5_told_6 7 rfl rfl)
theorem dX5_told_149 : decode cX5_told 149 = .ok (.ireturn, 1) := dk_172 (dk_at dksX5_told_6 8 rfl rfl)
abbrev cX5_key : ByteArray := prog_10_method_46_code
def yX5_key : MethodName := ⟨RX5, "key", "(II)I"⟩
def dkwX5_key_7 : List UInt8 := [46, 2, 159, 0, 16, 42, 180, 0, 33, 27, 51, 153, 0, 7, 4, 167, 0, 4, 3, 172]
abbrev dktX5_key_7 : List UInt8 := dkwX5_key_7 ++ []
def dkwX5_key_6 : List UInt8 := [182, 0, 115, 167, 0, 40, 28, 8, 160, 0, 11, 42, 27, 182, 0, 118, 167, 0, 27, 42, 180, 0, 30, 27]
abbrev dktX5_key_6 : List UInt8 := dkwX5_key_6 ++ dktX5_key_7
def dkwX5_key_5 : List UInt8 := [167, 0, 67, 28, 6, 160, 0, 12, 42, 180, 0, 42, 27, 46, 167, 0, 53, 28, 7, 160, 0, 11, 42, 27]
abbrev dktX5_key_5 : List UInt8 := dkwX5_key_5 ++ dktX5_key_6
def dkwX5_key_4 : List UInt8 := [160, 0, 12, 42, 180, 0, 30, 27, 46, 167, 0, 81, 28, 5, 160, 0, 12, 42, 180, 0, 39, 27, 46]
abbrev dktX5_key_4 : List UInt8 := dkwX5_key_4 ++ dktX5_key_5
def dkwX5_key_3 : List UInt8 := [167, 0, 4, 3, 96, 62, 132, 4, 1, 167, 255, 225, 28, 154, 0, 7, 29, 167, 0, 95, 28, 4]
abbrev dktX5_key_3 : List UInt8 := dkwX5_key_3 ++ dktX5_key_4
def dkwX5_key_2 : List UInt8 := [54, 4, 21, 4, 42, 180, 0, 135, 162, 0, 28, 29, 42, 180, 0, 45, 21, 4, 46, 27, 160, 0, 7, 4]
abbrev dktX5_key_2 : List UInt8 := dkwX5_key_2 ++ dktX5_key_3
def dkwX5_key_1 : List UInt8 := [154, 0, 7, 5, 167, 0, 4, 3, 181, 0, 93, 42, 180, 0, 93, 158, 0, 5, 3, 172, 3, 62, 3]
abbrev dktX5_key_1 : List UInt8 := dkwX5_key_1 ++ dktX5_key_2
def dkwX5_key_0 : List UInt8 := [42, 27, 3, 16, 31, 184, 0, 96, 154, 0, 7, 4, 167, 0, 18, 28, 3, 16, 6, 184, 0, 96]
abbrev dktX5_key_0 : List UInt8 := dkwX5_key_0 ++ dktX5_key_1
theorem dksX5_key_0 : cX5_key.data.toList.drop 0 = dktX5_key_0 := by decide +kernel
theorem dksX5_key_1 : cX5_key.data.toList.drop 22 = dktX5_key_1 := dk_seg dksX5_key_0 22 rfl rfl
theorem dksX5_key_2 : cX5_key.data.toList.drop 45 = dktX5_key_2 := dk_seg dksX5_key_1 23 rfl rfl
theorem dksX5_key_3 : cX5_key.data.toList.drop 69 = dktX5_key_3 := dk_seg dksX5_key_2 24 rfl rfl
theorem dksX5_key_4 : cX5_key.data.toList.drop 91 = dktX5_key_4 := dk_seg dksX5_key_3 22 rfl rfl
theorem dksX5_key_5 : cX5_key.data.toList.drop 114 = dktX5_key_5 := dk_seg dksX5_key_4 23 rfl rfl
theorem dksX5_key_6 : cX5_key.data.toList.drop 138 = dktX5_key_6 := dk_seg dksX5_key_5 24 rfl rfl
theorem dksX5_key_7 : cX5_key.data.toList.drop 162 = dktX5_key_7 := dk_seg dksX5_key_6 24 rfl rfl
theorem dX5_key_0 : decode cX5_key 0 = .ok (.aload_n 0, 1) := dk_42 (dk_at dksX5_key_0 0 rfl rfl)
theorem dX5_key_1 : decode cX5_key 1 = .ok (.iload_n 1, 1) := dk_27 (dk_at dksX5_key_0 1 rfl rfl)
theorem dX5_key_2 : decode cX5_key 2 = .ok (.iconst 0, 1) := dk_3 (dk_at dksX5_key_0 2 rfl rfl)
theorem dX5_key_3 : decode cX5_key 3 = .ok (.bipush 31, 2) := dk_16 31 (dk_at dksX5_key_0 3 rfl rfl)
theorem dX5_key_5 : decode cX5_key 5 = .ok (.invokestatic 96, 3) := dk_184 0 96 (dk_at dksX5_key_0 5 rfl rfl)
theorem dX5_key_8 : decode cX5_key 8 = .ok (.ifCond .ne 7, 3) := dk_154 0 7 (dk_at dksX5_key_0 8 rfl rfl)
theorem dX5_key_11 : decode cX5_key 11 = .ok (.iconst 1, 1) := dk_4 (dk_at dksX5_key_0 11 rfl rfl)
theorem dX5_key_12 : decode cX5_key 12 = .ok (.goto 18, 3) := dk_167 0 18 (dk_at dksX5_key_0 12 rfl rfl)
theorem dX5_key_15 : decode cX5_key 15 = .ok (.iload_n 2, 1) := dk_28 (dk_at dksX5_key_0 15 rfl rfl)
theorem dX5_key_16 : decode cX5_key 16 = .ok (.iconst 0, 1) := dk_3 (dk_at dksX5_key_0 16 rfl rfl)
theorem dX5_key_17 : decode cX5_key 17 = .ok (.bipush 6, 2) := dk_16 6 (dk_at dksX5_key_0 17 rfl rfl)
theorem dX5_key_19 : decode cX5_key 19 = .ok (.invokestatic 96, 3) := dk_184 0 96 (dk_at dksX5_key_0 19 rfl rfl)
theorem dX5_key_22 : decode cX5_key 22 = .ok (.ifCond .ne 7, 3) := dk_154 0 7 (dk_at dksX5_key_1 0 rfl rfl)
theorem dX5_key_25 : decode cX5_key 25 = .ok (.iconst 2, 1) := dk_5 (dk_at dksX5_key_1 3 rfl rfl)
theorem dX5_key_26 : decode cX5_key 26 = .ok (.goto 4, 3) := dk_167 0 4 (dk_at dksX5_key_1 4 rfl rfl)
theorem dX5_key_29 : decode cX5_key 29 = .ok (.iconst 0, 1) := dk_3 (dk_at dksX5_key_1 7 rfl rfl)
theorem dX5_key_30 : decode cX5_key 30 = .ok (.putfield 93, 3) := dk_181 0 93 (dk_at dksX5_key_1 8 rfl rfl)
theorem dX5_key_33 : decode cX5_key 33 = .ok (.aload_n 0, 1) := dk_42 (dk_at dksX5_key_1 11 rfl rfl)
theorem dX5_key_34 : decode cX5_key 34 = .ok (.getfield 93, 3) := dk_180 0 93 (dk_at dksX5_key_1 12 rfl rfl)
theorem dX5_key_37 : decode cX5_key 37 = .ok (.ifCond .le 5, 3) := dk_158 0 5 (dk_at dksX5_key_1 15 rfl rfl)
theorem dX5_key_40 : decode cX5_key 40 = .ok (.iconst 0, 1) := dk_3 (dk_at dksX5_key_1 18 rfl rfl)
theorem dX5_key_41 : decode cX5_key 41 = .ok (.ireturn, 1) := dk_172 (dk_at dksX5_key_1 19 rfl rfl)
theorem dX5_key_42 : decode cX5_key 42 = .ok (.iconst 0, 1) := dk_3 (dk_at dksX5_key_1 20 rfl rfl)
theorem dX5_key_43 : decode cX5_key 43 = .ok (.istore_n 3, 1) := dk_62 (dk_at dksX5_key_1 21 rfl rfl)
theorem dX5_key_44 : decode cX5_key 44 = .ok (.iconst 0, 1) := dk_3 (dk_at dksX5_key_1 22 rfl rfl)
theorem dX5_key_45 : decode cX5_key 45 = .ok (.istore 4, 2) := dk_54 4 (dk_at dksX5_key_2 0 rfl rfl)
theorem dX5_key_47 : decode cX5_key 47 = .ok (.iload 4, 2) := dk_21 4 (dk_at dksX5_key_2 2 rfl rfl)
theorem dX5_key_49 : decode cX5_key 49 = .ok (.aload_n 0, 1) := dk_42 (dk_at dksX5_key_2 4 rfl rfl)
theorem dX5_key_50 : decode cX5_key 50 = .ok (.getfield 135, 3) := dk_180 0 135 (dk_at dksX5_key_2 5 rfl rfl)
theorem dX5_key_53 : decode cX5_key 53 = .ok (.if_icmp .ge 28, 3) := dk_162 0 28 (dk_at dksX5_key_2 8 rfl rfl)
theorem dX5_key_56 : decode cX5_key 56 = .ok (.iload_n 3, 1) := dk_29 (dk_at dksX5_key_2 11 rfl rfl)
theorem dX5_key_57 : decode cX5_key 57 = .ok (.aload_n 0, 1) := dk_42 (dk_at dksX5_key_2 12 rfl rfl)
theorem dX5_key_58 : decode cX5_key 58 = .ok (.getfield 45, 3) := dk_180 0 45 (dk_at dksX5_key_2 13 rfl rfl)
theorem dX5_key_61 : decode cX5_key 61 = .ok (.iload 4, 2) := dk_21 4 (dk_at dksX5_key_2 16 rfl rfl)
theorem dX5_key_63 : decode cX5_key 63 = .ok (.iaload, 1) := dk_46 (dk_at dksX5_key_2 18 rfl rfl)
theorem dX5_key_64 : decode cX5_key 64 = .ok (.iload_n 1, 1) := dk_27 (dk_at dksX5_key_2 19 rfl rfl)
theorem dX5_key_65 : decode cX5_key 65 = .ok (.if_icmp .ne 7, 3) := dk_160 0 7 (dk_at dksX5_key_2 20 rfl rfl)
theorem dX5_key_68 : decode cX5_key 68 = .ok (.iconst 1, 1) := dk_4 (dk_at dksX5_key_2 23 rfl rfl)
theorem dX5_key_69 : decode cX5_key 69 = .ok (.goto 4, 3) := dk_167 0 4 (dk_at dksX5_key_3 0 rfl rfl)
theorem dX5_key_72 : decode cX5_key 72 = .ok (.iconst 0, 1) := dk_3 (dk_at dksX5_key_3 3 rfl rfl)
theorem dX5_key_73 : decode cX5_key 73 = .ok (.iadd, 1) := dk_96 (dk_at dksX5_key_3 4 rfl rfl)
theorem dX5_key_74 : decode cX5_key 74 = .ok (.istore_n 3, 1) := dk_62 (dk_at dksX5_key_3 5 rfl rfl)
theorem dX5_key_75 : decode cX5_key 75 = .ok (.iinc 4 1, 3) := dk_132 4 1 (dk_at dksX5_key_3 6 rfl rfl)
theorem dX5_key_78 : decode cX5_key 78 = .ok (.goto (-31), 3) := dk_167 255 225 (dk_at dksX5_key_3 9 rfl rfl)
theorem dX5_key_81 : decode cX5_key 81 = .ok (.iload_n 2, 1) := dk_28 (dk_at dksX5_key_3 12 rfl rfl)
theorem dX5_key_82 : decode cX5_key 82 = .ok (.ifCond .ne 7, 3) := dk_154 0 7 (dk_at dksX5_key_3 13 rfl rfl)
theorem dX5_key_85 : decode cX5_key 85 = .ok (.iload_n 3, 1) := dk_29 (dk_at dksX5_key_3 16 rfl rfl)
theorem dX5_key_86 : decode cX5_key 86 = .ok (.goto 95, 3) := dk_167 0 95 (dk_at dksX5_key_3 17 rfl rfl)
theorem dX5_key_89 : decode cX5_key 89 = .ok (.iload_n 2, 1) := dk_28 (dk_at dksX5_key_3 20 rfl rfl)
theorem dX5_key_90 : decode cX5_key 90 = .ok (.iconst 1, 1) := dk_4 (dk_at dksX5_key_3 21 rfl rfl)
theorem dX5_key_91 : decode cX5_key 91 = .ok (.if_icmp .ne 12, 3) := dk_160 0 12 (dk_at dksX5_key_4 0 rfl rfl)
theorem dX5_key_94 : decode cX5_key 94 = .ok (.aload_n 0, 1) := dk_42 (dk_at dksX5_key_4 3 rfl rfl)
theorem dX5_key_95 : decode cX5_key 95 = .ok (.getfield 30, 3) := dk_180 0 30 (dk_at dksX5_key_4 4 rfl rfl)
theorem dX5_key_98 : decode cX5_key 98 = .ok (.iload_n 1, 1) := dk_27 (dk_at dksX5_key_4 7 rfl rfl)
theorem dX5_key_99 : decode cX5_key 99 = .ok (.iaload, 1) := dk_46 (dk_at dksX5_key_4 8 rfl rfl)
theorem dX5_key_100 : decode cX5_key 100 = .ok (.goto 81, 3) := dk_167 0 81 (dk_at dksX5_key_4 9 rfl rfl)
theorem dX5_key_103 : decode cX5_key 103 = .ok (.iload_n 2, 1) := dk_28 (dk_at dksX5_key_4 12 rfl rfl)
theorem dX5_key_104 : decode cX5_key 104 = .ok (.iconst 2, 1) := dk_5 (dk_at dksX5_key_4 13 rfl rfl)
theorem dX5_key_105 : decode cX5_key 105 = .ok (.if_icmp .ne 12, 3) := dk_160 0 12 (dk_at dksX5_key_4 14 rfl rfl)
theorem dX5_key_108 : decode cX5_key 108 = .ok (.aload_n 0, 1) := dk_42 (dk_at dksX5_key_4 17 rfl rfl)
theorem dX5_key_109 : decode cX5_key 109 = .ok (.getfield 39, 3) := dk_180 0 39 (dk_at dksX5_key_4 18 rfl rfl)
theorem dX5_key_112 : decode cX5_key 112 = .ok (.iload_n 1, 1) := dk_27 (dk_at dksX5_key_4 21 rfl rfl)
theorem dX5_key_113 : decode cX5_key 113 = .ok (.iaload, 1) := dk_46 (dk_at dksX5_key_4 22 rfl rfl)
theorem dX5_key_114 : decode cX5_key 114 = .ok (.goto 67, 3) := dk_167 0 67 (dk_at dksX5_key_5 0 rfl rfl)
theorem dX5_key_117 : decode cX5_key 117 = .ok (.iload_n 2, 1) := dk_28 (dk_at dksX5_key_5 3 rfl rfl)
theorem dX5_key_118 : decode cX5_key 118 = .ok (.iconst 3, 1) := dk_6 (dk_at dksX5_key_5 4 rfl rfl)
theorem dX5_key_119 : decode cX5_key 119 = .ok (.if_icmp .ne 12, 3) := dk_160 0 12 (dk_at dksX5_key_5 5 rfl rfl)
theorem dX5_key_122 : decode cX5_key 122 = .ok (.aload_n 0, 1) := dk_42 (dk_at dksX5_key_5 8 rfl rfl)
theorem dX5_key_123 : decode cX5_key 123 = .ok (.getfield 42, 3) := dk_180 0 42 (dk_at dksX5_key_5 9 rfl rfl)
theorem dX5_key_126 : decode cX5_key 126 = .ok (.iload_n 1, 1) := dk_27 (dk_at dksX5_key_5 12 rfl rfl)
theorem dX5_key_127 : decode cX5_key 127 = .ok (.iaload, 1) := dk_46 (dk_at dksX5_key_5 13 rfl rfl)
theorem dX5_key_128 : decode cX5_key 128 = .ok (.goto 53, 3) := dk_167 0 53 (dk_at dksX5_key_5 14 rfl rfl)
theorem dX5_key_131 : decode cX5_key 131 = .ok (.iload_n 2, 1) := dk_28 (dk_at dksX5_key_5 17 rfl rfl)
theorem dX5_key_132 : decode cX5_key 132 = .ok (.iconst 4, 1) := dk_7 (dk_at dksX5_key_5 18 rfl rfl)
theorem dX5_key_133 : decode cX5_key 133 = .ok (.if_icmp .ne 11, 3) := dk_160 0 11 (dk_at dksX5_key_5 19 rfl rfl)
theorem dX5_key_136 : decode cX5_key 136 = .ok (.aload_n 0, 1) := dk_42 (dk_at dksX5_key_5 22 rfl rfl)
theorem dX5_key_137 : decode cX5_key 137 = .ok (.iload_n 1, 1) := dk_27 (dk_at dksX5_key_5 23 rfl rfl)
theorem dX5_key_138 : decode cX5_key 138 = .ok (.invokevirtual 115, 3) := dk_182 0 115 (dk_at dksX5_key_6 0 rfl rfl)
theorem dX5_key_141 : decode cX5_key 141 = .ok (.goto 40, 3) := dk_167 0 40 (dk_at dksX5_key_6 3 rfl rfl)
theorem dX5_key_144 : decode cX5_key 144 = .ok (.iload_n 2, 1) := dk_28 (dk_at dksX5_key_6 6 rfl rfl)
theorem dX5_key_145 : decode cX5_key 145 = .ok (.iconst 5, 1) := dk_8 (dk_at dksX5_key_6 7 rfl rfl)
theorem dX5_key_146 : decode cX5_key 146 = .ok (.if_icmp .ne 11, 3) := dk_160 0 11 (dk_at dksX5_key_6 8 rfl rfl)
theorem dX5_key_149 : decode cX5_key 149 = .ok (.aload_n 0, 1) := dk_42 (dk_at dksX5_key_6 11 rfl rfl)
theorem dX5_key_150 : decode cX5_key 150 = .ok (.iload_n 1, 1) := dk_27 (dk_at dksX5_key_6 12 rfl rfl)
theorem dX5_key_151 : decode cX5_key 151 = .ok (.invokevirtual 118, 3) := dk_182 0 118 (dk_at dksX5_key_6 13 rfl rfl)
theorem dX5_key_154 : decode cX5_key 154 = .ok (.goto 27, 3) := dk_167 0 27 (dk_at dksX5_key_6 16 rfl rfl)
theorem dX5_key_157 : decode cX5_key 157 = .ok (.aload_n 0, 1) := dk_42 (dk_at dksX5_key_6 19 rfl rfl)
theorem dX5_key_158 : decode cX5_key 158 = .ok (.getfield 30, 3) := dk_180 0 30 (dk_at dksX5_key_6 20 rfl rfl)
theorem dX5_key_161 : decode cX5_key 161 = .ok (.iload_n 1, 1) := dk_27 (dk_at dksX5_key_6 23 rfl rfl)
theorem dX5_key_162 : decode cX5_key 162 = .ok (.iaload, 1) := dk_46 (dk_at dksX5_key_7 0 rfl rfl)
theorem dX5_key_163 : decode cX5_key 163 = .ok (.iconst (-1), 1) := dk_2 (dk_at dksX5_key_7 1 rfl rfl)
theorem dX5_key_164 : decode cX5_key 164 = .ok (.if_icmp .eq 16, 3) := dk_159 0 16 (dk_at dksX5_key_7 2 rfl rfl)
theorem dX5_key_167 : decode cX5_key 167 = .ok (.aload_n 0, 1) := dk_42 (dk_at dksX5_key_7 5 rfl rfl)
theorem dX5_key_168 : decode cX5_key 168 = .ok (.getfield 33, 3) := dk_180 0 33 (dk_at dksX5_key_7 6 rfl rfl)
theorem dX5_key_171 : decode cX5_key 171 = .ok (.iload_n 1, 1) := dk_27 (dk_at dksX5_key_7 9 rfl rfl)
theorem dX5_key_172 : decode cX5_key 172 = .ok (.baload, 1) := dk_51 (dk_at dksX5_key_7 10 rfl rfl)
theorem dX5_key_173 : decode cX5_key 173 = .ok (.ifCond .eq 7, 3) := dk_153 0 7 (dk_at dksX5_key_7 11 rfl rfl)
theorem dX5_key_176 : decode cX5_key 176 = .ok (.iconst 1, 1) := dk_4 (dk_at dksX5_key_7 14 rfl rfl)
theorem dX5_key_177 : decode cX5_key 177 = .ok (.goto 4, 3) := dk_167 0 4 (dk_at dksX5_key_7 15 rfl rfl)
theorem dX5_key_180 : decode cX5_key 180 = .ok (.iconst 0, 1) := dk_3 (dk_at dksX5_key_7 18 rfl rfl)
theorem dX5_key_181 : decode cX5_key 181 = .ok (.ireturn, 1) := dk_172 (dk_at dksX5_key_7 19 rfl rfl)
abbrev cX5_asOf : ByteArray := prog_10_method_47_code
def yX5_asOf : MethodName := ⟨RX5, "asOf", "(II)I"⟩
def dkwX5_asOf_3 : List UInt8 := [28, 163, 0, 8, 16, 245, 167, 0, 9, 42, 27, 28, 182, 0, 182, 172]
abbrev dktX5_asOf_3 : List UInt8 := dkwX5_asOf_3 ++ []
def dkwX5_asOf_2 : List UInt8 := [27, 46, 62, 29, 2, 159, 0, 28, 42, 180, 0, 72, 29, 46, 4, 160, 0, 18, 42, 180, 0, 63, 29, 46]
abbrev dktX5_asOf_2 : List UInt8 := dkwX5_asOf_2 ++ dktX5_asOf_3
def dkwX5_asOf_1 : List UInt8 := [154, 0, 7, 5, 167, 0, 4, 3, 181, 0, 93, 42, 180, 0, 93, 158, 0, 5, 3, 172, 42, 180, 0, 30]
abbrev dktX5_asOf_1 : List UInt8 := dkwX5_asOf_1 ++ dktX5_asOf_2
def dkwX5_asOf_0 : List UInt8 := [42, 27, 3, 16, 31, 184, 0, 96, 154, 0, 7, 4, 167, 0, 20, 28, 3, 42, 182, 0, 111, 184, 0, 96]
abbrev dktX5_asOf_0 : List UInt8 := dkwX5_asOf_0 ++ dktX5_asOf_1
theorem dksX5_asOf_0 : cX5_asOf.data.toList.drop 0 = dktX5_asOf_0 := by decide +kernel
theorem dksX5_asOf_1 : cX5_asOf.data.toList.drop 24 = dktX5_asOf_1 := dk_seg dksX5_asOf_0 24 rfl rfl
theorem dksX5_asOf_2 : cX5_asOf.data.toList.drop 48 = dktX5_asOf_2 := dk_seg dksX5_asOf_1 24 rfl rfl
theorem dksX5_asOf_3 : cX5_asOf.data.toList.drop 72 = dktX5_asOf_3 := dk_seg dksX5_asOf_2 24 rfl rfl
theorem dX5_asOf_0 : decode cX5_asOf 0 = .ok (.aload_n 0, 1) := dk_42 (dk_at dksX5_asOf_0 0 rfl rfl)
theorem dX5_asOf_1 : decode cX5_asOf 1 = .ok (.iload_n 1, 1) := dk_27 (dk_at dksX5_asOf_0 1 rfl rfl)
theorem dX5_asOf_2 : decode cX5_asOf 2 = .ok (.iconst 0, 1) := dk_3 (dk_at dksX5_asOf_0 2 rfl rfl)
theorem dX5_asOf_3 : decode cX5_asOf 3 = .ok (.bipush 31, 2) := dk_16 31 (dk_at dksX5_asOf_0 3 rfl rfl)
theorem dX5_asOf_5 : decode cX5_asOf 5 = .ok (.invokestatic 96, 3) := dk_184 0 96 (dk_at dksX5_asOf_0 5 rfl rfl)
theorem dX5_asOf_8 : decode cX5_asOf 8 = .ok (.ifCond .ne 7, 3) := dk_154 0 7 (dk_at dksX5_asOf_0 8 rfl rfl)
theorem dX5_asOf_11 : decode cX5_asOf 11 = .ok (.iconst 1, 1) := dk_4 (dk_at dksX5_asOf_0 11 rfl rfl)
theorem dX5_asOf_12 : decode cX5_asOf 12 = .ok (.goto 20, 3) := dk_167 0 20 (dk_at dksX5_asOf_0 12 rfl rfl)
theorem dX5_asOf_15 : decode cX5_asOf 15 = .ok (.iload_n 2, 1) := dk_28 (dk_at dksX5_asOf_0 15 rfl rfl)
theorem dX5_asOf_16 : decode cX5_asOf 16 = .ok (.iconst 0, 1) := dk_3 (dk_at dksX5_asOf_0 16 rfl rfl)
theorem dX5_asOf_17 : decode cX5_asOf 17 = .ok (.aload_n 0, 1) := dk_42 (dk_at dksX5_asOf_0 17 rfl rfl)
theorem dX5_asOf_18 : decode cX5_asOf 18 = .ok (.invokevirtual 111, 3) := dk_182 0 111 (dk_at dksX5_asOf_0 18 rfl rfl)
theorem dX5_asOf_21 : decode cX5_asOf 21 = .ok (.invokestatic 96, 3) := dk_184 0 96 (dk_at dksX5_asOf_0 21 rfl rfl)
theorem dX5_asOf_24 : decode cX5_asOf 24 = .ok (.ifCond .ne 7, 3) := dk_154 0 7 (dk_at dksX5_asOf_1 0 rfl rfl)
theorem dX5_asOf_27 : decode cX5_asOf 27 = .ok (.iconst 2, 1) := dk_5 (dk_at dksX5_asOf_1 3 rfl rfl)
theorem dX5_asOf_28 : decode cX5_asOf 28 = .ok (.goto 4, 3) := dk_167 0 4 (dk_at dksX5_asOf_1 4 rfl rfl)
theorem dX5_asOf_31 : decode cX5_asOf 31 = .ok (.iconst 0, 1) := dk_3 (dk_at dksX5_asOf_1 7 rfl rfl)
theorem dX5_asOf_32 : decode cX5_asOf 32 = .ok (.putfield 93, 3) := dk_181 0 93 (dk_at dksX5_asOf_1 8 rfl rfl)
theorem dX5_asOf_35 : decode cX5_asOf 35 = .ok (.aload_n 0, 1) := dk_42 (dk_at dksX5_asOf_1 11 rfl rfl)
theorem dX5_asOf_36 : decode cX5_asOf 36 = .ok (.getfield 93, 3) := dk_180 0 93 (dk_at dksX5_asOf_1 12 rfl rfl)
theorem dX5_asOf_39 : decode cX5_asOf 39 = .ok (.ifCond .le 5, 3) := dk_158 0 5 (dk_at dksX5_asOf_1 15 rfl rfl)
theorem dX5_asOf_42 : decode cX5_asOf 42 = .ok (.iconst 0, 1) := dk_3 (dk_at dksX5_asOf_1 18 rfl rfl)
theorem dX5_asOf_43 : decode cX5_asOf 43 = .ok (.ireturn, 1) := dk_172 (dk_at dksX5_asOf_1 19 rfl rfl)
theorem dX5_asOf_44 : decode cX5_asOf 44 = .ok (.aload_n 0, 1) := dk_42 (dk_at dksX5_asOf_1 20 rfl rfl)
theorem dX5_asOf_45 : decode cX5_asOf 45 = .ok (.getfield 30, 3) := dk_180 0 30 (dk_at dksX5_asOf_1 21 rfl rfl)
theorem dX5_asOf_48 : decode cX5_asOf 48 = .ok (.iload_n 1, 1) := dk_27 (dk_at dksX5_asOf_2 0 rfl rfl)
theorem dX5_asOf_49 : decode cX5_asOf 49 = .ok (.iaload, 1) := dk_46 (dk_at dksX5_asOf_2 1 rfl rfl)
theorem dX5_asOf_50 : decode cX5_asOf 50 = .ok (.istore_n 3, 1) := dk_62 (dk_at dksX5_asOf_2 2 rfl rfl)
theorem dX5_asOf_51 : decode cX5_asOf 51 = .ok (.iload_n 3, 1) := dk_29 (dk_at dksX5_asOf_2 3 rfl rfl)
theorem dX5_asOf_52 : decode cX5_asOf 52 = .ok (.iconst (-1), 1) := dk_2 (dk_at dksX5_asOf_2 4 rfl rfl)
theorem dX5_asOf_53 : decode cX5_asOf 53 = .ok (.if_icmp .eq 28, 3) := dk_159 0 28 (dk_at dksX5_asOf_2 5 rfl rfl)
theorem dX5_asOf_56 : decode cX5_asOf 56 = .ok (.aload_n 0, 1) := dk_42 (dk_at dksX5_asOf_2 8 rfl rfl)
theorem dX5_asOf_57 : decode cX5_asOf 57 = .ok (.getfield 72, 3) := dk_180 0 72 (dk_at dksX5_asOf_2 9 rfl rfl)
theorem dX5_asOf_60 : decode cX5_asOf 60 = .ok (.iload_n 3, 1) := dk_29 (dk_at dksX5_asOf_2 12 rfl rfl)
theorem dX5_asOf_61 : decode cX5_asOf 61 = .ok (.iaload, 1) := dk_46 (dk_at dksX5_asOf_2 13 rfl rfl)
theorem dX5_asOf_62 : decode cX5_asOf 62 = .ok (.iconst 1, 1) := dk_4 (dk_at dksX5_asOf_2 14 rfl rfl)
theorem dX5_asOf_63 : decode cX5_asOf 63 = .ok (.if_icmp .ne 18, 3) := dk_160 0 18 (dk_at dksX5_asOf_2 15 rfl rfl)
theorem dX5_asOf_66 : decode cX5_asOf 66 = .ok (.aload_n 0, 1) := dk_42 (dk_at dksX5_asOf_2 18 rfl rfl)
theorem dX5_asOf_67 : decode cX5_asOf 67 = .ok (.getfield 63, 3) := dk_180 0 63 (dk_at dksX5_asOf_2 19 rfl rfl)
theorem dX5_asOf_70 : decode cX5_asOf 70 = .ok (.iload_n 3, 1) := dk_29 (dk_at dksX5_asOf_2 22 rfl rfl)
theorem dX5_asOf_71 : decode cX5_asOf 71 = .ok (.iaload, 1) := dk_46 (dk_at dksX5_asOf_2 23 rfl rfl)
theorem dX5_asOf_72 : decode cX5_asOf 72 = .ok (.iload_n 2, 1) := dk_28 (dk_at dksX5_asOf_3 0 rfl rfl)
theorem dX5_asOf_73 : decode cX5_asOf 73 = .ok (.if_icmp .gt 8, 3) := dk_163 0 8 (dk_at dksX5_asOf_3 1 rfl rfl)
theorem dX5_asOf_76 : decode cX5_asOf 76 = .ok (.bipush (-11), 2) := dk_16 245 (dk_at dksX5_asOf_3 4 rfl rfl)
theorem dX5_asOf_78 : decode cX5_asOf 78 = .ok (.goto 9, 3) := dk_167 0 9 (dk_at dksX5_asOf_3 6 rfl rfl)
theorem dX5_asOf_81 : decode cX5_asOf 81 = .ok (.aload_n 0, 1) := dk_42 (dk_at dksX5_asOf_3 9 rfl rfl)
theorem dX5_asOf_82 : decode cX5_asOf 82 = .ok (.iload_n 1, 1) := dk_27 (dk_at dksX5_asOf_3 10 rfl rfl)
theorem dX5_asOf_83 : decode cX5_asOf 83 = .ok (.iload_n 2, 1) := dk_28 (dk_at dksX5_asOf_3 11 rfl rfl)
theorem dX5_asOf_84 : decode cX5_asOf 84 = .ok (.invokevirtual 182, 3) := dk_182 0 182 (dk_at dksX5_asOf_3 12 rfl rfl)
theorem dX5_asOf_87 : decode cX5_asOf 87 = .ok (.ireturn, 1) := dk_172 (dk_at dksX5_asOf_3 15 rfl rfl)
abbrev cX5_resolved : ByteArray := prog_10_method_49_code
def yX5_resolved : MethodName := ⟨RX5, "resolved", "()I"⟩
def dkwX5_resolved_0 : List UInt8 := [42, 3, 181, 0, 93, 42, 182, 0, 193, 172]
abbrev dktX5_resolved_0 : List UInt8 := dkwX5_resolved_0 ++ []
theorem dksX5_resolved_0 : cX5_resolved.data.toList.drop 0 = dktX5_resolved_0 := by decide +kernel
theorem dX5_resolved_0 : decode cX5_resolved 0 = .ok (.aload_n 0, 1) := dk_42 (dk_at dksX5_resolved_0 0 rfl rfl)
theorem dX5_resolved_1 : decode cX5_resolved 1 = .ok (.iconst 0, 1) := dk_3 (dk_at dksX5_resolved_0 1 rfl rfl)
theorem dX5_resolved_2 : decode cX5_resolved 2 = .ok (.putfield 93, 3) := dk_181 0 93 (dk_at dksX5_resolved_0 2 rfl rfl)
theorem dX5_resolved_5 : decode cX5_resolved 5 = .ok (.aload_n 0, 1) := dk_42 (dk_at dksX5_resolved_0 5 rfl rfl)
theorem dX5_resolved_6 : decode cX5_resolved 6 = .ok (.invokevirtual 193, 3) := dk_182 0 193 (dk_at dksX5_resolved_0 6 rfl rfl)
theorem dX5_resolved_9 : decode cX5_resolved 9 = .ok (.ireturn, 1) := dk_172 (dk_at dksX5_resolved_0 9 rfl rfl)
abbrev cX5_resolvedNow : ByteArray := prog_10_method_48_code
def yX5_resolvedNow : MethodName := ⟨RX5, "resolvedNow", "()I"⟩
def dkwX5_resolvedNow_2 : List UInt8 := [167, 0, 4, 27, 60, 132, 2, 1, 167, 255, 210, 27, 172]
abbrev dktX5_resolvedNow_2 : List UInt8 := dkwX5_resolvedNow_2 ++ []
def dkwX5_resolvedNow_1 : List UInt8 := [160, 0, 26, 42, 180, 0, 63, 28, 46, 4, 100, 27, 162, 0, 14, 42, 180, 0, 63, 28, 46, 4, 100]
abbrev dktX5_resolvedNow_1 : List UInt8 := dkwX5_resolvedNow_1 ++ dktX5_resolvedNow_2
def dkwX5_resolvedNow_0 : List UInt8 := [42, 182, 0, 111, 60, 3, 61, 28, 42, 180, 0, 125, 162, 0, 44, 42, 180, 0, 72, 28, 46, 4]
abbrev dktX5_resolvedNow_0 : List UInt8 := dkwX5_resolvedNow_0 ++ dktX5_resolvedNow_1
theorem dksX5_resolvedNow_0 : cX5_resolvedNow.data.toList.drop 0 = dktX5_resolvedNow_0 := by decide +kernel
theorem dksX5_resolvedNow_1 : cX5_resolvedNow.data.toList.drop 22 = dktX5_resolvedNow_1 := dk_seg dksX5_resolvedNow_0 22 rfl rfl
theorem dksX5_resolvedNow_2 : cX5_resolvedNow.data.toList.drop 45 = dktX5_resolvedNow_2 := dk_seg dksX5_resolvedNow_1 23 rfl rfl
theorem dX5_resolvedNow_0 : decode cX5_resolvedNow 0 = .ok (.aload_n 0, 1) := dk_42 (dk_at dksX5_resolvedNow_0 0 rfl rfl)
theorem dX5_resolvedNow_1 : decode cX5_resolvedNow 1 = .ok (.invokevirtual 111, 3) := dk_182 0 111 (dk_at dksX5_resolvedNow_0 1 rfl rfl)
theorem dX5_resolvedNow_4 : decode cX5_resolvedNow 4 = .ok (.istore_n 1, 1) := dk_60 (dk_at dksX5_resolvedNow_0 4 rfl rfl)
theorem dX5_resolvedNow_5 : decode cX5_resolvedNow 5 = .ok (.iconst 0, 1) := dk_3 (dk_at dksX5_resolvedNow_0 5 rfl rfl)
theorem dX5_resolvedNow_6 : decode cX5_resolvedNow 6 = .ok (.istore_n 2, 1) := dk_61 (dk_at dksX5_resolvedNow_0 6 rfl rfl)
theorem dX5_resolvedNow_7 : decode cX5_resolvedNow 7 = .ok (.iload_n 2, 1) := dk_28 (dk_at dksX5_resolvedNow_0 7 rfl rfl)
theorem dX5_resolvedNow_8 : decode cX5_resolvedNow 8 = .ok (.aload_n 0, 1) := dk_42 (dk_at dksX5_resolvedNow_0 8 rfl rfl)
theorem dX5_resolvedNow_9 : decode cX5_resolvedNow 9 = .ok (.getfield 125, 3) := dk_180 0 125 (dk_at dksX5_resolvedNow_0 9 rfl rfl)
theorem dX5_resolvedNow_12 : decode cX5_resolvedNow 12 = .ok (.if_icmp .ge 44, 3) := dk_162 0 44 (dk_at dksX5_resolvedNow_0 12 rfl rfl)
theorem dX5_resolvedNow_15 : decode cX5_resolvedNow 15 = .ok (.aload_n 0, 1) := dk_42 (dk_at dksX5_resolvedNow_0 15 rfl rfl)
theorem dX5_resolvedNow_16 : decode cX5_resolvedNow 16 = .ok (.getfield 72, 3) := dk_180 0 72 (dk_at dksX5_resolvedNow_0 16 rfl rfl)
theorem dX5_resolvedNow_19 : decode cX5_resolvedNow 19 = .ok (.iload_n 2, 1) := dk_28 (dk_at dksX5_resolvedNow_0 19 rfl rfl)
theorem dX5_resolvedNow_20 : decode cX5_resolvedNow 20 = .ok (.iaload, 1) := dk_46 (dk_at dksX5_resolvedNow_0 20 rfl rfl)
theorem dX5_resolvedNow_21 : decode cX5_resolvedNow 21 = .ok (.iconst 1, 1) := dk_4 (dk_at dksX5_resolvedNow_0 21 rfl rfl)
theorem dX5_resolvedNow_22 : decode cX5_resolvedNow 22 = .ok (.if_icmp .ne 26, 3) := dk_160 0 26 (dk_at dksX5_resolvedNow_1 0 rfl rfl)
theorem dX5_resolvedNow_25 : decode cX5_resolvedNow 25 = .ok (.aload_n 0, 1) := dk_42 (dk_at dksX5_resolvedNow_1 3 rfl rfl)
theorem dX5_resolvedNow_26 : decode cX5_resolvedNow 26 = .ok (.getfield 63, 3) := dk_180 0 63 (dk_at dksX5_resolvedNow_1 4 rfl rfl)
theorem dX5_resolvedNow_29 : decode cX5_resolvedNow 29 = .ok (.iload_n 2, 1) := dk_28 (dk_at dksX5_resolvedNow_1 7 rfl rfl)
theorem dX5_resolvedNow_30 : decode cX5_resolvedNow 30 = .ok (.iaload, 1) := dk_46 (dk_at dksX5_resolvedNow_1 8 rfl rfl)
theorem dX5_resolvedNow_31 : decode cX5_resolvedNow 31 = .ok (.iconst 1, 1) := dk_4 (dk_at dksX5_resolvedNow_1 9 rfl rfl)
theorem dX5_resolvedNow_32 : decode cX5_resolvedNow 32 = .ok (.isub, 1) := dk_100 (dk_at dksX5_resolvedNow_1 10 rfl rfl)
theorem dX5_resolvedNow_33 : decode cX5_resolvedNow 33 = .ok (.iload_n 1, 1) := dk_27 (dk_at dksX5_resolvedNow_1 11 rfl rfl)
theorem dX5_resolvedNow_34 : decode cX5_resolvedNow 34 = .ok (.if_icmp .ge 14, 3) := dk_162 0 14 (dk_at dksX5_resolvedNow_1 12 rfl rfl)
theorem dX5_resolvedNow_37 : decode cX5_resolvedNow 37 = .ok (.aload_n 0, 1) := dk_42 (dk_at dksX5_resolvedNow_1 15 rfl rfl)
theorem dX5_resolvedNow_38 : decode cX5_resolvedNow 38 = .ok (.getfield 63, 3) := dk_180 0 63 (dk_at dksX5_resolvedNow_1 16 rfl rfl)
theorem dX5_resolvedNow_41 : decode cX5_resolvedNow 41 = .ok (.iload_n 2, 1) := dk_28 (dk_at dksX5_resolvedNow_1 19 rfl rfl)
theorem dX5_resolvedNow_42 : decode cX5_resolvedNow 42 = .ok (.iaload, 1) := dk_46 (dk_at dksX5_resolvedNow_1 20 rfl rfl)
theorem dX5_resolvedNow_43 : decode cX5_resolvedNow 43 = .ok (.iconst 1, 1) := dk_4 (dk_at dksX5_resolvedNow_1 21 rfl rfl)
theorem dX5_resolvedNow_44 : decode cX5_resolvedNow 44 = .ok (.isub, 1) := dk_100 (dk_at dksX5_resolvedNow_1 22 rfl rfl)
theorem dX5_resolvedNow_45 : decode cX5_resolvedNow 45 = .ok (.goto 4, 3) := dk_167 0 4 (dk_at dksX5_resolvedNow_2 0 rfl rfl)
theorem dX5_resolvedNow_48 : decode cX5_resolvedNow 48 = .ok (.iload_n 1, 1) := dk_27 (dk_at dksX5_resolvedNow_2 3 rfl rfl)
theorem dX5_resolvedNow_49 : decode cX5_resolvedNow 49 = .ok (.istore_n 1, 1) := dk_60 (dk_at dksX5_resolvedNow_2 4 rfl rfl)
theorem dX5_resolvedNow_50 : decode cX5_resolvedNow 50 = .ok (.iinc 2 1, 3) := dk_132 2 1 (dk_at dksX5_resolvedNow_2 5 rfl rfl)
theorem dX5_resolvedNow_53 : decode cX5_resolvedNow 53 = .ok (.goto (-46), 3) := dk_167 255 210 (dk_at dksX5_resolvedNow_2 8 rfl rfl)
theorem dX5_resolvedNow_56 : decode cX5_resolvedNow 56 = .ok (.iload_n 1, 1) := dk_27 (dk_at dksX5_resolvedNow_2 11 rfl rfl)
theorem dX5_resolvedNow_57 : decode cX5_resolvedNow 57 = .ok (.ireturn, 1) := dk_172 (dk_at dksX5_resolvedNow_2 12 rfl rfl)
abbrev cX5_feed : ByteArray := prog_10_method_50_code
def yX5_feed : MethodName := ⟨RX5, "feed", "(I)I"⟩
def dkwX5_feed_6 : List UInt8 := [154, 0, 7, 28, 167, 0, 4, 3, 172]
abbrev dktX5_feed_6 : List UInt8 := dkwX5_feed_6 ++ []
def dkwX5_feed_5 : List UInt8 := [167, 255, 185, 21, 5, 2, 160, 0, 5, 2, 172, 21, 5, 61, 132, 4, 1, 167, 255, 149, 42, 180, 0, 93]
abbrev dktX5_feed_5 : List UInt8 := dkwX5_feed_5 ++ dktX5_feed_6
def dkwX5_feed_4 : List UInt8 := [159, 0, 10, 21, 7, 21, 5, 162, 0, 8, 21, 7, 167, 0, 5, 21, 5, 54, 5, 132, 6, 1]
abbrev dktX5_feed_4 : List UInt8 := dkwX5_feed_4 ++ dktX5_feed_5
def dkwX5_feed_3 : List UInt8 := [54, 7, 42, 180, 0, 48, 21, 6, 46, 29, 163, 0, 27, 21, 7, 28, 164, 0, 21, 21, 5, 2]
abbrev dktX5_feed_3 : List UInt8 := dkwX5_feed_3 ++ dktX5_feed_4
def dkwX5_feed_2 : List UInt8 := [180, 0, 135, 162, 0, 68, 16, 32, 42, 180, 0, 48, 21, 6, 46, 104, 42, 180, 0, 45, 21, 6, 46, 96]
abbrev dktX5_feed_2 : List UInt8 := dkwX5_feed_2 ++ dktX5_feed_3
def dkwX5_feed_1 : List UInt8 := [21, 4, 27, 163, 0, 107, 42, 180, 0, 93, 154, 0, 100, 2, 54, 5, 3, 54, 6, 21, 6, 42]
abbrev dktX5_feed_1 : List UInt8 := dkwX5_feed_1 ++ dktX5_feed_2
def dkwX5_feed_0 : List UInt8 := [42, 27, 156, 0, 7, 4, 167, 0, 4, 3, 181, 0, 93, 2, 61, 42, 182, 0, 193, 62, 3, 54, 4]
abbrev dktX5_feed_0 : List UInt8 := dkwX5_feed_0 ++ dktX5_feed_1
theorem dksX5_feed_0 : cX5_feed.data.toList.drop 0 = dktX5_feed_0 := by decide +kernel
theorem dksX5_feed_1 : cX5_feed.data.toList.drop 23 = dktX5_feed_1 := dk_seg dksX5_feed_0 23 rfl rfl
theorem dksX5_feed_2 : cX5_feed.data.toList.drop 45 = dktX5_feed_2 := dk_seg dksX5_feed_1 22 rfl rfl
theorem dksX5_feed_3 : cX5_feed.data.toList.drop 69 = dktX5_feed_3 := dk_seg dksX5_feed_2 24 rfl rfl
theorem dksX5_feed_4 : cX5_feed.data.toList.drop 91 = dktX5_feed_4 := dk_seg dksX5_feed_3 22 rfl rfl
theorem dksX5_feed_5 : cX5_feed.data.toList.drop 113 = dktX5_feed_5 := dk_seg dksX5_feed_4 22 rfl rfl
theorem dksX5_feed_6 : cX5_feed.data.toList.drop 137 = dktX5_feed_6 := dk_seg dksX5_feed_5 24 rfl rfl
theorem dX5_feed_0 : decode cX5_feed 0 = .ok (.aload_n 0, 1) := dk_42 (dk_at dksX5_feed_0 0 rfl rfl)
theorem dX5_feed_1 : decode cX5_feed 1 = .ok (.iload_n 1, 1) := dk_27 (dk_at dksX5_feed_0 1 rfl rfl)
theorem dX5_feed_2 : decode cX5_feed 2 = .ok (.ifCond .ge 7, 3) := dk_156 0 7 (dk_at dksX5_feed_0 2 rfl rfl)
theorem dX5_feed_5 : decode cX5_feed 5 = .ok (.iconst 1, 1) := dk_4 (dk_at dksX5_feed_0 5 rfl rfl)
theorem dX5_feed_6 : decode cX5_feed 6 = .ok (.goto 4, 3) := dk_167 0 4 (dk_at dksX5_feed_0 6 rfl rfl)
theorem dX5_feed_9 : decode cX5_feed 9 = .ok (.iconst 0, 1) := dk_3 (dk_at dksX5_feed_0 9 rfl rfl)
theorem dX5_feed_10 : decode cX5_feed 10 = .ok (.putfield 93, 3) := dk_181 0 93 (dk_at dksX5_feed_0 10 rfl rfl)
theorem dX5_feed_13 : decode cX5_feed 13 = .ok (.iconst (-1), 1) := dk_2 (dk_at dksX5_feed_0 13 rfl rfl)
theorem dX5_feed_14 : decode cX5_feed 14 = .ok (.istore_n 2, 1) := dk_61 (dk_at dksX5_feed_0 14 rfl rfl)
theorem dX5_feed_15 : decode cX5_feed 15 = .ok (.aload_n 0, 1) := dk_42 (dk_at dksX5_feed_0 15 rfl rfl)
theorem dX5_feed_16 : decode cX5_feed 16 = .ok (.invokevirtual 193, 3) := dk_182 0 193 (dk_at dksX5_feed_0 16 rfl rfl)
theorem dX5_feed_19 : decode cX5_feed 19 = .ok (.istore_n 3, 1) := dk_62 (dk_at dksX5_feed_0 19 rfl rfl)
theorem dX5_feed_20 : decode cX5_feed 20 = .ok (.iconst 0, 1) := dk_3 (dk_at dksX5_feed_0 20 rfl rfl)
theorem dX5_feed_21 : decode cX5_feed 21 = .ok (.istore 4, 2) := dk_54 4 (dk_at dksX5_feed_0 21 rfl rfl)
theorem dX5_feed_23 : decode cX5_feed 23 = .ok (.iload 4, 2) := dk_21 4 (dk_at dksX5_feed_1 0 rfl rfl)
theorem dX5_feed_25 : decode cX5_feed 25 = .ok (.iload_n 1, 1) := dk_27 (dk_at dksX5_feed_1 2 rfl rfl)
theorem dX5_feed_26 : decode cX5_feed 26 = .ok (.if_icmp .gt 107, 3) := dk_163 0 107 (dk_at dksX5_feed_1 3 rfl rfl)
theorem dX5_feed_29 : decode cX5_feed 29 = .ok (.aload_n 0, 1) := dk_42 (dk_at dksX5_feed_1 6 rfl rfl)
theorem dX5_feed_30 : decode cX5_feed 30 = .ok (.getfield 93, 3) := dk_180 0 93 (dk_at dksX5_feed_1 7 rfl rfl)
theorem dX5_feed_33 : decode cX5_feed 33 = .ok (.ifCond .ne 100, 3) := dk_154 0 100 (dk_at dksX5_feed_1 10 rfl rfl)
theorem dX5_feed_36 : decode cX5_feed 36 = .ok (.iconst (-1), 1) := dk_2 (dk_at dksX5_feed_1 13 rfl rfl)
theorem dX5_feed_37 : decode cX5_feed 37 = .ok (.istore 5, 2) := dk_54 5 (dk_at dksX5_feed_1 14 rfl rfl)
theorem dX5_feed_39 : decode cX5_feed 39 = .ok (.iconst 0, 1) := dk_3 (dk_at dksX5_feed_1 16 rfl rfl)
theorem dX5_feed_40 : decode cX5_feed 40 = .ok (.istore 6, 2) := dk_54 6 (dk_at dksX5_feed_1 17 rfl rfl)
theorem dX5_feed_42 : decode cX5_feed 42 = .ok (.iload 6, 2) := dk_21 6 (dk_at dksX5_feed_1 19 rfl rfl)
theorem dX5_feed_44 : decode cX5_feed 44 = .ok (.aload_n 0, 1) := dk_42 (dk_at dksX5_feed_1 21 rfl rfl)
theorem dX5_feed_45 : decode cX5_feed 45 = .ok (.getfield 135, 3) := dk_180 0 135 (dk_at dksX5_feed_2 0 rfl rfl)
theorem dX5_feed_48 : decode cX5_feed 48 = .ok (.if_icmp .ge 68, 3) := dk_162 0 68 (dk_at dksX5_feed_2 3 rfl rfl)
theorem dX5_feed_51 : decode cX5_feed 51 = .ok (.bipush 32, 2) := dk_16 32 (dk_at dksX5_feed_2 6 rfl rfl)
theorem dX5_feed_53 : decode cX5_feed 53 = .ok (.aload_n 0, 1) := dk_42 (dk_at dksX5_feed_2 8 rfl rfl)
theorem dX5_feed_54 : decode cX5_feed 54 = .ok (.getfield 48, 3) := dk_180 0 48 (dk_at dksX5_feed_2 9 rfl rfl)
theorem dX5_feed_57 : decode cX5_feed 57 = .ok (.iload 6, 2) := dk_21 6 (dk_at dksX5_feed_2 12 rfl rfl)
theorem dX5_feed_59 : decode cX5_feed 59 = .ok (.iaload, 1) := dk_46 (dk_at dksX5_feed_2 14 rfl rfl)
theorem dX5_feed_60 : decode cX5_feed 60 = .ok (.imul, 1) := dk_104 (dk_at dksX5_feed_2 15 rfl rfl)
theorem dX5_feed_61 : decode cX5_feed 61 = .ok (.aload_n 0, 1) := dk_42 (dk_at dksX5_feed_2 16 rfl rfl)
theorem dX5_feed_62 : decode cX5_feed 62 = .ok (.getfield 45, 3) := dk_180 0 45 (dk_at dksX5_feed_2 17 rfl rfl)
theorem dX5_feed_65 : decode cX5_feed 65 = .ok (.iload 6, 2) := dk_21 6 (dk_at dksX5_feed_2 20 rfl rfl)
theorem dX5_feed_67 : decode cX5_feed 67 = .ok (.iaload, 1) := dk_46 (dk_at dksX5_feed_2 22 rfl rfl)
theorem dX5_feed_68 : decode cX5_feed 68 = .ok (.iadd, 1) := dk_96 (dk_at dksX5_feed_2 23 rfl rfl)
theorem dX5_feed_69 : decode cX5_feed 69 = .ok (.istore 7, 2) := dk_54 7 (dk_at dksX5_feed_3 0 rfl rfl)
theorem dX5_feed_71 : decode cX5_feed 71 = .ok (.aload_n 0, 1) := dk_42 (dk_at dksX5_feed_3 2 rfl rfl)
theorem dX5_feed_72 : decode cX5_feed 72 = .ok (.getfield 48, 3) := dk_180 0 48 (dk_at dksX5_feed_3 3 rfl rfl)
theorem dX5_feed_75 : decode cX5_feed 75 = .ok (.iload 6, 2) := dk_21 6 (dk_at dksX5_feed_3 6 rfl rfl)
theorem dX5_feed_77 : decode cX5_feed 77 = .ok (.iaload, 1) := dk_46 (dk_at dksX5_feed_3 8 rfl rfl)
theorem dX5_feed_78 : decode cX5_feed 78 = .ok (.iload_n 3, 1) := dk_29 (dk_at dksX5_feed_3 9 rfl rfl)
theorem dX5_feed_79 : decode cX5_feed 79 = .ok (.if_icmp .gt 27, 3) := dk_163 0 27 (dk_at dksX5_feed_3 10 rfl rfl)
theorem dX5_feed_82 : decode cX5_feed 82 = .ok (.iload 7, 2) := dk_21 7 (dk_at dksX5_feed_3 13 rfl rfl)
theorem dX5_feed_84 : decode cX5_feed 84 = .ok (.iload_n 2, 1) := dk_28 (dk_at dksX5_feed_3 15 rfl rfl)
theorem dX5_feed_85 : decode cX5_feed 85 = .ok (.if_icmp .le 21, 3) := dk_164 0 21 (dk_at dksX5_feed_3 16 rfl rfl)
theorem dX5_feed_88 : decode cX5_feed 88 = .ok (.iload 5, 2) := dk_21 5 (dk_at dksX5_feed_3 19 rfl rfl)
theorem dX5_feed_90 : decode cX5_feed 90 = .ok (.iconst (-1), 1) := dk_2 (dk_at dksX5_feed_3 21 rfl rfl)
theorem dX5_feed_91 : decode cX5_feed 91 = .ok (.if_icmp .eq 10, 3) := dk_159 0 10 (dk_at dksX5_feed_4 0 rfl rfl)
theorem dX5_feed_94 : decode cX5_feed 94 = .ok (.iload 7, 2) := dk_21 7 (dk_at dksX5_feed_4 3 rfl rfl)
theorem dX5_feed_96 : decode cX5_feed 96 = .ok (.iload 5, 2) := dk_21 5 (dk_at dksX5_feed_4 5 rfl rfl)
theorem dX5_feed_98 : decode cX5_feed 98 = .ok (.if_icmp .ge 8, 3) := dk_162 0 8 (dk_at dksX5_feed_4 7 rfl rfl)
theorem dX5_feed_101 : decode cX5_feed 101 = .ok (.iload 7, 2) := dk_21 7 (dk_at dksX5_feed_4 10 rfl rfl)
theorem dX5_feed_103 : decode cX5_feed 103 = .ok (.goto 5, 3) := dk_167 0 5 (dk_at dksX5_feed_4 12 rfl rfl)
theorem dX5_feed_106 : decode cX5_feed 106 = .ok (.iload 5, 2) := dk_21 5 (dk_at dksX5_feed_4 15 rfl rfl)
theorem dX5_feed_108 : decode cX5_feed 108 = .ok (.istore 5, 2) := dk_54 5 (dk_at dksX5_feed_4 17 rfl rfl)
theorem dX5_feed_110 : decode cX5_feed 110 = .ok (.iinc 6 1, 3) := dk_132 6 1 (dk_at dksX5_feed_4 19 rfl rfl)
theorem dX5_feed_113 : decode cX5_feed 113 = .ok (.goto (-71), 3) := dk_167 255 185 (dk_at dksX5_feed_5 0 rfl rfl)
theorem dX5_feed_116 : decode cX5_feed 116 = .ok (.iload 5, 2) := dk_21 5 (dk_at dksX5_feed_5 3 rfl rfl)
theorem dX5_feed_118 : decode cX5_feed 118 = .ok (.iconst (-1), 1) := dk_2 (dk_at dksX5_feed_5 5 rfl rfl)
theorem dX5_feed_119 : decode cX5_feed 119 = .ok (.if_icmp .ne 5, 3) := dk_160 0 5 (dk_at dksX5_feed_5 6 rfl rfl)
theorem dX5_feed_122 : decode cX5_feed 122 = .ok (.iconst (-1), 1) := dk_2 (dk_at dksX5_feed_5 9 rfl rfl)
theorem dX5_feed_123 : decode cX5_feed 123 = .ok (.ireturn, 1) := dk_172 (dk_at dksX5_feed_5 10 rfl rfl)
theorem dX5_feed_124 : decode cX5_feed 124 = .ok (.iload 5, 2) := dk_21 5 (dk_at dksX5_feed_5 11 rfl rfl)
theorem dX5_feed_126 : decode cX5_feed 126 = .ok (.istore_n 2, 1) := dk_61 (dk_at dksX5_feed_5 13 rfl rfl)
theorem dX5_feed_127 : decode cX5_feed 127 = .ok (.iinc 4 1, 3) := dk_132 4 1 (dk_at dksX5_feed_5 14 rfl rfl)
theorem dX5_feed_130 : decode cX5_feed 130 = .ok (.goto (-107), 3) := dk_167 255 149 (dk_at dksX5_feed_5 17 rfl rfl)
theorem dX5_feed_133 : decode cX5_feed 133 = .ok (.aload_n 0, 1) := dk_42 (dk_at dksX5_feed_5 20 rfl rfl)
theorem dX5_feed_134 : decode cX5_feed 134 = .ok (.getfield 93, 3) := dk_180 0 93 (dk_at dksX5_feed_5 21 rfl rfl)
theorem dX5_feed_137 : decode cX5_feed 137 = .ok (.ifCond .ne 7, 3) := dk_154 0 7 (dk_at dksX5_feed_6 0 rfl rfl)
theorem dX5_feed_140 : decode cX5_feed 140 = .ok (.iload_n 2, 1) := dk_28 (dk_at dksX5_feed_6 3 rfl rfl)
theorem dX5_feed_141 : decode cX5_feed 141 = .ok (.goto 4, 3) := dk_167 0 4 (dk_at dksX5_feed_6 4 rfl rfl)
theorem dX5_feed_144 : decode cX5_feed 144 = .ok (.iconst 0, 1) := dk_3 (dk_at dksX5_feed_6 7 rfl rfl)
theorem dX5_feed_145 : decode cX5_feed 145 = .ok (.ireturn, 1) := dk_172 (dk_at dksX5_feed_6 8 rfl rfl)
abbrev cX5_order : ByteArray := prog_10_method_53_code
def yX5_order : MethodName := ⟨RX5, "order", "(I)I"⟩
def dkwX5_order_2 : List UInt8 := [182, 0, 199, 61, 132, 3, 1, 167, 255, 237, 42, 180, 0, 93, 154, 0, 7, 28, 167, 0, 4, 3, 172]
abbrev dktX5_order_2 : List UInt8 := dkwX5_order_2 ++ []
def dkwX5_order_1 : List UInt8 := [182, 0, 199, 167, 0, 4, 2, 61, 3, 62, 29, 27, 162, 0, 20, 28, 2, 159, 0, 15, 42, 28]
abbrev dktX5_order_1 : List UInt8 := dkwX5_order_1 ++ dktX5_order_2
def dkwX5_order_0 : List UInt8 := [42, 27, 156, 0, 7, 4, 167, 0, 4, 3, 181, 0, 93, 42, 180, 0, 93, 154, 0, 11, 42, 2]
abbrev dktX5_order_0 : List UInt8 := dkwX5_order_0 ++ dktX5_order_1
theorem dksX5_order_0 : cX5_order.data.toList.drop 0 = dktX5_order_0 := by decide +kernel
theorem dksX5_order_1 : cX5_order.data.toList.drop 22 = dktX5_order_1 := dk_seg dksX5_order_0 22 rfl rfl
theorem dksX5_order_2 : cX5_order.data.toList.drop 44 = dktX5_order_2 := dk_seg dksX5_order_1 22 rfl rfl
theorem dX5_order_0 : decode cX5_order 0 = .ok (.aload_n 0, 1) := dk_42 (dk_at dksX5_order_0 0 rfl rfl)
theorem dX5_order_1 : decode cX5_order 1 = .ok (.iload_n 1, 1) := dk_27 (dk_at dksX5_order_0 1 rfl rfl)
theorem dX5_order_2 : decode cX5_order 2 = .ok (.ifCond .ge 7, 3) := dk_156 0 7 (dk_at dksX5_order_0 2 rfl rfl)
theorem dX5_order_5 : decode cX5_order 5 = .ok (.iconst 1, 1) := dk_4 (dk_at dksX5_order_0 5 rfl rfl)
theorem dX5_order_6 : decode cX5_order 6 = .ok (.goto 4, 3) := dk_167 0 4 (dk_at dksX5_order_0 6 rfl rfl)
theorem dX5_order_9 : decode cX5_order 9 = .ok (.iconst 0, 1) := dk_3 (dk_at dksX5_order_0 9 rfl rfl)
theorem dX5_order_10 : decode cX5_order 10 = .ok (.putfield 93, 3) := dk_181 0 93 (dk_at dksX5_order_0 10 rfl rfl)
theorem dX5_order_13 : decode cX5_order 13 = .ok (.aload_n 0, 1) := dk_42 (dk_at dksX5_order_0 13 rfl rfl)
theorem dX5_order_14 : decode cX5_order 14 = .ok (.getfield 93, 3) := dk_180 0 93 (dk_at dksX5_order_0 14 rfl rfl)
theorem dX5_order_17 : decode cX5_order 17 = .ok (.ifCond .ne 11, 3) := dk_154 0 11 (dk_at dksX5_order_0 17 rfl rfl)
theorem dX5_order_20 : decode cX5_order 20 = .ok (.aload_n 0, 1) := dk_42 (dk_at dksX5_order_0 20 rfl rfl)
theorem dX5_order_21 : decode cX5_order 21 = .ok (.iconst (-1), 1) := dk_2 (dk_at dksX5_order_0 21 rfl rfl)
theorem dX5_order_22 : decode cX5_order 22 = .ok (.invokevirtual 199, 3) := dk_182 0 199 (dk_at dksX5_order_1 0 rfl rfl)
theorem dX5_order_25 : decode cX5_order 25 = .ok (.goto 4, 3) := dk_167 0 4 (dk_at dksX5_order_1 3 rfl rfl)
theorem dX5_order_28 : decode cX5_order 28 = .ok (.iconst (-1), 1) := dk_2 (dk_at dksX5_order_1 6 rfl rfl)
theorem dX5_order_29 : decode cX5_order 29 = .ok (.istore_n 2, 1) := dk_61 (dk_at dksX5_order_1 7 rfl rfl)
theorem dX5_order_30 : decode cX5_order 30 = .ok (.iconst 0, 1) := dk_3 (dk_at dksX5_order_1 8 rfl rfl)
theorem dX5_order_31 : decode cX5_order 31 = .ok (.istore_n 3, 1) := dk_62 (dk_at dksX5_order_1 9 rfl rfl)
theorem dX5_order_32 : decode cX5_order 32 = .ok (.iload_n 3, 1) := dk_29 (dk_at dksX5_order_1 10 rfl rfl)
theorem dX5_order_33 : decode cX5_order 33 = .ok (.iload_n 1, 1) := dk_27 (dk_at dksX5_order_1 11 rfl rfl)
theorem dX5_order_34 : decode cX5_order 34 = .ok (.if_icmp .ge 20, 3) := dk_162 0 20 (dk_at dksX5_order_1 12 rfl rfl)
theorem dX5_order_37 : decode cX5_order 37 = .ok (.iload_n 2, 1) := dk_28 (dk_at dksX5_order_1 15 rfl rfl)
theorem dX5_order_38 : decode cX5_order 38 = .ok (.iconst (-1), 1) := dk_2 (dk_at dksX5_order_1 16 rfl rfl)
theorem dX5_order_39 : decode cX5_order 39 = .ok (.if_icmp .eq 15, 3) := dk_159 0 15 (dk_at dksX5_order_1 17 rfl rfl)
theorem dX5_order_42 : decode cX5_order 42 = .ok (.aload_n 0, 1) := dk_42 (dk_at dksX5_order_1 20 rfl rfl)
theorem dX5_order_43 : decode cX5_order 43 = .ok (.iload_n 2, 1) := dk_28 (dk_at dksX5_order_1 21 rfl rfl)
theorem dX5_order_44 : decode cX5_order 44 = .ok (.invokevirtual 199, 3) := dk_182 0 199 (dk_at dksX5_order_2 0 rfl rfl)
theorem dX5_order_47 : decode cX5_order 47 = .ok (.istore_n 2, 1) := dk_61 (dk_at dksX5_order_2 3 rfl rfl)
theorem dX5_order_48 : decode cX5_order 48 = .ok (.iinc 3 1, 3) := dk_132 3 1 (dk_at dksX5_order_2 4 rfl rfl)
theorem dX5_order_51 : decode cX5_order 51 = .ok (.goto (-19), 3) := dk_167 255 237 (dk_at dksX5_order_2 7 rfl rfl)
theorem dX5_order_54 : decode cX5_order 54 = .ok (.aload_n 0, 1) := dk_42 (dk_at dksX5_order_2 10 rfl rfl)
theorem dX5_order_55 : decode cX5_order 55 = .ok (.getfield 93, 3) := dk_180 0 93 (dk_at dksX5_order_2 11 rfl rfl)
theorem dX5_order_58 : decode cX5_order 58 = .ok (.ifCond .ne 7, 3) := dk_154 0 7 (dk_at dksX5_order_2 14 rfl rfl)
theorem dX5_order_61 : decode cX5_order 61 = .ok (.iload_n 2, 1) := dk_28 (dk_at dksX5_order_2 17 rfl rfl)
theorem dX5_order_62 : decode cX5_order 62 = .ok (.goto 4, 3) := dk_167 0 4 (dk_at dksX5_order_2 18 rfl rfl)
theorem dX5_order_65 : decode cX5_order 65 = .ok (.iconst 0, 1) := dk_3 (dk_at dksX5_order_2 21 rfl rfl)
theorem dX5_order_66 : decode cX5_order 66 = .ok (.ireturn, 1) := dk_172 (dk_at dksX5_order_2 22 rfl rfl)
abbrev cX5_next : ByteArray := prog_10_method_51_code
def yX5_next : MethodName := ⟨RX5, "next", "(I)I"⟩
def dkwX5_next_3 : List UInt8 := [132, 3, 1, 167, 255, 189, 28, 172]
abbrev dktX5_next_3 : List UInt8 := dkwX5_next_3 ++ []
def dkwX5_next_2 : List UInt8 := [153, 0, 21, 28, 2, 159, 0, 12, 42, 29, 28, 182, 0, 196, 153, 0, 7, 29, 167, 0, 4, 28, 61]
abbrev dktX5_next_2 : List UInt8 := dkwX5_next_2 ++ dktX5_next_3
def dkwX5_next_1 : List UInt8 := [153, 0, 7, 4, 167, 0, 4, 3, 54, 4, 42, 180, 0, 72, 29, 46, 5, 160, 0, 26, 21, 4]
abbrev dktX5_next_1 : List UInt8 := dkwX5_next_1 ++ dktX5_next_2
def dkwX5_next_0 : List UInt8 := [2, 61, 3, 62, 29, 42, 180, 0, 125, 162, 0, 65, 27, 2, 159, 0, 12, 42, 27, 29, 182, 0, 196]
abbrev dktX5_next_0 : List UInt8 := dkwX5_next_0 ++ dktX5_next_1
theorem dksX5_next_0 : cX5_next.data.toList.drop 0 = dktX5_next_0 := by decide +kernel
theorem dksX5_next_1 : cX5_next.data.toList.drop 23 = dktX5_next_1 := dk_seg dksX5_next_0 23 rfl rfl
theorem dksX5_next_2 : cX5_next.data.toList.drop 45 = dktX5_next_2 := dk_seg dksX5_next_1 22 rfl rfl
theorem dksX5_next_3 : cX5_next.data.toList.drop 68 = dktX5_next_3 := dk_seg dksX5_next_2 23 rfl rfl
theorem dX5_next_0 : decode cX5_next 0 = .ok (.iconst (-1), 1) := dk_2 (dk_at dksX5_next_0 0 rfl rfl)
theorem dX5_next_1 : decode cX5_next 1 = .ok (.istore_n 2, 1) := dk_61 (dk_at dksX5_next_0 1 rfl rfl)
theorem dX5_next_2 : decode cX5_next 2 = .ok (.iconst 0, 1) := dk_3 (dk_at dksX5_next_0 2 rfl rfl)
theorem dX5_next_3 : decode cX5_next 3 = .ok (.istore_n 3, 1) := dk_62 (dk_at dksX5_next_0 3 rfl rfl)
theorem dX5_next_4 : decode cX5_next 4 = .ok (.iload_n 3, 1) := dk_29 (dk_at dksX5_next_0 4 rfl rfl)
theorem dX5_next_5 : decode cX5_next 5 = .ok (.aload_n 0, 1) := dk_42 (dk_at dksX5_next_0 5 rfl rfl)
theorem dX5_next_6 : decode cX5_next 6 = .ok (.getfield 125, 3) := dk_180 0 125 (dk_at dksX5_next_0 6 rfl rfl)
theorem dX5_next_9 : decode cX5_next 9 = .ok (.if_icmp .ge 65, 3) := dk_162 0 65 (dk_at dksX5_next_0 9 rfl rfl)
theorem dX5_next_12 : decode cX5_next 12 = .ok (.iload_n 1, 1) := dk_27 (dk_at dksX5_next_0 12 rfl rfl)
theorem dX5_next_13 : decode cX5_next 13 = .ok (.iconst (-1), 1) := dk_2 (dk_at dksX5_next_0 13 rfl rfl)
theorem dX5_next_14 : decode cX5_next 14 = .ok (.if_icmp .eq 12, 3) := dk_159 0 12 (dk_at dksX5_next_0 14 rfl rfl)
theorem dX5_next_17 : decode cX5_next 17 = .ok (.aload_n 0, 1) := dk_42 (dk_at dksX5_next_0 17 rfl rfl)
theorem dX5_next_18 : decode cX5_next 18 = .ok (.iload_n 1, 1) := dk_27 (dk_at dksX5_next_0 18 rfl rfl)
theorem dX5_next_19 : decode cX5_next 19 = .ok (.iload_n 3, 1) := dk_29 (dk_at dksX5_next_0 19 rfl rfl)
theorem dX5_next_20 : decode cX5_next 20 = .ok (.invokevirtual 196, 3) := dk_182 0 196 (dk_at dksX5_next_0 20 rfl rfl)
theorem dX5_next_23 : decode cX5_next 23 = .ok (.ifCond .eq 7, 3) := dk_153 0 7 (dk_at dksX5_next_1 0 rfl rfl)
theorem dX5_next_26 : decode cX5_next 26 = .ok (.iconst 1, 1) := dk_4 (dk_at dksX5_next_1 3 rfl rfl)
theorem dX5_next_27 : decode cX5_next 27 = .ok (.goto 4, 3) := dk_167 0 4 (dk_at dksX5_next_1 4 rfl rfl)
theorem dX5_next_30 : decode cX5_next 30 = .ok (.iconst 0, 1) := dk_3 (dk_at dksX5_next_1 7 rfl rfl)
theorem dX5_next_31 : decode cX5_next 31 = .ok (.istore 4, 2) := dk_54 4 (dk_at dksX5_next_1 8 rfl rfl)
theorem dX5_next_33 : decode cX5_next 33 = .ok (.aload_n 0, 1) := dk_42 (dk_at dksX5_next_1 10 rfl rfl)
theorem dX5_next_34 : decode cX5_next 34 = .ok (.getfield 72, 3) := dk_180 0 72 (dk_at dksX5_next_1 11 rfl rfl)
theorem dX5_next_37 : decode cX5_next 37 = .ok (.iload_n 3, 1) := dk_29 (dk_at dksX5_next_1 14 rfl rfl)
theorem dX5_next_38 : decode cX5_next 38 = .ok (.iaload, 1) := dk_46 (dk_at dksX5_next_1 15 rfl rfl)
theorem dX5_next_39 : decode cX5_next 39 = .ok (.iconst 2, 1) := dk_5 (dk_at dksX5_next_1 16 rfl rfl)
theorem dX5_next_40 : decode cX5_next 40 = .ok (.if_icmp .ne 26, 3) := dk_160 0 26 (dk_at dksX5_next_1 17 rfl rfl)
theorem dX5_next_43 : decode cX5_next 43 = .ok (.iload 4, 2) := dk_21 4 (dk_at dksX5_next_1 20 rfl rfl)
theorem dX5_next_45 : decode cX5_next 45 = .ok (.ifCond .eq 21, 3) := dk_153 0 21 (dk_at dksX5_next_2 0 rfl rfl)
theorem dX5_next_48 : decode cX5_next 48 = .ok (.iload_n 2, 1) := dk_28 (dk_at dksX5_next_2 3 rfl rfl)
theorem dX5_next_49 : decode cX5_next 49 = .ok (.iconst (-1), 1) := dk_2 (dk_at dksX5_next_2 4 rfl rfl)
theorem dX5_next_50 : decode cX5_next 50 = .ok (.if_icmp .eq 12, 3) := dk_159 0 12 (dk_at dksX5_next_2 5 rfl rfl)
theorem dX5_next_53 : decode cX5_next 53 = .ok (.aload_n 0, 1) := dk_42 (dk_at dksX5_next_2 8 rfl rfl)
theorem dX5_next_54 : decode cX5_next 54 = .ok (.iload_n 3, 1) := dk_29 (dk_at dksX5_next_2 9 rfl rfl)
theorem dX5_next_55 : decode cX5_next 55 = .ok (.iload_n 2, 1) := dk_28 (dk_at dksX5_next_2 10 rfl rfl)
theorem dX5_next_56 : decode cX5_next 56 = .ok (.invokevirtual 196, 3) := dk_182 0 196 (dk_at dksX5_next_2 11 rfl rfl)
theorem dX5_next_59 : decode cX5_next 59 = .ok (.ifCond .eq 7, 3) := dk_153 0 7 (dk_at dksX5_next_2 14 rfl rfl)
theorem dX5_next_62 : decode cX5_next 62 = .ok (.iload_n 3, 1) := dk_29 (dk_at dksX5_next_2 17 rfl rfl)
theorem dX5_next_63 : decode cX5_next 63 = .ok (.goto 4, 3) := dk_167 0 4 (dk_at dksX5_next_2 18 rfl rfl)
theorem dX5_next_66 : decode cX5_next 66 = .ok (.iload_n 2, 1) := dk_28 (dk_at dksX5_next_2 21 rfl rfl)
theorem dX5_next_67 : decode cX5_next 67 = .ok (.istore_n 2, 1) := dk_61 (dk_at dksX5_next_2 22 rfl rfl)
theorem dX5_next_68 : decode cX5_next 68 = .ok (.iinc 3 1, 3) := dk_132 3 1 (dk_at dksX5_next_3 0 rfl rfl)
theorem dX5_next_71 : decode cX5_next 71 = .ok (.goto (-67), 3) := dk_167 255 189 (dk_at dksX5_next_3 3 rfl rfl)
theorem dX5_next_74 : decode cX5_next 74 = .ok (.iload_n 2, 1) := dk_28 (dk_at dksX5_next_3 6 rfl rfl)
theorem dX5_next_75 : decode cX5_next 75 = .ok (.ireturn, 1) := dk_172 (dk_at dksX5_next_3 7 rfl rfl)
abbrev cX5_isAhead : ByteArray := prog_10_method_52_code
def yX5_isAhead : MethodName := ⟨RX5, "isAhead", "(II)Z"⟩
def dkwX5_isAhead_2 : List UInt8 := [167, 0, 4, 3, 172]
abbrev dktX5_isAhead_2 : List UInt8 := dkwX5_isAhead_2 ++ []
def dkwX5_isAhead_1 : List UInt8 := [180, 0, 63, 28, 46, 160, 0, 22, 42, 180, 0, 78, 27, 46, 42, 180, 0, 78, 28, 46, 162, 0, 7, 4]
abbrev dktX5_isAhead_1 : List UInt8 := dkwX5_isAhead_1 ++ dktX5_isAhead_2
def dkwX5_isAhead_0 : List UInt8 := [42, 180, 0, 63, 27, 46, 42, 180, 0, 63, 28, 46, 161, 0, 33, 42, 180, 0, 63, 27, 46, 42]
abbrev dktX5_isAhead_0 : List UInt8 := dkwX5_isAhead_0 ++ dktX5_isAhead_1
theorem dksX5_isAhead_0 : cX5_isAhead.data.toList.drop 0 = dktX5_isAhead_0 := by decide +kernel
theorem dksX5_isAhead_1 : cX5_isAhead.data.toList.drop 22 = dktX5_isAhead_1 := dk_seg dksX5_isAhead_0 22 rfl rfl
theorem dksX5_isAhead_2 : cX5_isAhead.data.toList.drop 46 = dktX5_isAhead_2 := dk_seg dksX5_isAhead_1 24 rfl rfl
theorem dX5_isAhead_0 : decode cX5_isAhead 0 = .ok (.aload_n 0, 1) := dk_42 (dk_at dksX5_isAhead_0 0 rfl rfl)
theorem dX5_isAhead_1 : decode cX5_isAhead 1 = .ok (.getfield 63, 3) := dk_180 0 63 (dk_at dksX5_isAhead_0 1 rfl rfl)
theorem dX5_isAhead_4 : decode cX5_isAhead 4 = .ok (.iload_n 1, 1) := dk_27 (dk_at dksX5_isAhead_0 4 rfl rfl)
theorem dX5_isAhead_5 : decode cX5_isAhead 5 = .ok (.iaload, 1) := dk_46 (dk_at dksX5_isAhead_0 5 rfl rfl)
theorem dX5_isAhead_6 : decode cX5_isAhead 6 = .ok (.aload_n 0, 1) := dk_42 (dk_at dksX5_isAhead_0 6 rfl rfl)
theorem dX5_isAhead_7 : decode cX5_isAhead 7 = .ok (.getfield 63, 3) := dk_180 0 63 (dk_at dksX5_isAhead_0 7 rfl rfl)
theorem dX5_isAhead_10 : decode cX5_isAhead 10 = .ok (.iload_n 2, 1) := dk_28 (dk_at dksX5_isAhead_0 10 rfl rfl)
theorem dX5_isAhead_11 : decode cX5_isAhead 11 = .ok (.iaload, 1) := dk_46 (dk_at dksX5_isAhead_0 11 rfl rfl)
theorem dX5_isAhead_12 : decode cX5_isAhead 12 = .ok (.if_icmp .lt 33, 3) := dk_161 0 33 (dk_at dksX5_isAhead_0 12 rfl rfl)
theorem dX5_isAhead_15 : decode cX5_isAhead 15 = .ok (.aload_n 0, 1) := dk_42 (dk_at dksX5_isAhead_0 15 rfl rfl)
theorem dX5_isAhead_16 : decode cX5_isAhead 16 = .ok (.getfield 63, 3) := dk_180 0 63 (dk_at dksX5_isAhead_0 16 rfl rfl)
theorem dX5_isAhead_19 : decode cX5_isAhead 19 = .ok (.iload_n 1, 1) := dk_27 (dk_at dksX5_isAhead_0 19 rfl rfl)
theorem dX5_isAhead_20 : decode cX5_isAhead 20 = .ok (.iaload, 1) := dk_46 (dk_at dksX5_isAhead_0 20 rfl rfl)
theorem dX5_isAhead_21 : decode cX5_isAhead 21 = .ok (.aload_n 0, 1) := dk_42 (dk_at dksX5_isAhead_0 21 rfl rfl)
theorem dX5_isAhead_22 : decode cX5_isAhead 22 = .ok (.getfield 63, 3) := dk_180 0 63 (dk_at dksX5_isAhead_1 0 rfl rfl)
theorem dX5_isAhead_25 : decode cX5_isAhead 25 = .ok (.iload_n 2, 1) := dk_28 (dk_at dksX5_isAhead_1 3 rfl rfl)
theorem dX5_isAhead_26 : decode cX5_isAhead 26 = .ok (.iaload, 1) := dk_46 (dk_at dksX5_isAhead_1 4 rfl rfl)
theorem dX5_isAhead_27 : decode cX5_isAhead 27 = .ok (.if_icmp .ne 22, 3) := dk_160 0 22 (dk_at dksX5_isAhead_1 5 rfl rfl)
theorem dX5_isAhead_30 : decode cX5_isAhead 30 = .ok (.aload_n 0, 1) := dk_42 (dk_at dksX5_isAhead_1 8 rfl rfl)
theorem dX5_isAhead_31 : decode cX5_isAhead 31 = .ok (.getfield 78, 3) := dk_180 0 78 (dk_at dksX5_isAhead_1 9 rfl rfl)
theorem dX5_isAhead_34 : decode cX5_isAhead 34 = .ok (.iload_n 1, 1) := dk_27 (dk_at dksX5_isAhead_1 12 rfl rfl)
theorem dX5_isAhead_35 : decode cX5_isAhead 35 = .ok (.iaload, 1) := dk_46 (dk_at dksX5_isAhead_1 13 rfl rfl)
theorem dX5_isAhead_36 : decode cX5_isAhead 36 = .ok (.aload_n 0, 1) := dk_42 (dk_at dksX5_isAhead_1 14 rfl rfl)
theorem dX5_isAhead_37 : decode cX5_isAhead 37 = .ok (.getfield 78, 3) := dk_180 0 78 (dk_at dksX5_isAhead_1 15 rfl rfl)
theorem dX5_isAhead_40 : decode cX5_isAhead 40 = .ok (.iload_n 2, 1) := dk_28 (dk_at dksX5_isAhead_1 18 rfl rfl)
theorem dX5_isAhead_41 : decode cX5_isAhead 41 = .ok (.iaload, 1) := dk_46 (dk_at dksX5_isAhead_1 19 rfl rfl)
theorem dX5_isAhead_42 : decode cX5_isAhead 42 = .ok (.if_icmp .ge 7, 3) := dk_162 0 7 (dk_at dksX5_isAhead_1 20 rfl rfl)
theorem dX5_isAhead_45 : decode cX5_isAhead 45 = .ok (.iconst 1, 1) := dk_4 (dk_at dksX5_isAhead_1 23 rfl rfl)
theorem dX5_isAhead_46 : decode cX5_isAhead 46 = .ok (.goto 4, 3) := dk_167 0 4 (dk_at dksX5_isAhead_2 0 rfl rfl)
theorem dX5_isAhead_49 : decode cX5_isAhead 49 = .ok (.iconst 0, 1) := dk_3 (dk_at dksX5_isAhead_2 3 rfl rfl)
theorem dX5_isAhead_50 : decode cX5_isAhead 50 = .ok (.ireturn, 1) := dk_172 (dk_at dksX5_isAhead_2 4 rfl rfl)
abbrev cX5_judged : ByteArray := prog_10_method_54_code
def yX5_judged : MethodName := ⟨RX5, "judged", "()I"⟩
def dkwX5_judged_7 : List UInt8 := [167, 255, 133, 27, 172]
abbrev dktX5_judged_7 : List UInt8 := dkwX5_judged_7 ++ []
def dkwX5_judged_6 : List UInt8 := [167, 0, 9, 42, 180, 0, 90, 29, 46, 79, 132, 3, 1, 167, 255, 206, 42, 28, 182, 0, 199, 61]
abbrev dktX5_judged_6 : List UInt8 := dkwX5_judged_6 ++ dktX5_judged_7
def dkwX5_judged_5 : List UInt8 := [16, 32, 28, 104, 29, 96, 46, 2, 159, 0, 17, 42, 180, 0, 87, 16, 32, 28, 104, 29, 96, 46]
abbrev dktX5_judged_5 : List UInt8 := dkwX5_judged_5 ++ dktX5_judged_6
def dkwX5_judged_4 : List UInt8 := [132, 3, 1, 167, 255, 204, 3, 62, 29, 16, 32, 162, 0, 50, 42, 180, 0, 90, 29, 42, 180, 0, 87]
abbrev dktX5_judged_4 : List UInt8 := dkwX5_judged_4 ++ dktX5_judged_5
def dkwX5_judged_3 : List UInt8 := [16, 32, 28, 104, 29, 96, 46, 42, 180, 0, 90, 29, 46, 159, 0, 7, 4, 167, 0, 4, 3, 96, 60]
abbrev dktX5_judged_3 : List UInt8 := dkwX5_judged_3 ++ dktX5_judged_4
def dkwX5_judged_2 : List UInt8 := [162, 0, 52, 27, 42, 180, 0, 84, 16, 32, 28, 104, 29, 96, 46, 2, 159, 0, 27, 42, 180, 0, 84]
abbrev dktX5_judged_2 : List UInt8 := dkwX5_judged_2 ++ dktX5_judged_3
def dkwX5_judged_1 : List UInt8 := [132, 1, 1, 167, 255, 238, 3, 60, 42, 2, 182, 0, 199, 61, 28, 2, 159, 0, 124, 3, 62, 29, 16, 32]
abbrev dktX5_judged_1 : List UInt8 := dkwX5_judged_1 ++ dktX5_judged_2
def dkwX5_judged_0 : List UInt8 := [42, 3, 181, 0, 93, 3, 60, 27, 16, 32, 162, 0, 18, 42, 180, 0, 90, 27, 17, 3, 232, 79]
abbrev dktX5_judged_0 : List UInt8 := dkwX5_judged_0 ++ dktX5_judged_1
theorem dksX5_judged_0 : cX5_judged.data.toList.drop 0 = dktX5_judged_0 := by decide +kernel
theorem dksX5_judged_1 : cX5_judged.data.toList.drop 22 = dktX5_judged_1 := dk_seg dksX5_judged_0 22 rfl rfl
theorem dksX5_judged_2 : cX5_judged.data.toList.drop 46 = dktX5_judged_2 := dk_seg dksX5_judged_1 24 rfl rfl
theorem dksX5_judged_3 : cX5_judged.data.toList.drop 69 = dktX5_judged_3 := dk_seg dksX5_judged_2 23 rfl rfl
theorem dksX5_judged_4 : cX5_judged.data.toList.drop 92 = dktX5_judged_4 := dk_seg dksX5_judged_3 23 rfl rfl
theorem dksX5_judged_5 : cX5_judged.data.toList.drop 115 = dktX5_judged_5 := dk_seg dksX5_judged_4 23 rfl rfl
theorem dksX5_judged_6 : cX5_judged.data.toList.drop 137 = dktX5_judged_6 := dk_seg dksX5_judged_5 22 rfl rfl
theorem dksX5_judged_7 : cX5_judged.data.toList.drop 159 = dktX5_judged_7 := dk_seg dksX5_judged_6 22 rfl rfl
theorem dX5_judged_0 : decode cX5_judged 0 = .ok (.aload_n 0, 1) := dk_42 (dk_at dksX5_judged_0 0 rfl rfl)
theorem dX5_judged_1 : decode cX5_judged 1 = .ok (.iconst 0, 1) := dk_3 (dk_at dksX5_judged_0 1 rfl rfl)
theorem dX5_judged_2 : decode cX5_judged 2 = .ok (.putfield 93, 3) := dk_181 0 93 (dk_at dksX5_judged_0 2 rfl rfl)
theorem dX5_judged_5 : decode cX5_judged 5 = .ok (.iconst 0, 1) := dk_3 (dk_at dksX5_judged_0 5 rfl rfl)
theorem dX5_judged_6 : decode cX5_judged 6 = .ok (.istore_n 1, 1) := dk_60 (dk_at dksX5_judged_0 6 rfl rfl)
theorem dX5_judged_7 : decode cX5_judged 7 = .ok (.iload_n 1, 1) := dk_27 (dk_at dksX5_judged_0 7 rfl rfl)
theorem dX5_judged_8 : decode cX5_judged 8 = .ok (.bipush 32, 2) := dk_16 32 (dk_at dksX5_judged_0 8 rfl rfl)
theorem dX5_judged_10 : decode cX5_judged 10 = .ok (.if_icmp .ge 18, 3) := dk_162 0 18 (dk_at dksX5_judged_0 10 rfl rfl)
theorem dX5_judged_13 : decode cX5_judged 13 = .ok (.aload_n 0, 1) := dk_42 (dk_at dksX5_judged_0 13 rfl rfl)
theorem dX5_judged_14 : decode cX5_judged 14 = .ok (.getfield 90, 3) := dk_180 0 90 (dk_at dksX5_judged_0 14 rfl rfl)
theorem dX5_judged_17 : decode cX5_judged 17 = .ok (.iload_n 1, 1) := dk_27 (dk_at dksX5_judged_0 17 rfl rfl)
theorem dX5_judged_18 : decode cX5_judged 18 = .ok (.sipush 1000, 3) := dk_17 3 232 (dk_at dksX5_judged_0 18 rfl rfl)
theorem dX5_judged_21 : decode cX5_judged 21 = .ok (.iastore, 1) := dk_79 (dk_at dksX5_judged_0 21 rfl rfl)
theorem dX5_judged_22 : decode cX5_judged 22 = .ok (.iinc 1 1, 3) := dk_132 1 1 (dk_at dksX5_judged_1 0 rfl rfl)
theorem dX5_judged_25 : decode cX5_judged 25 = .ok (.goto (-18), 3) := dk_167 255 238 (dk_at dksX5_judged_1 3 rfl rfl)
theorem dX5_judged_28 : decode cX5_judged 28 = .ok (.iconst 0, 1) := dk_3 (dk_at dksX5_judged_1 6 rfl rfl)
theorem dX5_judged_29 : decode cX5_judged 29 = .ok (.istore_n 1, 1) := dk_60 (dk_at dksX5_judged_1 7 rfl rfl)
theorem dX5_judged_30 : decode cX5_judged 30 = .ok (.aload_n 0, 1) := dk_42 (dk_at dksX5_judged_1 8 rfl rfl)
theorem dX5_judged_31 : decode cX5_judged 31 = .ok (.iconst (-1), 1) := dk_2 (dk_at dksX5_judged_1 9 rfl rfl)
theorem dX5_judged_32 : decode cX5_judged 32 = .ok (.invokevirtual 199, 3) := dk_182 0 199 (dk_at dksX5_judged_1 10 rfl rfl)
theorem dX5_judged_35 : decode cX5_judged 35 = .ok (.istore_n 2, 1) := dk_61 (dk_at dksX5_judged_1 13 rfl rfl)
theorem dX5_judged_36 : decode cX5_judged 36 = .ok (.iload_n 2, 1) := dk_28 (dk_at dksX5_judged_1 14 rfl rfl)
theorem dX5_judged_37 : decode cX5_judged 37 = .ok (.iconst (-1), 1) := dk_2 (dk_at dksX5_judged_1 15 rfl rfl)
theorem dX5_judged_38 : decode cX5_judged 38 = .ok (.if_icmp .eq 124, 3) := dk_159 0 124 (dk_at dksX5_judged_1 16 rfl rfl)
theorem dX5_judged_41 : decode cX5_judged 41 = .ok (.iconst 0, 1) := dk_3 (dk_at dksX5_judged_1 19 rfl rfl)
theorem dX5_judged_42 : decode cX5_judged 42 = .ok (.istore_n 3, 1) := dk_62 (dk_at dksX5_judged_1 20 rfl rfl)
theorem dX5_judged_43 : decode cX5_judged 43 = .ok (.iload_n 3, 1) := dk_29 (dk_at dksX5_judged_1 21 rfl rfl)
theorem dX5_judged_44 : decode cX5_judged 44 = .ok (.bipush 32, 2) := dk_16 32 (dk_at dksX5_judged_1 22 rfl rfl)
theorem dX5_judged_46 : decode cX5_judged 46 = .ok (.if_icmp .ge 52, 3) := dk_162 0 52 (dk_at dksX5_judged_2 0 rfl rfl)
theorem dX5_judged_49 : decode cX5_judged 49 = .ok (.iload_n 1, 1) := dk_27 (dk_at dksX5_judged_2 3 rfl rfl)
theorem dX5_judged_50 : decode cX5_judged 50 = .ok (.aload_n 0, 1) := dk_42 (dk_at dksX5_judged_2 4 rfl rfl)
theorem dX5_judged_51 : decode cX5_judged 51 = .ok (.getfield 84, 3) := dk_180 0 84 (dk_at dksX5_judged_2 5 rfl rfl)
theorem dX5_judged_54 : decode cX5_judged 54 = .ok (.bipush 32, 2) := dk_16 32 (dk_at dksX5_judged_2 8 rfl rfl)
theorem dX5_judged_56 : decode cX5_judged 56 = .ok (.iload_n 2, 1) := dk_28 (dk_at dksX5_judged_2 10 rfl rfl)
theorem dX5_judged_57 : decode cX5_judged 57 = .ok (.imul, 1) := dk_104 (dk_at dksX5_judged_2 11 rfl rfl)
theorem dX5_judged_58 : decode cX5_judged 58 = .ok (.iload_n 3, 1) := dk_29 (dk_at dksX5_judged_2 12 rfl rfl)
theorem dX5_judged_59 : decode cX5_judged 59 = .ok (.iadd, 1) := dk_96 (dk_at dksX5_judged_2 13 rfl rfl)
theorem dX5_judged_60 : decode cX5_judged 60 = .ok (.iaload, 1) := dk_46 (dk_at dksX5_judged_2 14 rfl rfl)
theorem dX5_judged_61 : decode cX5_judged 61 = .ok (.iconst (-1), 1) := dk_2 (dk_at dksX5_judged_2 15 rfl rfl)
theorem dX5_judged_62 : decode cX5_judged 62 = .ok (.if_icmp .eq 27, 3) := dk_159 0 27 (dk_at dksX5_judged_2 16 rfl rfl)
theorem dX5_judged_65 : decode cX5_judged 65 = .ok (.aload_n 0, 1) := dk_42 (dk_at dksX5_judged_2 19 rfl rfl)
theorem dX5_judged_66 : decode cX5_judged 66 = .ok (.getfield 84, 3) := dk_180 0 84 (dk_at dksX5_judged_2 20 rfl rfl)
theorem dX5_judged_69 : decode cX5_judged 69 = .ok (.bipush 32, 2) := dk_16 32 (dk_at dksX5_judged_3 0 rfl rfl)
theorem dX5_judged_71 : decode cX5_judged 71 = .ok (.iload_n 2, 1) := dk_28 (dk_at dksX5_judged_3 2 rfl rfl)
theorem dX5_judged_72 : decode cX5_judged 72 = .ok (.imul, 1) := dk_104 (dk_at dksX5_judged_3 3 rfl rfl)
theorem dX5_judged_73 : decode cX5_judged 73 = .ok (.iload_n 3, 1) := dk_29 (dk_at dksX5_judged_3 4 rfl rfl)
theorem dX5_judged_74 : decode cX5_judged 74 = .ok (.iadd, 1) := dk_96 (dk_at dksX5_judged_3 5 rfl rfl)
theorem dX5_judged_75 : decode cX5_judged 75 = .ok (.iaload, 1) := dk_46 (dk_at dksX5_judged_3 6 rfl rfl)
theorem dX5_judged_76 : decode cX5_judged 76 = .ok (.aload_n 0, 1) := dk_42 (dk_at dksX5_judged_3 7 rfl rfl)
theorem dX5_judged_77 : decode cX5_judged 77 = .ok (.getfield 90, 3) := dk_180 0 90 (dk_at dksX5_judged_3 8 rfl rfl)
theorem dX5_judged_80 : decode cX5_judged 80 = .ok (.iload_n 3, 1) := dk_29 (dk_at dksX5_judged_3 11 rfl rfl)
theorem dX5_judged_81 : decode cX5_judged 81 = .ok (.iaload, 1) := dk_46 (dk_at dksX5_judged_3 12 rfl rfl)
theorem dX5_judged_82 : decode cX5_judged 82 = .ok (.if_icmp .eq 7, 3) := dk_159 0 7 (dk_at dksX5_judged_3 13 rfl rfl)
theorem dX5_judged_85 : decode cX5_judged 85 = .ok (.iconst 1, 1) := dk_4 (dk_at dksX5_judged_3 16 rfl rfl)
theorem dX5_judged_86 : decode cX5_judged 86 = .ok (.goto 4, 3) := dk_167 0 4 (dk_at dksX5_judged_3 17 rfl rfl)
theorem dX5_judged_89 : decode cX5_judged 89 = .ok (.iconst 0, 1) := dk_3 (dk_at dksX5_judged_3 20 rfl rfl)
theorem dX5_judged_90 : decode cX5_judged 90 = .ok (.iadd, 1) := dk_96 (dk_at dksX5_judged_3 21 rfl rfl)
theorem dX5_judged_91 : decode cX5_judged 91 = .ok (.istore_n 1, 1) := dk_60 (dk_at dksX5_judged_3 22 rfl rfl)
theorem dX5_judged_92 : decode cX5_judged 92 = .ok (.iinc 3 1, 3) := dk_132 3 1 (dk_at dksX5_judged_4 0 rfl rfl)
theorem dX5_judged_95 : decode cX5_judged 95 = .ok (.goto (-52), 3) := dk_167 255 204 (dk_at dksX5_judged_4 3 rfl rfl)
theorem dX5_judged_98 : decode cX5_judged 98 = .ok (.iconst 0, 1) := dk_3 (dk_at dksX5_judged_4 6 rfl rfl)
theorem dX5_judged_99 : decode cX5_judged 99 = .ok (.istore_n 3, 1) := dk_62 (dk_at dksX5_judged_4 7 rfl rfl)
theorem dX5_judged_100 : decode cX5_judged 100 = .ok (.iload_n 3, 1) := dk_29 (dk_at dksX5_judged_4 8 rfl rfl)
theorem dX5_judged_101 : decode cX5_judged 101 = .ok (.bipush 32, 2) := dk_16 32 (dk_at dksX5_judged_4 9 rfl rfl)
theorem dX5_judged_103 : decode cX5_judged 103 = .ok (.if_icmp .ge 50, 3) := dk_162 0 50 (dk_at dksX5_judged_4 11 rfl rfl)
theorem dX5_judged_106 : decode cX5_judged 106 = .ok (.aload_n 0, 1) := dk_42 (dk_at dksX5_judged_4 14 rfl rfl)
theorem dX5_judged_107 : decode cX5_judged 107 = .ok (.getfield 90, 3) := dk_180 0 90 (dk_at dksX5_judged_4 15 rfl rfl)
theorem dX5_judged_110 : decode cX5_judged 110 = .ok (.iload_n 3, 1) := dk_29 (dk_at dksX5_judged_4 18 rfl rfl)
theorem dX5_judged_111 : decode cX5_judged 111 = .ok (.aload_n 0, 1) := dk_42 (dk_at dksX5_judged_4 19 rfl rfl)
theorem dX5_judged_112 : decode cX5_judged 112 = .ok (.getfield 87, 3) := dk_180 0 87 (dk_at dksX5_judged_4 20 rfl rfl)
theorem dX5_judged_115 : decode cX5_judged 115 = .ok (.bipush 32, 2) := dk_16 32 (dk_at dksX5_judged_5 0 rfl rfl)
theorem dX5_judged_117 : decode cX5_judged 117 = .ok (.iload_n 2, 1) := dk_28 (dk_at dksX5_judged_5 2 rfl rfl)
theorem dX5_judged_118 : decode cX5_judged 118 = .ok (.imul, 1) := dk_104 (dk_at dksX5_judged_5 3 rfl rfl)
theorem dX5_judged_119 : decode cX5_judged 119 = .ok (.iload_n 3, 1) := dk_29 (dk_at dksX5_judged_5 4 rfl rfl)
theorem dX5_judged_120 : decode cX5_judged 120 = .ok (.iadd, 1) := dk_96 (dk_at dksX5_judged_5 5 rfl rfl)
theorem dX5_judged_121 : decode cX5_judged 121 = .ok (.iaload, 1) := dk_46 (dk_at dksX5_judged_5 6 rfl rfl)
theorem dX5_judged_122 : decode cX5_judged 122 = .ok (.iconst (-1), 1) := dk_2 (dk_at dksX5_judged_5 7 rfl rfl)
theorem dX5_judged_123 : decode cX5_judged 123 = .ok (.if_icmp .eq 17, 3) := dk_159 0 17 (dk_at dksX5_judged_5 8 rfl rfl)
theorem dX5_judged_126 : decode cX5_judged 126 = .ok (.aload_n 0, 1) := dk_42 (dk_at dksX5_judged_5 11 rfl rfl)
theorem dX5_judged_127 : decode cX5_judged 127 = .ok (.getfield 87, 3) := dk_180 0 87 (dk_at dksX5_judged_5 12 rfl rfl)
theorem dX5_judged_130 : decode cX5_judged 130 = .ok (.bipush 32, 2) := dk_16 32 (dk_at dksX5_judged_5 15 rfl rfl)
theorem dX5_judged_132 : decode cX5_judged 132 = .ok (.iload_n 2, 1) := dk_28 (dk_at dksX5_judged_5 17 rfl rfl)
theorem dX5_judged_133 : decode cX5_judged 133 = .ok (.imul, 1) := dk_104 (dk_at dksX5_judged_5 18 rfl rfl)
theorem dX5_judged_134 : decode cX5_judged 134 = .ok (.iload_n 3, 1) := dk_29 (dk_at dksX5_judged_5 19 rfl rfl)
theorem dX5_judged_135 : decode cX5_judged 135 = .ok (.iadd, 1) := dk_96 (dk_at dksX5_judged_5 20 rfl rfl)
theorem dX5_judged_136 : decode cX5_judged 136 = .ok (.iaload, 1) := dk_46 (dk_at dksX5_judged_5 21 rfl rfl)
theorem dX5_judged_137 : decode cX5_judged 137 = .ok (.goto 9, 3) := dk_167 0 9 (dk_at dksX5_judged_6 0 rfl rfl)
theorem dX5_judged_140 : decode cX5_judged 140 = .ok (.aload_n 0, 1) := dk_42 (dk_at dksX5_judged_6 3 rfl rfl)
theorem dX5_judged_141 : decode cX5_judged 141 = .ok (.getfield 90, 3) := dk_180 0 90 (dk_at dksX5_judged_6 4 rfl rfl)
theorem dX5_judged_144 : decode cX5_judged 144 = .ok (.iload_n 3, 1) := dk_29 (dk_at dksX5_judged_6 7 rfl rfl)
theorem dX5_judged_145 : decode cX5_judged 145 = .ok (.iaload, 1) := dk_46 (dk_at dksX5_judged_6 8 rfl rfl)
theorem dX5_judged_146 : decode cX5_judged 146 = .ok (.iastore, 1) := dk_79 (dk_at dksX5_judged_6 9 rfl rfl)
theorem dX5_judged_147 : decode cX5_judged 147 = .ok (.iinc 3 1, 3) := dk_132 3 1 (dk_at dksX5_judged_6 10 rfl rfl)
theorem dX5_judged_150 : decode cX5_judged 150 = .ok (.goto (-50), 3) := dk_167 255 206 (dk_at dksX5_judged_6 13 rfl rfl)
theorem dX5_judged_153 : decode cX5_judged 153 = .ok (.aload_n 0, 1) := dk_42 (dk_at dksX5_judged_6 16 rfl rfl)
theorem dX5_judged_154 : decode cX5_judged 154 = .ok (.iload_n 2, 1) := dk_28 (dk_at dksX5_judged_6 17 rfl rfl)
theorem dX5_judged_155 : decode cX5_judged 155 = .ok (.invokevirtual 199, 3) := dk_182 0 199 (dk_at dksX5_judged_6 18 rfl rfl)
theorem dX5_judged_158 : decode cX5_judged 158 = .ok (.istore_n 2, 1) := dk_61 (dk_at dksX5_judged_6 21 rfl rfl)
theorem dX5_judged_159 : decode cX5_judged 159 = .ok (.goto (-123), 3) := dk_167 255 133 (dk_at dksX5_judged_7 0 rfl rfl)
theorem dX5_judged_162 : decode cX5_judged 162 = .ok (.iload_n 1, 1) := dk_27 (dk_at dksX5_judged_7 3 rfl rfl)
theorem dX5_judged_163 : decode cX5_judged 163 = .ok (.ireturn, 1) := dk_172 (dk_at dksX5_judged_7 4 rfl rfl)
theorem q71 : (Jvm.Cond.initialized "TwinphaseModel") ∈ lw_all := lw_g (lw_at lw_m1 24 rfl) rfl
theorem q562 : (Jvm.Cond.selects "TwinphaseModel" ({ cls := "java/lang/Object", name := "getClass", desc := "()Ljava/lang/Class;" } : Jvm.MethodName) ({ cls := "java/lang/Object", name := "getClass", desc := "()Ljava/lang/Class;" } : Jvm.MethodName)) ∈ lw_all := lw_g (lw_at lw_m3 35 rfl) rfl
theorem q943 : (Jvm.Cond.selects "TwinphaseModel" ({ cls := "java/lang/Object", name := "hashCode", desc := "()I" } : Jvm.MethodName) ({ cls := "java/lang/Object", name := "hashCode", desc := "()I" } : Jvm.MethodName)) ∈ lw_all := lw_g (lw_at lw_m4 176 rfl) rfl
theorem q1033 : (Jvm.Cond.selects "TwinphaseModel" ({ cls := "java/lang/Object", name := "equals", desc := "(Ljava/lang/Object;)Z" } : Jvm.MethodName) ({ cls := "java/lang/Object", name := "equals", desc := "(Ljava/lang/Object;)Z" } : Jvm.MethodName)) ∈ lw_all := lw_g (lw_at lw_m5 26 rfl) rfl
theorem q2038 : (Jvm.Cond.instantiable "TwinphaseModel" (32 : Nat)) ∈ lw_all := lw_g (lw_at lw_m9 71 rfl) rfl
theorem q2040 : (Jvm.Cond.instanceMethod ({ cls := "TwinphaseModel", name := "<init>", desc := "()V" } : Jvm.MethodName)) ∈ lw_all := lw_g (lw_at lw_m9 73 rfl) rfl
theorem q2041 : (Jvm.Cond.code ({ cls := "TwinphaseModel", name := "<init>", desc := "()V" } : Jvm.MethodName) prog_10_method_1_code (2 : Nat) (Option.none : Option Jvm.ClassFile.FieldType)) ∈ lw_all := lw_g (lw_at lw_m9 74 rfl) rfl
theorem q2042 : (Jvm.Cond.methodLink "TwinphaseModel" (1 : Nat) ({ cls := "java/lang/Object", name := "<init>", desc := "()V" } : Jvm.MethodName)) ∈ lw_all := lw_g (lw_at lw_m9 75 rfl) rfl
theorem q2043 : (Jvm.Cond.fieldLink "TwinphaseModel" (100 : Nat) "TwinphaseModel" "time" "I") ∈ lw_all := lw_g (lw_at lw_m9 76 rfl) rfl
theorem q2044 : (Jvm.Cond.fieldLink "TwinphaseModel" (7 : Nat) "TwinphaseModel" "skews" "[I") ∈ lw_all := lw_g (lw_at lw_m9 77 rfl) rfl
theorem q2045 : (Jvm.Cond.fieldLink "TwinphaseModel" (13 : Nat) "TwinphaseModel" "met" "[I") ∈ lw_all := lw_g (lw_at lw_m9 78 rfl) rfl
theorem q2046 : (Jvm.Cond.fieldLink "TwinphaseModel" (16 : Nat) "TwinphaseModel" "isDown" "[Z") ∈ lw_all := lw_g (lw_at lw_m9 79 rfl) rfl
theorem q2047 : (Jvm.Cond.fieldLink "TwinphaseModel" (20 : Nat) "TwinphaseModel" "ranges" "I") ∈ lw_all := lw_g (lw_at lw_m9 80 rfl) rfl
theorem q2048 : (Jvm.Cond.fieldLink "TwinphaseModel" (24 : Nat) "TwinphaseModel" "begins" "[I") ∈ lw_all := lw_g (lw_at lw_m9 81 rfl) rfl
theorem q2049 : (Jvm.Cond.fieldLink "TwinphaseModel" (27 : Nat) "TwinphaseModel" "nodes" "[I") ∈ lw_all := lw_g (lw_at lw_m9 82 rfl) rfl
theorem q2050 : (Jvm.Cond.fieldLink "TwinphaseModel" (30 : Nat) "TwinphaseModel" "owner" "[I") ∈ lw_all := lw_g (lw_at lw_m9 83 rfl) rfl
theorem q2051 : (Jvm.Cond.fieldLink "TwinphaseModel" (33 : Nat) "TwinphaseModel" "isSure" "[Z") ∈ lw_all := lw_g (lw_at lw_m9 84 rfl) rfl
theorem q2052 : (Jvm.Cond.fieldLink "TwinphaseModel" (36 : Nat) "TwinphaseModel" "meant" "[I") ∈ lw_all := lw_g (lw_at lw_m9 85 rfl) rfl
theorem q2053 : (Jvm.Cond.fieldLink "TwinphaseModel" (39 : Nat) "TwinphaseModel" "readAt" "[I") ∈ lw_all := lw_g (lw_at lw_m9 86 rfl) rfl
theorem q2054 : (Jvm.Cond.fieldLink "TwinphaseModel" (42 : Nat) "TwinphaseModel" "readBy" "[I") ∈ lw_all := lw_g (lw_at lw_m9 87 rfl) rfl
theorem q2055 : (Jvm.Cond.fieldLink "TwinphaseModel" (135 : Nat) "TwinphaseModel" "versions" "I") ∈ lw_all := lw_g (lw_at lw_m9 88 rfl) rfl
theorem q2056 : (Jvm.Cond.fieldLink "TwinphaseModel" (45 : Nat) "TwinphaseModel" "vKey" "[I") ∈ lw_all := lw_g (lw_at lw_m9 89 rfl) rfl
theorem q2057 : (Jvm.Cond.fieldLink "TwinphaseModel" (48 : Nat) "TwinphaseModel" "vStamp" "[I") ∈ lw_all := lw_g (lw_at lw_m9 90 rfl) rfl
theorem q2058 : (Jvm.Cond.fieldLink "TwinphaseModel" (51 : Nat) "TwinphaseModel" "vValue" "[I") ∈ lw_all := lw_g (lw_at lw_m9 91 rfl) rfl
theorem q2059 : (Jvm.Cond.fieldLink "TwinphaseModel" (125 : Nat) "TwinphaseModel" "many" "I") ∈ lw_all := lw_g (lw_at lw_m9 92 rfl) rfl
theorem q2060 : (Jvm.Cond.fieldLink "TwinphaseModel" (54 : Nat) "TwinphaseModel" "home" "[I") ∈ lw_all := lw_g (lw_at lw_m9 93 rfl) rfl
theorem q2061 : (Jvm.Cond.fieldLink "TwinphaseModel" (57 : Nat) "TwinphaseModel" "rank" "[I") ∈ lw_all := lw_g (lw_at lw_m9 94 rfl) rfl
theorem q2062 : (Jvm.Cond.fieldLink "TwinphaseModel" (60 : Nat) "TwinphaseModel" "reads" "[I") ∈ lw_all := lw_g (lw_at lw_m9 95 rfl) rfl
theorem q2063 : (Jvm.Cond.fieldLink "TwinphaseModel" (63 : Nat) "TwinphaseModel" "writes" "[I") ∈ lw_all := lw_g (lw_at lw_m9 96 rfl) rfl
theorem q2064 : (Jvm.Cond.fieldLink "TwinphaseModel" (66 : Nat) "TwinphaseModel" "doubt" "[I") ∈ lw_all := lw_g (lw_at lw_m9 97 rfl) rfl
theorem q2065 : (Jvm.Cond.fieldLink "TwinphaseModel" (69 : Nat) "TwinphaseModel" "beaten" "[I") ∈ lw_all := lw_g (lw_at lw_m9 98 rfl) rfl
theorem q2066 : (Jvm.Cond.fieldLink "TwinphaseModel" (72 : Nat) "TwinphaseModel" "state" "[I") ∈ lw_all := lw_g (lw_at lw_m9 99 rfl) rfl
theorem q2067 : (Jvm.Cond.fieldLink "TwinphaseModel" (75 : Nat) "TwinphaseModel" "waits" "[I") ∈ lw_all := lw_g (lw_at lw_m9 100 rfl) rfl
theorem q2068 : (Jvm.Cond.fieldLink "TwinphaseModel" (78 : Nat) "TwinphaseModel" "committedAs" "[I") ∈ lw_all := lw_g (lw_at lw_m9 101 rfl) rfl
theorem q2069 : (Jvm.Cond.fieldLink "TwinphaseModel" (132 : Nat) "TwinphaseModel" "commits" "I") ∈ lw_all := lw_g (lw_at lw_m9 102 rfl) rfl
theorem q2070 : (Jvm.Cond.fieldLink "TwinphaseModel" (81 : Nat) "TwinphaseModel" "doubtAt" "[I") ∈ lw_all := lw_g (lw_at lw_m9 103 rfl) rfl
theorem q2071 : (Jvm.Cond.fieldLink "TwinphaseModel" (84 : Nat) "TwinphaseModel" "valueRead" "[I") ∈ lw_all := lw_g (lw_at lw_m9 104 rfl) rfl
theorem q2072 : (Jvm.Cond.fieldLink "TwinphaseModel" (87 : Nat) "TwinphaseModel" "valueWritten" "[I") ∈ lw_all := lw_g (lw_at lw_m9 105 rfl) rfl
theorem q2073 : (Jvm.Cond.fieldLink "TwinphaseModel" (90 : Nat) "TwinphaseModel" "once" "[I") ∈ lw_all := lw_g (lw_at lw_m9 106 rfl) rfl
theorem q2074 : (Jvm.Cond.fieldLink "TwinphaseModel" (93 : Nat) "TwinphaseModel" "thrown" "I") ∈ lw_all := lw_g (lw_at lw_m9 107 rfl) rfl
theorem q2075 : (Jvm.Cond.lays "TwinphaseModel" "TwinphaseModel" "time" "I") ∈ lw_all := lw_g (lw_at lw_m9 108 rfl) rfl
theorem q2076 : (Jvm.Cond.soleField "TwinphaseModel" "time") ∈ lw_all := lw_g (lw_at lw_m9 109 rfl) rfl
theorem q2077 : (Jvm.Cond.laysFinal "TwinphaseModel" "TwinphaseModel" "skews" "[I") ∈ lw_all := lw_g (lw_at lw_m9 110 rfl) rfl
theorem q2078 : (Jvm.Cond.soleField "TwinphaseModel" "skews") ∈ lw_all := lw_g (lw_at lw_m9 111 rfl) rfl
theorem q2079 : (Jvm.Cond.laysFinal "TwinphaseModel" "TwinphaseModel" "met" "[I") ∈ lw_all := lw_g (lw_at lw_m9 112 rfl) rfl
theorem q2080 : (Jvm.Cond.soleField "TwinphaseModel" "met") ∈ lw_all := lw_g (lw_at lw_m9 113 rfl) rfl
theorem q2081 : (Jvm.Cond.laysFinal "TwinphaseModel" "TwinphaseModel" "isDown" "[Z") ∈ lw_all := lw_g (lw_at lw_m9 114 rfl) rfl
theorem q2082 : (Jvm.Cond.soleField "TwinphaseModel" "isDown") ∈ lw_all := lw_g (lw_at lw_m9 115 rfl) rfl
theorem q2083 : (Jvm.Cond.lays "TwinphaseModel" "TwinphaseModel" "ranges" "I") ∈ lw_all := lw_g (lw_at lw_m9 116 rfl) rfl
theorem q2084 : (Jvm.Cond.soleField "TwinphaseModel" "ranges") ∈ lw_all := lw_g (lw_at lw_m9 117 rfl) rfl
theorem q2085 : (Jvm.Cond.laysFinal "TwinphaseModel" "TwinphaseModel" "begins" "[I") ∈ lw_all := lw_g (lw_at lw_m9 118 rfl) rfl
theorem q2086 : (Jvm.Cond.soleField "TwinphaseModel" "begins") ∈ lw_all := lw_g (lw_at lw_m9 119 rfl) rfl
theorem q2087 : (Jvm.Cond.laysFinal "TwinphaseModel" "TwinphaseModel" "nodes" "[I") ∈ lw_all := lw_g (lw_at lw_m9 120 rfl) rfl
theorem q2088 : (Jvm.Cond.soleField "TwinphaseModel" "nodes") ∈ lw_all := lw_g (lw_at lw_m9 121 rfl) rfl
theorem q2089 : (Jvm.Cond.laysFinal "TwinphaseModel" "TwinphaseModel" "owner" "[I") ∈ lw_all := lw_g (lw_at lw_m9 122 rfl) rfl
theorem q2090 : (Jvm.Cond.soleField "TwinphaseModel" "owner") ∈ lw_all := lw_g (lw_at lw_m9 123 rfl) rfl
theorem q2091 : (Jvm.Cond.laysFinal "TwinphaseModel" "TwinphaseModel" "isSure" "[Z") ∈ lw_all := lw_g (lw_at lw_m9 124 rfl) rfl
theorem q2092 : (Jvm.Cond.soleField "TwinphaseModel" "isSure") ∈ lw_all := lw_g (lw_at lw_m9 125 rfl) rfl
theorem q2093 : (Jvm.Cond.laysFinal "TwinphaseModel" "TwinphaseModel" "meant" "[I") ∈ lw_all := lw_g (lw_at lw_m9 126 rfl) rfl
theorem q2094 : (Jvm.Cond.soleField "TwinphaseModel" "meant") ∈ lw_all := lw_g (lw_at lw_m9 127 rfl) rfl
theorem q2095 : (Jvm.Cond.laysFinal "TwinphaseModel" "TwinphaseModel" "readAt" "[I") ∈ lw_all := lw_g (lw_at lw_m9 128 rfl) rfl
theorem q2096 : (Jvm.Cond.soleField "TwinphaseModel" "readAt") ∈ lw_all := lw_g (lw_at lw_m9 129 rfl) rfl
theorem q2097 : (Jvm.Cond.laysFinal "TwinphaseModel" "TwinphaseModel" "readBy" "[I") ∈ lw_all := lw_g (lw_at lw_m9 130 rfl) rfl
theorem q2098 : (Jvm.Cond.soleField "TwinphaseModel" "readBy") ∈ lw_all := lw_g (lw_at lw_m9 131 rfl) rfl
theorem q2099 : (Jvm.Cond.lays "TwinphaseModel" "TwinphaseModel" "versions" "I") ∈ lw_all := lw_g (lw_at lw_m9 132 rfl) rfl
theorem q2100 : (Jvm.Cond.soleField "TwinphaseModel" "versions") ∈ lw_all := lw_g (lw_at lw_m9 133 rfl) rfl
theorem q2101 : (Jvm.Cond.laysFinal "TwinphaseModel" "TwinphaseModel" "vKey" "[I") ∈ lw_all := lw_g (lw_at lw_m9 134 rfl) rfl
theorem q2102 : (Jvm.Cond.soleField "TwinphaseModel" "vKey") ∈ lw_all := lw_g (lw_at lw_m9 135 rfl) rfl
theorem q2103 : (Jvm.Cond.laysFinal "TwinphaseModel" "TwinphaseModel" "vStamp" "[I") ∈ lw_all := lw_g (lw_at lw_m9 136 rfl) rfl
theorem q2104 : (Jvm.Cond.soleField "TwinphaseModel" "vStamp") ∈ lw_all := lw_g (lw_at lw_m9 137 rfl) rfl
theorem q2105 : (Jvm.Cond.laysFinal "TwinphaseModel" "TwinphaseModel" "vValue" "[I") ∈ lw_all := lw_g (lw_at lw_m9 138 rfl) rfl
theorem q2106 : (Jvm.Cond.soleField "TwinphaseModel" "vValue") ∈ lw_all := lw_g (lw_at lw_m9 139 rfl) rfl
theorem q2107 : (Jvm.Cond.lays "TwinphaseModel" "TwinphaseModel" "many" "I") ∈ lw_all := lw_g (lw_at lw_m9 140 rfl) rfl
theorem q2108 : (Jvm.Cond.soleField "TwinphaseModel" "many") ∈ lw_all := lw_g (lw_at lw_m9 141 rfl) rfl
theorem q2109 : (Jvm.Cond.laysFinal "TwinphaseModel" "TwinphaseModel" "home" "[I") ∈ lw_all := lw_g (lw_at lw_m9 142 rfl) rfl
theorem q2110 : (Jvm.Cond.soleField "TwinphaseModel" "home") ∈ lw_all := lw_g (lw_at lw_m9 143 rfl) rfl
theorem q2111 : (Jvm.Cond.laysFinal "TwinphaseModel" "TwinphaseModel" "rank" "[I") ∈ lw_all := lw_g (lw_at lw_m9 144 rfl) rfl
theorem q2112 : (Jvm.Cond.soleField "TwinphaseModel" "rank") ∈ lw_all := lw_g (lw_at lw_m9 145 rfl) rfl
theorem q2113 : (Jvm.Cond.laysFinal "TwinphaseModel" "TwinphaseModel" "reads" "[I") ∈ lw_all := lw_g (lw_at lw_m9 146 rfl) rfl
theorem q2114 : (Jvm.Cond.soleField "TwinphaseModel" "reads") ∈ lw_all := lw_g (lw_at lw_m9 147 rfl) rfl
theorem q2115 : (Jvm.Cond.laysFinal "TwinphaseModel" "TwinphaseModel" "writes" "[I") ∈ lw_all := lw_g (lw_at lw_m9 148 rfl) rfl
theorem q2116 : (Jvm.Cond.soleField "TwinphaseModel" "writes") ∈ lw_all := lw_g (lw_at lw_m9 149 rfl) rfl
theorem q2117 : (Jvm.Cond.laysFinal "TwinphaseModel" "TwinphaseModel" "doubt" "[I") ∈ lw_all := lw_g (lw_at lw_m9 150 rfl) rfl
theorem q2118 : (Jvm.Cond.soleField "TwinphaseModel" "doubt") ∈ lw_all := lw_g (lw_at lw_m9 151 rfl) rfl
theorem q2119 : (Jvm.Cond.laysFinal "TwinphaseModel" "TwinphaseModel" "beaten" "[I") ∈ lw_all := lw_g (lw_at lw_m9 152 rfl) rfl
theorem q2120 : (Jvm.Cond.soleField "TwinphaseModel" "beaten") ∈ lw_all := lw_g (lw_at lw_m9 153 rfl) rfl
theorem q2121 : (Jvm.Cond.laysFinal "TwinphaseModel" "TwinphaseModel" "state" "[I") ∈ lw_all := lw_g (lw_at lw_m9 154 rfl) rfl
theorem q2122 : (Jvm.Cond.soleField "TwinphaseModel" "state") ∈ lw_all := lw_g (lw_at lw_m9 155 rfl) rfl
theorem q2123 : (Jvm.Cond.laysFinal "TwinphaseModel" "TwinphaseModel" "waits" "[I") ∈ lw_all := lw_g (lw_at lw_m9 156 rfl) rfl
theorem q2124 : (Jvm.Cond.soleField "TwinphaseModel" "waits") ∈ lw_all := lw_g (lw_at lw_m9 157 rfl) rfl
theorem q2125 : (Jvm.Cond.laysFinal "TwinphaseModel" "TwinphaseModel" "committedAs" "[I") ∈ lw_all := lw_g (lw_at lw_m9 158 rfl) rfl
theorem q2126 : (Jvm.Cond.soleField "TwinphaseModel" "committedAs") ∈ lw_all := lw_g (lw_at lw_m9 159 rfl) rfl
theorem q2127 : (Jvm.Cond.lays "TwinphaseModel" "TwinphaseModel" "commits" "I") ∈ lw_all := lw_g (lw_at lw_m9 160 rfl) rfl
theorem q2128 : (Jvm.Cond.soleField "TwinphaseModel" "commits") ∈ lw_all := lw_g (lw_at lw_m9 161 rfl) rfl
theorem q2129 : (Jvm.Cond.laysFinal "TwinphaseModel" "TwinphaseModel" "doubtAt" "[I") ∈ lw_all := lw_g (lw_at lw_m9 162 rfl) rfl
theorem q2130 : (Jvm.Cond.soleField "TwinphaseModel" "doubtAt") ∈ lw_all := lw_g (lw_at lw_m9 163 rfl) rfl
theorem q2131 : (Jvm.Cond.laysFinal "TwinphaseModel" "TwinphaseModel" "valueRead" "[I") ∈ lw_all := lw_g (lw_at lw_m9 164 rfl) rfl
theorem q2132 : (Jvm.Cond.soleField "TwinphaseModel" "valueRead") ∈ lw_all := lw_g (lw_at lw_m9 165 rfl) rfl
theorem q2133 : (Jvm.Cond.laysFinal "TwinphaseModel" "TwinphaseModel" "valueWritten" "[I") ∈ lw_all := lw_g (lw_at lw_m9 166 rfl) rfl
theorem q2134 : (Jvm.Cond.soleField "TwinphaseModel" "valueWritten") ∈ lw_all := lw_g (lw_at lw_m9 167 rfl) rfl
theorem q2135 : (Jvm.Cond.laysFinal "TwinphaseModel" "TwinphaseModel" "once" "[I") ∈ lw_all := lw_g (lw_at lw_m9 168 rfl) rfl
theorem q2136 : (Jvm.Cond.soleField "TwinphaseModel" "once") ∈ lw_all := lw_g (lw_at lw_m9 169 rfl) rfl
theorem q2137 : (Jvm.Cond.lays "TwinphaseModel" "TwinphaseModel" "thrown" "I") ∈ lw_all := lw_g (lw_at lw_m9 170 rfl) rfl
theorem q2138 : (Jvm.Cond.soleField "TwinphaseModel" "thrown") ∈ lw_all := lw_g (lw_at lw_m9 171 rfl) rfl
theorem q2139 : (Jvm.Cond.superclass "TwinphaseModel" "java/lang/Object") ∈ lw_all := lw_g (lw_at lw_m9 172 rfl) rfl
theorem q2142 : (Jvm.Cond.instanceMethod ({ cls := "TwinphaseModel", name := "thrown", desc := "()I" } : Jvm.MethodName)) ∈ lw_all := lw_g (lw_at lw_m9 175 rfl) rfl
theorem q2143 : (Jvm.Cond.selects "TwinphaseModel" ({ cls := "TwinphaseModel", name := "thrown", desc := "()I" } : Jvm.MethodName) ({ cls := "TwinphaseModel", name := "thrown", desc := "()I" } : Jvm.MethodName)) ∈ lw_all := lw_g (lw_at lw_m9 176 rfl) rfl
theorem q2144 : (Jvm.Cond.code ({ cls := "TwinphaseModel", name := "thrown", desc := "()I" } : Jvm.MethodName) prog_10_method_2_code (1 : Nat) (Option.some Jvm.ClassFile.FieldType.int)) ∈ lw_all := lw_g (lw_at lw_m9 177 rfl) rfl
theorem q2146 : (Jvm.Cond.instanceMethod ({ cls := "TwinphaseModel", name := "pass", desc := "(I)I" } : Jvm.MethodName)) ∈ lw_all := lw_g (lw_at lw_m9 179 rfl) rfl
theorem q2147 : (Jvm.Cond.selects "TwinphaseModel" ({ cls := "TwinphaseModel", name := "pass", desc := "(I)I" } : Jvm.MethodName) ({ cls := "TwinphaseModel", name := "pass", desc := "(I)I" } : Jvm.MethodName)) ∈ lw_all := lw_g (lw_at lw_m9 180 rfl) rfl
theorem q2148 : (Jvm.Cond.code ({ cls := "TwinphaseModel", name := "pass", desc := "(I)I" } : Jvm.MethodName) prog_10_method_5_code (2 : Nat) (Option.some Jvm.ClassFile.FieldType.int)) ∈ lw_all := lw_g (lw_at lw_m9 181 rfl) rfl
theorem q2149 : (Jvm.Cond.methodLink "TwinphaseModel" (96 : Nat) ({ cls := "TwinphaseModel", name := "in", desc := "(III)Z" } : Jvm.MethodName)) ∈ lw_all := lw_g (lw_at lw_m9 182 rfl) rfl
theorem q2150 : (Jvm.Cond.static ({ cls := "TwinphaseModel", name := "in", desc := "(III)Z" } : Jvm.MethodName)) ∈ lw_all := lw_g (lw_at lw_m9 183 rfl) rfl
theorem q2151 : (Jvm.Cond.code ({ cls := "TwinphaseModel", name := "in", desc := "(III)Z" } : Jvm.MethodName) prog_10_method_3_code (3 : Nat) (Option.some Jvm.ClassFile.FieldType.boolean)) ∈ lw_all := lw_g (lw_at lw_m9 184 rfl) rfl
theorem q2153 : (Jvm.Cond.instanceMethod ({ cls := "TwinphaseModel", name := "skew", desc := "(II)I" } : Jvm.MethodName)) ∈ lw_all := lw_g (lw_at lw_m9 186 rfl) rfl
theorem q2154 : (Jvm.Cond.selects "TwinphaseModel" ({ cls := "TwinphaseModel", name := "skew", desc := "(II)I" } : Jvm.MethodName) ({ cls := "TwinphaseModel", name := "skew", desc := "(II)I" } : Jvm.MethodName)) ∈ lw_all := lw_g (lw_at lw_m9 187 rfl) rfl
theorem q2155 : (Jvm.Cond.code ({ cls := "TwinphaseModel", name := "skew", desc := "(II)I" } : Jvm.MethodName) prog_10_method_6_code (4 : Nat) (Option.some Jvm.ClassFile.FieldType.int)) ∈ lw_all := lw_g (lw_at lw_m9 188 rfl) rfl
theorem q2157 : (Jvm.Cond.instanceMethod ({ cls := "TwinphaseModel", name := "clock", desc := "(I)I" } : Jvm.MethodName)) ∈ lw_all := lw_g (lw_at lw_m9 190 rfl) rfl
theorem q2158 : (Jvm.Cond.selects "TwinphaseModel" ({ cls := "TwinphaseModel", name := "clock", desc := "(I)I" } : Jvm.MethodName) ({ cls := "TwinphaseModel", name := "clock", desc := "(I)I" } : Jvm.MethodName)) ∈ lw_all := lw_g (lw_at lw_m9 191 rfl) rfl
theorem q2159 : (Jvm.Cond.code ({ cls := "TwinphaseModel", name := "clock", desc := "(I)I" } : Jvm.MethodName) prog_10_method_8_code (2 : Nat) (Option.some Jvm.ClassFile.FieldType.int)) ∈ lw_all := lw_g (lw_at lw_m9 192 rfl) rfl
theorem q2160 : (Jvm.Cond.methodLink "TwinphaseModel" (107 : Nat) ({ cls := "TwinphaseModel", name := "asks", desc := "(I)I" } : Jvm.MethodName)) ∈ lw_all := lw_g (lw_at lw_m9 193 rfl) rfl
theorem q2161 : (Jvm.Cond.privateMethod ({ cls := "TwinphaseModel", name := "asks", desc := "(I)I" } : Jvm.MethodName)) ∈ lw_tbl := lw_at lw_m9 194 rfl
theorem q2162 : (Jvm.Cond.instanceMethod ({ cls := "TwinphaseModel", name := "asks", desc := "(I)I" } : Jvm.MethodName)) ∈ lw_all := lw_g (lw_at lw_m9 195 rfl) rfl
theorem q2163 : (Jvm.Cond.code ({ cls := "TwinphaseModel", name := "asks", desc := "(I)I" } : Jvm.MethodName) prog_10_method_7_code (2 : Nat) (Option.some Jvm.ClassFile.FieldType.int)) ∈ lw_all := lw_g (lw_at lw_m9 196 rfl) rfl
theorem q2164 : (Jvm.Cond.methodLink "TwinphaseModel" (103 : Nat) ({ cls := "TwinphaseModel", name := "greater", desc := "(II)I" } : Jvm.MethodName)) ∈ lw_all := lw_g (lw_at lw_m9 197 rfl) rfl
theorem q2165 : (Jvm.Cond.static ({ cls := "TwinphaseModel", name := "greater", desc := "(II)I" } : Jvm.MethodName)) ∈ lw_all := lw_g (lw_at lw_m9 198 rfl) rfl
theorem q2166 : (Jvm.Cond.code ({ cls := "TwinphaseModel", name := "greater", desc := "(II)I" } : Jvm.MethodName) prog_10_method_4_code (2 : Nat) (Option.some Jvm.ClassFile.FieldType.int)) ∈ lw_all := lw_g (lw_at lw_m9 199 rfl) rfl
theorem q2168 : (Jvm.Cond.instanceMethod ({ cls := "TwinphaseModel", name := "closed", desc := "()I" } : Jvm.MethodName)) ∈ lw_all := lw_g (lw_at lw_m9 201 rfl) rfl
theorem q2169 : (Jvm.Cond.selects "TwinphaseModel" ({ cls := "TwinphaseModel", name := "closed", desc := "()I" } : Jvm.MethodName) ({ cls := "TwinphaseModel", name := "closed", desc := "()I" } : Jvm.MethodName)) ∈ lw_all := lw_g (lw_at lw_m9 202 rfl) rfl
theorem q2170 : (Jvm.Cond.code ({ cls := "TwinphaseModel", name := "closed", desc := "()I" } : Jvm.MethodName) prog_10_method_10_code (1 : Nat) (Option.some Jvm.ClassFile.FieldType.int)) ∈ lw_all := lw_g (lw_at lw_m9 203 rfl) rfl
theorem q2171 : (Jvm.Cond.methodLink "TwinphaseModel" (111 : Nat) ({ cls := "TwinphaseModel", name := "closedNow", desc := "()I" } : Jvm.MethodName)) ∈ lw_all := lw_g (lw_at lw_m9 204 rfl) rfl
theorem q2172 : (Jvm.Cond.privateMethod ({ cls := "TwinphaseModel", name := "closedNow", desc := "()I" } : Jvm.MethodName)) ∈ lw_tbl := lw_at lw_m9 205 rfl
theorem q2173 : (Jvm.Cond.instanceMethod ({ cls := "TwinphaseModel", name := "closedNow", desc := "()I" } : Jvm.MethodName)) ∈ lw_all := lw_g (lw_at lw_m9 206 rfl) rfl
theorem q2174 : (Jvm.Cond.code ({ cls := "TwinphaseModel", name := "closedNow", desc := "()I" } : Jvm.MethodName) prog_10_method_9_code (1 : Nat) (Option.some Jvm.ClassFile.FieldType.int)) ∈ lw_all := lw_g (lw_at lw_m9 207 rfl) rfl
theorem q2176 : (Jvm.Cond.instanceMethod ({ cls := "TwinphaseModel", name := "down", desc := "(I)I" } : Jvm.MethodName)) ∈ lw_all := lw_g (lw_at lw_m9 209 rfl) rfl
theorem q2177 : (Jvm.Cond.selects "TwinphaseModel" ({ cls := "TwinphaseModel", name := "down", desc := "(I)I" } : Jvm.MethodName) ({ cls := "TwinphaseModel", name := "down", desc := "(I)I" } : Jvm.MethodName)) ∈ lw_all := lw_g (lw_at lw_m9 210 rfl) rfl
theorem q2178 : (Jvm.Cond.code ({ cls := "TwinphaseModel", name := "down", desc := "(I)I" } : Jvm.MethodName) prog_10_method_13_code (4 : Nat) (Option.some Jvm.ClassFile.FieldType.int)) ∈ lw_all := lw_g (lw_at lw_m9 211 rfl) rfl
theorem q2179 : (Jvm.Cond.methodLink "TwinphaseModel" (118 : Nat) ({ cls := "TwinphaseModel", name := "nodeOf", desc := "(I)I" } : Jvm.MethodName)) ∈ lw_all := lw_g (lw_at lw_m9 212 rfl) rfl
theorem q2180 : (Jvm.Cond.privateMethod ({ cls := "TwinphaseModel", name := "nodeOf", desc := "(I)I" } : Jvm.MethodName)) ∈ lw_tbl := lw_at lw_m9 213 rfl
theorem q2181 : (Jvm.Cond.instanceMethod ({ cls := "TwinphaseModel", name := "nodeOf", desc := "(I)I" } : Jvm.MethodName)) ∈ lw_all := lw_g (lw_at lw_m9 214 rfl) rfl
theorem q2182 : (Jvm.Cond.code ({ cls := "TwinphaseModel", name := "nodeOf", desc := "(I)I" } : Jvm.MethodName) prog_10_method_12_code (2 : Nat) (Option.some Jvm.ClassFile.FieldType.int)) ∈ lw_all := lw_g (lw_at lw_m9 215 rfl) rfl
theorem q2183 : (Jvm.Cond.methodLink "TwinphaseModel" (115 : Nat) ({ cls := "TwinphaseModel", name := "rangeOf", desc := "(I)I" } : Jvm.MethodName)) ∈ lw_all := lw_g (lw_at lw_m9 216 rfl) rfl
theorem q2184 : (Jvm.Cond.privateMethod ({ cls := "TwinphaseModel", name := "rangeOf", desc := "(I)I" } : Jvm.MethodName)) ∈ lw_tbl := lw_at lw_m9 217 rfl
theorem q2185 : (Jvm.Cond.instanceMethod ({ cls := "TwinphaseModel", name := "rangeOf", desc := "(I)I" } : Jvm.MethodName)) ∈ lw_all := lw_g (lw_at lw_m9 218 rfl) rfl
theorem q2186 : (Jvm.Cond.code ({ cls := "TwinphaseModel", name := "rangeOf", desc := "(I)I" } : Jvm.MethodName) prog_10_method_11_code (3 : Nat) (Option.some Jvm.ClassFile.FieldType.int)) ∈ lw_all := lw_g (lw_at lw_m9 219 rfl) rfl
theorem q2188 : (Jvm.Cond.instanceMethod ({ cls := "TwinphaseModel", name := "up", desc := "(I)I" } : Jvm.MethodName)) ∈ lw_all := lw_g (lw_at lw_m9 221 rfl) rfl
theorem q2189 : (Jvm.Cond.selects "TwinphaseModel" ({ cls := "TwinphaseModel", name := "up", desc := "(I)I" } : Jvm.MethodName) ({ cls := "TwinphaseModel", name := "up", desc := "(I)I" } : Jvm.MethodName)) ∈ lw_all := lw_g (lw_at lw_m9 222 rfl) rfl
theorem q2190 : (Jvm.Cond.code ({ cls := "TwinphaseModel", name := "up", desc := "(I)I" } : Jvm.MethodName) prog_10_method_15_code (4 : Nat) (Option.some Jvm.ClassFile.FieldType.int)) ∈ lw_all := lw_g (lw_at lw_m9 223 rfl) rfl
theorem q2191 : (Jvm.Cond.methodLink "TwinphaseModel" (121 : Nat) ({ cls := "TwinphaseModel", name := "covers", desc := "(II)V" } : Jvm.MethodName)) ∈ lw_all := lw_g (lw_at lw_m9 224 rfl) rfl
theorem q2192 : (Jvm.Cond.privateMethod ({ cls := "TwinphaseModel", name := "covers", desc := "(II)V" } : Jvm.MethodName)) ∈ lw_tbl := lw_at lw_m9 225 rfl
theorem q2193 : (Jvm.Cond.instanceMethod ({ cls := "TwinphaseModel", name := "covers", desc := "(II)V" } : Jvm.MethodName)) ∈ lw_all := lw_g (lw_at lw_m9 226 rfl) rfl
theorem q2194 : (Jvm.Cond.code ({ cls := "TwinphaseModel", name := "covers", desc := "(II)V" } : Jvm.MethodName) prog_10_method_14_code (3 : Nat) (Option.none : Option Jvm.ClassFile.FieldType)) ∈ lw_all := lw_g (lw_at lw_m9 227 rfl) rfl
theorem q2196 : (Jvm.Cond.instanceMethod ({ cls := "TwinphaseModel", name := "sync", desc := "(I)I" } : Jvm.MethodName)) ∈ lw_all := lw_g (lw_at lw_m9 229 rfl) rfl
theorem q2197 : (Jvm.Cond.selects "TwinphaseModel" ({ cls := "TwinphaseModel", name := "sync", desc := "(I)I" } : Jvm.MethodName) ({ cls := "TwinphaseModel", name := "sync", desc := "(I)I" } : Jvm.MethodName)) ∈ lw_all := lw_g (lw_at lw_m9 230 rfl) rfl
theorem q2198 : (Jvm.Cond.code ({ cls := "TwinphaseModel", name := "sync", desc := "(I)I" } : Jvm.MethodName) prog_10_method_16_code (4 : Nat) (Option.some Jvm.ClassFile.FieldType.int)) ∈ lw_all := lw_g (lw_at lw_m9 231 rfl) rfl
theorem q2200 : (Jvm.Cond.instanceMethod ({ cls := "TwinphaseModel", name := "split", desc := "(I)I" } : Jvm.MethodName)) ∈ lw_all := lw_g (lw_at lw_m9 233 rfl) rfl
theorem q2201 : (Jvm.Cond.selects "TwinphaseModel" ({ cls := "TwinphaseModel", name := "split", desc := "(I)I" } : Jvm.MethodName) ({ cls := "TwinphaseModel", name := "split", desc := "(I)I" } : Jvm.MethodName)) ∈ lw_all := lw_g (lw_at lw_m9 234 rfl) rfl
theorem q2202 : (Jvm.Cond.code ({ cls := "TwinphaseModel", name := "split", desc := "(I)I" } : Jvm.MethodName) prog_10_method_17_code (4 : Nat) (Option.some Jvm.ClassFile.FieldType.int)) ∈ lw_all := lw_g (lw_at lw_m9 235 rfl) rfl
theorem q2204 : (Jvm.Cond.instanceMethod ({ cls := "TwinphaseModel", name := "merge", desc := "(I)I" } : Jvm.MethodName)) ∈ lw_all := lw_g (lw_at lw_m9 237 rfl) rfl
theorem q2205 : (Jvm.Cond.selects "TwinphaseModel" ({ cls := "TwinphaseModel", name := "merge", desc := "(I)I" } : Jvm.MethodName) ({ cls := "TwinphaseModel", name := "merge", desc := "(I)I" } : Jvm.MethodName)) ∈ lw_all := lw_g (lw_at lw_m9 238 rfl) rfl
theorem q2206 : (Jvm.Cond.code ({ cls := "TwinphaseModel", name := "merge", desc := "(I)I" } : Jvm.MethodName) prog_10_method_18_code (3 : Nat) (Option.some Jvm.ClassFile.FieldType.int)) ∈ lw_all := lw_g (lw_at lw_m9 239 rfl) rfl
theorem q2208 : (Jvm.Cond.instanceMethod ({ cls := "TwinphaseModel", name := "move", desc := "(II)I" } : Jvm.MethodName)) ∈ lw_all := lw_g (lw_at lw_m10 1 rfl) rfl
theorem q2209 : (Jvm.Cond.selects "TwinphaseModel" ({ cls := "TwinphaseModel", name := "move", desc := "(II)I" } : Jvm.MethodName) ({ cls := "TwinphaseModel", name := "move", desc := "(II)I" } : Jvm.MethodName)) ∈ lw_all := lw_g (lw_at lw_m10 2 rfl) rfl
theorem q2210 : (Jvm.Cond.code ({ cls := "TwinphaseModel", name := "move", desc := "(II)I" } : Jvm.MethodName) prog_10_method_19_code (6 : Nat) (Option.some Jvm.ClassFile.FieldType.int)) ∈ lw_all := lw_g (lw_at lw_m10 3 rfl) rfl
theorem q2212 : (Jvm.Cond.instanceMethod ({ cls := "TwinphaseModel", name := "begin", desc := "(II)I" } : Jvm.MethodName)) ∈ lw_all := lw_g (lw_at lw_m10 5 rfl) rfl
theorem q2213 : (Jvm.Cond.selects "TwinphaseModel" ({ cls := "TwinphaseModel", name := "begin", desc := "(II)I" } : Jvm.MethodName) ({ cls := "TwinphaseModel", name := "begin", desc := "(II)I" } : Jvm.MethodName)) ∈ lw_all := lw_g (lw_at lw_m10 6 rfl) rfl
theorem q2214 : (Jvm.Cond.code ({ cls := "TwinphaseModel", name := "begin", desc := "(II)I" } : Jvm.MethodName) prog_10_method_20_code (5 : Nat) (Option.some Jvm.ClassFile.FieldType.int)) ∈ lw_all := lw_g (lw_at lw_m10 7 rfl) rfl
theorem q2215 : (Jvm.Cond.methodLink "TwinphaseModel" (128 : Nat) ({ cls := "TwinphaseModel", name := "forgets", desc := "(I)V" } : Jvm.MethodName)) ∈ lw_all := lw_g (lw_at lw_m10 8 rfl) rfl
theorem q2216 : (Jvm.Cond.privateMethod ({ cls := "TwinphaseModel", name := "forgets", desc := "(I)V" } : Jvm.MethodName)) ∈ lw_tbl := lw_at lw_m10 9 rfl
theorem q2217 : (Jvm.Cond.instanceMethod ({ cls := "TwinphaseModel", name := "forgets", desc := "(I)V" } : Jvm.MethodName)) ∈ lw_all := lw_g (lw_at lw_m10 10 rfl) rfl
theorem q2218 : (Jvm.Cond.code ({ cls := "TwinphaseModel", name := "forgets", desc := "(I)V" } : Jvm.MethodName) prog_10_method_21_code (3 : Nat) (Option.none : Option Jvm.ClassFile.FieldType)) ∈ lw_all := lw_g (lw_at lw_m10 11 rfl) rfl
theorem q2220 : (Jvm.Cond.instanceMethod ({ cls := "TwinphaseModel", name := "get", desc := "(II)I" } : Jvm.MethodName)) ∈ lw_all := lw_g (lw_at lw_m10 13 rfl) rfl
theorem q2221 : (Jvm.Cond.selects "TwinphaseModel" ({ cls := "TwinphaseModel", name := "get", desc := "(II)I" } : Jvm.MethodName) ({ cls := "TwinphaseModel", name := "get", desc := "(II)I" } : Jvm.MethodName)) ∈ lw_all := lw_g (lw_at lw_m10 14 rfl) rfl
theorem q2222 : (Jvm.Cond.code ({ cls := "TwinphaseModel", name := "get", desc := "(II)I" } : Jvm.MethodName) prog_10_method_37_code (10 : Nat) (Option.some Jvm.ClassFile.FieldType.int)) ∈ lw_all := lw_g (lw_at lw_m10 15 rfl) rfl
theorem q2223 : (Jvm.Cond.methodLink "TwinphaseModel" (163 : Nat) ({ cls := "TwinphaseModel", name := "areThere", desc := "(II)Z" } : Jvm.MethodName)) ∈ lw_all := lw_g (lw_at lw_m10 16 rfl) rfl
theorem q2224 : (Jvm.Cond.privateMethod ({ cls := "TwinphaseModel", name := "areThere", desc := "(II)Z" } : Jvm.MethodName)) ∈ lw_tbl := lw_at lw_m10 17 rfl
theorem q2225 : (Jvm.Cond.instanceMethod ({ cls := "TwinphaseModel", name := "areThere", desc := "(II)Z" } : Jvm.MethodName)) ∈ lw_all := lw_g (lw_at lw_m10 18 rfl) rfl
theorem q2226 : (Jvm.Cond.code ({ cls := "TwinphaseModel", name := "areThere", desc := "(II)Z" } : Jvm.MethodName) prog_10_method_36_code (3 : Nat) (Option.some Jvm.ClassFile.FieldType.boolean)) ∈ lw_all := lw_g (lw_at lw_m10 19 rfl) rfl
theorem q2227 : (Jvm.Cond.methodLink "TwinphaseModel" (167 : Nat) ({ cls := "TwinphaseModel", name := "opens", desc := "(II)I" } : Jvm.MethodName)) ∈ lw_all := lw_g (lw_at lw_m10 20 rfl) rfl
theorem q2228 : (Jvm.Cond.privateMethod ({ cls := "TwinphaseModel", name := "opens", desc := "(II)I" } : Jvm.MethodName)) ∈ lw_tbl := lw_at lw_m10 21 rfl
theorem q2229 : (Jvm.Cond.instanceMethod ({ cls := "TwinphaseModel", name := "opens", desc := "(II)I" } : Jvm.MethodName)) ∈ lw_all := lw_g (lw_at lw_m10 22 rfl) rfl
theorem q2230 : (Jvm.Cond.code ({ cls := "TwinphaseModel", name := "opens", desc := "(II)I" } : Jvm.MethodName) prog_10_method_35_code (5 : Nat) (Option.some Jvm.ClassFile.FieldType.int)) ∈ lw_all := lw_g (lw_at lw_m10 23 rfl) rfl
theorem q2231 : (Jvm.Cond.methodLink "TwinphaseModel" (153 : Nat) ({ cls := "TwinphaseModel", name := "meets", desc := "(II)I" } : Jvm.MethodName)) ∈ lw_all := lw_g (lw_at lw_m10 24 rfl) rfl
theorem q2232 : (Jvm.Cond.privateMethod ({ cls := "TwinphaseModel", name := "meets", desc := "(II)I" } : Jvm.MethodName)) ∈ lw_tbl := lw_at lw_m10 25 rfl
theorem q2233 : (Jvm.Cond.instanceMethod ({ cls := "TwinphaseModel", name := "meets", desc := "(II)I" } : Jvm.MethodName)) ∈ lw_all := lw_g (lw_at lw_m10 26 rfl) rfl
theorem q2234 : (Jvm.Cond.code ({ cls := "TwinphaseModel", name := "meets", desc := "(II)I" } : Jvm.MethodName) prog_10_method_26_code (4 : Nat) (Option.some Jvm.ClassFile.FieldType.int)) ∈ lw_all := lw_g (lw_at lw_m10 27 rfl) rfl
theorem q2235 : (Jvm.Cond.methodLink "TwinphaseModel" (144 : Nat) ({ cls := "TwinphaseModel", name := "recovers", desc := "(I)V" } : Jvm.MethodName)) ∈ lw_all := lw_g (lw_at lw_m10 28 rfl) rfl
theorem q2236 : (Jvm.Cond.privateMethod ({ cls := "TwinphaseModel", name := "recovers", desc := "(I)V" } : Jvm.MethodName)) ∈ lw_tbl := lw_at lw_m10 29 rfl
theorem q2237 : (Jvm.Cond.instanceMethod ({ cls := "TwinphaseModel", name := "recovers", desc := "(I)V" } : Jvm.MethodName)) ∈ lw_all := lw_g (lw_at lw_m10 30 rfl) rfl
theorem q2238 : (Jvm.Cond.code ({ cls := "TwinphaseModel", name := "recovers", desc := "(I)V" } : Jvm.MethodName) prog_10_method_25_code (2 : Nat) (Option.none : Option Jvm.ClassFile.FieldType)) ∈ lw_all := lw_g (lw_at lw_m10 31 rfl) rfl
theorem q2239 : (Jvm.Cond.methodLink "TwinphaseModel" (138 : Nat) ({ cls := "TwinphaseModel", name := "hasAllIntents", desc := "(I)Z" } : Jvm.MethodName)) ∈ lw_all := lw_g (lw_at lw_m10 32 rfl) rfl
theorem q2240 : (Jvm.Cond.privateMethod ({ cls := "TwinphaseModel", name := "hasAllIntents", desc := "(I)Z" } : Jvm.MethodName)) ∈ lw_tbl := lw_at lw_m10 33 rfl
theorem q2241 : (Jvm.Cond.instanceMethod ({ cls := "TwinphaseModel", name := "hasAllIntents", desc := "(I)Z" } : Jvm.MethodName)) ∈ lw_all := lw_g (lw_at lw_m10 34 rfl) rfl
theorem q2242 : (Jvm.Cond.code ({ cls := "TwinphaseModel", name := "hasAllIntents", desc := "(I)Z" } : Jvm.MethodName) prog_10_method_24_code (4 : Nat) (Option.some Jvm.ClassFile.FieldType.boolean)) ∈ lw_all := lw_g (lw_at lw_m10 35 rfl) rfl
theorem q2243 : (Jvm.Cond.methodLink "TwinphaseModel" (142 : Nat) ({ cls := "TwinphaseModel", name := "commits", desc := "(I)V" } : Jvm.MethodName)) ∈ lw_all := lw_g (lw_at lw_m10 36 rfl) rfl
theorem q2244 : (Jvm.Cond.privateMethod ({ cls := "TwinphaseModel", name := "commits", desc := "(I)V" } : Jvm.MethodName)) ∈ lw_tbl := lw_at lw_m10 37 rfl
theorem q2245 : (Jvm.Cond.instanceMethod ({ cls := "TwinphaseModel", name := "commits", desc := "(I)V" } : Jvm.MethodName)) ∈ lw_all := lw_g (lw_at lw_m10 38 rfl) rfl
theorem q2246 : (Jvm.Cond.code ({ cls := "TwinphaseModel", name := "commits", desc := "(I)V" } : Jvm.MethodName) prog_10_method_23_code (3 : Nat) (Option.none : Option Jvm.ClassFile.FieldType)) ∈ lw_all := lw_g (lw_at lw_m10 39 rfl) rfl
theorem q2247 : (Jvm.Cond.methodLink "TwinphaseModel" (147 : Nat) ({ cls := "TwinphaseModel", name := "isVanished", desc := "(I)Z" } : Jvm.MethodName)) ∈ lw_all := lw_g (lw_at lw_m10 40 rfl) rfl
theorem q2248 : (Jvm.Cond.privateMethod ({ cls := "TwinphaseModel", name := "isVanished", desc := "(I)Z" } : Jvm.MethodName)) ∈ lw_tbl := lw_at lw_m10 41 rfl
theorem q2249 : (Jvm.Cond.instanceMethod ({ cls := "TwinphaseModel", name := "isVanished", desc := "(I)Z" } : Jvm.MethodName)) ∈ lw_all := lw_g (lw_at lw_m10 42 rfl) rfl
theorem q2250 : (Jvm.Cond.code ({ cls := "TwinphaseModel", name := "isVanished", desc := "(I)Z" } : Jvm.MethodName) prog_10_method_22_code (2 : Nat) (Option.some Jvm.ClassFile.FieldType.boolean)) ∈ lw_all := lw_g (lw_at lw_m10 43 rfl) rfl
theorem q2251 : (Jvm.Cond.methodLink "TwinphaseModel" (170 : Nat) ({ cls := "TwinphaseModel", name := "comesAnew", desc := "(II)Z" } : Jvm.MethodName)) ∈ lw_all := lw_g (lw_at lw_m10 44 rfl) rfl
theorem q2252 : (Jvm.Cond.privateMethod ({ cls := "TwinphaseModel", name := "comesAnew", desc := "(II)Z" } : Jvm.MethodName)) ∈ lw_tbl := lw_at lw_m10 45 rfl
theorem q2253 : (Jvm.Cond.instanceMethod ({ cls := "TwinphaseModel", name := "comesAnew", desc := "(II)Z" } : Jvm.MethodName)) ∈ lw_all := lw_g (lw_at lw_m10 46 rfl) rfl
theorem q2254 : (Jvm.Cond.code ({ cls := "TwinphaseModel", name := "comesAnew", desc := "(II)Z" } : Jvm.MethodName) prog_10_method_33_code (6 : Nat) (Option.some Jvm.ClassFile.FieldType.boolean)) ∈ lw_all := lw_g (lw_at lw_m10 47 rfl) rfl
theorem q2255 : (Jvm.Cond.methodLink "TwinphaseModel" (160 : Nat) ({ cls := "TwinphaseModel", name := "waitsFor", desc := "(I)I" } : Jvm.MethodName)) ∈ lw_all := lw_g (lw_at lw_m10 48 rfl) rfl
theorem q2256 : (Jvm.Cond.privateMethod ({ cls := "TwinphaseModel", name := "waitsFor", desc := "(I)I" } : Jvm.MethodName)) ∈ lw_tbl := lw_at lw_m10 49 rfl
theorem q2257 : (Jvm.Cond.instanceMethod ({ cls := "TwinphaseModel", name := "waitsFor", desc := "(I)I" } : Jvm.MethodName)) ∈ lw_all := lw_g (lw_at lw_m10 50 rfl) rfl
theorem q2258 : (Jvm.Cond.code ({ cls := "TwinphaseModel", name := "waitsFor", desc := "(I)I" } : Jvm.MethodName) prog_10_method_32_code (2 : Nat) (Option.some Jvm.ClassFile.FieldType.int)) ∈ lw_all := lw_g (lw_at lw_m10 51 rfl) rfl
theorem q2259 : (Jvm.Cond.methodLink "TwinphaseModel" (173 : Nat) ({ cls := "TwinphaseModel", name := "waitAnswer", desc := "(I)I" } : Jvm.MethodName)) ∈ lw_all := lw_g (lw_at lw_m10 52 rfl) rfl
theorem q2260 : (Jvm.Cond.privateMethod ({ cls := "TwinphaseModel", name := "waitAnswer", desc := "(I)I" } : Jvm.MethodName)) ∈ lw_tbl := lw_at lw_m10 53 rfl
theorem q2261 : (Jvm.Cond.instanceMethod ({ cls := "TwinphaseModel", name := "waitAnswer", desc := "(I)I" } : Jvm.MethodName)) ∈ lw_all := lw_g (lw_at lw_m10 54 rfl) rfl
theorem q2262 : (Jvm.Cond.code ({ cls := "TwinphaseModel", name := "waitAnswer", desc := "(I)I" } : Jvm.MethodName) prog_10_method_34_code (2 : Nat) (Option.some Jvm.ClassFile.FieldType.int)) ∈ lw_all := lw_g (lw_at lw_m10 55 rfl) rfl
theorem q2263 : (Jvm.Cond.methodLink "TwinphaseModel" (150 : Nat) ({ cls := "TwinphaseModel", name := "latest", desc := "(II)I" } : Jvm.MethodName)) ∈ lw_all := lw_g (lw_at lw_m10 56 rfl) rfl
theorem q2264 : (Jvm.Cond.privateMethod ({ cls := "TwinphaseModel", name := "latest", desc := "(II)I" } : Jvm.MethodName)) ∈ lw_tbl := lw_at lw_m10 57 rfl
theorem q2265 : (Jvm.Cond.instanceMethod ({ cls := "TwinphaseModel", name := "latest", desc := "(II)I" } : Jvm.MethodName)) ∈ lw_all := lw_g (lw_at lw_m10 58 rfl) rfl
theorem q2266 : (Jvm.Cond.code ({ cls := "TwinphaseModel", name := "latest", desc := "(II)I" } : Jvm.MethodName) prog_10_method_27_code (5 : Nat) (Option.some Jvm.ClassFile.FieldType.int)) ∈ lw_all := lw_g (lw_at lw_m10 59 rfl) rfl
theorem q2267 : (Jvm.Cond.methodLink "TwinphaseModel" (176 : Nat) ({ cls := "TwinphaseModel", name := "refreshes", desc := "(II)Z" } : Jvm.MethodName)) ∈ lw_all := lw_g (lw_at lw_m10 60 rfl) rfl
theorem q2268 : (Jvm.Cond.privateMethod ({ cls := "TwinphaseModel", name := "refreshes", desc := "(II)Z" } : Jvm.MethodName)) ∈ lw_tbl := lw_at lw_m10 61 rfl
theorem q2269 : (Jvm.Cond.instanceMethod ({ cls := "TwinphaseModel", name := "refreshes", desc := "(II)Z" } : Jvm.MethodName)) ∈ lw_all := lw_g (lw_at lw_m10 62 rfl) rfl
theorem q2270 : (Jvm.Cond.code ({ cls := "TwinphaseModel", name := "refreshes", desc := "(II)Z" } : Jvm.MethodName) prog_10_method_30_code (5 : Nat) (Option.some Jvm.ClassFile.FieldType.boolean)) ∈ lw_all := lw_g (lw_at lw_m10 63 rfl) rfl
theorem q2271 : (Jvm.Cond.methodLink "TwinphaseModel" (156 : Nat) ({ cls := "TwinphaseModel", name := "marks", desc := "(III)V" } : Jvm.MethodName)) ∈ lw_all := lw_g (lw_at lw_m10 64 rfl) rfl
theorem q2272 : (Jvm.Cond.privateMethod ({ cls := "TwinphaseModel", name := "marks", desc := "(III)V" } : Jvm.MethodName)) ∈ lw_tbl := lw_at lw_m10 65 rfl
theorem q2273 : (Jvm.Cond.instanceMethod ({ cls := "TwinphaseModel", name := "marks", desc := "(III)V" } : Jvm.MethodName)) ∈ lw_all := lw_g (lw_at lw_m10 66 rfl) rfl
theorem q2274 : (Jvm.Cond.code ({ cls := "TwinphaseModel", name := "marks", desc := "(III)V" } : Jvm.MethodName) prog_10_method_29_code (4 : Nat) (Option.none : Option Jvm.ClassFile.FieldType)) ∈ lw_all := lw_g (lw_at lw_m10 67 rfl) rfl
theorem q2275 : (Jvm.Cond.methodLink "TwinphaseModel" (179 : Nat) ({ cls := "TwinphaseModel", name := "restarts", desc := "(II)I" } : Jvm.MethodName)) ∈ lw_all := lw_g (lw_at lw_m10 68 rfl) rfl
theorem q2276 : (Jvm.Cond.privateMethod ({ cls := "TwinphaseModel", name := "restarts", desc := "(II)I" } : Jvm.MethodName)) ∈ lw_tbl := lw_at lw_m10 69 rfl
theorem q2277 : (Jvm.Cond.instanceMethod ({ cls := "TwinphaseModel", name := "restarts", desc := "(II)I" } : Jvm.MethodName)) ∈ lw_all := lw_g (lw_at lw_m10 70 rfl) rfl
theorem q2278 : (Jvm.Cond.code ({ cls := "TwinphaseModel", name := "restarts", desc := "(II)I" } : Jvm.MethodName) prog_10_method_31_code (4 : Nat) (Option.some Jvm.ClassFile.FieldType.int)) ∈ lw_all := lw_g (lw_at lw_m10 71 rfl) rfl
theorem q2279 : (Jvm.Cond.methodLink "TwinphaseModel" (182 : Nat) ({ cls := "TwinphaseModel", name := "valueAt", desc := "(II)I" } : Jvm.MethodName)) ∈ lw_all := lw_g (lw_at lw_m10 72 rfl) rfl
theorem q2280 : (Jvm.Cond.privateMethod ({ cls := "TwinphaseModel", name := "valueAt", desc := "(II)I" } : Jvm.MethodName)) ∈ lw_tbl := lw_at lw_m10 73 rfl
theorem q2281 : (Jvm.Cond.instanceMethod ({ cls := "TwinphaseModel", name := "valueAt", desc := "(II)I" } : Jvm.MethodName)) ∈ lw_all := lw_g (lw_at lw_m10 74 rfl) rfl
theorem q2282 : (Jvm.Cond.code ({ cls := "TwinphaseModel", name := "valueAt", desc := "(II)I" } : Jvm.MethodName) prog_10_method_28_code (6 : Nat) (Option.some Jvm.ClassFile.FieldType.int)) ∈ lw_all := lw_g (lw_at lw_m10 75 rfl) rfl
theorem q2284 : (Jvm.Cond.instanceMethod ({ cls := "TwinphaseModel", name := "put", desc := "(III)I" } : Jvm.MethodName)) ∈ lw_all := lw_g (lw_at lw_m10 77 rfl) rfl
theorem q2285 : (Jvm.Cond.selects "TwinphaseModel" ({ cls := "TwinphaseModel", name := "put", desc := "(III)I" } : Jvm.MethodName) ({ cls := "TwinphaseModel", name := "put", desc := "(III)I" } : Jvm.MethodName)) ∈ lw_all := lw_g (lw_at lw_m10 78 rfl) rfl
theorem q2286 : (Jvm.Cond.code ({ cls := "TwinphaseModel", name := "put", desc := "(III)I" } : Jvm.MethodName) prog_10_method_38_code (7 : Nat) (Option.some Jvm.ClassFile.FieldType.int)) ∈ lw_all := lw_g (lw_at lw_m10 79 rfl) rfl
theorem q2287 : (Jvm.Cond.constant "TwinphaseModel" (185 : Nat) (1000000 : Int32)) ∈ lw_all := lw_g (lw_at lw_m10 80 rfl) rfl
theorem q2289 : (Jvm.Cond.instanceMethod ({ cls := "TwinphaseModel", name := "commit", desc := "(IZ)I" } : Jvm.MethodName)) ∈ lw_all := lw_g (lw_at lw_m10 82 rfl) rfl
theorem q2290 : (Jvm.Cond.selects "TwinphaseModel" ({ cls := "TwinphaseModel", name := "commit", desc := "(IZ)I" } : Jvm.MethodName) ({ cls := "TwinphaseModel", name := "commit", desc := "(IZ)I" } : Jvm.MethodName)) ∈ lw_all := lw_g (lw_at lw_m10 83 rfl) rfl
theorem q2291 : (Jvm.Cond.code ({ cls := "TwinphaseModel", name := "commit", desc := "(IZ)I" } : Jvm.MethodName) prog_10_method_41_code (6 : Nat) (Option.some Jvm.ClassFile.FieldType.int)) ∈ lw_all := lw_g (lw_at lw_m10 84 rfl) rfl
theorem q2292 : (Jvm.Cond.methodLink "TwinphaseModel" (186 : Nat) ({ cls := "TwinphaseModel", name := "isTransaction", desc := "(I)Z" } : Jvm.MethodName)) ∈ lw_all := lw_g (lw_at lw_m10 85 rfl) rfl
theorem q2293 : (Jvm.Cond.privateMethod ({ cls := "TwinphaseModel", name := "isTransaction", desc := "(I)Z" } : Jvm.MethodName)) ∈ lw_tbl := lw_at lw_m10 86 rfl
theorem q2294 : (Jvm.Cond.instanceMethod ({ cls := "TwinphaseModel", name := "isTransaction", desc := "(I)Z" } : Jvm.MethodName)) ∈ lw_all := lw_g (lw_at lw_m10 87 rfl) rfl
theorem q2295 : (Jvm.Cond.code ({ cls := "TwinphaseModel", name := "isTransaction", desc := "(I)Z" } : Jvm.MethodName) prog_10_method_40_code (2 : Nat) (Option.some Jvm.ClassFile.FieldType.boolean)) ∈ lw_all := lw_g (lw_at lw_m10 88 rfl) rfl
theorem q2296 : (Jvm.Cond.methodLink "TwinphaseModel" (189 : Nat) ({ cls := "TwinphaseModel", name := "counts", desc := "(I[I)I" } : Jvm.MethodName)) ∈ lw_all := lw_g (lw_at lw_m10 89 rfl) rfl
theorem q2297 : (Jvm.Cond.privateMethod ({ cls := "TwinphaseModel", name := "counts", desc := "(I[I)I" } : Jvm.MethodName)) ∈ lw_tbl := lw_at lw_m10 90 rfl
theorem q2298 : (Jvm.Cond.instanceMethod ({ cls := "TwinphaseModel", name := "counts", desc := "(I[I)I" } : Jvm.MethodName)) ∈ lw_all := lw_g (lw_at lw_m10 91 rfl) rfl
theorem q2299 : (Jvm.Cond.code ({ cls := "TwinphaseModel", name := "counts", desc := "(I[I)I" } : Jvm.MethodName) prog_10_method_39_code (5 : Nat) (Option.some Jvm.ClassFile.FieldType.int)) ∈ lw_all := lw_g (lw_at lw_m10 92 rfl) rfl
theorem q2301 : (Jvm.Cond.instanceMethod ({ cls := "TwinphaseModel", name := "abort", desc := "(I)I" } : Jvm.MethodName)) ∈ lw_all := lw_g (lw_at lw_m10 94 rfl) rfl
theorem q2302 : (Jvm.Cond.selects "TwinphaseModel" ({ cls := "TwinphaseModel", name := "abort", desc := "(I)I" } : Jvm.MethodName) ({ cls := "TwinphaseModel", name := "abort", desc := "(I)I" } : Jvm.MethodName)) ∈ lw_all := lw_g (lw_at lw_m10 95 rfl) rfl
theorem q2303 : (Jvm.Cond.code ({ cls := "TwinphaseModel", name := "abort", desc := "(I)I" } : Jvm.MethodName) prog_10_method_42_code (2 : Nat) (Option.some Jvm.ClassFile.FieldType.int)) ∈ lw_all := lw_g (lw_at lw_m10 96 rfl) rfl
theorem q2305 : (Jvm.Cond.instanceMethod ({ cls := "TwinphaseModel", name := "recover", desc := "(I)I" } : Jvm.MethodName)) ∈ lw_all := lw_g (lw_at lw_m10 98 rfl) rfl
theorem q2306 : (Jvm.Cond.selects "TwinphaseModel" ({ cls := "TwinphaseModel", name := "recover", desc := "(I)I" } : Jvm.MethodName) ({ cls := "TwinphaseModel", name := "recover", desc := "(I)I" } : Jvm.MethodName)) ∈ lw_all := lw_g (lw_at lw_m10 99 rfl) rfl
theorem q2307 : (Jvm.Cond.code ({ cls := "TwinphaseModel", name := "recover", desc := "(I)I" } : Jvm.MethodName) prog_10_method_43_code (2 : Nat) (Option.some Jvm.ClassFile.FieldType.int)) ∈ lw_all := lw_g (lw_at lw_m10 100 rfl) rfl
theorem q2309 : (Jvm.Cond.instanceMethod ({ cls := "TwinphaseModel", name := "beat", desc := "(I)I" } : Jvm.MethodName)) ∈ lw_all := lw_g (lw_at lw_m10 102 rfl) rfl
theorem q2310 : (Jvm.Cond.selects "TwinphaseModel" ({ cls := "TwinphaseModel", name := "beat", desc := "(I)I" } : Jvm.MethodName) ({ cls := "TwinphaseModel", name := "beat", desc := "(I)I" } : Jvm.MethodName)) ∈ lw_all := lw_g (lw_at lw_m10 103 rfl) rfl
theorem q2311 : (Jvm.Cond.code ({ cls := "TwinphaseModel", name := "beat", desc := "(I)I" } : Jvm.MethodName) prog_10_method_44_code (2 : Nat) (Option.some Jvm.ClassFile.FieldType.int)) ∈ lw_all := lw_g (lw_at lw_m10 104 rfl) rfl
theorem q2313 : (Jvm.Cond.instanceMethod ({ cls := "TwinphaseModel", name := "told", desc := "(II)I" } : Jvm.MethodName)) ∈ lw_all := lw_g (lw_at lw_m10 106 rfl) rfl
theorem q2314 : (Jvm.Cond.selects "TwinphaseModel" ({ cls := "TwinphaseModel", name := "told", desc := "(II)I" } : Jvm.MethodName) ({ cls := "TwinphaseModel", name := "told", desc := "(II)I" } : Jvm.MethodName)) ∈ lw_all := lw_g (lw_at lw_m10 107 rfl) rfl
theorem q2315 : (Jvm.Cond.code ({ cls := "TwinphaseModel", name := "told", desc := "(II)I" } : Jvm.MethodName) prog_10_method_45_code (4 : Nat) (Option.some Jvm.ClassFile.FieldType.int)) ∈ lw_all := lw_g (lw_at lw_m10 108 rfl) rfl
theorem q2317 : (Jvm.Cond.instanceMethod ({ cls := "TwinphaseModel", name := "key", desc := "(II)I" } : Jvm.MethodName)) ∈ lw_all := lw_g (lw_at lw_m10 110 rfl) rfl
theorem q2318 : (Jvm.Cond.selects "TwinphaseModel" ({ cls := "TwinphaseModel", name := "key", desc := "(II)I" } : Jvm.MethodName) ({ cls := "TwinphaseModel", name := "key", desc := "(II)I" } : Jvm.MethodName)) ∈ lw_all := lw_g (lw_at lw_m10 111 rfl) rfl
theorem q2319 : (Jvm.Cond.code ({ cls := "TwinphaseModel", name := "key", desc := "(II)I" } : Jvm.MethodName) prog_10_method_46_code (5 : Nat) (Option.some Jvm.ClassFile.FieldType.int)) ∈ lw_all := lw_g (lw_at lw_m10 112 rfl) rfl
theorem q2321 : (Jvm.Cond.instanceMethod ({ cls := "TwinphaseModel", name := "asOf", desc := "(II)I" } : Jvm.MethodName)) ∈ lw_all := lw_g (lw_at lw_m10 114 rfl) rfl
theorem q2322 : (Jvm.Cond.selects "TwinphaseModel" ({ cls := "TwinphaseModel", name := "asOf", desc := "(II)I" } : Jvm.MethodName) ({ cls := "TwinphaseModel", name := "asOf", desc := "(II)I" } : Jvm.MethodName)) ∈ lw_all := lw_g (lw_at lw_m10 115 rfl) rfl
theorem q2323 : (Jvm.Cond.code ({ cls := "TwinphaseModel", name := "asOf", desc := "(II)I" } : Jvm.MethodName) prog_10_method_47_code (4 : Nat) (Option.some Jvm.ClassFile.FieldType.int)) ∈ lw_all := lw_g (lw_at lw_m10 116 rfl) rfl
theorem q2325 : (Jvm.Cond.instanceMethod ({ cls := "TwinphaseModel", name := "resolved", desc := "()I" } : Jvm.MethodName)) ∈ lw_all := lw_g (lw_at lw_m10 118 rfl) rfl
theorem q2326 : (Jvm.Cond.selects "TwinphaseModel" ({ cls := "TwinphaseModel", name := "resolved", desc := "()I" } : Jvm.MethodName) ({ cls := "TwinphaseModel", name := "resolved", desc := "()I" } : Jvm.MethodName)) ∈ lw_all := lw_g (lw_at lw_m10 119 rfl) rfl
theorem q2327 : (Jvm.Cond.code ({ cls := "TwinphaseModel", name := "resolved", desc := "()I" } : Jvm.MethodName) prog_10_method_49_code (1 : Nat) (Option.some Jvm.ClassFile.FieldType.int)) ∈ lw_all := lw_g (lw_at lw_m10 120 rfl) rfl
theorem q2328 : (Jvm.Cond.methodLink "TwinphaseModel" (193 : Nat) ({ cls := "TwinphaseModel", name := "resolvedNow", desc := "()I" } : Jvm.MethodName)) ∈ lw_all := lw_g (lw_at lw_m10 121 rfl) rfl
theorem q2329 : (Jvm.Cond.privateMethod ({ cls := "TwinphaseModel", name := "resolvedNow", desc := "()I" } : Jvm.MethodName)) ∈ lw_tbl := lw_at lw_m10 122 rfl
theorem q2330 : (Jvm.Cond.instanceMethod ({ cls := "TwinphaseModel", name := "resolvedNow", desc := "()I" } : Jvm.MethodName)) ∈ lw_all := lw_g (lw_at lw_m10 123 rfl) rfl
theorem q2331 : (Jvm.Cond.code ({ cls := "TwinphaseModel", name := "resolvedNow", desc := "()I" } : Jvm.MethodName) prog_10_method_48_code (3 : Nat) (Option.some Jvm.ClassFile.FieldType.int)) ∈ lw_all := lw_g (lw_at lw_m10 124 rfl) rfl
theorem q2333 : (Jvm.Cond.instanceMethod ({ cls := "TwinphaseModel", name := "feed", desc := "(I)I" } : Jvm.MethodName)) ∈ lw_all := lw_g (lw_at lw_m10 126 rfl) rfl
theorem q2334 : (Jvm.Cond.selects "TwinphaseModel" ({ cls := "TwinphaseModel", name := "feed", desc := "(I)I" } : Jvm.MethodName) ({ cls := "TwinphaseModel", name := "feed", desc := "(I)I" } : Jvm.MethodName)) ∈ lw_all := lw_g (lw_at lw_m10 127 rfl) rfl
theorem q2335 : (Jvm.Cond.code ({ cls := "TwinphaseModel", name := "feed", desc := "(I)I" } : Jvm.MethodName) prog_10_method_50_code (8 : Nat) (Option.some Jvm.ClassFile.FieldType.int)) ∈ lw_all := lw_g (lw_at lw_m10 128 rfl) rfl
theorem q2337 : (Jvm.Cond.instanceMethod ({ cls := "TwinphaseModel", name := "order", desc := "(I)I" } : Jvm.MethodName)) ∈ lw_all := lw_g (lw_at lw_m10 130 rfl) rfl
theorem q2338 : (Jvm.Cond.selects "TwinphaseModel" ({ cls := "TwinphaseModel", name := "order", desc := "(I)I" } : Jvm.MethodName) ({ cls := "TwinphaseModel", name := "order", desc := "(I)I" } : Jvm.MethodName)) ∈ lw_all := lw_g (lw_at lw_m10 131 rfl) rfl
theorem q2339 : (Jvm.Cond.code ({ cls := "TwinphaseModel", name := "order", desc := "(I)I" } : Jvm.MethodName) prog_10_method_53_code (4 : Nat) (Option.some Jvm.ClassFile.FieldType.int)) ∈ lw_all := lw_g (lw_at lw_m10 132 rfl) rfl
theorem q2340 : (Jvm.Cond.methodLink "TwinphaseModel" (199 : Nat) ({ cls := "TwinphaseModel", name := "next", desc := "(I)I" } : Jvm.MethodName)) ∈ lw_all := lw_g (lw_at lw_m10 133 rfl) rfl
theorem q2341 : (Jvm.Cond.privateMethod ({ cls := "TwinphaseModel", name := "next", desc := "(I)I" } : Jvm.MethodName)) ∈ lw_tbl := lw_at lw_m10 134 rfl
theorem q2342 : (Jvm.Cond.instanceMethod ({ cls := "TwinphaseModel", name := "next", desc := "(I)I" } : Jvm.MethodName)) ∈ lw_all := lw_g (lw_at lw_m10 135 rfl) rfl
theorem q2343 : (Jvm.Cond.code ({ cls := "TwinphaseModel", name := "next", desc := "(I)I" } : Jvm.MethodName) prog_10_method_51_code (5 : Nat) (Option.some Jvm.ClassFile.FieldType.int)) ∈ lw_all := lw_g (lw_at lw_m10 136 rfl) rfl
theorem q2344 : (Jvm.Cond.methodLink "TwinphaseModel" (196 : Nat) ({ cls := "TwinphaseModel", name := "isAhead", desc := "(II)Z" } : Jvm.MethodName)) ∈ lw_all := lw_g (lw_at lw_m10 137 rfl) rfl
theorem q2345 : (Jvm.Cond.privateMethod ({ cls := "TwinphaseModel", name := "isAhead", desc := "(II)Z" } : Jvm.MethodName)) ∈ lw_tbl := lw_at lw_m10 138 rfl
theorem q2346 : (Jvm.Cond.instanceMethod ({ cls := "TwinphaseModel", name := "isAhead", desc := "(II)Z" } : Jvm.MethodName)) ∈ lw_all := lw_g (lw_at lw_m10 139 rfl) rfl
theorem q2347 : (Jvm.Cond.code ({ cls := "TwinphaseModel", name := "isAhead", desc := "(II)Z" } : Jvm.MethodName) prog_10_method_52_code (3 : Nat) (Option.some Jvm.ClassFile.FieldType.boolean)) ∈ lw_all := lw_g (lw_at lw_m10 140 rfl) rfl
theorem q2349 : (Jvm.Cond.instanceMethod ({ cls := "TwinphaseModel", name := "judged", desc := "()I" } : Jvm.MethodName)) ∈ lw_all := lw_g (lw_at lw_m10 142 rfl) rfl
theorem q2350 : (Jvm.Cond.selects "TwinphaseModel" ({ cls := "TwinphaseModel", name := "judged", desc := "()I" } : Jvm.MethodName) ({ cls := "TwinphaseModel", name := "judged", desc := "()I" } : Jvm.MethodName)) ∈ lw_all := lw_g (lw_at lw_m10 143 rfl) rfl
theorem q2351 : (Jvm.Cond.code ({ cls := "TwinphaseModel", name := "judged", desc := "()I" } : Jvm.MethodName) prog_10_method_54_code (4 : Nat) (Option.some Jvm.ClassFile.FieldType.int)) ∈ lw_all := lw_g (lw_at lw_m10 144 rfl) rfl
theorem q2374 : (Jvm.Cond.castable "TwinphaseModel" "java/lang/Object") ∈ lw_tbl := lw_at lw_m10 167 rfl
theorem in_X5 : ∀ w ∈ wsX50, w ∈ lw_all := lw_in wsX50 [2075, 2077, 2079, 2081, 2083, 2085, 2087, 2089, 2091, 2093, 2095, 2097, 2099, 2101, 2103, 2105, 2107, 2109, 2111, 2113, 2115, 2117, 2119, 2121, 2123, 2125, 2127, 2129, 2131, 2133, 2135, 2137] (by decide +kernel) (by decide +kernel)

/-! RoleLoom -/
set_option maxRecDepth 100000
def RX0 : String := "RoleLoom"
def TX0 : u_T := fun k => match k with
  | 0 => ("RoleLoom", "thrown", "LRoleLoom$Thrown;", true)
  | 1 => ("RoleLoom", "stop", "LRoleLoom$Stop;", true)
  | 2 => ("RoleLoom", "parts", "Ljava/util/ArrayList;", true)
  | 3 => ("RoleLoom", "wantFirst", "[I", true)
  | 4 => ("RoleLoom", "wantSecond", "[I", true)
  | 5 => ("RoleLoom", "wants", "I", false)
  | 6 => ("RoleLoom", "latest", "LRoleLoom$Body;", false)
  | 7 => ("RoleLoom", "roles", "Ljava/util/ArrayList;", true)
  | 8 => ("RoleLoom", "things", "Ljava/util/ArrayList;", true)
  | 9 => ("RoleLoom", "shared", "[J", true)
  | 10 => ("RoleLoom", "named", "Ljava/util/ArrayList;", true)
  | 11 => ("RoleLoom", "outPart", "[I", true)
  | 12 => ("RoleLoom", "outMember", "[I", true)
  | 13 => ("RoleLoom", "outMany", "I", false)
  | 14 => ("RoleLoom", "aliasPart", "[I", true)
  | 15 => ("RoleLoom", "aliasMember", "[I", true)
  | 16 => ("RoleLoom", "isIn", "[Z", true)
  | 17 => ("RoleLoom", "behind", "[I", true)
  | 18 => ("RoleLoom", "ring", "[I", true)
  | 19 => ("RoleLoom", "ringMany", "I", false)
  | 20 => ("RoleLoom", "lackPart", "I", false)
  | 21 => ("RoleLoom", "lackMember", "I", false)
  | 22 => ("RoleLoom", "frames", "[LRoleLoom$Frame;", true)
  | 23 => ("RoleLoom", "turns", "I", false)
  | 24 => ("RoleLoom", "ran", "[LRoleLoom$Body;", true)
  | 25 => ("RoleLoom", "ranDeep", "[I", true)
  | 26 => ("RoleLoom", "ranMany", "I", false)
  | 27 => ("RoleLoom", "thrownNumber", "I", false)
  | 28 => ("RoleLoom", "thrownPart", "I", false)
  | 29 => ("RoleLoom", "thrownPlace", "I", false)
  | 30 => ("RoleLoom", "thrownWith", "J", false)
  | 31 => ("RoleLoom", "answer", "J", false)
  | 32 => ("RoleLoom", "startGave", "J", false)
  | 33 => ("RoleLoom", "told", "J", false)
  | 34 => ("RoleLoom", "marked", "[J", true)
  | _ => ("RoleLoom", "markMany", "I", false)
def tyX0 : Nat → FieldType := fun k => match k with
  | 0 => .object "RoleLoom$Thrown"
  | 1 => .object "RoleLoom$Stop"
  | 2 => .object "java/util/ArrayList"
  | 3 => .array .int
  | 4 => .array .int
  | 5 => .int
  | 6 => .object "RoleLoom$Body"
  | 7 => .object "java/util/ArrayList"
  | 8 => .object "java/util/ArrayList"
  | 9 => .array .long
  | 10 => .object "java/util/ArrayList"
  | 11 => .array .int
  | 12 => .array .int
  | 13 => .int
  | 14 => .array .int
  | 15 => .array .int
  | 16 => .array .boolean
  | 17 => .array .int
  | 18 => .array .int
  | 19 => .int
  | 20 => .int
  | 21 => .int
  | 22 => .array (.object "RoleLoom$Frame")
  | 23 => .int
  | 24 => .array (.object "RoleLoom$Body")
  | 25 => .array .int
  | 26 => .int
  | 27 => .int
  | 28 => .int
  | 29 => .int
  | 30 => .long
  | 31 => .long
  | 32 => .long
  | 33 => .long
  | 34 => .array .long
  | _ => .int
abbrev wsX00 : List Cond := u_ws RX0 TX0 36
set_option maxRecDepth 100000 in
theorem nmX0 : ∀ a, a < 36 → ∀ b, b < 36 → a ≠ b → (TX0 a).2.1 ≠ (TX0 b).2.1 := by decide +kernel
set_option maxRecDepth 100000 in
theorem tyX0_ok : ∀ k, k < 36 → parseFieldDescriptor (TX0 k).2.2.1 = some (tyX0 k) := by decide +kernel
abbrev cX0_init : ByteArray := prog_1_method_6_code
def yX0_init : MethodName := ⟨RX0, "<init>", "()V"⟩
def dkwX0_init_11 : List UInt8 := [79, 132, 1, 1, 167, 255, 240, 177]
abbrev dktX0_init_11 : List UInt8 := dkwX0_init_11 ++ []
def dkwX0_init_10 : List UInt8 := [183, 0, 200, 83, 132, 1, 1, 167, 255, 234, 3, 60, 27, 7, 162, 0, 17, 42, 180, 0, 155, 27, 16, 247]
abbrev dktX0_init_10 : List UInt8 := dkwX0_init_10 ++ dktX0_init_11
def dkwX0_init_9 : List UInt8 := [188, 11, 181, 0, 197, 3, 60, 27, 16, 40, 163, 0, 22, 42, 180, 0, 177, 27, 187, 0, 18, 89]
abbrev dktX0_init_9 : List UInt8 := dkwX0_init_9 ++ dktX0_init_10
def dkwX0_init_8 : List UInt8 := [181, 0, 185, 42, 16, 247, 181, 0, 188, 42, 16, 247, 181, 0, 191, 42, 16, 247, 181, 0, 194, 42, 16, 100]
abbrev dktX0_init_8 : List UInt8 := dkwX0_init_8 ++ dktX0_init_9
def dkwX0_init_7 : List UInt8 := [16, 41, 189, 0, 18, 181, 0, 177, 42, 16, 60, 189, 0, 24, 181, 0, 181, 42, 16, 60, 188, 10]
abbrev dktX0_init_7 : List UInt8 := dkwX0_init_7 ++ dktX0_init_8
def dkwX0_init_6 : List UInt8 := [181, 0, 165, 42, 16, 24, 188, 10, 181, 0, 168, 42, 16, 247, 181, 0, 171, 42, 16, 247, 181, 0, 174, 42]
abbrev dktX0_init_6 : List UInt8 := dkwX0_init_6 ++ dktX0_init_7
def dkwX0_init_5 : List UInt8 := [181, 0, 155, 42, 7, 188, 10, 181, 0, 158, 42, 16, 24, 188, 4, 181, 0, 161, 42, 16, 24, 188, 10]
abbrev dktX0_init_5 : List UInt8 := dkwX0_init_5 ++ dktX0_init_6
def dkwX0_init_4 : List UInt8 := [181, 0, 146, 42, 16, 6, 188, 10, 181, 0, 149, 42, 16, 6, 188, 10, 181, 0, 152, 42, 7, 188, 10]
abbrev dktX0_init_4 : List UInt8 := dkwX0_init_4 ++ dktX0_init_5
def dkwX0_init_3 : List UInt8 := [183, 0, 124, 181, 0, 139, 42, 16, 8, 188, 11, 181, 0, 142, 42, 187, 0, 122, 89, 183, 0, 124]
abbrev dktX0_init_3 : List UInt8 := dkwX0_init_3 ++ dktX0_init_4
def dkwX0_init_2 : List UInt8 := [16, 30, 188, 10, 181, 0, 133, 42, 187, 0, 122, 89, 183, 0, 124, 181, 0, 136, 42, 187, 0, 122, 89]
abbrev dktX0_init_2 : List UInt8 := dkwX0_init_2 ++ dktX0_init_3
def dkwX0_init_1 : List UInt8 := [181, 0, 36, 42, 187, 0, 122, 89, 183, 0, 124, 181, 0, 125, 42, 16, 30, 188, 10, 181, 0, 129, 42]
abbrev dktX0_init_1 : List UInt8 := dkwX0_init_1 ++ dktX0_init_2
def dkwX0_init_0 : List UInt8 := [42, 183, 0, 115, 42, 187, 0, 8, 89, 183, 0, 120, 181, 0, 1, 42, 187, 0, 41, 89, 183, 0, 121]
abbrev dktX0_init_0 : List UInt8 := dkwX0_init_0 ++ dktX0_init_1
theorem dksX0_init_0 : cX0_init.data.toList.drop 0 = dktX0_init_0 := by decide +kernel
theorem dksX0_init_1 : cX0_init.data.toList.drop 23 = dktX0_init_1 := dk_seg dksX0_init_0 23 rfl rfl
theorem dksX0_init_2 : cX0_init.data.toList.drop 46 = dktX0_init_2 := dk_seg dksX0_init_1 23 rfl rfl
theorem dksX0_init_3 : cX0_init.data.toList.drop 69 = dktX0_init_3 := dk_seg dksX0_init_2 23 rfl rfl
theorem dksX0_init_4 : cX0_init.data.toList.drop 91 = dktX0_init_4 := dk_seg dksX0_init_3 22 rfl rfl
theorem dksX0_init_5 : cX0_init.data.toList.drop 114 = dktX0_init_5 := dk_seg dksX0_init_4 23 rfl rfl
theorem dksX0_init_6 : cX0_init.data.toList.drop 137 = dktX0_init_6 := dk_seg dksX0_init_5 23 rfl rfl
theorem dksX0_init_7 : cX0_init.data.toList.drop 161 = dktX0_init_7 := dk_seg dksX0_init_6 24 rfl rfl
theorem dksX0_init_8 : cX0_init.data.toList.drop 183 = dktX0_init_8 := dk_seg dksX0_init_7 22 rfl rfl
theorem dksX0_init_9 : cX0_init.data.toList.drop 207 = dktX0_init_9 := dk_seg dksX0_init_8 24 rfl rfl
theorem dksX0_init_10 : cX0_init.data.toList.drop 229 = dktX0_init_10 := dk_seg dksX0_init_9 22 rfl rfl
theorem dksX0_init_11 : cX0_init.data.toList.drop 253 = dktX0_init_11 := dk_seg dksX0_init_10 24 rfl rfl
theorem dX0_init_0 : decode cX0_init 0 = .ok (.aload_n 0, 1) := dk_42 (dk_at dksX0_init_0 0 rfl rfl)
theorem dX0_init_1 : decode cX0_init 1 = .ok (.invokespecial 115, 3) := dk_183 0 115 (dk_at dksX0_init_0 1 rfl rfl)
theorem dX0_init_4 : decode cX0_init 4 = .ok (.aload_n 0, 1) := dk_42 (dk_at dksX0_init_0 4 rfl rfl)
theorem dX0_init_5 : decode cX0_init 5 = .ok (.new 8, 3) := dk_187 0 8 (dk_at dksX0_init_0 5 rfl rfl)
theorem dX0_init_8 : decode cX0_init 8 = .ok (.dup, 1) := dk_89 (dk_at dksX0_init_0 8 rfl rfl)
theorem dX0_init_9 : decode cX0_init 9 = .ok (.invokespecial 120, 3) := dk_183 0 120 (dk_at dksX0_init_0 9 rfl rfl)
theorem dX0_init_12 : decode cX0_init 12 = .ok (.putfield 1, 3) := dk_181 0 1 (dk_at dksX0_init_0 12 rfl rfl)
theorem dX0_init_15 : decode cX0_init 15 = .ok (.aload_n 0, 1) := dk_42 (dk_at dksX0_init_0 15 rfl rfl)
theorem dX0_init_16 : decode cX0_init 16 = .ok (.new 41, 3) := dk_187 0 41 (dk_at dksX0_init_0 16 rfl rfl)
theorem dX0_init_19 : decode cX0_init 19 = .ok (.dup, 1) := dk_89 (dk_at dksX0_init_0 19 rfl rfl)
theorem dX0_init_20 : decode cX0_init 20 = .ok (.invokespecial 121, 3) := dk_183 0 121 (dk_at dksX0_init_0 20 rfl rfl)
theorem dX0_init_23 : decode cX0_init 23 = .ok (.putfield 36, 3) := dk_181 0 36 (dk_at dksX0_init_1 0 rfl rfl)
theorem dX0_init_26 : decode cX0_init 26 = .ok (.aload_n 0, 1) := dk_42 (dk_at dksX0_init_1 3 rfl rfl)
theorem dX0_init_27 : decode cX0_init 27 = .ok (.new 122, 3) := dk_187 0 122 (dk_at dksX0_init_1 4 rfl rfl)
theorem dX0_init_30 : decode cX0_init 30 = .ok (.dup, 1) := dk_89 (dk_at dksX0_init_1 7 rfl rfl)
theorem dX0_init_31 : decode cX0_init 31 = .ok (.invokespecial 124, 3) := dk_183 0 124 (dk_at dksX0_init_1 8 rfl rfl)
theorem dX0_init_34 : decode cX0_init 34 = .ok (.putfield 125, 3) := dk_181 0 125 (dk_at dksX0_init_1 11 rfl rfl)
theorem dX0_init_37 : decode cX0_init 37 = .ok (.aload_n 0, 1) := dk_42 (dk_at dksX0_init_1 14 rfl rfl)
theorem dX0_init_38 : decode cX0_init 38 = .ok (.bipush 30, 2) := dk_16 30 (dk_at dksX0_init_1 15 rfl rfl)
theorem dX0_init_40 : decode cX0_init 40 = .ok (.newarray .int, 2) := dk_188_10 (dk_at dksX0_init_1 17 rfl rfl)
theorem dX0_init_42 : decode cX0_init 42 = .ok (.putfield 129, 3) := dk_181 0 129 (dk_at dksX0_init_1 19 rfl rfl)
theorem dX0_init_45 : decode cX0_init 45 = .ok (.aload_n 0, 1) := dk_42 (dk_at dksX0_init_1 22 rfl rfl)
theorem dX0_init_46 : decode cX0_init 46 = .ok (.bipush 30, 2) := dk_16 30 (dk_at dksX0_init_2 0 rfl rfl)
theorem dX0_init_48 : decode cX0_init 48 = .ok (.newarray .int, 2) := dk_188_10 (dk_at dksX0_init_2 2 rfl rfl)
theorem dX0_init_50 : decode cX0_init 50 = .ok (.putfield 133, 3) := dk_181 0 133 (dk_at dksX0_init_2 4 rfl rfl)
theorem dX0_init_53 : decode cX0_init 53 = .ok (.aload_n 0, 1) := dk_42 (dk_at dksX0_init_2 7 rfl rfl)
theorem dX0_init_54 : decode cX0_init 54 = .ok (.new 122, 3) := dk_187 0 122 (dk_at dksX0_init_2 8 rfl rfl)
theorem dX0_init_57 : decode cX0_init 57 = .ok (.dup, 1) := dk_89 (dk_at dksX0_init_2 11 rfl rfl)
theorem dX0_init_58 : decode cX0_init 58 = .ok (.invokespecial 124, 3) := dk_183 0 124 (dk_at dksX0_init_2 12 rfl rfl)
theorem dX0_init_61 : decode cX0_init 61 = .ok (.putfield 136, 3) := dk_181 0 136 (dk_at dksX0_init_2 15 rfl rfl)
theorem dX0_init_64 : decode cX0_init 64 = .ok (.aload_n 0, 1) := dk_42 (dk_at dksX0_init_2 18 rfl rfl)
theorem dX0_init_65 : decode cX0_init 65 = .ok (.new 122, 3) := dk_187 0 122 (dk_at dksX0_init_2 19 rfl rfl)
theorem dX0_init_68 : decode cX0_init 68 = .ok (.dup, 1) := dk_89 (dk_at dksX0_init_2 22 rfl rfl)
theorem dX0_init_69 : decode cX0_init 69 = .ok (.invokespecial 124, 3) := dk_183 0 124 (dk_at dksX0_init_3 0 rfl rfl)
theorem dX0_init_72 : decode cX0_init 72 = .ok (.putfield 139, 3) := dk_181 0 139 (dk_at dksX0_init_3 3 rfl rfl)
theorem dX0_init_75 : decode cX0_init 75 = .ok (.aload_n 0, 1) := dk_42 (dk_at dksX0_init_3 6 rfl rfl)
theorem dX0_init_76 : decode cX0_init 76 = .ok (.bipush 8, 2) := dk_16 8 (dk_at dksX0_init_3 7 rfl rfl)
theorem dX0_init_78 : decode cX0_init 78 = .ok (.newarray .long, 2) := dk_188_11 (dk_at dksX0_init_3 9 rfl rfl)
theorem dX0_init_80 : decode cX0_init 80 = .ok (.putfield 142, 3) := dk_181 0 142 (dk_at dksX0_init_3 11 rfl rfl)
theorem dX0_init_83 : decode cX0_init 83 = .ok (.aload_n 0, 1) := dk_42 (dk_at dksX0_init_3 14 rfl rfl)
theorem dX0_init_84 : decode cX0_init 84 = .ok (.new 122, 3) := dk_187 0 122 (dk_at dksX0_init_3 15 rfl rfl)
theorem dX0_init_87 : decode cX0_init 87 = .ok (.dup, 1) := dk_89 (dk_at dksX0_init_3 18 rfl rfl)
theorem dX0_init_88 : decode cX0_init 88 = .ok (.invokespecial 124, 3) := dk_183 0 124 (dk_at dksX0_init_3 19 rfl rfl)
theorem dX0_init_91 : decode cX0_init 91 = .ok (.putfield 146, 3) := dk_181 0 146 (dk_at dksX0_init_4 0 rfl rfl)
theorem dX0_init_94 : decode cX0_init 94 = .ok (.aload_n 0, 1) := dk_42 (dk_at dksX0_init_4 3 rfl rfl)
theorem dX0_init_95 : decode cX0_init 95 = .ok (.bipush 6, 2) := dk_16 6 (dk_at dksX0_init_4 4 rfl rfl)
theorem dX0_init_97 : decode cX0_init 97 = .ok (.newarray .int, 2) := dk_188_10 (dk_at dksX0_init_4 6 rfl rfl)
theorem dX0_init_99 : decode cX0_init 99 = .ok (.putfield 149, 3) := dk_181 0 149 (dk_at dksX0_init_4 8 rfl rfl)
theorem dX0_init_102 : decode cX0_init 102 = .ok (.aload_n 0, 1) := dk_42 (dk_at dksX0_init_4 11 rfl rfl)
theorem dX0_init_103 : decode cX0_init 103 = .ok (.bipush 6, 2) := dk_16 6 (dk_at dksX0_init_4 12 rfl rfl)
theorem dX0_init_105 : decode cX0_init 105 = .ok (.newarray .int, 2) := dk_188_10 (dk_at dksX0_init_4 14 rfl rfl)
theorem dX0_init_107 : decode cX0_init 107 = .ok (.putfield 152, 3) := dk_181 0 152 (dk_at dksX0_init_4 16 rfl rfl)
theorem dX0_init_110 : decode cX0_init 110 = .ok (.aload_n 0, 1) := dk_42 (dk_at dksX0_init_4 19 rfl rfl)
theorem dX0_init_111 : decode cX0_init 111 = .ok (.iconst 4, 1) := dk_7 (dk_at dksX0_init_4 20 rfl rfl)
theorem dX0_init_112 : decode cX0_init 112 = .ok (.newarray .int, 2) := dk_188_10 (dk_at dksX0_init_4 21 rfl rfl)
theorem dX0_init_114 : decode cX0_init 114 = .ok (.putfield 155, 3) := dk_181 0 155 (dk_at dksX0_init_5 0 rfl rfl)
theorem dX0_init_117 : decode cX0_init 117 = .ok (.aload_n 0, 1) := dk_42 (dk_at dksX0_init_5 3 rfl rfl)
theorem dX0_init_118 : decode cX0_init 118 = .ok (.iconst 4, 1) := dk_7 (dk_at dksX0_init_5 4 rfl rfl)
theorem dX0_init_119 : decode cX0_init 119 = .ok (.newarray .int, 2) := dk_188_10 (dk_at dksX0_init_5 5 rfl rfl)
theorem dX0_init_121 : decode cX0_init 121 = .ok (.putfield 158, 3) := dk_181 0 158 (dk_at dksX0_init_5 7 rfl rfl)
theorem dX0_init_124 : decode cX0_init 124 = .ok (.aload_n 0, 1) := dk_42 (dk_at dksX0_init_5 10 rfl rfl)
theorem dX0_init_125 : decode cX0_init 125 = .ok (.bipush 24, 2) := dk_16 24 (dk_at dksX0_init_5 11 rfl rfl)
theorem dX0_init_127 : decode cX0_init 127 = .ok (.newarray .boolean, 2) := dk_188_4 (dk_at dksX0_init_5 13 rfl rfl)
theorem dX0_init_129 : decode cX0_init 129 = .ok (.putfield 161, 3) := dk_181 0 161 (dk_at dksX0_init_5 15 rfl rfl)
theorem dX0_init_132 : decode cX0_init 132 = .ok (.aload_n 0, 1) := dk_42 (dk_at dksX0_init_5 18 rfl rfl)
theorem dX0_init_133 : decode cX0_init 133 = .ok (.bipush 24, 2) := dk_16 24 (dk_at dksX0_init_5 19 rfl rfl)
theorem dX0_init_135 : decode cX0_init 135 = .ok (.newarray .int, 2) := dk_188_10 (dk_at dksX0_init_5 21 rfl rfl)
theorem dX0_init_137 : decode cX0_init 137 = .ok (.putfield 165, 3) := dk_181 0 165 (dk_at dksX0_init_6 0 rfl rfl)
theorem dX0_init_140 : decode cX0_init 140 = .ok (.aload_n 0, 1) := dk_42 (dk_at dksX0_init_6 3 rfl rfl)
theorem dX0_init_141 : decode cX0_init 141 = .ok (.bipush 24, 2) := dk_16 24 (dk_at dksX0_init_6 4 rfl rfl)
theorem dX0_init_143 : decode cX0_init 143 = .ok (.newarray .int, 2) := dk_188_10 (dk_at dksX0_init_6 6 rfl rfl)
theorem dX0_init_145 : decode cX0_init 145 = .ok (.putfield 168, 3) := dk_181 0 168 (dk_at dksX0_init_6 8 rfl rfl)
theorem dX0_init_148 : decode cX0_init 148 = .ok (.aload_n 0, 1) := dk_42 (dk_at dksX0_init_6 11 rfl rfl)
theorem dX0_init_149 : decode cX0_init 149 = .ok (.bipush (-9), 2) := dk_16 247 (dk_at dksX0_init_6 12 rfl rfl)
theorem dX0_init_151 : decode cX0_init 151 = .ok (.putfield 171, 3) := dk_181 0 171 (dk_at dksX0_init_6 14 rfl rfl)
theorem dX0_init_154 : decode cX0_init 154 = .ok (.aload_n 0, 1) := dk_42 (dk_at dksX0_init_6 17 rfl rfl)
theorem dX0_init_155 : decode cX0_init 155 = .ok (.bipush (-9), 2) := dk_16 247 (dk_at dksX0_init_6 18 rfl rfl)
theorem dX0_init_157 : decode cX0_init 157 = .ok (.putfield 174, 3) := dk_181 0 174 (dk_at dksX0_init_6 20 rfl rfl)
theorem dX0_init_160 : decode cX0_init 160 = .ok (.aload_n 0, 1) := dk_42 (dk_at dksX0_init_6 23 rfl rfl)
theorem dX0_init_161 : decode cX0_init 161 = .ok (.bipush 41, 2) := dk_16 41 (dk_at dksX0_init_7 0 rfl rfl)
theorem dX0_init_163 : decode cX0_init 163 = .ok (.anewarray 18, 3) := dk_189 0 18 (dk_at dksX0_init_7 2 rfl rfl)
theorem dX0_init_166 : decode cX0_init 166 = .ok (.putfield 177, 3) := dk_181 0 177 (dk_at dksX0_init_7 5 rfl rfl)
theorem dX0_init_169 : decode cX0_init 169 = .ok (.aload_n 0, 1) := dk_42 (dk_at dksX0_init_7 8 rfl rfl)
theorem dX0_init_170 : decode cX0_init 170 = .ok (.bipush 60, 2) := dk_16 60 (dk_at dksX0_init_7 9 rfl rfl)
theorem dX0_init_172 : decode cX0_init 172 = .ok (.anewarray 24, 3) := dk_189 0 24 (dk_at dksX0_init_7 11 rfl rfl)
theorem dX0_init_175 : decode cX0_init 175 = .ok (.putfield 181, 3) := dk_181 0 181 (dk_at dksX0_init_7 14 rfl rfl)
theorem dX0_init_178 : decode cX0_init 178 = .ok (.aload_n 0, 1) := dk_42 (dk_at dksX0_init_7 17 rfl rfl)
theorem dX0_init_179 : decode cX0_init 179 = .ok (.bipush 60, 2) := dk_16 60 (dk_at dksX0_init_7 18 rfl rfl)
theorem dX0_init_181 : decode cX0_init 181 = .ok (.newarray .int, 2) := dk_188_10 (dk_at dksX0_init_7 20 rfl rfl)
theorem dX0_init_183 : decode cX0_init 183 = .ok (.putfield 185, 3) := dk_181 0 185 (dk_at dksX0_init_8 0 rfl rfl)
theorem dX0_init_186 : decode cX0_init 186 = .ok (.aload_n 0, 1) := dk_42 (dk_at dksX0_init_8 3 rfl rfl)
theorem dX0_init_187 : decode cX0_init 187 = .ok (.bipush (-9), 2) := dk_16 247 (dk_at dksX0_init_8 4 rfl rfl)
theorem dX0_init_189 : decode cX0_init 189 = .ok (.putfield 188, 3) := dk_181 0 188 (dk_at dksX0_init_8 6 rfl rfl)
theorem dX0_init_192 : decode cX0_init 192 = .ok (.aload_n 0, 1) := dk_42 (dk_at dksX0_init_8 9 rfl rfl)
theorem dX0_init_193 : decode cX0_init 193 = .ok (.bipush (-9), 2) := dk_16 247 (dk_at dksX0_init_8 10 rfl rfl)
theorem dX0_init_195 : decode cX0_init 195 = .ok (.putfield 191, 3) := dk_181 0 191 (dk_at dksX0_init_8 12 rfl rfl)
theorem dX0_init_198 : decode cX0_init 198 = .ok (.aload_n 0, 1) := dk_42 (dk_at dksX0_init_8 15 rfl rfl)
theorem dX0_init_199 : decode cX0_init 199 = .ok (.bipush (-9), 2) := dk_16 247 (dk_at dksX0_init_8 16 rfl rfl)
theorem dX0_init_201 : decode cX0_init 201 = .ok (.putfield 194, 3) := dk_181 0 194 (dk_at dksX0_init_8 18 rfl rfl)
theorem dX0_init_204 : decode cX0_init 204 = .ok (.aload_n 0, 1) := dk_42 (dk_at dksX0_init_8 21 rfl rfl)
theorem dX0_init_205 : decode cX0_init 205 = .ok (.bipush 100, 2) := dk_16 100 (dk_at dksX0_init_8 22 rfl rfl)
theorem dX0_init_207 : decode cX0_init 207 = .ok (.newarray .long, 2) := dk_188_11 (dk_at dksX0_init_9 0 rfl rfl)
theorem dX0_init_209 : decode cX0_init 209 = .ok (.putfield 197, 3) := dk_181 0 197 (dk_at dksX0_init_9 2 rfl rfl)
theorem dX0_init_212 : decode cX0_init 212 = .ok (.iconst 0, 1) := dk_3 (dk_at dksX0_init_9 5 rfl rfl)
theorem dX0_init_213 : decode cX0_init 213 = .ok (.istore_n 1, 1) := dk_60 (dk_at dksX0_init_9 6 rfl rfl)
theorem dX0_init_214 : decode cX0_init 214 = .ok (.iload_n 1, 1) := dk_27 (dk_at dksX0_init_9 7 rfl rfl)
theorem dX0_init_215 : decode cX0_init 215 = .ok (.bipush 40, 2) := dk_16 40 (dk_at dksX0_init_9 8 rfl rfl)
theorem dX0_init_217 : decode cX0_init 217 = .ok (.if_icmp .gt 22, 3) := dk_163 0 22 (dk_at dksX0_init_9 10 rfl rfl)
theorem dX0_init_220 : decode cX0_init 220 = .ok (.aload_n 0, 1) := dk_42 (dk_at dksX0_init_9 13 rfl rfl)
theorem dX0_init_221 : decode cX0_init 221 = .ok (.getfield 177, 3) := dk_180 0 177 (dk_at dksX0_init_9 14 rfl rfl)
theorem dX0_init_224 : decode cX0_init 224 = .ok (.iload_n 1, 1) := dk_27 (dk_at dksX0_init_9 17 rfl rfl)
theorem dX0_init_225 : decode cX0_init 225 = .ok (.new 18, 3) := dk_187 0 18 (dk_at dksX0_init_9 18 rfl rfl)
theorem dX0_init_228 : decode cX0_init 228 = .ok (.dup, 1) := dk_89 (dk_at dksX0_init_9 21 rfl rfl)
theorem dX0_init_229 : decode cX0_init 229 = .ok (.invokespecial 200, 3) := dk_183 0 200 (dk_at dksX0_init_10 0 rfl rfl)
theorem dX0_init_232 : decode cX0_init 232 = .ok (.aastore, 1) := dk_83 (dk_at dksX0_init_10 3 rfl rfl)
theorem dX0_init_233 : decode cX0_init 233 = .ok (.iinc 1 1, 3) := dk_132 1 1 (dk_at dksX0_init_10 4 rfl rfl)
theorem dX0_init_236 : decode cX0_init 236 = .ok (.goto (-22), 3) := dk_167 255 234 (dk_at dksX0_init_10 7 rfl rfl)
theorem dX0_init_239 : decode cX0_init 239 = .ok (.iconst 0, 1) := dk_3 (dk_at dksX0_init_10 10 rfl rfl)
theorem dX0_init_240 : decode cX0_init 240 = .ok (.istore_n 1, 1) := dk_60 (dk_at dksX0_init_10 11 rfl rfl)
theorem dX0_init_241 : decode cX0_init 241 = .ok (.iload_n 1, 1) := dk_27 (dk_at dksX0_init_10 12 rfl rfl)
theorem dX0_init_242 : decode cX0_init 242 = .ok (.iconst 4, 1) := dk_7 (dk_at dksX0_init_10 13 rfl rfl)
theorem dX0_init_243 : decode cX0_init 243 = .ok (.if_icmp .ge 17, 3) := dk_162 0 17 (dk_at dksX0_init_10 14 rfl rfl)
theorem dX0_init_246 : decode cX0_init 246 = .ok (.aload_n 0, 1) := dk_42 (dk_at dksX0_init_10 17 rfl rfl)
theorem dX0_init_247 : decode cX0_init 247 = .ok (.getfield 155, 3) := dk_180 0 155 (dk_at dksX0_init_10 18 rfl rfl)
theorem dX0_init_250 : decode cX0_init 250 = .ok (.iload_n 1, 1) := dk_27 (dk_at dksX0_init_10 21 rfl rfl)
theorem dX0_init_251 : decode cX0_init 251 = .ok (.bipush (-9), 2) := dk_16 247 (dk_at dksX0_init_10 22 rfl rfl)
theorem dX0_init_253 : decode cX0_init 253 = .ok (.iastore, 1) := dk_79 (dk_at dksX0_init_11 0 rfl rfl)
theorem dX0_init_254 : decode cX0_init 254 = .ok (.iinc 1 1, 3) := dk_132 1 1 (dk_at dksX0_init_11 1 rfl rfl)
theorem dX0_init_257 : decode cX0_init 257 = .ok (.goto (-16), 3) := dk_167 255 240 (dk_at dksX0_init_11 4 rfl rfl)
theorem dX0_init_260 : decode cX0_init 260 = .ok (.return_, 1) := dk_177 (dk_at dksX0_init_11 7 rfl rfl)
abbrev cX0_part : ByteArray := prog_1_method_8_code
def yX0_part : MethodName := ⟨RX0, "part", "(III)I"⟩
def dkwX0_part_3 : List UInt8 := [180, 0, 125, 182, 0, 201, 4, 100, 172]
abbrev dktX0_part_3 : List UInt8 := dkwX0_part_3 ++ []
def dkwX0_part_2 : List UInt8 := [187, 0, 205, 89, 42, 180, 0, 125, 182, 0, 201, 27, 28, 29, 183, 0, 207, 182, 0, 210, 87, 42]
abbrev dktX0_part_2 : List UInt8 := dkwX0_part_2 ++ dktX0_part_3
def dkwX0_part_1 : List UInt8 := [154, 0, 5, 2, 172, 42, 180, 0, 125, 182, 0, 201, 16, 24, 160, 0, 6, 16, 254, 172, 42, 180, 0, 125]
abbrev dktX0_part_1 : List UInt8 := dkwX0_part_1 ++ dktX0_part_2
def dkwX0_part_0 : List UInt8 := [27, 3, 7, 184, 0, 45, 153, 0, 21, 28, 3, 5, 184, 0, 45, 153, 0, 12, 29, 3, 5, 184, 0, 45]
abbrev dktX0_part_0 : List UInt8 := dkwX0_part_0 ++ dktX0_part_1
theorem dksX0_part_0 : cX0_part.data.toList.drop 0 = dktX0_part_0 := by decide +kernel
theorem dksX0_part_1 : cX0_part.data.toList.drop 24 = dktX0_part_1 := dk_seg dksX0_part_0 24 rfl rfl
theorem dksX0_part_2 : cX0_part.data.toList.drop 48 = dktX0_part_2 := dk_seg dksX0_part_1 24 rfl rfl
theorem dksX0_part_3 : cX0_part.data.toList.drop 70 = dktX0_part_3 := dk_seg dksX0_part_2 22 rfl rfl
theorem dX0_part_0 : decode cX0_part 0 = .ok (.iload_n 1, 1) := dk_27 (dk_at dksX0_part_0 0 rfl rfl)
theorem dX0_part_1 : decode cX0_part 1 = .ok (.iconst 0, 1) := dk_3 (dk_at dksX0_part_0 1 rfl rfl)
theorem dX0_part_2 : decode cX0_part 2 = .ok (.iconst 4, 1) := dk_7 (dk_at dksX0_part_0 2 rfl rfl)
theorem dX0_part_3 : decode cX0_part 3 = .ok (.invokestatic 45, 3) := dk_184 0 45 (dk_at dksX0_part_0 3 rfl rfl)
theorem dX0_part_6 : decode cX0_part 6 = .ok (.ifCond .eq 21, 3) := dk_153 0 21 (dk_at dksX0_part_0 6 rfl rfl)
theorem dX0_part_9 : decode cX0_part 9 = .ok (.iload_n 2, 1) := dk_28 (dk_at dksX0_part_0 9 rfl rfl)
theorem dX0_part_10 : decode cX0_part 10 = .ok (.iconst 0, 1) := dk_3 (dk_at dksX0_part_0 10 rfl rfl)
theorem dX0_part_11 : decode cX0_part 11 = .ok (.iconst 2, 1) := dk_5 (dk_at dksX0_part_0 11 rfl rfl)
theorem dX0_part_12 : decode cX0_part 12 = .ok (.invokestatic 45, 3) := dk_184 0 45 (dk_at dksX0_part_0 12 rfl rfl)
theorem dX0_part_15 : decode cX0_part 15 = .ok (.ifCond .eq 12, 3) := dk_153 0 12 (dk_at dksX0_part_0 15 rfl rfl)
theorem dX0_part_18 : decode cX0_part 18 = .ok (.iload_n 3, 1) := dk_29 (dk_at dksX0_part_0 18 rfl rfl)
theorem dX0_part_19 : decode cX0_part 19 = .ok (.iconst 0, 1) := dk_3 (dk_at dksX0_part_0 19 rfl rfl)
theorem dX0_part_20 : decode cX0_part 20 = .ok (.iconst 2, 1) := dk_5 (dk_at dksX0_part_0 20 rfl rfl)
theorem dX0_part_21 : decode cX0_part 21 = .ok (.invokestatic 45, 3) := dk_184 0 45 (dk_at dksX0_part_0 21 rfl rfl)
theorem dX0_part_24 : decode cX0_part 24 = .ok (.ifCond .ne 5, 3) := dk_154 0 5 (dk_at dksX0_part_1 0 rfl rfl)
theorem dX0_part_27 : decode cX0_part 27 = .ok (.iconst (-1), 1) := dk_2 (dk_at dksX0_part_1 3 rfl rfl)
theorem dX0_part_28 : decode cX0_part 28 = .ok (.ireturn, 1) := dk_172 (dk_at dksX0_part_1 4 rfl rfl)
theorem dX0_part_29 : decode cX0_part 29 = .ok (.aload_n 0, 1) := dk_42 (dk_at dksX0_part_1 5 rfl rfl)
theorem dX0_part_30 : decode cX0_part 30 = .ok (.getfield 125, 3) := dk_180 0 125 (dk_at dksX0_part_1 6 rfl rfl)
theorem dX0_part_33 : decode cX0_part 33 = .ok (.invokevirtual 201, 3) := dk_182 0 201 (dk_at dksX0_part_1 9 rfl rfl)
theorem dX0_part_36 : decode cX0_part 36 = .ok (.bipush 24, 2) := dk_16 24 (dk_at dksX0_part_1 12 rfl rfl)
theorem dX0_part_38 : decode cX0_part 38 = .ok (.if_icmp .ne 6, 3) := dk_160 0 6 (dk_at dksX0_part_1 14 rfl rfl)
theorem dX0_part_41 : decode cX0_part 41 = .ok (.bipush (-2), 2) := dk_16 254 (dk_at dksX0_part_1 17 rfl rfl)
theorem dX0_part_43 : decode cX0_part 43 = .ok (.ireturn, 1) := dk_172 (dk_at dksX0_part_1 19 rfl rfl)
theorem dX0_part_44 : decode cX0_part 44 = .ok (.aload_n 0, 1) := dk_42 (dk_at dksX0_part_1 20 rfl rfl)
theorem dX0_part_45 : decode cX0_part 45 = .ok (.getfield 125, 3) := dk_180 0 125 (dk_at dksX0_part_1 21 rfl rfl)
theorem dX0_part_48 : decode cX0_part 48 = .ok (.new 205, 3) := dk_187 0 205 (dk_at dksX0_part_2 0 rfl rfl)
theorem dX0_part_51 : decode cX0_part 51 = .ok (.dup, 1) := dk_89 (dk_at dksX0_part_2 3 rfl rfl)
theorem dX0_part_52 : decode cX0_part 52 = .ok (.aload_n 0, 1) := dk_42 (dk_at dksX0_part_2 4 rfl rfl)
theorem dX0_part_53 : decode cX0_part 53 = .ok (.getfield 125, 3) := dk_180 0 125 (dk_at dksX0_part_2 5 rfl rfl)
theorem dX0_part_56 : decode cX0_part 56 = .ok (.invokevirtual 201, 3) := dk_182 0 201 (dk_at dksX0_part_2 8 rfl rfl)
theorem dX0_part_59 : decode cX0_part 59 = .ok (.iload_n 1, 1) := dk_27 (dk_at dksX0_part_2 11 rfl rfl)
theorem dX0_part_60 : decode cX0_part 60 = .ok (.iload_n 2, 1) := dk_28 (dk_at dksX0_part_2 12 rfl rfl)
theorem dX0_part_61 : decode cX0_part 61 = .ok (.iload_n 3, 1) := dk_29 (dk_at dksX0_part_2 13 rfl rfl)
theorem dX0_part_62 : decode cX0_part 62 = .ok (.invokespecial 207, 3) := dk_183 0 207 (dk_at dksX0_part_2 14 rfl rfl)
theorem dX0_part_65 : decode cX0_part 65 = .ok (.invokevirtual 210, 3) := dk_182 0 210 (dk_at dksX0_part_2 17 rfl rfl)
theorem dX0_part_68 : decode cX0_part 68 = .ok (.pop, 1) := dk_87 (dk_at dksX0_part_2 20 rfl rfl)
theorem dX0_part_69 : decode cX0_part 69 = .ok (.aload_n 0, 1) := dk_42 (dk_at dksX0_part_2 21 rfl rfl)
theorem dX0_part_70 : decode cX0_part 70 = .ok (.getfield 125, 3) := dk_180 0 125 (dk_at dksX0_part_3 0 rfl rfl)
theorem dX0_part_73 : decode cX0_part 73 = .ok (.invokevirtual 201, 3) := dk_182 0 201 (dk_at dksX0_part_3 3 rfl rfl)
theorem dX0_part_76 : decode cX0_part 76 = .ok (.iconst 1, 1) := dk_4 (dk_at dksX0_part_3 6 rfl rfl)
theorem dX0_part_77 : decode cX0_part 77 = .ok (.isub, 1) := dk_100 (dk_at dksX0_part_3 7 rfl rfl)
theorem dX0_part_78 : decode cX0_part 78 = .ok (.ireturn, 1) := dk_172 (dk_at dksX0_part_3 8 rfl rfl)
abbrev cX0_in : ByteArray := prog_1_method_1_code
def yX0_in : MethodName := ⟨RX0, "in", "(III)Z"⟩
def dkwX0_in_0 : List UInt8 := [26, 27, 161, 0, 12, 26, 28, 163, 0, 7, 4, 167, 0, 4, 3, 172]
abbrev dktX0_in_0 : List UInt8 := dkwX0_in_0 ++ []
theorem dksX0_in_0 : cX0_in.data.toList.drop 0 = dktX0_in_0 := by decide +kernel
theorem dX0_in_0 : decode cX0_in 0 = .ok (.iload_n 0, 1) := dk_26 (dk_at dksX0_in_0 0 rfl rfl)
theorem dX0_in_1 : decode cX0_in 1 = .ok (.iload_n 1, 1) := dk_27 (dk_at dksX0_in_0 1 rfl rfl)
theorem dX0_in_2 : decode cX0_in 2 = .ok (.if_icmp .lt 12, 3) := dk_161 0 12 (dk_at dksX0_in_0 2 rfl rfl)
theorem dX0_in_5 : decode cX0_in 5 = .ok (.iload_n 0, 1) := dk_26 (dk_at dksX0_in_0 5 rfl rfl)
theorem dX0_in_6 : decode cX0_in 6 = .ok (.iload_n 2, 1) := dk_28 (dk_at dksX0_in_0 6 rfl rfl)
theorem dX0_in_7 : decode cX0_in 7 = .ok (.if_icmp .gt 7, 3) := dk_163 0 7 (dk_at dksX0_in_0 7 rfl rfl)
theorem dX0_in_10 : decode cX0_in 10 = .ok (.iconst 1, 1) := dk_4 (dk_at dksX0_in_0 10 rfl rfl)
theorem dX0_in_11 : decode cX0_in 11 = .ok (.goto 4, 3) := dk_167 0 4 (dk_at dksX0_in_0 11 rfl rfl)
theorem dX0_in_14 : decode cX0_in 14 = .ok (.iconst 0, 1) := dk_3 (dk_at dksX0_in_0 14 rfl rfl)
theorem dX0_in_15 : decode cX0_in 15 = .ok (.ireturn, 1) := dk_172 (dk_at dksX0_in_0 15 rfl rfl)
abbrev cX0_extend : ByteArray := prog_1_method_9_code
def yX0_extend : MethodName := ⟨RX0, "extend", "(II)I"⟩
def dkwX0_extend_4 : List UInt8 := [182, 0, 218, 192, 0, 205, 182, 0, 210, 87, 45, 182, 0, 201, 172]
abbrev dktX0_extend_4 : List UInt8 := dkwX0_extend_4 ++ []
def dkwX0_extend_3 : List UInt8 := [16, 254, 172, 42, 180, 0, 136, 182, 0, 228, 154, 0, 6, 16, 252, 172, 45, 42, 180, 0, 125, 28]
abbrev dktX0_extend_3 : List UInt8 := dkwX0_extend_3 ++ dktX0_extend_4
def dkwX0_extend_2 : List UInt8 := [172, 42, 180, 0, 125, 27, 182, 0, 218, 192, 0, 205, 180, 0, 222, 78, 45, 182, 0, 201, 7, 160, 0, 6]
abbrev dktX0_extend_2 : List UInt8 := dkwX0_extend_2 ++ dktX0_extend_3
def dkwX0_extend_1 : List UInt8 := [182, 0, 218, 192, 0, 205, 180, 0, 222, 42, 180, 0, 125, 28, 182, 0, 218, 182, 0, 225, 153, 0, 5, 2]
abbrev dktX0_extend_1 : List UInt8 := dkwX0_extend_1 ++ dktX0_extend_2
def dkwX0_extend_0 : List UInt8 := [42, 27, 182, 0, 214, 153, 0, 42, 28, 3, 27, 4, 100, 184, 0, 45, 153, 0, 31, 42, 180, 0, 125, 27]
abbrev dktX0_extend_0 : List UInt8 := dkwX0_extend_0 ++ dktX0_extend_1
theorem dksX0_extend_0 : cX0_extend.data.toList.drop 0 = dktX0_extend_0 := by decide +kernel
theorem dksX0_extend_1 : cX0_extend.data.toList.drop 24 = dktX0_extend_1 := dk_seg dksX0_extend_0 24 rfl rfl
theorem dksX0_extend_2 : cX0_extend.data.toList.drop 48 = dktX0_extend_2 := dk_seg dksX0_extend_1 24 rfl rfl
theorem dksX0_extend_3 : cX0_extend.data.toList.drop 72 = dktX0_extend_3 := dk_seg dksX0_extend_2 24 rfl rfl
theorem dksX0_extend_4 : cX0_extend.data.toList.drop 94 = dktX0_extend_4 := dk_seg dksX0_extend_3 22 rfl rfl
theorem dX0_extend_0 : decode cX0_extend 0 = .ok (.aload_n 0, 1) := dk_42 (dk_at dksX0_extend_0 0 rfl rfl)
theorem dX0_extend_1 : decode cX0_extend 1 = .ok (.iload_n 1, 1) := dk_27 (dk_at dksX0_extend_0 1 rfl rfl)
theorem dX0_extend_2 : decode cX0_extend 2 = .ok (.invokevirtual 214, 3) := dk_182 0 214 (dk_at dksX0_extend_0 2 rfl rfl)
theorem dX0_extend_5 : decode cX0_extend 5 = .ok (.ifCond .eq 42, 3) := dk_153 0 42 (dk_at dksX0_extend_0 5 rfl rfl)
theorem dX0_extend_8 : decode cX0_extend 8 = .ok (.iload_n 2, 1) := dk_28 (dk_at dksX0_extend_0 8 rfl rfl)
theorem dX0_extend_9 : decode cX0_extend 9 = .ok (.iconst 0, 1) := dk_3 (dk_at dksX0_extend_0 9 rfl rfl)
theorem dX0_extend_10 : decode cX0_extend 10 = .ok (.iload_n 1, 1) := dk_27 (dk_at dksX0_extend_0 10 rfl rfl)
theorem dX0_extend_11 : decode cX0_extend 11 = .ok (.iconst 1, 1) := dk_4 (dk_at dksX0_extend_0 11 rfl rfl)
theorem dX0_extend_12 : decode cX0_extend 12 = .ok (.isub, 1) := dk_100 (dk_at dksX0_extend_0 12 rfl rfl)
theorem dX0_extend_13 : decode cX0_extend 13 = .ok (.invokestatic 45, 3) := dk_184 0 45 (dk_at dksX0_extend_0 13 rfl rfl)
theorem dX0_extend_16 : decode cX0_extend 16 = .ok (.ifCond .eq 31, 3) := dk_153 0 31 (dk_at dksX0_extend_0 16 rfl rfl)
theorem dX0_extend_19 : decode cX0_extend 19 = .ok (.aload_n 0, 1) := dk_42 (dk_at dksX0_extend_0 19 rfl rfl)
theorem dX0_extend_20 : decode cX0_extend 20 = .ok (.getfield 125, 3) := dk_180 0 125 (dk_at dksX0_extend_0 20 rfl rfl)
theorem dX0_extend_23 : decode cX0_extend 23 = .ok (.iload_n 1, 1) := dk_27 (dk_at dksX0_extend_0 23 rfl rfl)
theorem dX0_extend_24 : decode cX0_extend 24 = .ok (.invokevirtual 218, 3) := dk_182 0 218 (dk_at dksX0_extend_1 0 rfl rfl)
theorem dX0_extend_27 : decode cX0_extend 27 = .ok (.checkcast 205, 3) := dk_192 0 205 (dk_at dksX0_extend_1 3 rfl rfl)
theorem dX0_extend_30 : decode cX0_extend 30 = .ok (.getfield 222, 3) := dk_180 0 222 (dk_at dksX0_extend_1 6 rfl rfl)
theorem dX0_extend_33 : decode cX0_extend 33 = .ok (.aload_n 0, 1) := dk_42 (dk_at dksX0_extend_1 9 rfl rfl)
theorem dX0_extend_34 : decode cX0_extend 34 = .ok (.getfield 125, 3) := dk_180 0 125 (dk_at dksX0_extend_1 10 rfl rfl)
theorem dX0_extend_37 : decode cX0_extend 37 = .ok (.iload_n 2, 1) := dk_28 (dk_at dksX0_extend_1 13 rfl rfl)
theorem dX0_extend_38 : decode cX0_extend 38 = .ok (.invokevirtual 218, 3) := dk_182 0 218 (dk_at dksX0_extend_1 14 rfl rfl)
theorem dX0_extend_41 : decode cX0_extend 41 = .ok (.invokevirtual 225, 3) := dk_182 0 225 (dk_at dksX0_extend_1 17 rfl rfl)
theorem dX0_extend_44 : decode cX0_extend 44 = .ok (.ifCond .eq 5, 3) := dk_153 0 5 (dk_at dksX0_extend_1 20 rfl rfl)
theorem dX0_extend_47 : decode cX0_extend 47 = .ok (.iconst (-1), 1) := dk_2 (dk_at dksX0_extend_1 23 rfl rfl)
theorem dX0_extend_48 : decode cX0_extend 48 = .ok (.ireturn, 1) := dk_172 (dk_at dksX0_extend_2 0 rfl rfl)
theorem dX0_extend_49 : decode cX0_extend 49 = .ok (.aload_n 0, 1) := dk_42 (dk_at dksX0_extend_2 1 rfl rfl)
theorem dX0_extend_50 : decode cX0_extend 50 = .ok (.getfield 125, 3) := dk_180 0 125 (dk_at dksX0_extend_2 2 rfl rfl)
theorem dX0_extend_53 : decode cX0_extend 53 = .ok (.iload_n 1, 1) := dk_27 (dk_at dksX0_extend_2 5 rfl rfl)
theorem dX0_extend_54 : decode cX0_extend 54 = .ok (.invokevirtual 218, 3) := dk_182 0 218 (dk_at dksX0_extend_2 6 rfl rfl)
theorem dX0_extend_57 : decode cX0_extend 57 = .ok (.checkcast 205, 3) := dk_192 0 205 (dk_at dksX0_extend_2 9 rfl rfl)
theorem dX0_extend_60 : decode cX0_extend 60 = .ok (.getfield 222, 3) := dk_180 0 222 (dk_at dksX0_extend_2 12 rfl rfl)
theorem dX0_extend_63 : decode cX0_extend 63 = .ok (.astore_n 3, 1) := dk_78 (dk_at dksX0_extend_2 15 rfl rfl)
theorem dX0_extend_64 : decode cX0_extend 64 = .ok (.aload_n 3, 1) := dk_45 (dk_at dksX0_extend_2 16 rfl rfl)
theorem dX0_extend_65 : decode cX0_extend 65 = .ok (.invokevirtual 201, 3) := dk_182 0 201 (dk_at dksX0_extend_2 17 rfl rfl)
theorem dX0_extend_68 : decode cX0_extend 68 = .ok (.iconst 4, 1) := dk_7 (dk_at dksX0_extend_2 20 rfl rfl)
theorem dX0_extend_69 : decode cX0_extend 69 = .ok (.if_icmp .ne 6, 3) := dk_160 0 6 (dk_at dksX0_extend_2 21 rfl rfl)
theorem dX0_extend_72 : decode cX0_extend 72 = .ok (.bipush (-2), 2) := dk_16 254 (dk_at dksX0_extend_3 0 rfl rfl)
theorem dX0_extend_74 : decode cX0_extend 74 = .ok (.ireturn, 1) := dk_172 (dk_at dksX0_extend_3 2 rfl rfl)
theorem dX0_extend_75 : decode cX0_extend 75 = .ok (.aload_n 0, 1) := dk_42 (dk_at dksX0_extend_3 3 rfl rfl)
theorem dX0_extend_76 : decode cX0_extend 76 = .ok (.getfield 136, 3) := dk_180 0 136 (dk_at dksX0_extend_3 4 rfl rfl)
theorem dX0_extend_79 : decode cX0_extend 79 = .ok (.invokevirtual 228, 3) := dk_182 0 228 (dk_at dksX0_extend_3 7 rfl rfl)
theorem dX0_extend_82 : decode cX0_extend 82 = .ok (.ifCond .ne 6, 3) := dk_154 0 6 (dk_at dksX0_extend_3 10 rfl rfl)
theorem dX0_extend_85 : decode cX0_extend 85 = .ok (.bipush (-4), 2) := dk_16 252 (dk_at dksX0_extend_3 13 rfl rfl)
theorem dX0_extend_87 : decode cX0_extend 87 = .ok (.ireturn, 1) := dk_172 (dk_at dksX0_extend_3 15 rfl rfl)
theorem dX0_extend_88 : decode cX0_extend 88 = .ok (.aload_n 3, 1) := dk_45 (dk_at dksX0_extend_3 16 rfl rfl)
theorem dX0_extend_89 : decode cX0_extend 89 = .ok (.aload_n 0, 1) := dk_42 (dk_at dksX0_extend_3 17 rfl rfl)
theorem dX0_extend_90 : decode cX0_extend 90 = .ok (.getfield 125, 3) := dk_180 0 125 (dk_at dksX0_extend_3 18 rfl rfl)
theorem dX0_extend_93 : decode cX0_extend 93 = .ok (.iload_n 2, 1) := dk_28 (dk_at dksX0_extend_3 21 rfl rfl)
theorem dX0_extend_94 : decode cX0_extend 94 = .ok (.invokevirtual 218, 3) := dk_182 0 218 (dk_at dksX0_extend_4 0 rfl rfl)
theorem dX0_extend_97 : decode cX0_extend 97 = .ok (.checkcast 205, 3) := dk_192 0 205 (dk_at dksX0_extend_4 3 rfl rfl)
theorem dX0_extend_100 : decode cX0_extend 100 = .ok (.invokevirtual 210, 3) := dk_182 0 210 (dk_at dksX0_extend_4 6 rfl rfl)
theorem dX0_extend_103 : decode cX0_extend 103 = .ok (.pop, 1) := dk_87 (dk_at dksX0_extend_4 9 rfl rfl)
theorem dX0_extend_104 : decode cX0_extend 104 = .ok (.aload_n 3, 1) := dk_45 (dk_at dksX0_extend_4 10 rfl rfl)
theorem dX0_extend_105 : decode cX0_extend 105 = .ok (.invokevirtual 201, 3) := dk_182 0 201 (dk_at dksX0_extend_4 11 rfl rfl)
theorem dX0_extend_108 : decode cX0_extend 108 = .ok (.ireturn, 1) := dk_172 (dk_at dksX0_extend_4 14 rfl rfl)
abbrev cX0_isPart : ByteArray := prog_1_method_7_code
def yX0_isPart : MethodName := ⟨RX0, "isPart", "(I)Z"⟩
def dkwX0_isPart_0 : List UInt8 := [27, 3, 42, 180, 0, 125, 182, 0, 201, 4, 100, 184, 0, 45, 172]
abbrev dktX0_isPart_0 : List UInt8 := dkwX0_isPart_0 ++ []
theorem dksX0_isPart_0 : cX0_isPart.data.toList.drop 0 = dktX0_isPart_0 := by decide +kernel
theorem dX0_isPart_0 : decode cX0_isPart 0 = .ok (.iload_n 1, 1) := dk_27 (dk_at dksX0_isPart_0 0 rfl rfl)
theorem dX0_isPart_1 : decode cX0_isPart 1 = .ok (.iconst 0, 1) := dk_3 (dk_at dksX0_isPart_0 1 rfl rfl)
theorem dX0_isPart_2 : decode cX0_isPart 2 = .ok (.aload_n 0, 1) := dk_42 (dk_at dksX0_isPart_0 2 rfl rfl)
theorem dX0_isPart_3 : decode cX0_isPart 3 = .ok (.getfield 125, 3) := dk_180 0 125 (dk_at dksX0_isPart_0 3 rfl rfl)
theorem dX0_isPart_6 : decode cX0_isPart 6 = .ok (.invokevirtual 201, 3) := dk_182 0 201 (dk_at dksX0_isPart_0 6 rfl rfl)
theorem dX0_isPart_9 : decode cX0_isPart 9 = .ok (.iconst 1, 1) := dk_4 (dk_at dksX0_isPart_0 9 rfl rfl)
theorem dX0_isPart_10 : decode cX0_isPart 10 = .ok (.isub, 1) := dk_100 (dk_at dksX0_isPart_0 10 rfl rfl)
theorem dX0_isPart_11 : decode cX0_isPart 11 = .ok (.invokestatic 45, 3) := dk_184 0 45 (dk_at dksX0_isPart_0 11 rfl rfl)
theorem dX0_isPart_14 : decode cX0_isPart 14 = .ok (.ireturn, 1) := dk_172 (dk_at dksX0_isPart_0 14 rfl rfl)
abbrev cX0_want : ByteArray := prog_1_method_10_code
def yX0_want : MethodName := ⟨RX0, "want", "(II)I"⟩
def dkwX0_want_3 : List UInt8 := [180, 0, 232, 4, 96, 181, 0, 232, 42, 180, 0, 232, 172]
abbrev dktX0_want_3 : List UInt8 := dkwX0_want_3 ++ []
def dkwX0_want_2 : List UInt8 := [42, 180, 0, 129, 42, 180, 0, 232, 27, 79, 42, 180, 0, 133, 42, 180, 0, 232, 28, 79, 42, 89]
abbrev dktX0_want_2 : List UInt8 := dkwX0_want_2 ++ dktX0_want_3
def dkwX0_want_1 : List UInt8 := [180, 0, 232, 16, 30, 160, 0, 6, 16, 254, 172, 42, 180, 0, 136, 182, 0, 228, 154, 0, 6, 16, 252, 172]
abbrev dktX0_want_1 : List UInt8 := dkwX0_want_1 ++ dktX0_want_2
def dkwX0_want_0 : List UInt8 := [42, 27, 182, 0, 214, 153, 0, 16, 42, 28, 182, 0, 214, 153, 0, 8, 27, 28, 160, 0, 5, 2, 172, 42]
abbrev dktX0_want_0 : List UInt8 := dkwX0_want_0 ++ dktX0_want_1
theorem dksX0_want_0 : cX0_want.data.toList.drop 0 = dktX0_want_0 := by decide +kernel
theorem dksX0_want_1 : cX0_want.data.toList.drop 24 = dktX0_want_1 := dk_seg dksX0_want_0 24 rfl rfl
theorem dksX0_want_2 : cX0_want.data.toList.drop 48 = dktX0_want_2 := dk_seg dksX0_want_1 24 rfl rfl
theorem dksX0_want_3 : cX0_want.data.toList.drop 70 = dktX0_want_3 := dk_seg dksX0_want_2 22 rfl rfl
theorem dX0_want_0 : decode cX0_want 0 = .ok (.aload_n 0, 1) := dk_42 (dk_at dksX0_want_0 0 rfl rfl)
theorem dX0_want_1 : decode cX0_want 1 = .ok (.iload_n 1, 1) := dk_27 (dk_at dksX0_want_0 1 rfl rfl)
theorem dX0_want_2 : decode cX0_want 2 = .ok (.invokevirtual 214, 3) := dk_182 0 214 (dk_at dksX0_want_0 2 rfl rfl)
theorem dX0_want_5 : decode cX0_want 5 = .ok (.ifCond .eq 16, 3) := dk_153 0 16 (dk_at dksX0_want_0 5 rfl rfl)
theorem dX0_want_8 : decode cX0_want 8 = .ok (.aload_n 0, 1) := dk_42 (dk_at dksX0_want_0 8 rfl rfl)
theorem dX0_want_9 : decode cX0_want 9 = .ok (.iload_n 2, 1) := dk_28 (dk_at dksX0_want_0 9 rfl rfl)
theorem dX0_want_10 : decode cX0_want 10 = .ok (.invokevirtual 214, 3) := dk_182 0 214 (dk_at dksX0_want_0 10 rfl rfl)
theorem dX0_want_13 : decode cX0_want 13 = .ok (.ifCond .eq 8, 3) := dk_153 0 8 (dk_at dksX0_want_0 13 rfl rfl)
theorem dX0_want_16 : decode cX0_want 16 = .ok (.iload_n 1, 1) := dk_27 (dk_at dksX0_want_0 16 rfl rfl)
theorem dX0_want_17 : decode cX0_want 17 = .ok (.iload_n 2, 1) := dk_28 (dk_at dksX0_want_0 17 rfl rfl)
theorem dX0_want_18 : decode cX0_want 18 = .ok (.if_icmp .ne 5, 3) := dk_160 0 5 (dk_at dksX0_want_0 18 rfl rfl)
theorem dX0_want_21 : decode cX0_want 21 = .ok (.iconst (-1), 1) := dk_2 (dk_at dksX0_want_0 21 rfl rfl)
theorem dX0_want_22 : decode cX0_want 22 = .ok (.ireturn, 1) := dk_172 (dk_at dksX0_want_0 22 rfl rfl)
theorem dX0_want_23 : decode cX0_want 23 = .ok (.aload_n 0, 1) := dk_42 (dk_at dksX0_want_0 23 rfl rfl)
theorem dX0_want_24 : decode cX0_want 24 = .ok (.getfield 232, 3) := dk_180 0 232 (dk_at dksX0_want_1 0 rfl rfl)
theorem dX0_want_27 : decode cX0_want 27 = .ok (.bipush 30, 2) := dk_16 30 (dk_at dksX0_want_1 3 rfl rfl)
theorem dX0_want_29 : decode cX0_want 29 = .ok (.if_icmp .ne 6, 3) := dk_160 0 6 (dk_at dksX0_want_1 5 rfl rfl)
theorem dX0_want_32 : decode cX0_want 32 = .ok (.bipush (-2), 2) := dk_16 254 (dk_at dksX0_want_1 8 rfl rfl)
theorem dX0_want_34 : decode cX0_want 34 = .ok (.ireturn, 1) := dk_172 (dk_at dksX0_want_1 10 rfl rfl)
theorem dX0_want_35 : decode cX0_want 35 = .ok (.aload_n 0, 1) := dk_42 (dk_at dksX0_want_1 11 rfl rfl)
theorem dX0_want_36 : decode cX0_want 36 = .ok (.getfield 136, 3) := dk_180 0 136 (dk_at dksX0_want_1 12 rfl rfl)
theorem dX0_want_39 : decode cX0_want 39 = .ok (.invokevirtual 228, 3) := dk_182 0 228 (dk_at dksX0_want_1 15 rfl rfl)
theorem dX0_want_42 : decode cX0_want 42 = .ok (.ifCond .ne 6, 3) := dk_154 0 6 (dk_at dksX0_want_1 18 rfl rfl)
theorem dX0_want_45 : decode cX0_want 45 = .ok (.bipush (-4), 2) := dk_16 252 (dk_at dksX0_want_1 21 rfl rfl)
theorem dX0_want_47 : decode cX0_want 47 = .ok (.ireturn, 1) := dk_172 (dk_at dksX0_want_1 23 rfl rfl)
theorem dX0_want_48 : decode cX0_want 48 = .ok (.aload_n 0, 1) := dk_42 (dk_at dksX0_want_2 0 rfl rfl)
theorem dX0_want_49 : decode cX0_want 49 = .ok (.getfield 129, 3) := dk_180 0 129 (dk_at dksX0_want_2 1 rfl rfl)
theorem dX0_want_52 : decode cX0_want 52 = .ok (.aload_n 0, 1) := dk_42 (dk_at dksX0_want_2 4 rfl rfl)
theorem dX0_want_53 : decode cX0_want 53 = .ok (.getfield 232, 3) := dk_180 0 232 (dk_at dksX0_want_2 5 rfl rfl)
theorem dX0_want_56 : decode cX0_want 56 = .ok (.iload_n 1, 1) := dk_27 (dk_at dksX0_want_2 8 rfl rfl)
theorem dX0_want_57 : decode cX0_want 57 = .ok (.iastore, 1) := dk_79 (dk_at dksX0_want_2 9 rfl rfl)
theorem dX0_want_58 : decode cX0_want 58 = .ok (.aload_n 0, 1) := dk_42 (dk_at dksX0_want_2 10 rfl rfl)
theorem dX0_want_59 : decode cX0_want 59 = .ok (.getfield 133, 3) := dk_180 0 133 (dk_at dksX0_want_2 11 rfl rfl)
theorem dX0_want_62 : decode cX0_want 62 = .ok (.aload_n 0, 1) := dk_42 (dk_at dksX0_want_2 14 rfl rfl)
theorem dX0_want_63 : decode cX0_want 63 = .ok (.getfield 232, 3) := dk_180 0 232 (dk_at dksX0_want_2 15 rfl rfl)
theorem dX0_want_66 : decode cX0_want 66 = .ok (.iload_n 2, 1) := dk_28 (dk_at dksX0_want_2 18 rfl rfl)
theorem dX0_want_67 : decode cX0_want 67 = .ok (.iastore, 1) := dk_79 (dk_at dksX0_want_2 19 rfl rfl)
theorem dX0_want_68 : decode cX0_want 68 = .ok (.aload_n 0, 1) := dk_42 (dk_at dksX0_want_2 20 rfl rfl)
theorem dX0_want_69 : decode cX0_want 69 = .ok (.dup, 1) := dk_89 (dk_at dksX0_want_2 21 rfl rfl)
theorem dX0_want_70 : decode cX0_want 70 = .ok (.getfield 232, 3) := dk_180 0 232 (dk_at dksX0_want_3 0 rfl rfl)
theorem dX0_want_73 : decode cX0_want 73 = .ok (.iconst 1, 1) := dk_4 (dk_at dksX0_want_3 3 rfl rfl)
theorem dX0_want_74 : decode cX0_want 74 = .ok (.iadd, 1) := dk_96 (dk_at dksX0_want_3 4 rfl rfl)
theorem dX0_want_75 : decode cX0_want 75 = .ok (.putfield 232, 3) := dk_181 0 232 (dk_at dksX0_want_3 5 rfl rfl)
theorem dX0_want_78 : decode cX0_want 78 = .ok (.aload_n 0, 1) := dk_42 (dk_at dksX0_want_3 8 rfl rfl)
theorem dX0_want_79 : decode cX0_want 79 = .ok (.getfield 232, 3) := dk_180 0 232 (dk_at dksX0_want_3 9 rfl rfl)
theorem dX0_want_82 : decode cX0_want 82 = .ok (.ireturn, 1) := dk_172 (dk_at dksX0_want_3 12 rfl rfl)
abbrev cX0_body : ByteArray := prog_1_method_11_code
def yX0_body : MethodName := ⟨RX0, "body", "(IIII)I"⟩
def dkwX0_body_6 : List UInt8 := [167, 0, 12, 25, 5, 42, 180, 0, 238, 181, 0, 247, 4, 172]
abbrev dktX0_body_6 : List UInt8 := dkwX0_body_6 ++ []
def dkwX0_body_5 : List UInt8 := [180, 0, 238, 83, 167, 0, 31, 28, 4, 160, 0, 17, 25, 5, 180, 0, 244, 29, 42, 180, 0, 238, 83]
abbrev dktX0_body_5 : List UInt8 := dkwX0_body_5 ++ dktX0_body_6
def dkwX0_body_4 : List UInt8 := [167, 0, 4, 29, 21, 4, 183, 0, 235, 181, 0, 238, 28, 154, 0, 17, 25, 5, 180, 0, 241, 29, 42]
abbrev dktX0_body_4 : List UInt8 := dkwX0_body_4 ++ dktX0_body_5
def dkwX0_body_3 : List UInt8 := [182, 0, 218, 192, 0, 205, 58, 5, 42, 187, 0, 24, 89, 25, 5, 28, 28, 5, 160, 0, 8, 16, 247]
abbrev dktX0_body_3 : List UInt8 := dkwX0_body_3 ++ dktX0_body_4
def dkwX0_body_2 : List UInt8 := [154, 0, 5, 2, 172, 42, 180, 0, 136, 182, 0, 228, 154, 0, 6, 16, 252, 172, 42, 180, 0, 125, 27]
abbrev dktX0_body_2 : List UInt8 := dkwX0_body_2 ++ dktX0_body_3
def dkwX0_body_1 : List UInt8 := [16, 11, 184, 0, 45, 153, 0, 21, 21, 4, 16, 247, 159, 0, 16, 21, 4, 3, 16, 16, 184, 0, 45]
abbrev dktX0_body_1 : List UInt8 := dkwX0_body_1 ++ dktX0_body_2
def dkwX0_body_0 : List UInt8 := [42, 27, 182, 0, 214, 153, 0, 45, 28, 3, 5, 184, 0, 45, 153, 0, 36, 28, 5, 162, 0, 13, 29, 3]
abbrev dktX0_body_0 : List UInt8 := dkwX0_body_0 ++ dktX0_body_1
theorem dksX0_body_0 : cX0_body.data.toList.drop 0 = dktX0_body_0 := by decide +kernel
theorem dksX0_body_1 : cX0_body.data.toList.drop 24 = dktX0_body_1 := dk_seg dksX0_body_0 24 rfl rfl
theorem dksX0_body_2 : cX0_body.data.toList.drop 47 = dktX0_body_2 := dk_seg dksX0_body_1 23 rfl rfl
theorem dksX0_body_3 : cX0_body.data.toList.drop 70 = dktX0_body_3 := dk_seg dksX0_body_2 23 rfl rfl
theorem dksX0_body_4 : cX0_body.data.toList.drop 93 = dktX0_body_4 := dk_seg dksX0_body_3 23 rfl rfl
theorem dksX0_body_5 : cX0_body.data.toList.drop 116 = dktX0_body_5 := dk_seg dksX0_body_4 23 rfl rfl
theorem dksX0_body_6 : cX0_body.data.toList.drop 139 = dktX0_body_6 := dk_seg dksX0_body_5 23 rfl rfl
theorem dX0_body_0 : decode cX0_body 0 = .ok (.aload_n 0, 1) := dk_42 (dk_at dksX0_body_0 0 rfl rfl)
theorem dX0_body_1 : decode cX0_body 1 = .ok (.iload_n 1, 1) := dk_27 (dk_at dksX0_body_0 1 rfl rfl)
theorem dX0_body_2 : decode cX0_body 2 = .ok (.invokevirtual 214, 3) := dk_182 0 214 (dk_at dksX0_body_0 2 rfl rfl)
theorem dX0_body_5 : decode cX0_body 5 = .ok (.ifCond .eq 45, 3) := dk_153 0 45 (dk_at dksX0_body_0 5 rfl rfl)
theorem dX0_body_8 : decode cX0_body 8 = .ok (.iload_n 2, 1) := dk_28 (dk_at dksX0_body_0 8 rfl rfl)
theorem dX0_body_9 : decode cX0_body 9 = .ok (.iconst 0, 1) := dk_3 (dk_at dksX0_body_0 9 rfl rfl)
theorem dX0_body_10 : decode cX0_body 10 = .ok (.iconst 2, 1) := dk_5 (dk_at dksX0_body_0 10 rfl rfl)
theorem dX0_body_11 : decode cX0_body 11 = .ok (.invokestatic 45, 3) := dk_184 0 45 (dk_at dksX0_body_0 11 rfl rfl)
theorem dX0_body_14 : decode cX0_body 14 = .ok (.ifCond .eq 36, 3) := dk_153 0 36 (dk_at dksX0_body_0 14 rfl rfl)
theorem dX0_body_17 : decode cX0_body 17 = .ok (.iload_n 2, 1) := dk_28 (dk_at dksX0_body_0 17 rfl rfl)
theorem dX0_body_18 : decode cX0_body 18 = .ok (.iconst 2, 1) := dk_5 (dk_at dksX0_body_0 18 rfl rfl)
theorem dX0_body_19 : decode cX0_body 19 = .ok (.if_icmp .ge 13, 3) := dk_162 0 13 (dk_at dksX0_body_0 19 rfl rfl)
theorem dX0_body_22 : decode cX0_body 22 = .ok (.iload_n 3, 1) := dk_29 (dk_at dksX0_body_0 22 rfl rfl)
theorem dX0_body_23 : decode cX0_body 23 = .ok (.iconst 0, 1) := dk_3 (dk_at dksX0_body_0 23 rfl rfl)
theorem dX0_body_24 : decode cX0_body 24 = .ok (.bipush 11, 2) := dk_16 11 (dk_at dksX0_body_1 0 rfl rfl)
theorem dX0_body_26 : decode cX0_body 26 = .ok (.invokestatic 45, 3) := dk_184 0 45 (dk_at dksX0_body_1 2 rfl rfl)
theorem dX0_body_29 : decode cX0_body 29 = .ok (.ifCond .eq 21, 3) := dk_153 0 21 (dk_at dksX0_body_1 5 rfl rfl)
theorem dX0_body_32 : decode cX0_body 32 = .ok (.iload 4, 2) := dk_21 4 (dk_at dksX0_body_1 8 rfl rfl)
theorem dX0_body_34 : decode cX0_body 34 = .ok (.bipush (-9), 2) := dk_16 247 (dk_at dksX0_body_1 10 rfl rfl)
theorem dX0_body_36 : decode cX0_body 36 = .ok (.if_icmp .eq 16, 3) := dk_159 0 16 (dk_at dksX0_body_1 12 rfl rfl)
theorem dX0_body_39 : decode cX0_body 39 = .ok (.iload 4, 2) := dk_21 4 (dk_at dksX0_body_1 15 rfl rfl)
theorem dX0_body_41 : decode cX0_body 41 = .ok (.iconst 0, 1) := dk_3 (dk_at dksX0_body_1 17 rfl rfl)
theorem dX0_body_42 : decode cX0_body 42 = .ok (.bipush 16, 2) := dk_16 16 (dk_at dksX0_body_1 18 rfl rfl)
theorem dX0_body_44 : decode cX0_body 44 = .ok (.invokestatic 45, 3) := dk_184 0 45 (dk_at dksX0_body_1 20 rfl rfl)
theorem dX0_body_47 : decode cX0_body 47 = .ok (.ifCond .ne 5, 3) := dk_154 0 5 (dk_at dksX0_body_2 0 rfl rfl)
theorem dX0_body_50 : decode cX0_body 50 = .ok (.iconst (-1), 1) := dk_2 (dk_at dksX0_body_2 3 rfl rfl)
theorem dX0_body_51 : decode cX0_body 51 = .ok (.ireturn, 1) := dk_172 (dk_at dksX0_body_2 4 rfl rfl)
theorem dX0_body_52 : decode cX0_body 52 = .ok (.aload_n 0, 1) := dk_42 (dk_at dksX0_body_2 5 rfl rfl)
theorem dX0_body_53 : decode cX0_body 53 = .ok (.getfield 136, 3) := dk_180 0 136 (dk_at dksX0_body_2 6 rfl rfl)
theorem dX0_body_56 : decode cX0_body 56 = .ok (.invokevirtual 228, 3) := dk_182 0 228 (dk_at dksX0_body_2 9 rfl rfl)
theorem dX0_body_59 : decode cX0_body 59 = .ok (.ifCond .ne 6, 3) := dk_154 0 6 (dk_at dksX0_body_2 12 rfl rfl)
theorem dX0_body_62 : decode cX0_body 62 = .ok (.bipush (-4), 2) := dk_16 252 (dk_at dksX0_body_2 15 rfl rfl)
theorem dX0_body_64 : decode cX0_body 64 = .ok (.ireturn, 1) := dk_172 (dk_at dksX0_body_2 17 rfl rfl)
theorem dX0_body_65 : decode cX0_body 65 = .ok (.aload_n 0, 1) := dk_42 (dk_at dksX0_body_2 18 rfl rfl)
theorem dX0_body_66 : decode cX0_body 66 = .ok (.getfield 125, 3) := dk_180 0 125 (dk_at dksX0_body_2 19 rfl rfl)
theorem dX0_body_69 : decode cX0_body 69 = .ok (.iload_n 1, 1) := dk_27 (dk_at dksX0_body_2 22 rfl rfl)
theorem dX0_body_70 : decode cX0_body 70 = .ok (.invokevirtual 218, 3) := dk_182 0 218 (dk_at dksX0_body_3 0 rfl rfl)
theorem dX0_body_73 : decode cX0_body 73 = .ok (.checkcast 205, 3) := dk_192 0 205 (dk_at dksX0_body_3 3 rfl rfl)
theorem dX0_body_76 : decode cX0_body 76 = .ok (.astore 5, 2) := dk_58 5 (dk_at dksX0_body_3 6 rfl rfl)
theorem dX0_body_78 : decode cX0_body 78 = .ok (.aload_n 0, 1) := dk_42 (dk_at dksX0_body_3 8 rfl rfl)
theorem dX0_body_79 : decode cX0_body 79 = .ok (.new 24, 3) := dk_187 0 24 (dk_at dksX0_body_3 9 rfl rfl)
theorem dX0_body_82 : decode cX0_body 82 = .ok (.dup, 1) := dk_89 (dk_at dksX0_body_3 12 rfl rfl)
theorem dX0_body_83 : decode cX0_body 83 = .ok (.aload 5, 2) := dk_25 5 (dk_at dksX0_body_3 13 rfl rfl)
theorem dX0_body_85 : decode cX0_body 85 = .ok (.iload_n 2, 1) := dk_28 (dk_at dksX0_body_3 15 rfl rfl)
theorem dX0_body_86 : decode cX0_body 86 = .ok (.iload_n 2, 1) := dk_28 (dk_at dksX0_body_3 16 rfl rfl)
theorem dX0_body_87 : decode cX0_body 87 = .ok (.iconst 2, 1) := dk_5 (dk_at dksX0_body_3 17 rfl rfl)
theorem dX0_body_88 : decode cX0_body 88 = .ok (.if_icmp .ne 8, 3) := dk_160 0 8 (dk_at dksX0_body_3 18 rfl rfl)
theorem dX0_body_91 : decode cX0_body 91 = .ok (.bipush (-9), 2) := dk_16 247 (dk_at dksX0_body_3 21 rfl rfl)
theorem dX0_body_93 : decode cX0_body 93 = .ok (.goto 4, 3) := dk_167 0 4 (dk_at dksX0_body_4 0 rfl rfl)
theorem dX0_body_96 : decode cX0_body 96 = .ok (.iload_n 3, 1) := dk_29 (dk_at dksX0_body_4 3 rfl rfl)
theorem dX0_body_97 : decode cX0_body 97 = .ok (.iload 4, 2) := dk_21 4 (dk_at dksX0_body_4 4 rfl rfl)
theorem dX0_body_99 : decode cX0_body 99 = .ok (.invokespecial 235, 3) := dk_183 0 235 (dk_at dksX0_body_4 6 rfl rfl)
theorem dX0_body_102 : decode cX0_body 102 = .ok (.putfield 238, 3) := dk_181 0 238 (dk_at dksX0_body_4 9 rfl rfl)
theorem dX0_body_105 : decode cX0_body 105 = .ok (.iload_n 2, 1) := dk_28 (dk_at dksX0_body_4 12 rfl rfl)
theorem dX0_body_106 : decode cX0_body 106 = .ok (.ifCond .ne 17, 3) := dk_154 0 17 (dk_at dksX0_body_4 13 rfl rfl)
theorem dX0_body_109 : decode cX0_body 109 = .ok (.aload 5, 2) := dk_25 5 (dk_at dksX0_body_4 16 rfl rfl)
theorem dX0_body_111 : decode cX0_body 111 = .ok (.getfield 241, 3) := dk_180 0 241 (dk_at dksX0_body_4 18 rfl rfl)
theorem dX0_body_114 : decode cX0_body 114 = .ok (.iload_n 3, 1) := dk_29 (dk_at dksX0_body_4 21 rfl rfl)
theorem dX0_body_115 : decode cX0_body 115 = .ok (.aload_n 0, 1) := dk_42 (dk_at dksX0_body_4 22 rfl rfl)
theorem dX0_body_116 : decode cX0_body 116 = .ok (.getfield 238, 3) := dk_180 0 238 (dk_at dksX0_body_5 0 rfl rfl)
theorem dX0_body_119 : decode cX0_body 119 = .ok (.aastore, 1) := dk_83 (dk_at dksX0_body_5 3 rfl rfl)
theorem dX0_body_120 : decode cX0_body 120 = .ok (.goto 31, 3) := dk_167 0 31 (dk_at dksX0_body_5 4 rfl rfl)
theorem dX0_body_123 : decode cX0_body 123 = .ok (.iload_n 2, 1) := dk_28 (dk_at dksX0_body_5 7 rfl rfl)
theorem dX0_body_124 : decode cX0_body 124 = .ok (.iconst 1, 1) := dk_4 (dk_at dksX0_body_5 8 rfl rfl)
theorem dX0_body_125 : decode cX0_body 125 = .ok (.if_icmp .ne 17, 3) := dk_160 0 17 (dk_at dksX0_body_5 9 rfl rfl)
theorem dX0_body_128 : decode cX0_body 128 = .ok (.aload 5, 2) := dk_25 5 (dk_at dksX0_body_5 12 rfl rfl)
theorem dX0_body_130 : decode cX0_body 130 = .ok (.getfield 244, 3) := dk_180 0 244 (dk_at dksX0_body_5 14 rfl rfl)
theorem dX0_body_133 : decode cX0_body 133 = .ok (.iload_n 3, 1) := dk_29 (dk_at dksX0_body_5 17 rfl rfl)
theorem dX0_body_134 : decode cX0_body 134 = .ok (.aload_n 0, 1) := dk_42 (dk_at dksX0_body_5 18 rfl rfl)
theorem dX0_body_135 : decode cX0_body 135 = .ok (.getfield 238, 3) := dk_180 0 238 (dk_at dksX0_body_5 19 rfl rfl)
theorem dX0_body_138 : decode cX0_body 138 = .ok (.aastore, 1) := dk_83 (dk_at dksX0_body_5 22 rfl rfl)
theorem dX0_body_139 : decode cX0_body 139 = .ok (.goto 12, 3) := dk_167 0 12 (dk_at dksX0_body_6 0 rfl rfl)
theorem dX0_body_142 : decode cX0_body 142 = .ok (.aload 5, 2) := dk_25 5 (dk_at dksX0_body_6 3 rfl rfl)
theorem dX0_body_144 : decode cX0_body 144 = .ok (.aload_n 0, 1) := dk_42 (dk_at dksX0_body_6 5 rfl rfl)
theorem dX0_body_145 : decode cX0_body 145 = .ok (.getfield 238, 3) := dk_180 0 238 (dk_at dksX0_body_6 6 rfl rfl)
theorem dX0_body_148 : decode cX0_body 148 = .ok (.putfield 247, 3) := dk_181 0 247 (dk_at dksX0_body_6 9 rfl rfl)
theorem dX0_body_151 : decode cX0_body 151 = .ok (.iconst 1, 1) := dk_4 (dk_at dksX0_body_6 12 rfl rfl)
theorem dX0_body_152 : decode cX0_body 152 = .ok (.ireturn, 1) := dk_172 (dk_at dksX0_body_6 13 rfl rfl)
abbrev cX0_act : ByteArray := prog_1_method_12_code
def yX0_act : MethodName := ⟨RX0, "act", "(III)I"⟩
def dkwX0_act_4 : List UInt8 := [180, 1, 4, 25, 4, 182, 0, 210, 87, 42, 180, 0, 238, 180, 1, 4, 182, 0, 201, 172]
abbrev dktX0_act_4 : List UInt8 := dkwX0_act_4 ++ []
def dkwX0_act_3 : List UInt8 := [160, 0, 6, 16, 254, 172, 42, 180, 0, 136, 182, 0, 228, 154, 0, 6, 16, 252, 172, 42, 180, 0, 238]
abbrev dktX0_act_3 : List UInt8 := dkwX0_act_3 ++ dktX0_act_4
def dkwX0_act_2 : List UInt8 := [185, 0, 254, 2, 0, 154, 0, 5, 2, 172, 42, 180, 0, 238, 180, 1, 4, 182, 0, 201, 16, 10]
abbrev dktX0_act_2 : List UInt8 := dkwX0_act_2 ++ dktX0_act_3
def dkwX0_act_1 : List UInt8 := [28, 29, 182, 0, 250, 58, 4, 25, 4, 58, 5, 25, 5, 42, 180, 0, 238, 180, 0, 23]
abbrev dktX0_act_1 : List UInt8 := dkwX0_act_1 ++ dktX0_act_2
def dkwX0_act_0 : List UInt8 := [27, 3, 16, 19, 184, 0, 45, 154, 0, 5, 2, 172, 42, 180, 0, 238, 199, 0, 6, 16, 252, 172, 42, 27]
abbrev dktX0_act_0 : List UInt8 := dkwX0_act_0 ++ dktX0_act_1
theorem dksX0_act_0 : cX0_act.data.toList.drop 0 = dktX0_act_0 := by decide +kernel
theorem dksX0_act_1 : cX0_act.data.toList.drop 24 = dktX0_act_1 := dk_seg dksX0_act_0 24 rfl rfl
theorem dksX0_act_2 : cX0_act.data.toList.drop 44 = dktX0_act_2 := dk_seg dksX0_act_1 20 rfl rfl
theorem dksX0_act_3 : cX0_act.data.toList.drop 66 = dktX0_act_3 := dk_seg dksX0_act_2 22 rfl rfl
theorem dksX0_act_4 : cX0_act.data.toList.drop 89 = dktX0_act_4 := dk_seg dksX0_act_3 23 rfl rfl
theorem dX0_act_0 : decode cX0_act 0 = .ok (.iload_n 1, 1) := dk_27 (dk_at dksX0_act_0 0 rfl rfl)
theorem dX0_act_1 : decode cX0_act 1 = .ok (.iconst 0, 1) := dk_3 (dk_at dksX0_act_0 1 rfl rfl)
theorem dX0_act_2 : decode cX0_act 2 = .ok (.bipush 19, 2) := dk_16 19 (dk_at dksX0_act_0 2 rfl rfl)
theorem dX0_act_4 : decode cX0_act 4 = .ok (.invokestatic 45, 3) := dk_184 0 45 (dk_at dksX0_act_0 4 rfl rfl)
theorem dX0_act_7 : decode cX0_act 7 = .ok (.ifCond .ne 5, 3) := dk_154 0 5 (dk_at dksX0_act_0 7 rfl rfl)
theorem dX0_act_10 : decode cX0_act 10 = .ok (.iconst (-1), 1) := dk_2 (dk_at dksX0_act_0 10 rfl rfl)
theorem dX0_act_11 : decode cX0_act 11 = .ok (.ireturn, 1) := dk_172 (dk_at dksX0_act_0 11 rfl rfl)
theorem dX0_act_12 : decode cX0_act 12 = .ok (.aload_n 0, 1) := dk_42 (dk_at dksX0_act_0 12 rfl rfl)
theorem dX0_act_13 : decode cX0_act 13 = .ok (.getfield 238, 3) := dk_180 0 238 (dk_at dksX0_act_0 13 rfl rfl)
theorem dX0_act_16 : decode cX0_act 16 = .ok (.ifnonnull 6, 3) := dk_199 0 6 (dk_at dksX0_act_0 16 rfl rfl)
theorem dX0_act_19 : decode cX0_act 19 = .ok (.bipush (-4), 2) := dk_16 252 (dk_at dksX0_act_0 19 rfl rfl)
theorem dX0_act_21 : decode cX0_act 21 = .ok (.ireturn, 1) := dk_172 (dk_at dksX0_act_0 21 rfl rfl)
theorem dX0_act_22 : decode cX0_act 22 = .ok (.aload_n 0, 1) := dk_42 (dk_at dksX0_act_0 22 rfl rfl)
theorem dX0_act_23 : decode cX0_act 23 = .ok (.iload_n 1, 1) := dk_27 (dk_at dksX0_act_0 23 rfl rfl)
theorem dX0_act_24 : decode cX0_act 24 = .ok (.iload_n 2, 1) := dk_28 (dk_at dksX0_act_1 0 rfl rfl)
theorem dX0_act_25 : decode cX0_act 25 = .ok (.iload_n 3, 1) := dk_29 (dk_at dksX0_act_1 1 rfl rfl)
theorem dX0_act_26 : decode cX0_act 26 = .ok (.invokevirtual 250, 3) := dk_182 0 250 (dk_at dksX0_act_1 2 rfl rfl)
theorem dX0_act_29 : decode cX0_act 29 = .ok (.astore 4, 2) := dk_58 4 (dk_at dksX0_act_1 5 rfl rfl)
theorem dX0_act_31 : decode cX0_act 31 = .ok (.aload 4, 2) := dk_25 4 (dk_at dksX0_act_1 7 rfl rfl)
theorem dX0_act_33 : decode cX0_act 33 = .ok (.astore 5, 2) := dk_58 5 (dk_at dksX0_act_1 9 rfl rfl)
theorem dX0_act_35 : decode cX0_act 35 = .ok (.aload 5, 2) := dk_25 5 (dk_at dksX0_act_1 11 rfl rfl)
theorem dX0_act_37 : decode cX0_act 37 = .ok (.aload_n 0, 1) := dk_42 (dk_at dksX0_act_1 13 rfl rfl)
theorem dX0_act_38 : decode cX0_act 38 = .ok (.getfield 238, 3) := dk_180 0 238 (dk_at dksX0_act_1 14 rfl rfl)
theorem dX0_act_41 : decode cX0_act 41 = .ok (.getfield 23, 3) := dk_180 0 23 (dk_at dksX0_act_1 17 rfl rfl)
theorem dX0_act_44 : decode cX0_act 44 = .ok (.invokeinterface 254 2, 5) := by decide +kernel
theorem dX0_act_49 : decode cX0_act 49 = .ok (.ifCond .ne 5, 3) := dk_154 0 5 (dk_at dksX0_act_2 5 rfl rfl)
theorem dX0_act_52 : decode cX0_act 52 = .ok (.iconst (-1), 1) := dk_2 (dk_at dksX0_act_2 8 rfl rfl)
theorem dX0_act_53 : decode cX0_act 53 = .ok (.ireturn, 1) := dk_172 (dk_at dksX0_act_2 9 rfl rfl)
theorem dX0_act_54 : decode cX0_act 54 = .ok (.aload_n 0, 1) := dk_42 (dk_at dksX0_act_2 10 rfl rfl)
theorem dX0_act_55 : decode cX0_act 55 = .ok (.getfield 238, 3) := dk_180 0 238 (dk_at dksX0_act_2 11 rfl rfl)
theorem dX0_act_58 : decode cX0_act 58 = .ok (.getfield 260, 3) := dk_180 1 4 (dk_at dksX0_act_2 14 rfl rfl)
theorem dX0_act_61 : decode cX0_act 61 = .ok (.invokevirtual 201, 3) := dk_182 0 201 (dk_at dksX0_act_2 17 rfl rfl)
theorem dX0_act_64 : decode cX0_act 64 = .ok (.bipush 10, 2) := dk_16 10 (dk_at dksX0_act_2 20 rfl rfl)
theorem dX0_act_66 : decode cX0_act 66 = .ok (.if_icmp .ne 6, 3) := dk_160 0 6 (dk_at dksX0_act_3 0 rfl rfl)
theorem dX0_act_69 : decode cX0_act 69 = .ok (.bipush (-2), 2) := dk_16 254 (dk_at dksX0_act_3 3 rfl rfl)
theorem dX0_act_71 : decode cX0_act 71 = .ok (.ireturn, 1) := dk_172 (dk_at dksX0_act_3 5 rfl rfl)
theorem dX0_act_72 : decode cX0_act 72 = .ok (.aload_n 0, 1) := dk_42 (dk_at dksX0_act_3 6 rfl rfl)
theorem dX0_act_73 : decode cX0_act 73 = .ok (.getfield 136, 3) := dk_180 0 136 (dk_at dksX0_act_3 7 rfl rfl)
theorem dX0_act_76 : decode cX0_act 76 = .ok (.invokevirtual 228, 3) := dk_182 0 228 (dk_at dksX0_act_3 10 rfl rfl)
theorem dX0_act_79 : decode cX0_act 79 = .ok (.ifCond .ne 6, 3) := dk_154 0 6 (dk_at dksX0_act_3 13 rfl rfl)
theorem dX0_act_82 : decode cX0_act 82 = .ok (.bipush (-4), 2) := dk_16 252 (dk_at dksX0_act_3 16 rfl rfl)
theorem dX0_act_84 : decode cX0_act 84 = .ok (.ireturn, 1) := dk_172 (dk_at dksX0_act_3 18 rfl rfl)
theorem dX0_act_85 : decode cX0_act 85 = .ok (.aload_n 0, 1) := dk_42 (dk_at dksX0_act_3 19 rfl rfl)
theorem dX0_act_86 : decode cX0_act 86 = .ok (.getfield 238, 3) := dk_180 0 238 (dk_at dksX0_act_3 20 rfl rfl)
theorem dX0_act_89 : decode cX0_act 89 = .ok (.getfield 260, 3) := dk_180 1 4 (dk_at dksX0_act_4 0 rfl rfl)
theorem dX0_act_92 : decode cX0_act 92 = .ok (.aload 4, 2) := dk_25 4 (dk_at dksX0_act_4 3 rfl rfl)
theorem dX0_act_94 : decode cX0_act 94 = .ok (.invokevirtual 210, 3) := dk_182 0 210 (dk_at dksX0_act_4 5 rfl rfl)
theorem dX0_act_97 : decode cX0_act 97 = .ok (.pop, 1) := dk_87 (dk_at dksX0_act_4 8 rfl rfl)
theorem dX0_act_98 : decode cX0_act 98 = .ok (.aload_n 0, 1) := dk_42 (dk_at dksX0_act_4 9 rfl rfl)
theorem dX0_act_99 : decode cX0_act 99 = .ok (.getfield 238, 3) := dk_180 0 238 (dk_at dksX0_act_4 10 rfl rfl)
theorem dX0_act_102 : decode cX0_act 102 = .ok (.getfield 260, 3) := dk_180 1 4 (dk_at dksX0_act_4 13 rfl rfl)
theorem dX0_act_105 : decode cX0_act 105 = .ok (.invokevirtual 201, 3) := dk_182 0 201 (dk_at dksX0_act_4 16 rfl rfl)
theorem dX0_act_108 : decode cX0_act 108 = .ok (.ireturn, 1) := dk_172 (dk_at dksX0_act_4 19 rfl rfl)
abbrev cX0_make : ByteArray := prog_1_method_5_code
def yX0_make : MethodName := ⟨RX0, "make", "(III)LRoleLoom$Act;"⟩
def dkwX0_make_10 : List UInt8 := [183, 0, 111, 176, 187, 0, 112, 89, 42, 28, 29, 183, 0, 114, 176]
abbrev dktX0_make_10 : List UInt8 := dkwX0_make_10 ++ []
def dkwX0_make_9 : List UInt8 := [183, 0, 105, 176, 187, 0, 106, 89, 42, 28, 29, 183, 0, 108, 176, 187, 0, 109, 89, 42, 28, 29]
abbrev dktX0_make_9 : List UInt8 := dkwX0_make_9 ++ dktX0_make_10
def dkwX0_make_8 : List UInt8 := [89, 42, 183, 0, 99, 176, 187, 0, 100, 89, 42, 28, 3, 183, 0, 102, 176, 187, 0, 103, 89, 42, 28, 29]
abbrev dktX0_make_8 : List UInt8 := dkwX0_make_8 ++ dktX0_make_9
def dkwX0_make_7 : List UInt8 := [176, 187, 0, 91, 89, 42, 28, 183, 0, 93, 176, 187, 0, 94, 89, 42, 28, 183, 0, 96, 176, 187, 0, 97]
abbrev dktX0_make_7 : List UInt8 := dkwX0_make_7 ++ dktX0_make_8
def dkwX0_make_6 : List UInt8 := [183, 0, 82, 176, 187, 0, 83, 89, 42, 28, 3, 183, 0, 85, 176, 187, 0, 88, 89, 42, 28, 183, 0, 90]
abbrev dktX0_make_6 : List UInt8 := dkwX0_make_6 ++ dktX0_make_7
def dkwX0_make_5 : List UInt8 := [89, 42, 28, 27, 16, 8, 160, 0, 7, 4, 167, 0, 4, 3, 183, 0, 77, 176, 187, 0, 80, 89, 42]
abbrev dktX0_make_5 : List UInt8 := dkwX0_make_5 ++ dktX0_make_6
def dkwX0_make_4 : List UInt8 := [176, 187, 0, 69, 89, 42, 28, 183, 0, 71, 176, 187, 0, 72, 89, 42, 28, 183, 0, 74, 176, 187, 0, 75]
abbrev dktX0_make_4 : List UInt8 := dkwX0_make_4 ++ dktX0_make_5
def dkwX0_make_3 : List UInt8 := [28, 183, 0, 62, 176, 187, 0, 63, 89, 42, 28, 183, 0, 65, 176, 187, 0, 66, 89, 42, 28, 183, 0, 68]
abbrev dktX0_make_3 : List UInt8 := dkwX0_make_3 ++ dktX0_make_4
def dkwX0_make_2 : List UInt8 := [187, 0, 49, 89, 42, 28, 183, 0, 51, 176, 187, 0, 55, 89, 42, 183, 0, 57, 176, 187, 0, 60, 89, 42]
abbrev dktX0_make_2 : List UInt8 := dkwX0_make_2 ++ dktX0_make_3
def dkwX0_make_1 : List UInt8 := [170, 0, 0, 0, 0, 1, 28, 0, 0, 0, 0, 0, 0, 0, 18, 0, 0, 0, 91, 0, 0, 0, 101, 0, 0, 0, 110, 0, 0, 0, 120, 0, 0, 0, 130, 0, 0, 0, 140, 0, 0, 0, 150, 0, 0, 0, 160, 0, 0, 0, 160, 0, 0, 0, 181, 0, 0, 0, 190, 0, 0, 0, 201, 0, 0, 0, 211, 0, 0, 0, 221, 0, 0, 0, 231, 0, 0, 0, 240, 0, 0, 0, 251, 0, 0, 1, 6, 0, 0, 1, 17]
abbrev dktX0_make_1 : List UInt8 := dkwX0_make_1 ++ dktX0_make_2
def dkwX0_make_0 : List UInt8 := [27]
abbrev dktX0_make_0 : List UInt8 := dkwX0_make_0 ++ dktX0_make_1
theorem dksX0_make_0 : cX0_make.data.toList.drop 0 = dktX0_make_0 := by decide +kernel
theorem dksX0_make_1 : cX0_make.data.toList.drop 1 = dktX0_make_1 := dk_seg dksX0_make_0 1 rfl rfl
theorem dksX0_make_2 : cX0_make.data.toList.drop 92 = dktX0_make_2 := dk_seg dksX0_make_1 91 rfl rfl
theorem dksX0_make_3 : cX0_make.data.toList.drop 116 = dktX0_make_3 := dk_seg dksX0_make_2 24 rfl rfl
theorem dksX0_make_4 : cX0_make.data.toList.drop 140 = dktX0_make_4 := dk_seg dksX0_make_3 24 rfl rfl
theorem dksX0_make_5 : cX0_make.data.toList.drop 164 = dktX0_make_5 := dk_seg dksX0_make_4 24 rfl rfl
theorem dksX0_make_6 : cX0_make.data.toList.drop 187 = dktX0_make_6 := dk_seg dksX0_make_5 23 rfl rfl
theorem dksX0_make_7 : cX0_make.data.toList.drop 211 = dktX0_make_7 := dk_seg dksX0_make_6 24 rfl rfl
theorem dksX0_make_8 : cX0_make.data.toList.drop 235 = dktX0_make_8 := dk_seg dksX0_make_7 24 rfl rfl
theorem dksX0_make_9 : cX0_make.data.toList.drop 259 = dktX0_make_9 := dk_seg dksX0_make_8 24 rfl rfl
theorem dksX0_make_10 : cX0_make.data.toList.drop 281 = dktX0_make_10 := dk_seg dksX0_make_9 22 rfl rfl
theorem dX0_make_0 : decode cX0_make 0 = .ok (.iload_n 1, 1) := dk_27 (dk_at dksX0_make_0 0 rfl rfl)
theorem dX0_make_1 : decode cX0_make 1 = .ok (.tableswitch 284 0 18 #[91, 101, 110, 120, 130, 140, 150, 160, 160, 181, 190, 201, 211, 221, 231, 240, 251, 262, 273], 91) := by decide +kernel
theorem dX0_make_92 : decode cX0_make 92 = .ok (.new 49, 3) := dk_187 0 49 (dk_at dksX0_make_2 0 rfl rfl)
theorem dX0_make_95 : decode cX0_make 95 = .ok (.dup, 1) := dk_89 (dk_at dksX0_make_2 3 rfl rfl)
theorem dX0_make_96 : decode cX0_make 96 = .ok (.aload_n 0, 1) := dk_42 (dk_at dksX0_make_2 4 rfl rfl)
theorem dX0_make_97 : decode cX0_make 97 = .ok (.iload_n 2, 1) := dk_28 (dk_at dksX0_make_2 5 rfl rfl)
theorem dX0_make_98 : decode cX0_make 98 = .ok (.invokespecial 51, 3) := dk_183 0 51 (dk_at dksX0_make_2 6 rfl rfl)
theorem dX0_make_101 : decode cX0_make 101 = .ok (.areturn, 1) := dk_176 (dk_at dksX0_make_2 9 rfl rfl)
theorem dX0_make_102 : decode cX0_make 102 = .ok (.new 55, 3) := dk_187 0 55 (dk_at dksX0_make_2 10 rfl rfl)
theorem dX0_make_105 : decode cX0_make 105 = .ok (.dup, 1) := dk_89 (dk_at dksX0_make_2 13 rfl rfl)
theorem dX0_make_106 : decode cX0_make 106 = .ok (.aload_n 0, 1) := dk_42 (dk_at dksX0_make_2 14 rfl rfl)
theorem dX0_make_107 : decode cX0_make 107 = .ok (.invokespecial 57, 3) := dk_183 0 57 (dk_at dksX0_make_2 15 rfl rfl)
theorem dX0_make_110 : decode cX0_make 110 = .ok (.areturn, 1) := dk_176 (dk_at dksX0_make_2 18 rfl rfl)
theorem dX0_make_111 : decode cX0_make 111 = .ok (.new 60, 3) := dk_187 0 60 (dk_at dksX0_make_2 19 rfl rfl)
theorem dX0_make_114 : decode cX0_make 114 = .ok (.dup, 1) := dk_89 (dk_at dksX0_make_2 22 rfl rfl)
theorem dX0_make_115 : decode cX0_make 115 = .ok (.aload_n 0, 1) := dk_42 (dk_at dksX0_make_2 23 rfl rfl)
theorem dX0_make_116 : decode cX0_make 116 = .ok (.iload_n 2, 1) := dk_28 (dk_at dksX0_make_3 0 rfl rfl)
theorem dX0_make_117 : decode cX0_make 117 = .ok (.invokespecial 62, 3) := dk_183 0 62 (dk_at dksX0_make_3 1 rfl rfl)
theorem dX0_make_120 : decode cX0_make 120 = .ok (.areturn, 1) := dk_176 (dk_at dksX0_make_3 4 rfl rfl)
theorem dX0_make_121 : decode cX0_make 121 = .ok (.new 63, 3) := dk_187 0 63 (dk_at dksX0_make_3 5 rfl rfl)
theorem dX0_make_124 : decode cX0_make 124 = .ok (.dup, 1) := dk_89 (dk_at dksX0_make_3 8 rfl rfl)
theorem dX0_make_125 : decode cX0_make 125 = .ok (.aload_n 0, 1) := dk_42 (dk_at dksX0_make_3 9 rfl rfl)
theorem dX0_make_126 : decode cX0_make 126 = .ok (.iload_n 2, 1) := dk_28 (dk_at dksX0_make_3 10 rfl rfl)
theorem dX0_make_127 : decode cX0_make 127 = .ok (.invokespecial 65, 3) := dk_183 0 65 (dk_at dksX0_make_3 11 rfl rfl)
theorem dX0_make_130 : decode cX0_make 130 = .ok (.areturn, 1) := dk_176 (dk_at dksX0_make_3 14 rfl rfl)
theorem dX0_make_131 : decode cX0_make 131 = .ok (.new 66, 3) := dk_187 0 66 (dk_at dksX0_make_3 15 rfl rfl)
theorem dX0_make_134 : decode cX0_make 134 = .ok (.dup, 1) := dk_89 (dk_at dksX0_make_3 18 rfl rfl)
theorem dX0_make_135 : decode cX0_make 135 = .ok (.aload_n 0, 1) := dk_42 (dk_at dksX0_make_3 19 rfl rfl)
theorem dX0_make_136 : decode cX0_make 136 = .ok (.iload_n 2, 1) := dk_28 (dk_at dksX0_make_3 20 rfl rfl)
theorem dX0_make_137 : decode cX0_make 137 = .ok (.invokespecial 68, 3) := dk_183 0 68 (dk_at dksX0_make_3 21 rfl rfl)
theorem dX0_make_140 : decode cX0_make 140 = .ok (.areturn, 1) := dk_176 (dk_at dksX0_make_4 0 rfl rfl)
theorem dX0_make_141 : decode cX0_make 141 = .ok (.new 69, 3) := dk_187 0 69 (dk_at dksX0_make_4 1 rfl rfl)
theorem dX0_make_144 : decode cX0_make 144 = .ok (.dup, 1) := dk_89 (dk_at dksX0_make_4 4 rfl rfl)
theorem dX0_make_145 : decode cX0_make 145 = .ok (.aload_n 0, 1) := dk_42 (dk_at dksX0_make_4 5 rfl rfl)
theorem dX0_make_146 : decode cX0_make 146 = .ok (.iload_n 2, 1) := dk_28 (dk_at dksX0_make_4 6 rfl rfl)
theorem dX0_make_147 : decode cX0_make 147 = .ok (.invokespecial 71, 3) := dk_183 0 71 (dk_at dksX0_make_4 7 rfl rfl)
theorem dX0_make_150 : decode cX0_make 150 = .ok (.areturn, 1) := dk_176 (dk_at dksX0_make_4 10 rfl rfl)
theorem dX0_make_151 : decode cX0_make 151 = .ok (.new 72, 3) := dk_187 0 72 (dk_at dksX0_make_4 11 rfl rfl)
theorem dX0_make_154 : decode cX0_make 154 = .ok (.dup, 1) := dk_89 (dk_at dksX0_make_4 14 rfl rfl)
theorem dX0_make_155 : decode cX0_make 155 = .ok (.aload_n 0, 1) := dk_42 (dk_at dksX0_make_4 15 rfl rfl)
theorem dX0_make_156 : decode cX0_make 156 = .ok (.iload_n 2, 1) := dk_28 (dk_at dksX0_make_4 16 rfl rfl)
theorem dX0_make_157 : decode cX0_make 157 = .ok (.invokespecial 74, 3) := dk_183 0 74 (dk_at dksX0_make_4 17 rfl rfl)
theorem dX0_make_160 : decode cX0_make 160 = .ok (.areturn, 1) := dk_176 (dk_at dksX0_make_4 20 rfl rfl)
theorem dX0_make_161 : decode cX0_make 161 = .ok (.new 75, 3) := dk_187 0 75 (dk_at dksX0_make_4 21 rfl rfl)
theorem dX0_make_164 : decode cX0_make 164 = .ok (.dup, 1) := dk_89 (dk_at dksX0_make_5 0 rfl rfl)
theorem dX0_make_165 : decode cX0_make 165 = .ok (.aload_n 0, 1) := dk_42 (dk_at dksX0_make_5 1 rfl rfl)
theorem dX0_make_166 : decode cX0_make 166 = .ok (.iload_n 2, 1) := dk_28 (dk_at dksX0_make_5 2 rfl rfl)
theorem dX0_make_167 : decode cX0_make 167 = .ok (.iload_n 1, 1) := dk_27 (dk_at dksX0_make_5 3 rfl rfl)
theorem dX0_make_168 : decode cX0_make 168 = .ok (.bipush 8, 2) := dk_16 8 (dk_at dksX0_make_5 4 rfl rfl)
theorem dX0_make_170 : decode cX0_make 170 = .ok (.if_icmp .ne 7, 3) := dk_160 0 7 (dk_at dksX0_make_5 6 rfl rfl)
theorem dX0_make_173 : decode cX0_make 173 = .ok (.iconst 1, 1) := dk_4 (dk_at dksX0_make_5 9 rfl rfl)
theorem dX0_make_174 : decode cX0_make 174 = .ok (.goto 4, 3) := dk_167 0 4 (dk_at dksX0_make_5 10 rfl rfl)
theorem dX0_make_177 : decode cX0_make 177 = .ok (.iconst 0, 1) := dk_3 (dk_at dksX0_make_5 13 rfl rfl)
theorem dX0_make_178 : decode cX0_make 178 = .ok (.invokespecial 77, 3) := dk_183 0 77 (dk_at dksX0_make_5 14 rfl rfl)
theorem dX0_make_181 : decode cX0_make 181 = .ok (.areturn, 1) := dk_176 (dk_at dksX0_make_5 17 rfl rfl)
theorem dX0_make_182 : decode cX0_make 182 = .ok (.new 80, 3) := dk_187 0 80 (dk_at dksX0_make_5 18 rfl rfl)
theorem dX0_make_185 : decode cX0_make 185 = .ok (.dup, 1) := dk_89 (dk_at dksX0_make_5 21 rfl rfl)
theorem dX0_make_186 : decode cX0_make 186 = .ok (.aload_n 0, 1) := dk_42 (dk_at dksX0_make_5 22 rfl rfl)
theorem dX0_make_187 : decode cX0_make 187 = .ok (.invokespecial 82, 3) := dk_183 0 82 (dk_at dksX0_make_6 0 rfl rfl)
theorem dX0_make_190 : decode cX0_make 190 = .ok (.areturn, 1) := dk_176 (dk_at dksX0_make_6 3 rfl rfl)
theorem dX0_make_191 : decode cX0_make 191 = .ok (.new 83, 3) := dk_187 0 83 (dk_at dksX0_make_6 4 rfl rfl)
theorem dX0_make_194 : decode cX0_make 194 = .ok (.dup, 1) := dk_89 (dk_at dksX0_make_6 7 rfl rfl)
theorem dX0_make_195 : decode cX0_make 195 = .ok (.aload_n 0, 1) := dk_42 (dk_at dksX0_make_6 8 rfl rfl)
theorem dX0_make_196 : decode cX0_make 196 = .ok (.iload_n 2, 1) := dk_28 (dk_at dksX0_make_6 9 rfl rfl)
theorem dX0_make_197 : decode cX0_make 197 = .ok (.iconst 0, 1) := dk_3 (dk_at dksX0_make_6 10 rfl rfl)
theorem dX0_make_198 : decode cX0_make 198 = .ok (.invokespecial 85, 3) := dk_183 0 85 (dk_at dksX0_make_6 11 rfl rfl)
theorem dX0_make_201 : decode cX0_make 201 = .ok (.areturn, 1) := dk_176 (dk_at dksX0_make_6 14 rfl rfl)
theorem dX0_make_202 : decode cX0_make 202 = .ok (.new 88, 3) := dk_187 0 88 (dk_at dksX0_make_6 15 rfl rfl)
theorem dX0_make_205 : decode cX0_make 205 = .ok (.dup, 1) := dk_89 (dk_at dksX0_make_6 18 rfl rfl)
theorem dX0_make_206 : decode cX0_make 206 = .ok (.aload_n 0, 1) := dk_42 (dk_at dksX0_make_6 19 rfl rfl)
theorem dX0_make_207 : decode cX0_make 207 = .ok (.iload_n 2, 1) := dk_28 (dk_at dksX0_make_6 20 rfl rfl)
theorem dX0_make_208 : decode cX0_make 208 = .ok (.invokespecial 90, 3) := dk_183 0 90 (dk_at dksX0_make_6 21 rfl rfl)
theorem dX0_make_211 : decode cX0_make 211 = .ok (.areturn, 1) := dk_176 (dk_at dksX0_make_7 0 rfl rfl)
theorem dX0_make_212 : decode cX0_make 212 = .ok (.new 91, 3) := dk_187 0 91 (dk_at dksX0_make_7 1 rfl rfl)
theorem dX0_make_215 : decode cX0_make 215 = .ok (.dup, 1) := dk_89 (dk_at dksX0_make_7 4 rfl rfl)
theorem dX0_make_216 : decode cX0_make 216 = .ok (.aload_n 0, 1) := dk_42 (dk_at dksX0_make_7 5 rfl rfl)
theorem dX0_make_217 : decode cX0_make 217 = .ok (.iload_n 2, 1) := dk_28 (dk_at dksX0_make_7 6 rfl rfl)
theorem dX0_make_218 : decode cX0_make 218 = .ok (.invokespecial 93, 3) := dk_183 0 93 (dk_at dksX0_make_7 7 rfl rfl)
theorem dX0_make_221 : decode cX0_make 221 = .ok (.areturn, 1) := dk_176 (dk_at dksX0_make_7 10 rfl rfl)
theorem dX0_make_222 : decode cX0_make 222 = .ok (.new 94, 3) := dk_187 0 94 (dk_at dksX0_make_7 11 rfl rfl)
theorem dX0_make_225 : decode cX0_make 225 = .ok (.dup, 1) := dk_89 (dk_at dksX0_make_7 14 rfl rfl)
theorem dX0_make_226 : decode cX0_make 226 = .ok (.aload_n 0, 1) := dk_42 (dk_at dksX0_make_7 15 rfl rfl)
theorem dX0_make_227 : decode cX0_make 227 = .ok (.iload_n 2, 1) := dk_28 (dk_at dksX0_make_7 16 rfl rfl)
theorem dX0_make_228 : decode cX0_make 228 = .ok (.invokespecial 96, 3) := dk_183 0 96 (dk_at dksX0_make_7 17 rfl rfl)
theorem dX0_make_231 : decode cX0_make 231 = .ok (.areturn, 1) := dk_176 (dk_at dksX0_make_7 20 rfl rfl)
theorem dX0_make_232 : decode cX0_make 232 = .ok (.new 97, 3) := dk_187 0 97 (dk_at dksX0_make_7 21 rfl rfl)
theorem dX0_make_235 : decode cX0_make 235 = .ok (.dup, 1) := dk_89 (dk_at dksX0_make_8 0 rfl rfl)
theorem dX0_make_236 : decode cX0_make 236 = .ok (.aload_n 0, 1) := dk_42 (dk_at dksX0_make_8 1 rfl rfl)
theorem dX0_make_237 : decode cX0_make 237 = .ok (.invokespecial 99, 3) := dk_183 0 99 (dk_at dksX0_make_8 2 rfl rfl)
theorem dX0_make_240 : decode cX0_make 240 = .ok (.areturn, 1) := dk_176 (dk_at dksX0_make_8 5 rfl rfl)
theorem dX0_make_241 : decode cX0_make 241 = .ok (.new 100, 3) := dk_187 0 100 (dk_at dksX0_make_8 6 rfl rfl)
theorem dX0_make_244 : decode cX0_make 244 = .ok (.dup, 1) := dk_89 (dk_at dksX0_make_8 9 rfl rfl)
theorem dX0_make_245 : decode cX0_make 245 = .ok (.aload_n 0, 1) := dk_42 (dk_at dksX0_make_8 10 rfl rfl)
theorem dX0_make_246 : decode cX0_make 246 = .ok (.iload_n 2, 1) := dk_28 (dk_at dksX0_make_8 11 rfl rfl)
theorem dX0_make_247 : decode cX0_make 247 = .ok (.iconst 0, 1) := dk_3 (dk_at dksX0_make_8 12 rfl rfl)
theorem dX0_make_248 : decode cX0_make 248 = .ok (.invokespecial 102, 3) := dk_183 0 102 (dk_at dksX0_make_8 13 rfl rfl)
theorem dX0_make_251 : decode cX0_make 251 = .ok (.areturn, 1) := dk_176 (dk_at dksX0_make_8 16 rfl rfl)
theorem dX0_make_252 : decode cX0_make 252 = .ok (.new 103, 3) := dk_187 0 103 (dk_at dksX0_make_8 17 rfl rfl)
theorem dX0_make_255 : decode cX0_make 255 = .ok (.dup, 1) := dk_89 (dk_at dksX0_make_8 20 rfl rfl)
theorem dX0_make_256 : decode cX0_make 256 = .ok (.aload_n 0, 1) := dk_42 (dk_at dksX0_make_8 21 rfl rfl)
theorem dX0_make_257 : decode cX0_make 257 = .ok (.iload_n 2, 1) := dk_28 (dk_at dksX0_make_8 22 rfl rfl)
theorem dX0_make_258 : decode cX0_make 258 = .ok (.iload_n 3, 1) := dk_29 (dk_at dksX0_make_8 23 rfl rfl)
theorem dX0_make_259 : decode cX0_make 259 = .ok (.invokespecial 105, 3) := dk_183 0 105 (dk_at dksX0_make_9 0 rfl rfl)
theorem dX0_make_262 : decode cX0_make 262 = .ok (.areturn, 1) := dk_176 (dk_at dksX0_make_9 3 rfl rfl)
theorem dX0_make_263 : decode cX0_make 263 = .ok (.new 106, 3) := dk_187 0 106 (dk_at dksX0_make_9 4 rfl rfl)
theorem dX0_make_266 : decode cX0_make 266 = .ok (.dup, 1) := dk_89 (dk_at dksX0_make_9 7 rfl rfl)
theorem dX0_make_267 : decode cX0_make 267 = .ok (.aload_n 0, 1) := dk_42 (dk_at dksX0_make_9 8 rfl rfl)
theorem dX0_make_268 : decode cX0_make 268 = .ok (.iload_n 2, 1) := dk_28 (dk_at dksX0_make_9 9 rfl rfl)
theorem dX0_make_269 : decode cX0_make 269 = .ok (.iload_n 3, 1) := dk_29 (dk_at dksX0_make_9 10 rfl rfl)
theorem dX0_make_270 : decode cX0_make 270 = .ok (.invokespecial 108, 3) := dk_183 0 108 (dk_at dksX0_make_9 11 rfl rfl)
theorem dX0_make_273 : decode cX0_make 273 = .ok (.areturn, 1) := dk_176 (dk_at dksX0_make_9 14 rfl rfl)
theorem dX0_make_274 : decode cX0_make 274 = .ok (.new 109, 3) := dk_187 0 109 (dk_at dksX0_make_9 15 rfl rfl)
theorem dX0_make_277 : decode cX0_make 277 = .ok (.dup, 1) := dk_89 (dk_at dksX0_make_9 18 rfl rfl)
theorem dX0_make_278 : decode cX0_make 278 = .ok (.aload_n 0, 1) := dk_42 (dk_at dksX0_make_9 19 rfl rfl)
theorem dX0_make_279 : decode cX0_make 279 = .ok (.iload_n 2, 1) := dk_28 (dk_at dksX0_make_9 20 rfl rfl)
theorem dX0_make_280 : decode cX0_make 280 = .ok (.iload_n 3, 1) := dk_29 (dk_at dksX0_make_9 21 rfl rfl)
theorem dX0_make_281 : decode cX0_make 281 = .ok (.invokespecial 111, 3) := dk_183 0 111 (dk_at dksX0_make_10 0 rfl rfl)
theorem dX0_make_284 : decode cX0_make 284 = .ok (.areturn, 1) := dk_176 (dk_at dksX0_make_10 3 rfl rfl)
theorem dX0_make_285 : decode cX0_make 285 = .ok (.new 112, 3) := dk_187 0 112 (dk_at dksX0_make_10 4 rfl rfl)
theorem dX0_make_288 : decode cX0_make 288 = .ok (.dup, 1) := dk_89 (dk_at dksX0_make_10 7 rfl rfl)
theorem dX0_make_289 : decode cX0_make 289 = .ok (.aload_n 0, 1) := dk_42 (dk_at dksX0_make_10 8 rfl rfl)
theorem dX0_make_290 : decode cX0_make 290 = .ok (.iload_n 2, 1) := dk_28 (dk_at dksX0_make_10 9 rfl rfl)
theorem dX0_make_291 : decode cX0_make 291 = .ok (.iload_n 3, 1) := dk_29 (dk_at dksX0_make_10 10 rfl rfl)
theorem dX0_make_292 : decode cX0_make 292 = .ok (.invokespecial 114, 3) := dk_183 0 114 (dk_at dksX0_make_10 11 rfl rfl)
theorem dX0_make_295 : decode cX0_make 295 = .ok (.areturn, 1) := dk_176 (dk_at dksX0_make_10 14 rfl rfl)
abbrev cX0_isNumber : ByteArray := prog_1_method_4_code
def yX0_isNumber : MethodName := ⟨RX0, "isNumber", "(I)Z"⟩
def dkwX0_isNumber_0 : List UInt8 := [26, 17, 252, 24, 17, 3, 232, 184, 0, 45, 172]
abbrev dktX0_isNumber_0 : List UInt8 := dkwX0_isNumber_0 ++ []
theorem dksX0_isNumber_0 : cX0_isNumber.data.toList.drop 0 = dktX0_isNumber_0 := by decide +kernel
theorem dX0_isNumber_0 : decode cX0_isNumber 0 = .ok (.iload_n 0, 1) := dk_26 (dk_at dksX0_isNumber_0 0 rfl rfl)
theorem dX0_isNumber_1 : decode cX0_isNumber 1 = .ok (.sipush (-1000), 3) := dk_17 252 24 (dk_at dksX0_isNumber_0 1 rfl rfl)
theorem dX0_isNumber_4 : decode cX0_isNumber 4 = .ok (.sipush 1000, 3) := dk_17 3 232 (dk_at dksX0_isNumber_0 4 rfl rfl)
theorem dX0_isNumber_7 : decode cX0_isNumber 7 = .ok (.invokestatic 45, 3) := dk_184 0 45 (dk_at dksX0_isNumber_0 7 rfl rfl)
theorem dX0_isNumber_10 : decode cX0_isNumber 10 = .ok (.ireturn, 1) := dk_172 (dk_at dksX0_isNumber_0 10 rfl rfl)
abbrev cX0_wish : ByteArray := prog_1_method_13_code
def yX0_wish : MethodName := ⟨RX0, "wish", "(II)I"⟩
def dkwX0_wish_2 : List UInt8 := [4, 84, 4, 172]
abbrev dktX0_wish_2 : List UInt8 := dkwX0_wish_2 ++ []
def dkwX0_wish_1 : List UInt8 := [182, 0, 228, 154, 0, 6, 16, 252, 172, 42, 180, 0, 125, 27, 182, 0, 218, 192, 0, 205, 180, 1, 7, 28]
abbrev dktX0_wish_1 : List UInt8 := dkwX0_wish_1 ++ dktX0_wish_2
def dkwX0_wish_0 : List UInt8 := [42, 27, 182, 0, 214, 153, 0, 13, 28, 3, 16, 11, 184, 0, 45, 154, 0, 5, 2, 172, 42, 180, 0, 136]
abbrev dktX0_wish_0 : List UInt8 := dkwX0_wish_0 ++ dktX0_wish_1
theorem dksX0_wish_0 : cX0_wish.data.toList.drop 0 = dktX0_wish_0 := by decide +kernel
theorem dksX0_wish_1 : cX0_wish.data.toList.drop 24 = dktX0_wish_1 := dk_seg dksX0_wish_0 24 rfl rfl
theorem dksX0_wish_2 : cX0_wish.data.toList.drop 48 = dktX0_wish_2 := dk_seg dksX0_wish_1 24 rfl rfl
theorem dX0_wish_0 : decode cX0_wish 0 = .ok (.aload_n 0, 1) := dk_42 (dk_at dksX0_wish_0 0 rfl rfl)
theorem dX0_wish_1 : decode cX0_wish 1 = .ok (.iload_n 1, 1) := dk_27 (dk_at dksX0_wish_0 1 rfl rfl)
theorem dX0_wish_2 : decode cX0_wish 2 = .ok (.invokevirtual 214, 3) := dk_182 0 214 (dk_at dksX0_wish_0 2 rfl rfl)
theorem dX0_wish_5 : decode cX0_wish 5 = .ok (.ifCond .eq 13, 3) := dk_153 0 13 (dk_at dksX0_wish_0 5 rfl rfl)
theorem dX0_wish_8 : decode cX0_wish 8 = .ok (.iload_n 2, 1) := dk_28 (dk_at dksX0_wish_0 8 rfl rfl)
theorem dX0_wish_9 : decode cX0_wish 9 = .ok (.iconst 0, 1) := dk_3 (dk_at dksX0_wish_0 9 rfl rfl)
theorem dX0_wish_10 : decode cX0_wish 10 = .ok (.bipush 11, 2) := dk_16 11 (dk_at dksX0_wish_0 10 rfl rfl)
theorem dX0_wish_12 : decode cX0_wish 12 = .ok (.invokestatic 45, 3) := dk_184 0 45 (dk_at dksX0_wish_0 12 rfl rfl)
theorem dX0_wish_15 : decode cX0_wish 15 = .ok (.ifCond .ne 5, 3) := dk_154 0 5 (dk_at dksX0_wish_0 15 rfl rfl)
theorem dX0_wish_18 : decode cX0_wish 18 = .ok (.iconst (-1), 1) := dk_2 (dk_at dksX0_wish_0 18 rfl rfl)
theorem dX0_wish_19 : decode cX0_wish 19 = .ok (.ireturn, 1) := dk_172 (dk_at dksX0_wish_0 19 rfl rfl)
theorem dX0_wish_20 : decode cX0_wish 20 = .ok (.aload_n 0, 1) := dk_42 (dk_at dksX0_wish_0 20 rfl rfl)
theorem dX0_wish_21 : decode cX0_wish 21 = .ok (.getfield 136, 3) := dk_180 0 136 (dk_at dksX0_wish_0 21 rfl rfl)
theorem dX0_wish_24 : decode cX0_wish 24 = .ok (.invokevirtual 228, 3) := dk_182 0 228 (dk_at dksX0_wish_1 0 rfl rfl)
theorem dX0_wish_27 : decode cX0_wish 27 = .ok (.ifCond .ne 6, 3) := dk_154 0 6 (dk_at dksX0_wish_1 3 rfl rfl)
theorem dX0_wish_30 : decode cX0_wish 30 = .ok (.bipush (-4), 2) := dk_16 252 (dk_at dksX0_wish_1 6 rfl rfl)
theorem dX0_wish_32 : decode cX0_wish 32 = .ok (.ireturn, 1) := dk_172 (dk_at dksX0_wish_1 8 rfl rfl)
theorem dX0_wish_33 : decode cX0_wish 33 = .ok (.aload_n 0, 1) := dk_42 (dk_at dksX0_wish_1 9 rfl rfl)
theorem dX0_wish_34 : decode cX0_wish 34 = .ok (.getfield 125, 3) := dk_180 0 125 (dk_at dksX0_wish_1 10 rfl rfl)
theorem dX0_wish_37 : decode cX0_wish 37 = .ok (.iload_n 1, 1) := dk_27 (dk_at dksX0_wish_1 13 rfl rfl)
theorem dX0_wish_38 : decode cX0_wish 38 = .ok (.invokevirtual 218, 3) := dk_182 0 218 (dk_at dksX0_wish_1 14 rfl rfl)
theorem dX0_wish_41 : decode cX0_wish 41 = .ok (.checkcast 205, 3) := dk_192 0 205 (dk_at dksX0_wish_1 17 rfl rfl)
theorem dX0_wish_44 : decode cX0_wish 44 = .ok (.getfield 263, 3) := dk_180 1 7 (dk_at dksX0_wish_1 20 rfl rfl)
theorem dX0_wish_47 : decode cX0_wish 47 = .ok (.iload_n 2, 1) := dk_28 (dk_at dksX0_wish_1 23 rfl rfl)
theorem dX0_wish_48 : decode cX0_wish 48 = .ok (.iconst 1, 1) := dk_4 (dk_at dksX0_wish_2 0 rfl rfl)
theorem dX0_wish_49 : decode cX0_wish 49 = .ok (.bastore, 1) := dk_84 (dk_at dksX0_wish_2 1 rfl rfl)
theorem dX0_wish_50 : decode cX0_wish 50 = .ok (.iconst 1, 1) := dk_4 (dk_at dksX0_wish_2 2 rfl rfl)
theorem dX0_wish_51 : decode cX0_wish 51 = .ok (.ireturn, 1) := dk_172 (dk_at dksX0_wish_2 3 rfl rfl)
abbrev cX0_name : ByteArray := prog_1_method_14_code
def yX0_name : MethodName := ⟨RX0, "name", "(I)I"⟩
def dkwX0_name_2 : List UInt8 := [42, 180, 0, 125, 27, 182, 0, 218, 192, 0, 205, 182, 0, 210, 87, 42, 180, 0, 146, 182, 0, 201, 172]
abbrev dktX0_name_2 : List UInt8 := dkwX0_name_2 ++ []
def dkwX0_name_1 : List UInt8 := [153, 0, 5, 2, 172, 42, 180, 0, 146, 182, 0, 201, 16, 8, 160, 0, 6, 16, 254, 172, 42, 180, 0, 146]
abbrev dktX0_name_1 : List UInt8 := dkwX0_name_1 ++ dktX0_name_2
def dkwX0_name_0 : List UInt8 := [42, 27, 182, 0, 214, 153, 0, 21, 42, 180, 0, 146, 42, 180, 0, 125, 27, 182, 0, 218, 182, 0, 225]
abbrev dktX0_name_0 : List UInt8 := dkwX0_name_0 ++ dktX0_name_1
theorem dksX0_name_0 : cX0_name.data.toList.drop 0 = dktX0_name_0 := by decide +kernel
theorem dksX0_name_1 : cX0_name.data.toList.drop 23 = dktX0_name_1 := dk_seg dksX0_name_0 23 rfl rfl
theorem dksX0_name_2 : cX0_name.data.toList.drop 47 = dktX0_name_2 := dk_seg dksX0_name_1 24 rfl rfl
theorem dX0_name_0 : decode cX0_name 0 = .ok (.aload_n 0, 1) := dk_42 (dk_at dksX0_name_0 0 rfl rfl)
theorem dX0_name_1 : decode cX0_name 1 = .ok (.iload_n 1, 1) := dk_27 (dk_at dksX0_name_0 1 rfl rfl)
theorem dX0_name_2 : decode cX0_name 2 = .ok (.invokevirtual 214, 3) := dk_182 0 214 (dk_at dksX0_name_0 2 rfl rfl)
theorem dX0_name_5 : decode cX0_name 5 = .ok (.ifCond .eq 21, 3) := dk_153 0 21 (dk_at dksX0_name_0 5 rfl rfl)
theorem dX0_name_8 : decode cX0_name 8 = .ok (.aload_n 0, 1) := dk_42 (dk_at dksX0_name_0 8 rfl rfl)
theorem dX0_name_9 : decode cX0_name 9 = .ok (.getfield 146, 3) := dk_180 0 146 (dk_at dksX0_name_0 9 rfl rfl)
theorem dX0_name_12 : decode cX0_name 12 = .ok (.aload_n 0, 1) := dk_42 (dk_at dksX0_name_0 12 rfl rfl)
theorem dX0_name_13 : decode cX0_name 13 = .ok (.getfield 125, 3) := dk_180 0 125 (dk_at dksX0_name_0 13 rfl rfl)
theorem dX0_name_16 : decode cX0_name 16 = .ok (.iload_n 1, 1) := dk_27 (dk_at dksX0_name_0 16 rfl rfl)
theorem dX0_name_17 : decode cX0_name 17 = .ok (.invokevirtual 218, 3) := dk_182 0 218 (dk_at dksX0_name_0 17 rfl rfl)
theorem dX0_name_20 : decode cX0_name 20 = .ok (.invokevirtual 225, 3) := dk_182 0 225 (dk_at dksX0_name_0 20 rfl rfl)
theorem dX0_name_23 : decode cX0_name 23 = .ok (.ifCond .eq 5, 3) := dk_153 0 5 (dk_at dksX0_name_1 0 rfl rfl)
theorem dX0_name_26 : decode cX0_name 26 = .ok (.iconst (-1), 1) := dk_2 (dk_at dksX0_name_1 3 rfl rfl)
theorem dX0_name_27 : decode cX0_name 27 = .ok (.ireturn, 1) := dk_172 (dk_at dksX0_name_1 4 rfl rfl)
theorem dX0_name_28 : decode cX0_name 28 = .ok (.aload_n 0, 1) := dk_42 (dk_at dksX0_name_1 5 rfl rfl)
theorem dX0_name_29 : decode cX0_name 29 = .ok (.getfield 146, 3) := dk_180 0 146 (dk_at dksX0_name_1 6 rfl rfl)
theorem dX0_name_32 : decode cX0_name 32 = .ok (.invokevirtual 201, 3) := dk_182 0 201 (dk_at dksX0_name_1 9 rfl rfl)
theorem dX0_name_35 : decode cX0_name 35 = .ok (.bipush 8, 2) := dk_16 8 (dk_at dksX0_name_1 12 rfl rfl)
theorem dX0_name_37 : decode cX0_name 37 = .ok (.if_icmp .ne 6, 3) := dk_160 0 6 (dk_at dksX0_name_1 14 rfl rfl)
theorem dX0_name_40 : decode cX0_name 40 = .ok (.bipush (-2), 2) := dk_16 254 (dk_at dksX0_name_1 17 rfl rfl)
theorem dX0_name_42 : decode cX0_name 42 = .ok (.ireturn, 1) := dk_172 (dk_at dksX0_name_1 19 rfl rfl)
theorem dX0_name_43 : decode cX0_name 43 = .ok (.aload_n 0, 1) := dk_42 (dk_at dksX0_name_1 20 rfl rfl)
theorem dX0_name_44 : decode cX0_name 44 = .ok (.getfield 146, 3) := dk_180 0 146 (dk_at dksX0_name_1 21 rfl rfl)
theorem dX0_name_47 : decode cX0_name 47 = .ok (.aload_n 0, 1) := dk_42 (dk_at dksX0_name_2 0 rfl rfl)
theorem dX0_name_48 : decode cX0_name 48 = .ok (.getfield 125, 3) := dk_180 0 125 (dk_at dksX0_name_2 1 rfl rfl)
theorem dX0_name_51 : decode cX0_name 51 = .ok (.iload_n 1, 1) := dk_27 (dk_at dksX0_name_2 4 rfl rfl)
theorem dX0_name_52 : decode cX0_name 52 = .ok (.invokevirtual 218, 3) := dk_182 0 218 (dk_at dksX0_name_2 5 rfl rfl)
theorem dX0_name_55 : decode cX0_name 55 = .ok (.checkcast 205, 3) := dk_192 0 205 (dk_at dksX0_name_2 8 rfl rfl)
theorem dX0_name_58 : decode cX0_name 58 = .ok (.invokevirtual 210, 3) := dk_182 0 210 (dk_at dksX0_name_2 11 rfl rfl)
theorem dX0_name_61 : decode cX0_name 61 = .ok (.pop, 1) := dk_87 (dk_at dksX0_name_2 14 rfl rfl)
theorem dX0_name_62 : decode cX0_name 62 = .ok (.aload_n 0, 1) := dk_42 (dk_at dksX0_name_2 15 rfl rfl)
theorem dX0_name_63 : decode cX0_name 63 = .ok (.getfield 146, 3) := dk_180 0 146 (dk_at dksX0_name_2 16 rfl rfl)
theorem dX0_name_66 : decode cX0_name 66 = .ok (.invokevirtual 201, 3) := dk_182 0 201 (dk_at dksX0_name_2 19 rfl rfl)
theorem dX0_name_69 : decode cX0_name 69 = .ok (.ireturn, 1) := dk_172 (dk_at dksX0_name_2 22 rfl rfl)
abbrev cX0_exclude : ByteArray := prog_1_method_15_code
def yX0_exclude : MethodName := ⟨RX0, "exclude", "(II)I"⟩
def dkwX0_exclude_2 : List UInt8 := [180, 1, 10, 28, 79, 42, 89, 180, 1, 10, 4, 96, 181, 1, 10, 42, 180, 1, 10, 172]
abbrev dktX0_exclude_2 : List UInt8 := dkwX0_exclude_2 ++ []
def dkwX0_exclude_1 : List UInt8 := [16, 6, 160, 0, 6, 16, 254, 172, 42, 180, 0, 149, 42, 180, 1, 10, 27, 79, 42, 180, 0, 152, 42]
abbrev dktX0_exclude_1 : List UInt8 := dkwX0_exclude_1 ++ dktX0_exclude_2
def dkwX0_exclude_0 : List UInt8 := [42, 27, 182, 0, 214, 153, 0, 13, 28, 3, 16, 11, 184, 0, 45, 154, 0, 5, 2, 172, 42, 180, 1, 10]
abbrev dktX0_exclude_0 : List UInt8 := dkwX0_exclude_0 ++ dktX0_exclude_1
theorem dksX0_exclude_0 : cX0_exclude.data.toList.drop 0 = dktX0_exclude_0 := by decide +kernel
theorem dksX0_exclude_1 : cX0_exclude.data.toList.drop 24 = dktX0_exclude_1 := dk_seg dksX0_exclude_0 24 rfl rfl
theorem dksX0_exclude_2 : cX0_exclude.data.toList.drop 47 = dktX0_exclude_2 := dk_seg dksX0_exclude_1 23 rfl rfl
theorem dX0_exclude_0 : decode cX0_exclude 0 = .ok (.aload_n 0, 1) := dk_42 (dk_at dksX0_exclude_0 0 rfl rfl)
theorem dX0_exclude_1 : decode cX0_exclude 1 = .ok (.iload_n 1, 1) := dk_27 (dk_at dksX0_exclude_0 1 rfl rfl)
theorem dX0_exclude_2 : decode cX0_exclude 2 = .ok (.invokevirtual 214, 3) := dk_182 0 214 (dk_at dksX0_exclude_0 2 rfl rfl)
theorem dX0_exclude_5 : decode cX0_exclude 5 = .ok (.ifCond .eq 13, 3) := dk_153 0 13 (dk_at dksX0_exclude_0 5 rfl rfl)
theorem dX0_exclude_8 : decode cX0_exclude 8 = .ok (.iload_n 2, 1) := dk_28 (dk_at dksX0_exclude_0 8 rfl rfl)
theorem dX0_exclude_9 : decode cX0_exclude 9 = .ok (.iconst 0, 1) := dk_3 (dk_at dksX0_exclude_0 9 rfl rfl)
theorem dX0_exclude_10 : decode cX0_exclude 10 = .ok (.bipush 11, 2) := dk_16 11 (dk_at dksX0_exclude_0 10 rfl rfl)
theorem dX0_exclude_12 : decode cX0_exclude 12 = .ok (.invokestatic 45, 3) := dk_184 0 45 (dk_at dksX0_exclude_0 12 rfl rfl)
theorem dX0_exclude_15 : decode cX0_exclude 15 = .ok (.ifCond .ne 5, 3) := dk_154 0 5 (dk_at dksX0_exclude_0 15 rfl rfl)
theorem dX0_exclude_18 : decode cX0_exclude 18 = .ok (.iconst (-1), 1) := dk_2 (dk_at dksX0_exclude_0 18 rfl rfl)
theorem dX0_exclude_19 : decode cX0_exclude 19 = .ok (.ireturn, 1) := dk_172 (dk_at dksX0_exclude_0 19 rfl rfl)
theorem dX0_exclude_20 : decode cX0_exclude 20 = .ok (.aload_n 0, 1) := dk_42 (dk_at dksX0_exclude_0 20 rfl rfl)
theorem dX0_exclude_21 : decode cX0_exclude 21 = .ok (.getfield 266, 3) := dk_180 1 10 (dk_at dksX0_exclude_0 21 rfl rfl)
theorem dX0_exclude_24 : decode cX0_exclude 24 = .ok (.bipush 6, 2) := dk_16 6 (dk_at dksX0_exclude_1 0 rfl rfl)
theorem dX0_exclude_26 : decode cX0_exclude 26 = .ok (.if_icmp .ne 6, 3) := dk_160 0 6 (dk_at dksX0_exclude_1 2 rfl rfl)
theorem dX0_exclude_29 : decode cX0_exclude 29 = .ok (.bipush (-2), 2) := dk_16 254 (dk_at dksX0_exclude_1 5 rfl rfl)
theorem dX0_exclude_31 : decode cX0_exclude 31 = .ok (.ireturn, 1) := dk_172 (dk_at dksX0_exclude_1 7 rfl rfl)
theorem dX0_exclude_32 : decode cX0_exclude 32 = .ok (.aload_n 0, 1) := dk_42 (dk_at dksX0_exclude_1 8 rfl rfl)
theorem dX0_exclude_33 : decode cX0_exclude 33 = .ok (.getfield 149, 3) := dk_180 0 149 (dk_at dksX0_exclude_1 9 rfl rfl)
theorem dX0_exclude_36 : decode cX0_exclude 36 = .ok (.aload_n 0, 1) := dk_42 (dk_at dksX0_exclude_1 12 rfl rfl)
theorem dX0_exclude_37 : decode cX0_exclude 37 = .ok (.getfield 266, 3) := dk_180 1 10 (dk_at dksX0_exclude_1 13 rfl rfl)
theorem dX0_exclude_40 : decode cX0_exclude 40 = .ok (.iload_n 1, 1) := dk_27 (dk_at dksX0_exclude_1 16 rfl rfl)
theorem dX0_exclude_41 : decode cX0_exclude 41 = .ok (.iastore, 1) := dk_79 (dk_at dksX0_exclude_1 17 rfl rfl)
theorem dX0_exclude_42 : decode cX0_exclude 42 = .ok (.aload_n 0, 1) := dk_42 (dk_at dksX0_exclude_1 18 rfl rfl)
theorem dX0_exclude_43 : decode cX0_exclude 43 = .ok (.getfield 152, 3) := dk_180 0 152 (dk_at dksX0_exclude_1 19 rfl rfl)
theorem dX0_exclude_46 : decode cX0_exclude 46 = .ok (.aload_n 0, 1) := dk_42 (dk_at dksX0_exclude_1 22 rfl rfl)
theorem dX0_exclude_47 : decode cX0_exclude 47 = .ok (.getfield 266, 3) := dk_180 1 10 (dk_at dksX0_exclude_2 0 rfl rfl)
theorem dX0_exclude_50 : decode cX0_exclude 50 = .ok (.iload_n 2, 1) := dk_28 (dk_at dksX0_exclude_2 3 rfl rfl)
theorem dX0_exclude_51 : decode cX0_exclude 51 = .ok (.iastore, 1) := dk_79 (dk_at dksX0_exclude_2 4 rfl rfl)
theorem dX0_exclude_52 : decode cX0_exclude 52 = .ok (.aload_n 0, 1) := dk_42 (dk_at dksX0_exclude_2 5 rfl rfl)
theorem dX0_exclude_53 : decode cX0_exclude 53 = .ok (.dup, 1) := dk_89 (dk_at dksX0_exclude_2 6 rfl rfl)
theorem dX0_exclude_54 : decode cX0_exclude 54 = .ok (.getfield 266, 3) := dk_180 1 10 (dk_at dksX0_exclude_2 7 rfl rfl)
theorem dX0_exclude_57 : decode cX0_exclude 57 = .ok (.iconst 1, 1) := dk_4 (dk_at dksX0_exclude_2 10 rfl rfl)
theorem dX0_exclude_58 : decode cX0_exclude 58 = .ok (.iadd, 1) := dk_96 (dk_at dksX0_exclude_2 11 rfl rfl)
theorem dX0_exclude_59 : decode cX0_exclude 59 = .ok (.putfield 266, 3) := dk_181 1 10 (dk_at dksX0_exclude_2 12 rfl rfl)
theorem dX0_exclude_62 : decode cX0_exclude 62 = .ok (.aload_n 0, 1) := dk_42 (dk_at dksX0_exclude_2 15 rfl rfl)
theorem dX0_exclude_63 : decode cX0_exclude 63 = .ok (.getfield 266, 3) := dk_180 1 10 (dk_at dksX0_exclude_2 16 rfl rfl)
theorem dX0_exclude_66 : decode cX0_exclude 66 = .ok (.ireturn, 1) := dk_172 (dk_at dksX0_exclude_2 19 rfl rfl)
abbrev cX0_alias : ByteArray := prog_1_method_16_code
def yX0_alias : MethodName := ⟨RX0, "alias", "(III)I"⟩
def dkwX0_alias_1 : List UInt8 := [154, 0, 5, 2, 172, 42, 180, 0, 155, 27, 28, 79, 42, 180, 0, 158, 27, 29, 79, 4, 172]
abbrev dktX0_alias_1 : List UInt8 := dkwX0_alias_1 ++ []
def dkwX0_alias_0 : List UInt8 := [27, 3, 6, 184, 0, 45, 153, 0, 21, 42, 28, 182, 0, 214, 153, 0, 13, 29, 3, 16, 11, 184, 0, 45]
abbrev dktX0_alias_0 : List UInt8 := dkwX0_alias_0 ++ dktX0_alias_1
theorem dksX0_alias_0 : cX0_alias.data.toList.drop 0 = dktX0_alias_0 := by decide +kernel
theorem dksX0_alias_1 : cX0_alias.data.toList.drop 24 = dktX0_alias_1 := dk_seg dksX0_alias_0 24 rfl rfl
theorem dX0_alias_0 : decode cX0_alias 0 = .ok (.iload_n 1, 1) := dk_27 (dk_at dksX0_alias_0 0 rfl rfl)
theorem dX0_alias_1 : decode cX0_alias 1 = .ok (.iconst 0, 1) := dk_3 (dk_at dksX0_alias_0 1 rfl rfl)
theorem dX0_alias_2 : decode cX0_alias 2 = .ok (.iconst 3, 1) := dk_6 (dk_at dksX0_alias_0 2 rfl rfl)
theorem dX0_alias_3 : decode cX0_alias 3 = .ok (.invokestatic 45, 3) := dk_184 0 45 (dk_at dksX0_alias_0 3 rfl rfl)
theorem dX0_alias_6 : decode cX0_alias 6 = .ok (.ifCond .eq 21, 3) := dk_153 0 21 (dk_at dksX0_alias_0 6 rfl rfl)
theorem dX0_alias_9 : decode cX0_alias 9 = .ok (.aload_n 0, 1) := dk_42 (dk_at dksX0_alias_0 9 rfl rfl)
theorem dX0_alias_10 : decode cX0_alias 10 = .ok (.iload_n 2, 1) := dk_28 (dk_at dksX0_alias_0 10 rfl rfl)
theorem dX0_alias_11 : decode cX0_alias 11 = .ok (.invokevirtual 214, 3) := dk_182 0 214 (dk_at dksX0_alias_0 11 rfl rfl)
theorem dX0_alias_14 : decode cX0_alias 14 = .ok (.ifCond .eq 13, 3) := dk_153 0 13 (dk_at dksX0_alias_0 14 rfl rfl)
theorem dX0_alias_17 : decode cX0_alias 17 = .ok (.iload_n 3, 1) := dk_29 (dk_at dksX0_alias_0 17 rfl rfl)
theorem dX0_alias_18 : decode cX0_alias 18 = .ok (.iconst 0, 1) := dk_3 (dk_at dksX0_alias_0 18 rfl rfl)
theorem dX0_alias_19 : decode cX0_alias 19 = .ok (.bipush 11, 2) := dk_16 11 (dk_at dksX0_alias_0 19 rfl rfl)
theorem dX0_alias_21 : decode cX0_alias 21 = .ok (.invokestatic 45, 3) := dk_184 0 45 (dk_at dksX0_alias_0 21 rfl rfl)
theorem dX0_alias_24 : decode cX0_alias 24 = .ok (.ifCond .ne 5, 3) := dk_154 0 5 (dk_at dksX0_alias_1 0 rfl rfl)
theorem dX0_alias_27 : decode cX0_alias 27 = .ok (.iconst (-1), 1) := dk_2 (dk_at dksX0_alias_1 3 rfl rfl)
theorem dX0_alias_28 : decode cX0_alias 28 = .ok (.ireturn, 1) := dk_172 (dk_at dksX0_alias_1 4 rfl rfl)
theorem dX0_alias_29 : decode cX0_alias 29 = .ok (.aload_n 0, 1) := dk_42 (dk_at dksX0_alias_1 5 rfl rfl)
theorem dX0_alias_30 : decode cX0_alias 30 = .ok (.getfield 155, 3) := dk_180 0 155 (dk_at dksX0_alias_1 6 rfl rfl)
theorem dX0_alias_33 : decode cX0_alias 33 = .ok (.iload_n 1, 1) := dk_27 (dk_at dksX0_alias_1 9 rfl rfl)
theorem dX0_alias_34 : decode cX0_alias 34 = .ok (.iload_n 2, 1) := dk_28 (dk_at dksX0_alias_1 10 rfl rfl)
theorem dX0_alias_35 : decode cX0_alias 35 = .ok (.iastore, 1) := dk_79 (dk_at dksX0_alias_1 11 rfl rfl)
theorem dX0_alias_36 : decode cX0_alias 36 = .ok (.aload_n 0, 1) := dk_42 (dk_at dksX0_alias_1 12 rfl rfl)
theorem dX0_alias_37 : decode cX0_alias 37 = .ok (.getfield 158, 3) := dk_180 0 158 (dk_at dksX0_alias_1 13 rfl rfl)
theorem dX0_alias_40 : decode cX0_alias 40 = .ok (.iload_n 1, 1) := dk_27 (dk_at dksX0_alias_1 16 rfl rfl)
theorem dX0_alias_41 : decode cX0_alias 41 = .ok (.iload_n 3, 1) := dk_29 (dk_at dksX0_alias_1 17 rfl rfl)
theorem dX0_alias_42 : decode cX0_alias 42 = .ok (.iastore, 1) := dk_79 (dk_at dksX0_alias_1 18 rfl rfl)
theorem dX0_alias_43 : decode cX0_alias 43 = .ok (.iconst 1, 1) := dk_4 (dk_at dksX0_alias_1 19 rfl rfl)
theorem dX0_alias_44 : decode cX0_alias 44 = .ok (.ireturn, 1) := dk_172 (dk_at dksX0_alias_1 20 rfl rfl)
abbrev cX0_weave : ByteArray := prog_1_method_32_code
def yX0_weave : MethodName := ⟨RX0, "weave", "()I"⟩
def dkwX0_weave_0 : List UInt8 := [42, 182, 1, 84, 60, 42, 182, 1, 87, 27, 172]
abbrev dktX0_weave_0 : List UInt8 := dkwX0_weave_0 ++ []
theorem dksX0_weave_0 : cX0_weave.data.toList.drop 0 = dktX0_weave_0 := by decide +kernel
theorem dX0_weave_0 : decode cX0_weave 0 = .ok (.aload_n 0, 1) := dk_42 (dk_at dksX0_weave_0 0 rfl rfl)
theorem dX0_weave_1 : decode cX0_weave 1 = .ok (.invokevirtual 340, 3) := dk_182 1 84 (dk_at dksX0_weave_0 1 rfl rfl)
theorem dX0_weave_4 : decode cX0_weave 4 = .ok (.istore_n 1, 1) := dk_60 (dk_at dksX0_weave_0 4 rfl rfl)
theorem dX0_weave_5 : decode cX0_weave 5 = .ok (.aload_n 0, 1) := dk_42 (dk_at dksX0_weave_0 5 rfl rfl)
theorem dX0_weave_6 : decode cX0_weave 6 = .ok (.invokevirtual 343, 3) := dk_182 1 87 (dk_at dksX0_weave_0 6 rfl rfl)
theorem dX0_weave_9 : decode cX0_weave 9 = .ok (.iload_n 1, 1) := dk_27 (dk_at dksX0_weave_0 9 rfl rfl)
theorem dX0_weave_10 : decode cX0_weave 10 = .ok (.ireturn, 1) := dk_172 (dk_at dksX0_weave_0 10 rfl rfl)
abbrev cX0_woven : ByteArray := prog_1_method_31_code
def yX0_woven : MethodName := ⟨RX0, "woven", "()I"⟩
def dkwX0_woven_5 : List UInt8 := [172, 42, 180, 0, 136, 43, 182, 0, 210, 87, 43, 180, 1, 83, 172]
abbrev dktX0_woven_5 : List UInt8 := dkwX0_woven_5 ++ []
def dkwX0_woven_4 : List UInt8 := [180, 0, 161, 28, 3, 84, 167, 255, 205, 42, 43, 182, 1, 75, 42, 43, 182, 1, 79, 154, 0, 6, 16, 248]
abbrev dktX0_woven_4 : List UInt8 := dkwX0_woven_4 ++ dktX0_woven_5
def dkwX0_woven_3 : List UInt8 := [16, 250, 172, 43, 180, 1, 35, 42, 180, 0, 125, 28, 182, 0, 218, 192, 0, 205, 182, 0, 210, 87, 42]
abbrev dktX0_woven_3 : List UInt8 := dkwX0_woven_3 ++ dktX0_woven_4
def dkwX0_woven_2 : List UInt8 := [76, 42, 182, 1, 66, 153, 0, 50, 42, 182, 1, 69, 61, 28, 16, 247, 160, 0, 10, 42, 182, 1, 72]
abbrev dktX0_woven_2 : List UInt8 := dkwX0_woven_2 ++ dktX0_woven_3
def dkwX0_woven_1 : List UInt8 := [153, 0, 6, 16, 252, 172, 42, 182, 1, 60, 187, 1, 36, 89, 42, 180, 0, 136, 182, 0, 201, 183, 1, 63]
abbrev dktX0_woven_1 : List UInt8 := dkwX0_woven_1 ++ dktX0_woven_2
def dkwX0_woven_0 : List UInt8 := [42, 180, 0, 136, 182, 0, 201, 16, 24, 160, 0, 6, 16, 254, 172, 42, 180, 0, 146, 182, 0, 228]
abbrev dktX0_woven_0 : List UInt8 := dkwX0_woven_0 ++ dktX0_woven_1
theorem dksX0_woven_0 : cX0_woven.data.toList.drop 0 = dktX0_woven_0 := by decide +kernel
theorem dksX0_woven_1 : cX0_woven.data.toList.drop 22 = dktX0_woven_1 := dk_seg dksX0_woven_0 22 rfl rfl
theorem dksX0_woven_2 : cX0_woven.data.toList.drop 46 = dktX0_woven_2 := dk_seg dksX0_woven_1 24 rfl rfl
theorem dksX0_woven_3 : cX0_woven.data.toList.drop 69 = dktX0_woven_3 := dk_seg dksX0_woven_2 23 rfl rfl
theorem dksX0_woven_4 : cX0_woven.data.toList.drop 92 = dktX0_woven_4 := dk_seg dksX0_woven_3 23 rfl rfl
theorem dksX0_woven_5 : cX0_woven.data.toList.drop 116 = dktX0_woven_5 := dk_seg dksX0_woven_4 24 rfl rfl
theorem dX0_woven_0 : decode cX0_woven 0 = .ok (.aload_n 0, 1) := dk_42 (dk_at dksX0_woven_0 0 rfl rfl)
theorem dX0_woven_1 : decode cX0_woven 1 = .ok (.getfield 136, 3) := dk_180 0 136 (dk_at dksX0_woven_0 1 rfl rfl)
theorem dX0_woven_4 : decode cX0_woven 4 = .ok (.invokevirtual 201, 3) := dk_182 0 201 (dk_at dksX0_woven_0 4 rfl rfl)
theorem dX0_woven_7 : decode cX0_woven 7 = .ok (.bipush 24, 2) := dk_16 24 (dk_at dksX0_woven_0 7 rfl rfl)
theorem dX0_woven_9 : decode cX0_woven 9 = .ok (.if_icmp .ne 6, 3) := dk_160 0 6 (dk_at dksX0_woven_0 9 rfl rfl)
theorem dX0_woven_12 : decode cX0_woven 12 = .ok (.bipush (-2), 2) := dk_16 254 (dk_at dksX0_woven_0 12 rfl rfl)
theorem dX0_woven_14 : decode cX0_woven 14 = .ok (.ireturn, 1) := dk_172 (dk_at dksX0_woven_0 14 rfl rfl)
theorem dX0_woven_15 : decode cX0_woven 15 = .ok (.aload_n 0, 1) := dk_42 (dk_at dksX0_woven_0 15 rfl rfl)
theorem dX0_woven_16 : decode cX0_woven 16 = .ok (.getfield 146, 3) := dk_180 0 146 (dk_at dksX0_woven_0 16 rfl rfl)
theorem dX0_woven_19 : decode cX0_woven 19 = .ok (.invokevirtual 228, 3) := dk_182 0 228 (dk_at dksX0_woven_0 19 rfl rfl)
theorem dX0_woven_22 : decode cX0_woven 22 = .ok (.ifCond .eq 6, 3) := dk_153 0 6 (dk_at dksX0_woven_1 0 rfl rfl)
theorem dX0_woven_25 : decode cX0_woven 25 = .ok (.bipush (-4), 2) := dk_16 252 (dk_at dksX0_woven_1 3 rfl rfl)
theorem dX0_woven_27 : decode cX0_woven 27 = .ok (.ireturn, 1) := dk_172 (dk_at dksX0_woven_1 5 rfl rfl)
theorem dX0_woven_28 : decode cX0_woven 28 = .ok (.aload_n 0, 1) := dk_42 (dk_at dksX0_woven_1 6 rfl rfl)
theorem dX0_woven_29 : decode cX0_woven 29 = .ok (.invokevirtual 316, 3) := dk_182 1 60 (dk_at dksX0_woven_1 7 rfl rfl)
theorem dX0_woven_32 : decode cX0_woven 32 = .ok (.new 292, 3) := dk_187 1 36 (dk_at dksX0_woven_1 10 rfl rfl)
theorem dX0_woven_35 : decode cX0_woven 35 = .ok (.dup, 1) := dk_89 (dk_at dksX0_woven_1 13 rfl rfl)
theorem dX0_woven_36 : decode cX0_woven 36 = .ok (.aload_n 0, 1) := dk_42 (dk_at dksX0_woven_1 14 rfl rfl)
theorem dX0_woven_37 : decode cX0_woven 37 = .ok (.getfield 136, 3) := dk_180 0 136 (dk_at dksX0_woven_1 15 rfl rfl)
theorem dX0_woven_40 : decode cX0_woven 40 = .ok (.invokevirtual 201, 3) := dk_182 0 201 (dk_at dksX0_woven_1 18 rfl rfl)
theorem dX0_woven_43 : decode cX0_woven 43 = .ok (.invokespecial 319, 3) := dk_183 1 63 (dk_at dksX0_woven_1 21 rfl rfl)
theorem dX0_woven_46 : decode cX0_woven 46 = .ok (.astore_n 1, 1) := dk_76 (dk_at dksX0_woven_2 0 rfl rfl)
theorem dX0_woven_47 : decode cX0_woven 47 = .ok (.aload_n 0, 1) := dk_42 (dk_at dksX0_woven_2 1 rfl rfl)
theorem dX0_woven_48 : decode cX0_woven 48 = .ok (.invokevirtual 322, 3) := dk_182 1 66 (dk_at dksX0_woven_2 2 rfl rfl)
theorem dX0_woven_51 : decode cX0_woven 51 = .ok (.ifCond .eq 50, 3) := dk_153 0 50 (dk_at dksX0_woven_2 5 rfl rfl)
theorem dX0_woven_54 : decode cX0_woven 54 = .ok (.aload_n 0, 1) := dk_42 (dk_at dksX0_woven_2 8 rfl rfl)
theorem dX0_woven_55 : decode cX0_woven 55 = .ok (.invokevirtual 325, 3) := dk_182 1 69 (dk_at dksX0_woven_2 9 rfl rfl)
theorem dX0_woven_58 : decode cX0_woven 58 = .ok (.istore_n 2, 1) := dk_61 (dk_at dksX0_woven_2 12 rfl rfl)
theorem dX0_woven_59 : decode cX0_woven 59 = .ok (.iload_n 2, 1) := dk_28 (dk_at dksX0_woven_2 13 rfl rfl)
theorem dX0_woven_60 : decode cX0_woven 60 = .ok (.bipush (-9), 2) := dk_16 247 (dk_at dksX0_woven_2 14 rfl rfl)
theorem dX0_woven_62 : decode cX0_woven 62 = .ok (.if_icmp .ne 10, 3) := dk_160 0 10 (dk_at dksX0_woven_2 16 rfl rfl)
theorem dX0_woven_65 : decode cX0_woven 65 = .ok (.aload_n 0, 1) := dk_42 (dk_at dksX0_woven_2 19 rfl rfl)
theorem dX0_woven_66 : decode cX0_woven 66 = .ok (.invokevirtual 328, 3) := dk_182 1 72 (dk_at dksX0_woven_2 20 rfl rfl)
theorem dX0_woven_69 : decode cX0_woven 69 = .ok (.bipush (-6), 2) := dk_16 250 (dk_at dksX0_woven_3 0 rfl rfl)
theorem dX0_woven_71 : decode cX0_woven 71 = .ok (.ireturn, 1) := dk_172 (dk_at dksX0_woven_3 2 rfl rfl)
theorem dX0_woven_72 : decode cX0_woven 72 = .ok (.aload_n 1, 1) := dk_43 (dk_at dksX0_woven_3 3 rfl rfl)
theorem dX0_woven_73 : decode cX0_woven 73 = .ok (.getfield 291, 3) := dk_180 1 35 (dk_at dksX0_woven_3 4 rfl rfl)
theorem dX0_woven_76 : decode cX0_woven 76 = .ok (.aload_n 0, 1) := dk_42 (dk_at dksX0_woven_3 7 rfl rfl)
theorem dX0_woven_77 : decode cX0_woven 77 = .ok (.getfield 125, 3) := dk_180 0 125 (dk_at dksX0_woven_3 8 rfl rfl)
theorem dX0_woven_80 : decode cX0_woven 80 = .ok (.iload_n 2, 1) := dk_28 (dk_at dksX0_woven_3 11 rfl rfl)
theorem dX0_woven_81 : decode cX0_woven 81 = .ok (.invokevirtual 218, 3) := dk_182 0 218 (dk_at dksX0_woven_3 12 rfl rfl)
theorem dX0_woven_84 : decode cX0_woven 84 = .ok (.checkcast 205, 3) := dk_192 0 205 (dk_at dksX0_woven_3 15 rfl rfl)
theorem dX0_woven_87 : decode cX0_woven 87 = .ok (.invokevirtual 210, 3) := dk_182 0 210 (dk_at dksX0_woven_3 18 rfl rfl)
theorem dX0_woven_90 : decode cX0_woven 90 = .ok (.pop, 1) := dk_87 (dk_at dksX0_woven_3 21 rfl rfl)
theorem dX0_woven_91 : decode cX0_woven 91 = .ok (.aload_n 0, 1) := dk_42 (dk_at dksX0_woven_3 22 rfl rfl)
theorem dX0_woven_92 : decode cX0_woven 92 = .ok (.getfield 161, 3) := dk_180 0 161 (dk_at dksX0_woven_4 0 rfl rfl)
theorem dX0_woven_95 : decode cX0_woven 95 = .ok (.iload_n 2, 1) := dk_28 (dk_at dksX0_woven_4 3 rfl rfl)
theorem dX0_woven_96 : decode cX0_woven 96 = .ok (.iconst 0, 1) := dk_3 (dk_at dksX0_woven_4 4 rfl rfl)
theorem dX0_woven_97 : decode cX0_woven 97 = .ok (.bastore, 1) := dk_84 (dk_at dksX0_woven_4 5 rfl rfl)
theorem dX0_woven_98 : decode cX0_woven 98 = .ok (.goto (-51), 3) := dk_167 255 205 (dk_at dksX0_woven_4 6 rfl rfl)
theorem dX0_woven_101 : decode cX0_woven 101 = .ok (.aload_n 0, 1) := dk_42 (dk_at dksX0_woven_4 9 rfl rfl)
theorem dX0_woven_102 : decode cX0_woven 102 = .ok (.aload_n 1, 1) := dk_43 (dk_at dksX0_woven_4 10 rfl rfl)
theorem dX0_woven_103 : decode cX0_woven 103 = .ok (.invokevirtual 331, 3) := dk_182 1 75 (dk_at dksX0_woven_4 11 rfl rfl)
theorem dX0_woven_106 : decode cX0_woven 106 = .ok (.aload_n 0, 1) := dk_42 (dk_at dksX0_woven_4 14 rfl rfl)
theorem dX0_woven_107 : decode cX0_woven 107 = .ok (.aload_n 1, 1) := dk_43 (dk_at dksX0_woven_4 15 rfl rfl)
theorem dX0_woven_108 : decode cX0_woven 108 = .ok (.invokevirtual 335, 3) := dk_182 1 79 (dk_at dksX0_woven_4 16 rfl rfl)
theorem dX0_woven_111 : decode cX0_woven 111 = .ok (.ifCond .ne 6, 3) := dk_154 0 6 (dk_at dksX0_woven_4 19 rfl rfl)
theorem dX0_woven_114 : decode cX0_woven 114 = .ok (.bipush (-8), 2) := dk_16 248 (dk_at dksX0_woven_4 22 rfl rfl)
theorem dX0_woven_116 : decode cX0_woven 116 = .ok (.ireturn, 1) := dk_172 (dk_at dksX0_woven_5 0 rfl rfl)
theorem dX0_woven_117 : decode cX0_woven 117 = .ok (.aload_n 0, 1) := dk_42 (dk_at dksX0_woven_5 1 rfl rfl)
theorem dX0_woven_118 : decode cX0_woven 118 = .ok (.getfield 136, 3) := dk_180 0 136 (dk_at dksX0_woven_5 2 rfl rfl)
theorem dX0_woven_121 : decode cX0_woven 121 = .ok (.aload_n 1, 1) := dk_43 (dk_at dksX0_woven_5 5 rfl rfl)
theorem dX0_woven_122 : decode cX0_woven 122 = .ok (.invokevirtual 210, 3) := dk_182 0 210 (dk_at dksX0_woven_5 6 rfl rfl)
theorem dX0_woven_125 : decode cX0_woven 125 = .ok (.pop, 1) := dk_87 (dk_at dksX0_woven_5 9 rfl rfl)
theorem dX0_woven_126 : decode cX0_woven 126 = .ok (.aload_n 1, 1) := dk_43 (dk_at dksX0_woven_5 10 rfl rfl)
theorem dX0_woven_127 : decode cX0_woven 127 = .ok (.getfield 339, 3) := dk_180 1 83 (dk_at dksX0_woven_5 11 rfl rfl)
theorem dX0_woven_130 : decode cX0_woven 130 = .ok (.ireturn, 1) := dk_172 (dk_at dksX0_woven_5 14 rfl rfl)
abbrev cX0_layOrder : ByteArray := prog_1_method_20_code
def yX0_layOrder : MethodName := ⟨RX0, "layOrder", "()V"⟩
def dkwX0_layOrder_12 : List UInt8 := [79, 132, 1, 1, 167, 255, 195, 177]
abbrev dktX0_layOrder_12 : List UInt8 := dkwX0_layOrder_12 ++ []
def dkwX0_layOrder_11 : List UInt8 := [153, 0, 25, 42, 180, 0, 165, 42, 180, 0, 129, 27, 46, 92, 46, 4, 42, 180, 0, 133, 27, 46, 120, 128]
abbrev dktX0_layOrder_11 : List UInt8 := dkwX0_layOrder_11 ++ dktX0_layOrder_12
def dkwX0_layOrder_10 : List UInt8 := [180, 0, 161, 42, 180, 0, 129, 27, 46, 51, 153, 0, 39, 42, 180, 0, 161, 42, 180, 0, 133, 27, 46, 51]
abbrev dktX0_layOrder_10 : List UInt8 := dkwX0_layOrder_10 ++ dktX0_layOrder_11
def dkwX0_layOrder_9 : List UInt8 := [132, 3, 1, 167, 255, 175, 132, 1, 1, 167, 255, 144, 3, 60, 27, 42, 180, 0, 232, 162, 0, 59, 42]
abbrev dktX0_layOrder_9 : List UInt8 := dkwX0_layOrder_9 ++ dktX0_layOrder_10
def dkwX0_layOrder_8 : List UInt8 := [192, 0, 205, 44, 180, 0, 222, 29, 182, 0, 218, 192, 0, 205, 182, 1, 21, 132, 4, 1, 167, 255, 220]
abbrev dktX0_layOrder_8 : List UInt8 := dkwX0_layOrder_8 ++ dktX0_layOrder_9
def dkwX0_layOrder_7 : List UInt8 := [182, 1, 21, 3, 54, 4, 21, 4, 29, 162, 0, 36, 42, 44, 180, 0, 222, 21, 4, 182, 0, 218]
abbrev dktX0_layOrder_7 : List UInt8 := dkwX0_layOrder_7 ++ dktX0_layOrder_8
def dkwX0_layOrder_6 : List UInt8 := [42, 180, 0, 161, 27, 51, 153, 0, 67, 42, 44, 180, 0, 222, 29, 182, 0, 218, 192, 0, 205, 44]
abbrev dktX0_layOrder_6 : List UInt8 := dkwX0_layOrder_6 ++ dktX0_layOrder_7
def dkwX0_layOrder_5 : List UInt8 := [180, 0, 125, 27, 182, 0, 218, 192, 0, 205, 77, 3, 62, 29, 44, 180, 0, 222, 182, 0, 201, 162, 0, 76]
abbrev dktX0_layOrder_5 : List UInt8 := dkwX0_layOrder_5 ++ dktX0_layOrder_6
def dkwX0_layOrder_4 : List UInt8 := [167, 255, 222, 132, 1, 1, 167, 255, 188, 3, 60, 27, 42, 180, 0, 125, 182, 0, 201, 162, 0, 107, 42]
abbrev dktX0_layOrder_4 : List UInt8 := dkwX0_layOrder_4 ++ dktX0_layOrder_5
def dkwX0_layOrder_3 : List UInt8 := [182, 0, 218, 192, 0, 205, 42, 180, 0, 146, 27, 182, 0, 218, 192, 0, 205, 182, 1, 21, 132, 2, 1]
abbrev dktX0_layOrder_3 : List UInt8 := dkwX0_layOrder_3 ++ dktX0_layOrder_4
def dkwX0_layOrder_2 : List UInt8 := [27, 182, 0, 218, 192, 0, 205, 182, 1, 17, 3, 61, 28, 27, 162, 0, 35, 42, 42, 180, 0, 146, 28]
abbrev dktX0_layOrder_2 : List UInt8 := dkwX0_layOrder_2 ++ dktX0_layOrder_3
def dkwX0_layOrder_1 : List UInt8 := [132, 1, 1, 167, 255, 233, 3, 60, 27, 42, 180, 0, 146, 182, 0, 201, 162, 0, 63, 42, 42, 180, 0, 146]
abbrev dktX0_layOrder_1 : List UInt8 := dkwX0_layOrder_1 ++ dktX0_layOrder_2
def dkwX0_layOrder_0 : List UInt8 := [3, 60, 27, 16, 24, 162, 0, 23, 42, 180, 0, 161, 27, 3, 84, 42, 180, 0, 165, 27, 3, 79]
abbrev dktX0_layOrder_0 : List UInt8 := dkwX0_layOrder_0 ++ dktX0_layOrder_1
theorem dksX0_layOrder_0 : cX0_layOrder.data.toList.drop 0 = dktX0_layOrder_0 := by decide +kernel
theorem dksX0_layOrder_1 : cX0_layOrder.data.toList.drop 22 = dktX0_layOrder_1 := dk_seg dksX0_layOrder_0 22 rfl rfl
theorem dksX0_layOrder_2 : cX0_layOrder.data.toList.drop 46 = dktX0_layOrder_2 := dk_seg dksX0_layOrder_1 24 rfl rfl
theorem dksX0_layOrder_3 : cX0_layOrder.data.toList.drop 69 = dktX0_layOrder_3 := dk_seg dksX0_layOrder_2 23 rfl rfl
theorem dksX0_layOrder_4 : cX0_layOrder.data.toList.drop 92 = dktX0_layOrder_4 := dk_seg dksX0_layOrder_3 23 rfl rfl
theorem dksX0_layOrder_5 : cX0_layOrder.data.toList.drop 115 = dktX0_layOrder_5 := dk_seg dksX0_layOrder_4 23 rfl rfl
theorem dksX0_layOrder_6 : cX0_layOrder.data.toList.drop 139 = dktX0_layOrder_6 := dk_seg dksX0_layOrder_5 24 rfl rfl
theorem dksX0_layOrder_7 : cX0_layOrder.data.toList.drop 161 = dktX0_layOrder_7 := dk_seg dksX0_layOrder_6 22 rfl rfl
theorem dksX0_layOrder_8 : cX0_layOrder.data.toList.drop 183 = dktX0_layOrder_8 := dk_seg dksX0_layOrder_7 22 rfl rfl
theorem dksX0_layOrder_9 : cX0_layOrder.data.toList.drop 206 = dktX0_layOrder_9 := dk_seg dksX0_layOrder_8 23 rfl rfl
theorem dksX0_layOrder_10 : cX0_layOrder.data.toList.drop 229 = dktX0_layOrder_10 := dk_seg dksX0_layOrder_9 23 rfl rfl
theorem dksX0_layOrder_11 : cX0_layOrder.data.toList.drop 253 = dktX0_layOrder_11 := dk_seg dksX0_layOrder_10 24 rfl rfl
theorem dksX0_layOrder_12 : cX0_layOrder.data.toList.drop 277 = dktX0_layOrder_12 := dk_seg dksX0_layOrder_11 24 rfl rfl
theorem dX0_layOrder_0 : decode cX0_layOrder 0 = .ok (.iconst 0, 1) := dk_3 (dk_at dksX0_layOrder_0 0 rfl rfl)
theorem dX0_layOrder_1 : decode cX0_layOrder 1 = .ok (.istore_n 1, 1) := dk_60 (dk_at dksX0_layOrder_0 1 rfl rfl)
theorem dX0_layOrder_2 : decode cX0_layOrder 2 = .ok (.iload_n 1, 1) := dk_27 (dk_at dksX0_layOrder_0 2 rfl rfl)
theorem dX0_layOrder_3 : decode cX0_layOrder 3 = .ok (.bipush 24, 2) := dk_16 24 (dk_at dksX0_layOrder_0 3 rfl rfl)
theorem dX0_layOrder_5 : decode cX0_layOrder 5 = .ok (.if_icmp .ge 23, 3) := dk_162 0 23 (dk_at dksX0_layOrder_0 5 rfl rfl)
theorem dX0_layOrder_8 : decode cX0_layOrder 8 = .ok (.aload_n 0, 1) := dk_42 (dk_at dksX0_layOrder_0 8 rfl rfl)
theorem dX0_layOrder_9 : decode cX0_layOrder 9 = .ok (.getfield 161, 3) := dk_180 0 161 (dk_at dksX0_layOrder_0 9 rfl rfl)
theorem dX0_layOrder_12 : decode cX0_layOrder 12 = .ok (.iload_n 1, 1) := dk_27 (dk_at dksX0_layOrder_0 12 rfl rfl)
theorem dX0_layOrder_13 : decode cX0_layOrder 13 = .ok (.iconst 0, 1) := dk_3 (dk_at dksX0_layOrder_0 13 rfl rfl)
theorem dX0_layOrder_14 : decode cX0_layOrder 14 = .ok (.bastore, 1) := dk_84 (dk_at dksX0_layOrder_0 14 rfl rfl)
theorem dX0_layOrder_15 : decode cX0_layOrder 15 = .ok (.aload_n 0, 1) := dk_42 (dk_at dksX0_layOrder_0 15 rfl rfl)
theorem dX0_layOrder_16 : decode cX0_layOrder 16 = .ok (.getfield 165, 3) := dk_180 0 165 (dk_at dksX0_layOrder_0 16 rfl rfl)
theorem dX0_layOrder_19 : decode cX0_layOrder 19 = .ok (.iload_n 1, 1) := dk_27 (dk_at dksX0_layOrder_0 19 rfl rfl)
theorem dX0_layOrder_20 : decode cX0_layOrder 20 = .ok (.iconst 0, 1) := dk_3 (dk_at dksX0_layOrder_0 20 rfl rfl)
theorem dX0_layOrder_21 : decode cX0_layOrder 21 = .ok (.iastore, 1) := dk_79 (dk_at dksX0_layOrder_0 21 rfl rfl)
theorem dX0_layOrder_22 : decode cX0_layOrder 22 = .ok (.iinc 1 1, 3) := dk_132 1 1 (dk_at dksX0_layOrder_1 0 rfl rfl)
theorem dX0_layOrder_25 : decode cX0_layOrder 25 = .ok (.goto (-23), 3) := dk_167 255 233 (dk_at dksX0_layOrder_1 3 rfl rfl)
theorem dX0_layOrder_28 : decode cX0_layOrder 28 = .ok (.iconst 0, 1) := dk_3 (dk_at dksX0_layOrder_1 6 rfl rfl)
theorem dX0_layOrder_29 : decode cX0_layOrder 29 = .ok (.istore_n 1, 1) := dk_60 (dk_at dksX0_layOrder_1 7 rfl rfl)
theorem dX0_layOrder_30 : decode cX0_layOrder 30 = .ok (.iload_n 1, 1) := dk_27 (dk_at dksX0_layOrder_1 8 rfl rfl)
theorem dX0_layOrder_31 : decode cX0_layOrder 31 = .ok (.aload_n 0, 1) := dk_42 (dk_at dksX0_layOrder_1 9 rfl rfl)
theorem dX0_layOrder_32 : decode cX0_layOrder 32 = .ok (.getfield 146, 3) := dk_180 0 146 (dk_at dksX0_layOrder_1 10 rfl rfl)
theorem dX0_layOrder_35 : decode cX0_layOrder 35 = .ok (.invokevirtual 201, 3) := dk_182 0 201 (dk_at dksX0_layOrder_1 13 rfl rfl)
theorem dX0_layOrder_38 : decode cX0_layOrder 38 = .ok (.if_icmp .ge 63, 3) := dk_162 0 63 (dk_at dksX0_layOrder_1 16 rfl rfl)
theorem dX0_layOrder_41 : decode cX0_layOrder 41 = .ok (.aload_n 0, 1) := dk_42 (dk_at dksX0_layOrder_1 19 rfl rfl)
theorem dX0_layOrder_42 : decode cX0_layOrder 42 = .ok (.aload_n 0, 1) := dk_42 (dk_at dksX0_layOrder_1 20 rfl rfl)
theorem dX0_layOrder_43 : decode cX0_layOrder 43 = .ok (.getfield 146, 3) := dk_180 0 146 (dk_at dksX0_layOrder_1 21 rfl rfl)
theorem dX0_layOrder_46 : decode cX0_layOrder 46 = .ok (.iload_n 1, 1) := dk_27 (dk_at dksX0_layOrder_2 0 rfl rfl)
theorem dX0_layOrder_47 : decode cX0_layOrder 47 = .ok (.invokevirtual 218, 3) := dk_182 0 218 (dk_at dksX0_layOrder_2 1 rfl rfl)
theorem dX0_layOrder_50 : decode cX0_layOrder 50 = .ok (.checkcast 205, 3) := dk_192 0 205 (dk_at dksX0_layOrder_2 4 rfl rfl)
theorem dX0_layOrder_53 : decode cX0_layOrder 53 = .ok (.invokevirtual 273, 3) := dk_182 1 17 (dk_at dksX0_layOrder_2 7 rfl rfl)
theorem dX0_layOrder_56 : decode cX0_layOrder 56 = .ok (.iconst 0, 1) := dk_3 (dk_at dksX0_layOrder_2 10 rfl rfl)
theorem dX0_layOrder_57 : decode cX0_layOrder 57 = .ok (.istore_n 2, 1) := dk_61 (dk_at dksX0_layOrder_2 11 rfl rfl)
theorem dX0_layOrder_58 : decode cX0_layOrder 58 = .ok (.iload_n 2, 1) := dk_28 (dk_at dksX0_layOrder_2 12 rfl rfl)
theorem dX0_layOrder_59 : decode cX0_layOrder 59 = .ok (.iload_n 1, 1) := dk_27 (dk_at dksX0_layOrder_2 13 rfl rfl)
theorem dX0_layOrder_60 : decode cX0_layOrder 60 = .ok (.if_icmp .ge 35, 3) := dk_162 0 35 (dk_at dksX0_layOrder_2 14 rfl rfl)
theorem dX0_layOrder_63 : decode cX0_layOrder 63 = .ok (.aload_n 0, 1) := dk_42 (dk_at dksX0_layOrder_2 17 rfl rfl)
theorem dX0_layOrder_64 : decode cX0_layOrder 64 = .ok (.aload_n 0, 1) := dk_42 (dk_at dksX0_layOrder_2 18 rfl rfl)
theorem dX0_layOrder_65 : decode cX0_layOrder 65 = .ok (.getfield 146, 3) := dk_180 0 146 (dk_at dksX0_layOrder_2 19 rfl rfl)
theorem dX0_layOrder_68 : decode cX0_layOrder 68 = .ok (.iload_n 2, 1) := dk_28 (dk_at dksX0_layOrder_2 22 rfl rfl)
theorem dX0_layOrder_69 : decode cX0_layOrder 69 = .ok (.invokevirtual 218, 3) := dk_182 0 218 (dk_at dksX0_layOrder_3 0 rfl rfl)
theorem dX0_layOrder_72 : decode cX0_layOrder 72 = .ok (.checkcast 205, 3) := dk_192 0 205 (dk_at dksX0_layOrder_3 3 rfl rfl)
theorem dX0_layOrder_75 : decode cX0_layOrder 75 = .ok (.aload_n 0, 1) := dk_42 (dk_at dksX0_layOrder_3 6 rfl rfl)
theorem dX0_layOrder_76 : decode cX0_layOrder 76 = .ok (.getfield 146, 3) := dk_180 0 146 (dk_at dksX0_layOrder_3 7 rfl rfl)
theorem dX0_layOrder_79 : decode cX0_layOrder 79 = .ok (.iload_n 1, 1) := dk_27 (dk_at dksX0_layOrder_3 10 rfl rfl)
theorem dX0_layOrder_80 : decode cX0_layOrder 80 = .ok (.invokevirtual 218, 3) := dk_182 0 218 (dk_at dksX0_layOrder_3 11 rfl rfl)
theorem dX0_layOrder_83 : decode cX0_layOrder 83 = .ok (.checkcast 205, 3) := dk_192 0 205 (dk_at dksX0_layOrder_3 14 rfl rfl)
theorem dX0_layOrder_86 : decode cX0_layOrder 86 = .ok (.invokevirtual 277, 3) := dk_182 1 21 (dk_at dksX0_layOrder_3 17 rfl rfl)
theorem dX0_layOrder_89 : decode cX0_layOrder 89 = .ok (.iinc 2 1, 3) := dk_132 2 1 (dk_at dksX0_layOrder_3 20 rfl rfl)
theorem dX0_layOrder_92 : decode cX0_layOrder 92 = .ok (.goto (-34), 3) := dk_167 255 222 (dk_at dksX0_layOrder_4 0 rfl rfl)
theorem dX0_layOrder_95 : decode cX0_layOrder 95 = .ok (.iinc 1 1, 3) := dk_132 1 1 (dk_at dksX0_layOrder_4 3 rfl rfl)
theorem dX0_layOrder_98 : decode cX0_layOrder 98 = .ok (.goto (-68), 3) := dk_167 255 188 (dk_at dksX0_layOrder_4 6 rfl rfl)
theorem dX0_layOrder_101 : decode cX0_layOrder 101 = .ok (.iconst 0, 1) := dk_3 (dk_at dksX0_layOrder_4 9 rfl rfl)
theorem dX0_layOrder_102 : decode cX0_layOrder 102 = .ok (.istore_n 1, 1) := dk_60 (dk_at dksX0_layOrder_4 10 rfl rfl)
theorem dX0_layOrder_103 : decode cX0_layOrder 103 = .ok (.iload_n 1, 1) := dk_27 (dk_at dksX0_layOrder_4 11 rfl rfl)
theorem dX0_layOrder_104 : decode cX0_layOrder 104 = .ok (.aload_n 0, 1) := dk_42 (dk_at dksX0_layOrder_4 12 rfl rfl)
theorem dX0_layOrder_105 : decode cX0_layOrder 105 = .ok (.getfield 125, 3) := dk_180 0 125 (dk_at dksX0_layOrder_4 13 rfl rfl)
theorem dX0_layOrder_108 : decode cX0_layOrder 108 = .ok (.invokevirtual 201, 3) := dk_182 0 201 (dk_at dksX0_layOrder_4 16 rfl rfl)
theorem dX0_layOrder_111 : decode cX0_layOrder 111 = .ok (.if_icmp .ge 107, 3) := dk_162 0 107 (dk_at dksX0_layOrder_4 19 rfl rfl)
theorem dX0_layOrder_114 : decode cX0_layOrder 114 = .ok (.aload_n 0, 1) := dk_42 (dk_at dksX0_layOrder_4 22 rfl rfl)
theorem dX0_layOrder_115 : decode cX0_layOrder 115 = .ok (.getfield 125, 3) := dk_180 0 125 (dk_at dksX0_layOrder_5 0 rfl rfl)
theorem dX0_layOrder_118 : decode cX0_layOrder 118 = .ok (.iload_n 1, 1) := dk_27 (dk_at dksX0_layOrder_5 3 rfl rfl)
theorem dX0_layOrder_119 : decode cX0_layOrder 119 = .ok (.invokevirtual 218, 3) := dk_182 0 218 (dk_at dksX0_layOrder_5 4 rfl rfl)
theorem dX0_layOrder_122 : decode cX0_layOrder 122 = .ok (.checkcast 205, 3) := dk_192 0 205 (dk_at dksX0_layOrder_5 7 rfl rfl)
theorem dX0_layOrder_125 : decode cX0_layOrder 125 = .ok (.astore_n 2, 1) := dk_77 (dk_at dksX0_layOrder_5 10 rfl rfl)
theorem dX0_layOrder_126 : decode cX0_layOrder 126 = .ok (.iconst 0, 1) := dk_3 (dk_at dksX0_layOrder_5 11 rfl rfl)
theorem dX0_layOrder_127 : decode cX0_layOrder 127 = .ok (.istore_n 3, 1) := dk_62 (dk_at dksX0_layOrder_5 12 rfl rfl)
theorem dX0_layOrder_128 : decode cX0_layOrder 128 = .ok (.iload_n 3, 1) := dk_29 (dk_at dksX0_layOrder_5 13 rfl rfl)
theorem dX0_layOrder_129 : decode cX0_layOrder 129 = .ok (.aload_n 2, 1) := dk_44 (dk_at dksX0_layOrder_5 14 rfl rfl)
theorem dX0_layOrder_130 : decode cX0_layOrder 130 = .ok (.getfield 222, 3) := dk_180 0 222 (dk_at dksX0_layOrder_5 15 rfl rfl)
theorem dX0_layOrder_133 : decode cX0_layOrder 133 = .ok (.invokevirtual 201, 3) := dk_182 0 201 (dk_at dksX0_layOrder_5 18 rfl rfl)
theorem dX0_layOrder_136 : decode cX0_layOrder 136 = .ok (.if_icmp .ge 76, 3) := dk_162 0 76 (dk_at dksX0_layOrder_5 21 rfl rfl)
theorem dX0_layOrder_139 : decode cX0_layOrder 139 = .ok (.aload_n 0, 1) := dk_42 (dk_at dksX0_layOrder_6 0 rfl rfl)
theorem dX0_layOrder_140 : decode cX0_layOrder 140 = .ok (.getfield 161, 3) := dk_180 0 161 (dk_at dksX0_layOrder_6 1 rfl rfl)
theorem dX0_layOrder_143 : decode cX0_layOrder 143 = .ok (.iload_n 1, 1) := dk_27 (dk_at dksX0_layOrder_6 4 rfl rfl)
theorem dX0_layOrder_144 : decode cX0_layOrder 144 = .ok (.baload, 1) := dk_51 (dk_at dksX0_layOrder_6 5 rfl rfl)
theorem dX0_layOrder_145 : decode cX0_layOrder 145 = .ok (.ifCond .eq 67, 3) := dk_153 0 67 (dk_at dksX0_layOrder_6 6 rfl rfl)
theorem dX0_layOrder_148 : decode cX0_layOrder 148 = .ok (.aload_n 0, 1) := dk_42 (dk_at dksX0_layOrder_6 9 rfl rfl)
theorem dX0_layOrder_149 : decode cX0_layOrder 149 = .ok (.aload_n 2, 1) := dk_44 (dk_at dksX0_layOrder_6 10 rfl rfl)
theorem dX0_layOrder_150 : decode cX0_layOrder 150 = .ok (.getfield 222, 3) := dk_180 0 222 (dk_at dksX0_layOrder_6 11 rfl rfl)
theorem dX0_layOrder_153 : decode cX0_layOrder 153 = .ok (.iload_n 3, 1) := dk_29 (dk_at dksX0_layOrder_6 14 rfl rfl)
theorem dX0_layOrder_154 : decode cX0_layOrder 154 = .ok (.invokevirtual 218, 3) := dk_182 0 218 (dk_at dksX0_layOrder_6 15 rfl rfl)
theorem dX0_layOrder_157 : decode cX0_layOrder 157 = .ok (.checkcast 205, 3) := dk_192 0 205 (dk_at dksX0_layOrder_6 18 rfl rfl)
theorem dX0_layOrder_160 : decode cX0_layOrder 160 = .ok (.aload_n 2, 1) := dk_44 (dk_at dksX0_layOrder_6 21 rfl rfl)
theorem dX0_layOrder_161 : decode cX0_layOrder 161 = .ok (.invokevirtual 277, 3) := dk_182 1 21 (dk_at dksX0_layOrder_7 0 rfl rfl)
theorem dX0_layOrder_164 : decode cX0_layOrder 164 = .ok (.iconst 0, 1) := dk_3 (dk_at dksX0_layOrder_7 3 rfl rfl)
theorem dX0_layOrder_165 : decode cX0_layOrder 165 = .ok (.istore 4, 2) := dk_54 4 (dk_at dksX0_layOrder_7 4 rfl rfl)
theorem dX0_layOrder_167 : decode cX0_layOrder 167 = .ok (.iload 4, 2) := dk_21 4 (dk_at dksX0_layOrder_7 6 rfl rfl)
theorem dX0_layOrder_169 : decode cX0_layOrder 169 = .ok (.iload_n 3, 1) := dk_29 (dk_at dksX0_layOrder_7 8 rfl rfl)
theorem dX0_layOrder_170 : decode cX0_layOrder 170 = .ok (.if_icmp .ge 36, 3) := dk_162 0 36 (dk_at dksX0_layOrder_7 9 rfl rfl)
theorem dX0_layOrder_173 : decode cX0_layOrder 173 = .ok (.aload_n 0, 1) := dk_42 (dk_at dksX0_layOrder_7 12 rfl rfl)
theorem dX0_layOrder_174 : decode cX0_layOrder 174 = .ok (.aload_n 2, 1) := dk_44 (dk_at dksX0_layOrder_7 13 rfl rfl)
theorem dX0_layOrder_175 : decode cX0_layOrder 175 = .ok (.getfield 222, 3) := dk_180 0 222 (dk_at dksX0_layOrder_7 14 rfl rfl)
theorem dX0_layOrder_178 : decode cX0_layOrder 178 = .ok (.iload 4, 2) := dk_21 4 (dk_at dksX0_layOrder_7 17 rfl rfl)
theorem dX0_layOrder_180 : decode cX0_layOrder 180 = .ok (.invokevirtual 218, 3) := dk_182 0 218 (dk_at dksX0_layOrder_7 19 rfl rfl)
theorem dX0_layOrder_183 : decode cX0_layOrder 183 = .ok (.checkcast 205, 3) := dk_192 0 205 (dk_at dksX0_layOrder_8 0 rfl rfl)
theorem dX0_layOrder_186 : decode cX0_layOrder 186 = .ok (.aload_n 2, 1) := dk_44 (dk_at dksX0_layOrder_8 3 rfl rfl)
theorem dX0_layOrder_187 : decode cX0_layOrder 187 = .ok (.getfield 222, 3) := dk_180 0 222 (dk_at dksX0_layOrder_8 4 rfl rfl)
theorem dX0_layOrder_190 : decode cX0_layOrder 190 = .ok (.iload_n 3, 1) := dk_29 (dk_at dksX0_layOrder_8 7 rfl rfl)
theorem dX0_layOrder_191 : decode cX0_layOrder 191 = .ok (.invokevirtual 218, 3) := dk_182 0 218 (dk_at dksX0_layOrder_8 8 rfl rfl)
theorem dX0_layOrder_194 : decode cX0_layOrder 194 = .ok (.checkcast 205, 3) := dk_192 0 205 (dk_at dksX0_layOrder_8 11 rfl rfl)
theorem dX0_layOrder_197 : decode cX0_layOrder 197 = .ok (.invokevirtual 277, 3) := dk_182 1 21 (dk_at dksX0_layOrder_8 14 rfl rfl)
theorem dX0_layOrder_200 : decode cX0_layOrder 200 = .ok (.iinc 4 1, 3) := dk_132 4 1 (dk_at dksX0_layOrder_8 17 rfl rfl)
theorem dX0_layOrder_203 : decode cX0_layOrder 203 = .ok (.goto (-36), 3) := dk_167 255 220 (dk_at dksX0_layOrder_8 20 rfl rfl)
theorem dX0_layOrder_206 : decode cX0_layOrder 206 = .ok (.iinc 3 1, 3) := dk_132 3 1 (dk_at dksX0_layOrder_9 0 rfl rfl)
theorem dX0_layOrder_209 : decode cX0_layOrder 209 = .ok (.goto (-81), 3) := dk_167 255 175 (dk_at dksX0_layOrder_9 3 rfl rfl)
theorem dX0_layOrder_212 : decode cX0_layOrder 212 = .ok (.iinc 1 1, 3) := dk_132 1 1 (dk_at dksX0_layOrder_9 6 rfl rfl)
theorem dX0_layOrder_215 : decode cX0_layOrder 215 = .ok (.goto (-112), 3) := dk_167 255 144 (dk_at dksX0_layOrder_9 9 rfl rfl)
theorem dX0_layOrder_218 : decode cX0_layOrder 218 = .ok (.iconst 0, 1) := dk_3 (dk_at dksX0_layOrder_9 12 rfl rfl)
theorem dX0_layOrder_219 : decode cX0_layOrder 219 = .ok (.istore_n 1, 1) := dk_60 (dk_at dksX0_layOrder_9 13 rfl rfl)
theorem dX0_layOrder_220 : decode cX0_layOrder 220 = .ok (.iload_n 1, 1) := dk_27 (dk_at dksX0_layOrder_9 14 rfl rfl)
theorem dX0_layOrder_221 : decode cX0_layOrder 221 = .ok (.aload_n 0, 1) := dk_42 (dk_at dksX0_layOrder_9 15 rfl rfl)
theorem dX0_layOrder_222 : decode cX0_layOrder 222 = .ok (.getfield 232, 3) := dk_180 0 232 (dk_at dksX0_layOrder_9 16 rfl rfl)
theorem dX0_layOrder_225 : decode cX0_layOrder 225 = .ok (.if_icmp .ge 59, 3) := dk_162 0 59 (dk_at dksX0_layOrder_9 19 rfl rfl)
theorem dX0_layOrder_228 : decode cX0_layOrder 228 = .ok (.aload_n 0, 1) := dk_42 (dk_at dksX0_layOrder_9 22 rfl rfl)
theorem dX0_layOrder_229 : decode cX0_layOrder 229 = .ok (.getfield 161, 3) := dk_180 0 161 (dk_at dksX0_layOrder_10 0 rfl rfl)
theorem dX0_layOrder_232 : decode cX0_layOrder 232 = .ok (.aload_n 0, 1) := dk_42 (dk_at dksX0_layOrder_10 3 rfl rfl)
theorem dX0_layOrder_233 : decode cX0_layOrder 233 = .ok (.getfield 129, 3) := dk_180 0 129 (dk_at dksX0_layOrder_10 4 rfl rfl)
theorem dX0_layOrder_236 : decode cX0_layOrder 236 = .ok (.iload_n 1, 1) := dk_27 (dk_at dksX0_layOrder_10 7 rfl rfl)
theorem dX0_layOrder_237 : decode cX0_layOrder 237 = .ok (.iaload, 1) := dk_46 (dk_at dksX0_layOrder_10 8 rfl rfl)
theorem dX0_layOrder_238 : decode cX0_layOrder 238 = .ok (.baload, 1) := dk_51 (dk_at dksX0_layOrder_10 9 rfl rfl)
theorem dX0_layOrder_239 : decode cX0_layOrder 239 = .ok (.ifCond .eq 39, 3) := dk_153 0 39 (dk_at dksX0_layOrder_10 10 rfl rfl)
theorem dX0_layOrder_242 : decode cX0_layOrder 242 = .ok (.aload_n 0, 1) := dk_42 (dk_at dksX0_layOrder_10 13 rfl rfl)
theorem dX0_layOrder_243 : decode cX0_layOrder 243 = .ok (.getfield 161, 3) := dk_180 0 161 (dk_at dksX0_layOrder_10 14 rfl rfl)
theorem dX0_layOrder_246 : decode cX0_layOrder 246 = .ok (.aload_n 0, 1) := dk_42 (dk_at dksX0_layOrder_10 17 rfl rfl)
theorem dX0_layOrder_247 : decode cX0_layOrder 247 = .ok (.getfield 133, 3) := dk_180 0 133 (dk_at dksX0_layOrder_10 18 rfl rfl)
theorem dX0_layOrder_250 : decode cX0_layOrder 250 = .ok (.iload_n 1, 1) := dk_27 (dk_at dksX0_layOrder_10 21 rfl rfl)
theorem dX0_layOrder_251 : decode cX0_layOrder 251 = .ok (.iaload, 1) := dk_46 (dk_at dksX0_layOrder_10 22 rfl rfl)
theorem dX0_layOrder_252 : decode cX0_layOrder 252 = .ok (.baload, 1) := dk_51 (dk_at dksX0_layOrder_10 23 rfl rfl)
theorem dX0_layOrder_253 : decode cX0_layOrder 253 = .ok (.ifCond .eq 25, 3) := dk_153 0 25 (dk_at dksX0_layOrder_11 0 rfl rfl)
theorem dX0_layOrder_256 : decode cX0_layOrder 256 = .ok (.aload_n 0, 1) := dk_42 (dk_at dksX0_layOrder_11 3 rfl rfl)
theorem dX0_layOrder_257 : decode cX0_layOrder 257 = .ok (.getfield 165, 3) := dk_180 0 165 (dk_at dksX0_layOrder_11 4 rfl rfl)
theorem dX0_layOrder_260 : decode cX0_layOrder 260 = .ok (.aload_n 0, 1) := dk_42 (dk_at dksX0_layOrder_11 7 rfl rfl)
theorem dX0_layOrder_261 : decode cX0_layOrder 261 = .ok (.getfield 129, 3) := dk_180 0 129 (dk_at dksX0_layOrder_11 8 rfl rfl)
theorem dX0_layOrder_264 : decode cX0_layOrder 264 = .ok (.iload_n 1, 1) := dk_27 (dk_at dksX0_layOrder_11 11 rfl rfl)
theorem dX0_layOrder_265 : decode cX0_layOrder 265 = .ok (.iaload, 1) := dk_46 (dk_at dksX0_layOrder_11 12 rfl rfl)
theorem dX0_layOrder_266 : decode cX0_layOrder 266 = .ok (.dup2, 1) := dk_92 (dk_at dksX0_layOrder_11 13 rfl rfl)
theorem dX0_layOrder_267 : decode cX0_layOrder 267 = .ok (.iaload, 1) := dk_46 (dk_at dksX0_layOrder_11 14 rfl rfl)
theorem dX0_layOrder_268 : decode cX0_layOrder 268 = .ok (.iconst 1, 1) := dk_4 (dk_at dksX0_layOrder_11 15 rfl rfl)
theorem dX0_layOrder_269 : decode cX0_layOrder 269 = .ok (.aload_n 0, 1) := dk_42 (dk_at dksX0_layOrder_11 16 rfl rfl)
theorem dX0_layOrder_270 : decode cX0_layOrder 270 = .ok (.getfield 133, 3) := dk_180 0 133 (dk_at dksX0_layOrder_11 17 rfl rfl)
theorem dX0_layOrder_273 : decode cX0_layOrder 273 = .ok (.iload_n 1, 1) := dk_27 (dk_at dksX0_layOrder_11 20 rfl rfl)
theorem dX0_layOrder_274 : decode cX0_layOrder 274 = .ok (.iaload, 1) := dk_46 (dk_at dksX0_layOrder_11 21 rfl rfl)
theorem dX0_layOrder_275 : decode cX0_layOrder 275 = .ok (.ishl, 1) := dk_120 (dk_at dksX0_layOrder_11 22 rfl rfl)
theorem dX0_layOrder_276 : decode cX0_layOrder 276 = .ok (.ior, 1) := dk_128 (dk_at dksX0_layOrder_11 23 rfl rfl)
theorem dX0_layOrder_277 : decode cX0_layOrder 277 = .ok (.iastore, 1) := dk_79 (dk_at dksX0_layOrder_12 0 rfl rfl)
theorem dX0_layOrder_278 : decode cX0_layOrder 278 = .ok (.iinc 1 1, 3) := dk_132 1 1 (dk_at dksX0_layOrder_12 1 rfl rfl)
theorem dX0_layOrder_281 : decode cX0_layOrder 281 = .ok (.goto (-61), 3) := dk_167 255 195 (dk_at dksX0_layOrder_12 4 rfl rfl)
theorem dX0_layOrder_284 : decode cX0_layOrder 284 = .ok (.return_, 1) := dk_177 (dk_at dksX0_layOrder_12 7 rfl rfl)
abbrev cX0_take : ByteArray := prog_1_method_18_code
def yX0_take : MethodName := ⟨RX0, "take", "(LRoleLoom$Part;)V"⟩
def dkwX0_take_2 : List UInt8 := [180, 0, 222, 28, 182, 0, 218, 192, 0, 205, 182, 1, 17, 132, 2, 255, 167, 255, 212, 177]
abbrev dktX0_take_2 : List UInt8 := dkwX0_take_2 ++ []
def dkwX0_take_1 : List UInt8 := [42, 180, 0, 161, 43, 180, 0, 222, 28, 182, 0, 218, 192, 0, 205, 180, 1, 16, 51, 154, 0, 18, 42, 43]
abbrev dktX0_take_1 : List UInt8 := dkwX0_take_1 ++ dktX0_take_2
def dkwX0_take_0 : List UInt8 := [42, 180, 0, 161, 43, 180, 1, 16, 4, 84, 43, 180, 0, 222, 182, 0, 201, 4, 100, 61, 28, 155, 0, 46]
abbrev dktX0_take_0 : List UInt8 := dkwX0_take_0 ++ dktX0_take_1
theorem dksX0_take_0 : cX0_take.data.toList.drop 0 = dktX0_take_0 := by decide +kernel
theorem dksX0_take_1 : cX0_take.data.toList.drop 24 = dktX0_take_1 := dk_seg dksX0_take_0 24 rfl rfl
theorem dksX0_take_2 : cX0_take.data.toList.drop 48 = dktX0_take_2 := dk_seg dksX0_take_1 24 rfl rfl
theorem dX0_take_0 : decode cX0_take 0 = .ok (.aload_n 0, 1) := dk_42 (dk_at dksX0_take_0 0 rfl rfl)
theorem dX0_take_1 : decode cX0_take 1 = .ok (.getfield 161, 3) := dk_180 0 161 (dk_at dksX0_take_0 1 rfl rfl)
theorem dX0_take_4 : decode cX0_take 4 = .ok (.aload_n 1, 1) := dk_43 (dk_at dksX0_take_0 4 rfl rfl)
theorem dX0_take_5 : decode cX0_take 5 = .ok (.getfield 272, 3) := dk_180 1 16 (dk_at dksX0_take_0 5 rfl rfl)
theorem dX0_take_8 : decode cX0_take 8 = .ok (.iconst 1, 1) := dk_4 (dk_at dksX0_take_0 8 rfl rfl)
theorem dX0_take_9 : decode cX0_take 9 = .ok (.bastore, 1) := dk_84 (dk_at dksX0_take_0 9 rfl rfl)
theorem dX0_take_10 : decode cX0_take 10 = .ok (.aload_n 1, 1) := dk_43 (dk_at dksX0_take_0 10 rfl rfl)
theorem dX0_take_11 : decode cX0_take 11 = .ok (.getfield 222, 3) := dk_180 0 222 (dk_at dksX0_take_0 11 rfl rfl)
theorem dX0_take_14 : decode cX0_take 14 = .ok (.invokevirtual 201, 3) := dk_182 0 201 (dk_at dksX0_take_0 14 rfl rfl)
theorem dX0_take_17 : decode cX0_take 17 = .ok (.iconst 1, 1) := dk_4 (dk_at dksX0_take_0 17 rfl rfl)
theorem dX0_take_18 : decode cX0_take 18 = .ok (.isub, 1) := dk_100 (dk_at dksX0_take_0 18 rfl rfl)
theorem dX0_take_19 : decode cX0_take 19 = .ok (.istore_n 2, 1) := dk_61 (dk_at dksX0_take_0 19 rfl rfl)
theorem dX0_take_20 : decode cX0_take 20 = .ok (.iload_n 2, 1) := dk_28 (dk_at dksX0_take_0 20 rfl rfl)
theorem dX0_take_21 : decode cX0_take 21 = .ok (.ifCond .lt 46, 3) := dk_155 0 46 (dk_at dksX0_take_0 21 rfl rfl)
theorem dX0_take_24 : decode cX0_take 24 = .ok (.aload_n 0, 1) := dk_42 (dk_at dksX0_take_1 0 rfl rfl)
theorem dX0_take_25 : decode cX0_take 25 = .ok (.getfield 161, 3) := dk_180 0 161 (dk_at dksX0_take_1 1 rfl rfl)
theorem dX0_take_28 : decode cX0_take 28 = .ok (.aload_n 1, 1) := dk_43 (dk_at dksX0_take_1 4 rfl rfl)
theorem dX0_take_29 : decode cX0_take 29 = .ok (.getfield 222, 3) := dk_180 0 222 (dk_at dksX0_take_1 5 rfl rfl)
theorem dX0_take_32 : decode cX0_take 32 = .ok (.iload_n 2, 1) := dk_28 (dk_at dksX0_take_1 8 rfl rfl)
theorem dX0_take_33 : decode cX0_take 33 = .ok (.invokevirtual 218, 3) := dk_182 0 218 (dk_at dksX0_take_1 9 rfl rfl)
theorem dX0_take_36 : decode cX0_take 36 = .ok (.checkcast 205, 3) := dk_192 0 205 (dk_at dksX0_take_1 12 rfl rfl)
theorem dX0_take_39 : decode cX0_take 39 = .ok (.getfield 272, 3) := dk_180 1 16 (dk_at dksX0_take_1 15 rfl rfl)
theorem dX0_take_42 : decode cX0_take 42 = .ok (.baload, 1) := dk_51 (dk_at dksX0_take_1 18 rfl rfl)
theorem dX0_take_43 : decode cX0_take 43 = .ok (.ifCond .ne 18, 3) := dk_154 0 18 (dk_at dksX0_take_1 19 rfl rfl)
theorem dX0_take_46 : decode cX0_take 46 = .ok (.aload_n 0, 1) := dk_42 (dk_at dksX0_take_1 22 rfl rfl)
theorem dX0_take_47 : decode cX0_take 47 = .ok (.aload_n 1, 1) := dk_43 (dk_at dksX0_take_1 23 rfl rfl)
theorem dX0_take_48 : decode cX0_take 48 = .ok (.getfield 222, 3) := dk_180 0 222 (dk_at dksX0_take_2 0 rfl rfl)
theorem dX0_take_51 : decode cX0_take 51 = .ok (.iload_n 2, 1) := dk_28 (dk_at dksX0_take_2 3 rfl rfl)
theorem dX0_take_52 : decode cX0_take 52 = .ok (.invokevirtual 218, 3) := dk_182 0 218 (dk_at dksX0_take_2 4 rfl rfl)
theorem dX0_take_55 : decode cX0_take 55 = .ok (.checkcast 205, 3) := dk_192 0 205 (dk_at dksX0_take_2 7 rfl rfl)
theorem dX0_take_58 : decode cX0_take 58 = .ok (.invokevirtual 273, 3) := dk_182 1 17 (dk_at dksX0_take_2 10 rfl rfl)
theorem dX0_take_61 : decode cX0_take 61 = .ok (.iinc 2 (-1), 3) := dk_132 2 255 (dk_at dksX0_take_2 13 rfl rfl)
theorem dX0_take_64 : decode cX0_take 64 = .ok (.goto (-44), 3) := dk_167 255 212 (dk_at dksX0_take_2 16 rfl rfl)
theorem dX0_take_67 : decode cX0_take 67 = .ok (.return_, 1) := dk_177 (dk_at dksX0_take_2 19 rfl rfl)
abbrev cX0_stands : ByteArray := prog_1_method_19_code
def yX0_stands : MethodName := ⟨RX0, "stands", "(LRoleLoom$Part;LRoleLoom$Part;)V"⟩
def dkwX0_stands_0 : List UInt8 := [42, 180, 0, 165, 43, 180, 1, 16, 92, 46, 4, 44, 180, 1, 16, 120, 128, 79, 177]
abbrev dktX0_stands_0 : List UInt8 := dkwX0_stands_0 ++ []
theorem dksX0_stands_0 : cX0_stands.data.toList.drop 0 = dktX0_stands_0 := by decide +kernel
theorem dX0_stands_0 : decode cX0_stands 0 = .ok (.aload_n 0, 1) := dk_42 (dk_at dksX0_stands_0 0 rfl rfl)
theorem dX0_stands_1 : decode cX0_stands 1 = .ok (.getfield 165, 3) := dk_180 0 165 (dk_at dksX0_stands_0 1 rfl rfl)
theorem dX0_stands_4 : decode cX0_stands 4 = .ok (.aload_n 1, 1) := dk_43 (dk_at dksX0_stands_0 4 rfl rfl)
theorem dX0_stands_5 : decode cX0_stands 5 = .ok (.getfield 272, 3) := dk_180 1 16 (dk_at dksX0_stands_0 5 rfl rfl)
theorem dX0_stands_8 : decode cX0_stands 8 = .ok (.dup2, 1) := dk_92 (dk_at dksX0_stands_0 8 rfl rfl)
theorem dX0_stands_9 : decode cX0_stands 9 = .ok (.iaload, 1) := dk_46 (dk_at dksX0_stands_0 9 rfl rfl)
theorem dX0_stands_10 : decode cX0_stands 10 = .ok (.iconst 1, 1) := dk_4 (dk_at dksX0_stands_0 10 rfl rfl)
theorem dX0_stands_11 : decode cX0_stands 11 = .ok (.aload_n 2, 1) := dk_44 (dk_at dksX0_stands_0 11 rfl rfl)
theorem dX0_stands_12 : decode cX0_stands 12 = .ok (.getfield 272, 3) := dk_180 1 16 (dk_at dksX0_stands_0 12 rfl rfl)
theorem dX0_stands_15 : decode cX0_stands 15 = .ok (.ishl, 1) := dk_120 (dk_at dksX0_stands_0 15 rfl rfl)
theorem dX0_stands_16 : decode cX0_stands 16 = .ok (.ior, 1) := dk_128 (dk_at dksX0_stands_0 16 rfl rfl)
theorem dX0_stands_17 : decode cX0_stands 17 = .ok (.iastore, 1) := dk_79 (dk_at dksX0_stands_0 17 rfl rfl)
theorem dX0_stands_18 : decode cX0_stands 18 = .ok (.return_, 1) := dk_177 (dk_at dksX0_stands_0 18 rfl rfl)
abbrev cX0_isAnyLeft : ByteArray := prog_1_method_23_code
def yX0_isAnyLeft : MethodName := ⟨RX0, "isAnyLeft", "()Z"⟩
def dkwX0_isAnyLeft_1 : List UInt8 := [167, 255, 238, 27, 172]
abbrev dktX0_isAnyLeft_1 : List UInt8 := dkwX0_isAnyLeft_1 ++ []
def dkwX0_isAnyLeft_0 : List UInt8 := [3, 60, 3, 61, 28, 16, 24, 162, 0, 18, 27, 42, 180, 0, 161, 28, 51, 128, 60, 132, 2, 1]
abbrev dktX0_isAnyLeft_0 : List UInt8 := dkwX0_isAnyLeft_0 ++ dktX0_isAnyLeft_1
theorem dksX0_isAnyLeft_0 : cX0_isAnyLeft.data.toList.drop 0 = dktX0_isAnyLeft_0 := by decide +kernel
theorem dksX0_isAnyLeft_1 : cX0_isAnyLeft.data.toList.drop 22 = dktX0_isAnyLeft_1 := dk_seg dksX0_isAnyLeft_0 22 rfl rfl
theorem dX0_isAnyLeft_0 : decode cX0_isAnyLeft 0 = .ok (.iconst 0, 1) := dk_3 (dk_at dksX0_isAnyLeft_0 0 rfl rfl)
theorem dX0_isAnyLeft_1 : decode cX0_isAnyLeft 1 = .ok (.istore_n 1, 1) := dk_60 (dk_at dksX0_isAnyLeft_0 1 rfl rfl)
theorem dX0_isAnyLeft_2 : decode cX0_isAnyLeft 2 = .ok (.iconst 0, 1) := dk_3 (dk_at dksX0_isAnyLeft_0 2 rfl rfl)
theorem dX0_isAnyLeft_3 : decode cX0_isAnyLeft 3 = .ok (.istore_n 2, 1) := dk_61 (dk_at dksX0_isAnyLeft_0 3 rfl rfl)
theorem dX0_isAnyLeft_4 : decode cX0_isAnyLeft 4 = .ok (.iload_n 2, 1) := dk_28 (dk_at dksX0_isAnyLeft_0 4 rfl rfl)
theorem dX0_isAnyLeft_5 : decode cX0_isAnyLeft 5 = .ok (.bipush 24, 2) := dk_16 24 (dk_at dksX0_isAnyLeft_0 5 rfl rfl)
theorem dX0_isAnyLeft_7 : decode cX0_isAnyLeft 7 = .ok (.if_icmp .ge 18, 3) := dk_162 0 18 (dk_at dksX0_isAnyLeft_0 7 rfl rfl)
theorem dX0_isAnyLeft_10 : decode cX0_isAnyLeft 10 = .ok (.iload_n 1, 1) := dk_27 (dk_at dksX0_isAnyLeft_0 10 rfl rfl)
theorem dX0_isAnyLeft_11 : decode cX0_isAnyLeft 11 = .ok (.aload_n 0, 1) := dk_42 (dk_at dksX0_isAnyLeft_0 11 rfl rfl)
theorem dX0_isAnyLeft_12 : decode cX0_isAnyLeft 12 = .ok (.getfield 161, 3) := dk_180 0 161 (dk_at dksX0_isAnyLeft_0 12 rfl rfl)
theorem dX0_isAnyLeft_15 : decode cX0_isAnyLeft 15 = .ok (.iload_n 2, 1) := dk_28 (dk_at dksX0_isAnyLeft_0 15 rfl rfl)
theorem dX0_isAnyLeft_16 : decode cX0_isAnyLeft 16 = .ok (.baload, 1) := dk_51 (dk_at dksX0_isAnyLeft_0 16 rfl rfl)
theorem dX0_isAnyLeft_17 : decode cX0_isAnyLeft 17 = .ok (.ior, 1) := dk_128 (dk_at dksX0_isAnyLeft_0 17 rfl rfl)
theorem dX0_isAnyLeft_18 : decode cX0_isAnyLeft 18 = .ok (.istore_n 1, 1) := dk_60 (dk_at dksX0_isAnyLeft_0 18 rfl rfl)
theorem dX0_isAnyLeft_19 : decode cX0_isAnyLeft 19 = .ok (.iinc 2 1, 3) := dk_132 2 1 (dk_at dksX0_isAnyLeft_0 19 rfl rfl)
theorem dX0_isAnyLeft_22 : decode cX0_isAnyLeft 22 = .ok (.goto (-18), 3) := dk_167 255 238 (dk_at dksX0_isAnyLeft_1 0 rfl rfl)
theorem dX0_isAnyLeft_25 : decode cX0_isAnyLeft 25 = .ok (.iload_n 1, 1) := dk_27 (dk_at dksX0_isAnyLeft_1 3 rfl rfl)
theorem dX0_isAnyLeft_26 : decode cX0_isAnyLeft 26 = .ok (.ireturn, 1) := dk_172 (dk_at dksX0_isAnyLeft_1 4 rfl rfl)
abbrev cX0_nextInLine : ByteArray := prog_1_method_22_code
def yX0_nextInLine : MethodName := ⟨RX0, "nextInLine", "()I"⟩
def dkwX0_nextInLine_1 : List UInt8 := [182, 1, 25, 16, 247, 160, 0, 5, 27, 172, 132, 1, 1, 167, 255, 221, 16, 247, 172]
abbrev dktX0_nextInLine_1 : List UInt8 := dkwX0_nextInLine_1 ++ []
def dkwX0_nextInLine_0 : List UInt8 := [3, 60, 27, 42, 180, 0, 125, 182, 0, 201, 162, 0, 30, 42, 180, 0, 161, 27, 51, 153, 0, 15, 42, 27]
abbrev dktX0_nextInLine_0 : List UInt8 := dkwX0_nextInLine_0 ++ dktX0_nextInLine_1
theorem dksX0_nextInLine_0 : cX0_nextInLine.data.toList.drop 0 = dktX0_nextInLine_0 := by decide +kernel
theorem dksX0_nextInLine_1 : cX0_nextInLine.data.toList.drop 24 = dktX0_nextInLine_1 := dk_seg dksX0_nextInLine_0 24 rfl rfl
theorem dX0_nextInLine_0 : decode cX0_nextInLine 0 = .ok (.iconst 0, 1) := dk_3 (dk_at dksX0_nextInLine_0 0 rfl rfl)
theorem dX0_nextInLine_1 : decode cX0_nextInLine 1 = .ok (.istore_n 1, 1) := dk_60 (dk_at dksX0_nextInLine_0 1 rfl rfl)
theorem dX0_nextInLine_2 : decode cX0_nextInLine 2 = .ok (.iload_n 1, 1) := dk_27 (dk_at dksX0_nextInLine_0 2 rfl rfl)
theorem dX0_nextInLine_3 : decode cX0_nextInLine 3 = .ok (.aload_n 0, 1) := dk_42 (dk_at dksX0_nextInLine_0 3 rfl rfl)
theorem dX0_nextInLine_4 : decode cX0_nextInLine 4 = .ok (.getfield 125, 3) := dk_180 0 125 (dk_at dksX0_nextInLine_0 4 rfl rfl)
theorem dX0_nextInLine_7 : decode cX0_nextInLine 7 = .ok (.invokevirtual 201, 3) := dk_182 0 201 (dk_at dksX0_nextInLine_0 7 rfl rfl)
theorem dX0_nextInLine_10 : decode cX0_nextInLine 10 = .ok (.if_icmp .ge 30, 3) := dk_162 0 30 (dk_at dksX0_nextInLine_0 10 rfl rfl)
theorem dX0_nextInLine_13 : decode cX0_nextInLine 13 = .ok (.aload_n 0, 1) := dk_42 (dk_at dksX0_nextInLine_0 13 rfl rfl)
theorem dX0_nextInLine_14 : decode cX0_nextInLine 14 = .ok (.getfield 161, 3) := dk_180 0 161 (dk_at dksX0_nextInLine_0 14 rfl rfl)
theorem dX0_nextInLine_17 : decode cX0_nextInLine 17 = .ok (.iload_n 1, 1) := dk_27 (dk_at dksX0_nextInLine_0 17 rfl rfl)
theorem dX0_nextInLine_18 : decode cX0_nextInLine 18 = .ok (.baload, 1) := dk_51 (dk_at dksX0_nextInLine_0 18 rfl rfl)
theorem dX0_nextInLine_19 : decode cX0_nextInLine 19 = .ok (.ifCond .eq 15, 3) := dk_153 0 15 (dk_at dksX0_nextInLine_0 19 rfl rfl)
theorem dX0_nextInLine_22 : decode cX0_nextInLine 22 = .ok (.aload_n 0, 1) := dk_42 (dk_at dksX0_nextInLine_0 22 rfl rfl)
theorem dX0_nextInLine_23 : decode cX0_nextInLine 23 = .ok (.iload_n 1, 1) := dk_27 (dk_at dksX0_nextInLine_0 23 rfl rfl)
theorem dX0_nextInLine_24 : decode cX0_nextInLine 24 = .ok (.invokevirtual 281, 3) := dk_182 1 25 (dk_at dksX0_nextInLine_1 0 rfl rfl)
theorem dX0_nextInLine_27 : decode cX0_nextInLine 27 = .ok (.bipush (-9), 2) := dk_16 247 (dk_at dksX0_nextInLine_1 3 rfl rfl)
theorem dX0_nextInLine_29 : decode cX0_nextInLine 29 = .ok (.if_icmp .ne 5, 3) := dk_160 0 5 (dk_at dksX0_nextInLine_1 5 rfl rfl)
theorem dX0_nextInLine_32 : decode cX0_nextInLine 32 = .ok (.iload_n 1, 1) := dk_27 (dk_at dksX0_nextInLine_1 8 rfl rfl)
theorem dX0_nextInLine_33 : decode cX0_nextInLine 33 = .ok (.ireturn, 1) := dk_172 (dk_at dksX0_nextInLine_1 9 rfl rfl)
theorem dX0_nextInLine_34 : decode cX0_nextInLine 34 = .ok (.iinc 1 1, 3) := dk_132 1 1 (dk_at dksX0_nextInLine_1 10 rfl rfl)
theorem dX0_nextInLine_37 : decode cX0_nextInLine 37 = .ok (.goto (-35), 3) := dk_167 255 221 (dk_at dksX0_nextInLine_1 13 rfl rfl)
theorem dX0_nextInLine_40 : decode cX0_nextInLine 40 = .ok (.bipush (-9), 2) := dk_16 247 (dk_at dksX0_nextInLine_1 16 rfl rfl)
theorem dX0_nextInLine_42 : decode cX0_nextInLine 42 = .ok (.ireturn, 1) := dk_172 (dk_at dksX0_nextInLine_1 18 rfl rfl)
abbrev cX0_aheadOf : ByteArray := prog_1_method_21_code
def yX0_aheadOf : MethodName := ⟨RX0, "aheadOf", "(I)I"⟩
def dkwX0_aheadOf_1 : List UInt8 := [180, 0, 165, 28, 46, 27, 122, 4, 126, 4, 160, 0, 5, 28, 172, 132, 2, 1, 167, 255, 217, 16, 247, 172]
abbrev dktX0_aheadOf_1 : List UInt8 := dkwX0_aheadOf_1 ++ []
def dkwX0_aheadOf_0 : List UInt8 := [3, 61, 28, 42, 180, 0, 125, 182, 0, 201, 162, 0, 34, 42, 180, 0, 161, 28, 51, 153, 0, 19, 42]
abbrev dktX0_aheadOf_0 : List UInt8 := dkwX0_aheadOf_0 ++ dktX0_aheadOf_1
theorem dksX0_aheadOf_0 : cX0_aheadOf.data.toList.drop 0 = dktX0_aheadOf_0 := by decide +kernel
theorem dksX0_aheadOf_1 : cX0_aheadOf.data.toList.drop 23 = dktX0_aheadOf_1 := dk_seg dksX0_aheadOf_0 23 rfl rfl
theorem dX0_aheadOf_0 : decode cX0_aheadOf 0 = .ok (.iconst 0, 1) := dk_3 (dk_at dksX0_aheadOf_0 0 rfl rfl)
theorem dX0_aheadOf_1 : decode cX0_aheadOf 1 = .ok (.istore_n 2, 1) := dk_61 (dk_at dksX0_aheadOf_0 1 rfl rfl)
theorem dX0_aheadOf_2 : decode cX0_aheadOf 2 = .ok (.iload_n 2, 1) := dk_28 (dk_at dksX0_aheadOf_0 2 rfl rfl)
theorem dX0_aheadOf_3 : decode cX0_aheadOf 3 = .ok (.aload_n 0, 1) := dk_42 (dk_at dksX0_aheadOf_0 3 rfl rfl)
theorem dX0_aheadOf_4 : decode cX0_aheadOf 4 = .ok (.getfield 125, 3) := dk_180 0 125 (dk_at dksX0_aheadOf_0 4 rfl rfl)
theorem dX0_aheadOf_7 : decode cX0_aheadOf 7 = .ok (.invokevirtual 201, 3) := dk_182 0 201 (dk_at dksX0_aheadOf_0 7 rfl rfl)
theorem dX0_aheadOf_10 : decode cX0_aheadOf 10 = .ok (.if_icmp .ge 34, 3) := dk_162 0 34 (dk_at dksX0_aheadOf_0 10 rfl rfl)
theorem dX0_aheadOf_13 : decode cX0_aheadOf 13 = .ok (.aload_n 0, 1) := dk_42 (dk_at dksX0_aheadOf_0 13 rfl rfl)
theorem dX0_aheadOf_14 : decode cX0_aheadOf 14 = .ok (.getfield 161, 3) := dk_180 0 161 (dk_at dksX0_aheadOf_0 14 rfl rfl)
theorem dX0_aheadOf_17 : decode cX0_aheadOf 17 = .ok (.iload_n 2, 1) := dk_28 (dk_at dksX0_aheadOf_0 17 rfl rfl)
theorem dX0_aheadOf_18 : decode cX0_aheadOf 18 = .ok (.baload, 1) := dk_51 (dk_at dksX0_aheadOf_0 18 rfl rfl)
theorem dX0_aheadOf_19 : decode cX0_aheadOf 19 = .ok (.ifCond .eq 19, 3) := dk_153 0 19 (dk_at dksX0_aheadOf_0 19 rfl rfl)
theorem dX0_aheadOf_22 : decode cX0_aheadOf 22 = .ok (.aload_n 0, 1) := dk_42 (dk_at dksX0_aheadOf_0 22 rfl rfl)
theorem dX0_aheadOf_23 : decode cX0_aheadOf 23 = .ok (.getfield 165, 3) := dk_180 0 165 (dk_at dksX0_aheadOf_1 0 rfl rfl)
theorem dX0_aheadOf_26 : decode cX0_aheadOf 26 = .ok (.iload_n 2, 1) := dk_28 (dk_at dksX0_aheadOf_1 3 rfl rfl)
theorem dX0_aheadOf_27 : decode cX0_aheadOf 27 = .ok (.iaload, 1) := dk_46 (dk_at dksX0_aheadOf_1 4 rfl rfl)
theorem dX0_aheadOf_28 : decode cX0_aheadOf 28 = .ok (.iload_n 1, 1) := dk_27 (dk_at dksX0_aheadOf_1 5 rfl rfl)
theorem dX0_aheadOf_29 : decode cX0_aheadOf 29 = .ok (.ishr, 1) := dk_122 (dk_at dksX0_aheadOf_1 6 rfl rfl)
theorem dX0_aheadOf_30 : decode cX0_aheadOf 30 = .ok (.iconst 1, 1) := dk_4 (dk_at dksX0_aheadOf_1 7 rfl rfl)
theorem dX0_aheadOf_31 : decode cX0_aheadOf 31 = .ok (.iand, 1) := dk_126 (dk_at dksX0_aheadOf_1 8 rfl rfl)
theorem dX0_aheadOf_32 : decode cX0_aheadOf 32 = .ok (.iconst 1, 1) := dk_4 (dk_at dksX0_aheadOf_1 9 rfl rfl)
theorem dX0_aheadOf_33 : decode cX0_aheadOf 33 = .ok (.if_icmp .ne 5, 3) := dk_160 0 5 (dk_at dksX0_aheadOf_1 10 rfl rfl)
theorem dX0_aheadOf_36 : decode cX0_aheadOf 36 = .ok (.iload_n 2, 1) := dk_28 (dk_at dksX0_aheadOf_1 13 rfl rfl)
theorem dX0_aheadOf_37 : decode cX0_aheadOf 37 = .ok (.ireturn, 1) := dk_172 (dk_at dksX0_aheadOf_1 14 rfl rfl)
theorem dX0_aheadOf_38 : decode cX0_aheadOf 38 = .ok (.iinc 2 1, 3) := dk_132 2 1 (dk_at dksX0_aheadOf_1 15 rfl rfl)
theorem dX0_aheadOf_41 : decode cX0_aheadOf 41 = .ok (.goto (-39), 3) := dk_167 255 217 (dk_at dksX0_aheadOf_1 18 rfl rfl)
theorem dX0_aheadOf_44 : decode cX0_aheadOf 44 = .ok (.bipush (-9), 2) := dk_16 247 (dk_at dksX0_aheadOf_1 21 rfl rfl)
theorem dX0_aheadOf_46 : decode cX0_aheadOf 46 = .ok (.ireturn, 1) := dk_172 (dk_at dksX0_aheadOf_1 23 rfl rfl)
abbrev cX0_findRing : ByteArray := prog_1_method_25_code
def yX0_findRing : MethodName := ⟨RX0, "findRing", "()V"⟩
def dkwX0_findRing_4 : List UInt8 := [167, 255, 231, 42, 89, 180, 1, 29, 28, 100, 181, 1, 29, 177]
abbrev dktX0_findRing_4 : List UInt8 := dkwX0_findRing_4 ++ []
def dkwX0_findRing_3 : List UInt8 := [180, 1, 29, 162, 0, 23, 42, 180, 0, 168, 29, 28, 100, 42, 180, 0, 168, 29, 46, 79, 132, 3, 1]
abbrev dktX0_findRing_3 : List UInt8 := dkwX0_findRing_3 ++ dktX0_findRing_4
def dkwX0_findRing_2 : List UInt8 := [96, 181, 1, 29, 42, 27, 182, 1, 25, 60, 167, 255, 220, 42, 27, 182, 1, 32, 61, 28, 62, 29, 42]
abbrev dktX0_findRing_2 : List UInt8 := dkwX0_findRing_2 ++ dktX0_findRing_3
def dkwX0_findRing_1 : List UInt8 := [182, 1, 32, 16, 247, 160, 0, 32, 42, 180, 0, 168, 42, 180, 1, 29, 27, 79, 42, 89, 180, 1, 29, 4]
abbrev dktX0_findRing_1 : List UInt8 := dkwX0_findRing_1 ++ dktX0_findRing_2
def dkwX0_findRing_0 : List UInt8 := [42, 3, 181, 1, 29, 3, 60, 42, 180, 0, 161, 27, 51, 154, 0, 9, 132, 1, 1, 167, 255, 244, 42, 27]
abbrev dktX0_findRing_0 : List UInt8 := dkwX0_findRing_0 ++ dktX0_findRing_1
theorem dksX0_findRing_0 : cX0_findRing.data.toList.drop 0 = dktX0_findRing_0 := by decide +kernel
theorem dksX0_findRing_1 : cX0_findRing.data.toList.drop 24 = dktX0_findRing_1 := dk_seg dksX0_findRing_0 24 rfl rfl
theorem dksX0_findRing_2 : cX0_findRing.data.toList.drop 48 = dktX0_findRing_2 := dk_seg dksX0_findRing_1 24 rfl rfl
theorem dksX0_findRing_3 : cX0_findRing.data.toList.drop 71 = dktX0_findRing_3 := dk_seg dksX0_findRing_2 23 rfl rfl
theorem dksX0_findRing_4 : cX0_findRing.data.toList.drop 94 = dktX0_findRing_4 := dk_seg dksX0_findRing_3 23 rfl rfl
theorem dX0_findRing_0 : decode cX0_findRing 0 = .ok (.aload_n 0, 1) := dk_42 (dk_at dksX0_findRing_0 0 rfl rfl)
theorem dX0_findRing_1 : decode cX0_findRing 1 = .ok (.iconst 0, 1) := dk_3 (dk_at dksX0_findRing_0 1 rfl rfl)
theorem dX0_findRing_2 : decode cX0_findRing 2 = .ok (.putfield 285, 3) := dk_181 1 29 (dk_at dksX0_findRing_0 2 rfl rfl)
theorem dX0_findRing_5 : decode cX0_findRing 5 = .ok (.iconst 0, 1) := dk_3 (dk_at dksX0_findRing_0 5 rfl rfl)
theorem dX0_findRing_6 : decode cX0_findRing 6 = .ok (.istore_n 1, 1) := dk_60 (dk_at dksX0_findRing_0 6 rfl rfl)
theorem dX0_findRing_7 : decode cX0_findRing 7 = .ok (.aload_n 0, 1) := dk_42 (dk_at dksX0_findRing_0 7 rfl rfl)
theorem dX0_findRing_8 : decode cX0_findRing 8 = .ok (.getfield 161, 3) := dk_180 0 161 (dk_at dksX0_findRing_0 8 rfl rfl)
theorem dX0_findRing_11 : decode cX0_findRing 11 = .ok (.iload_n 1, 1) := dk_27 (dk_at dksX0_findRing_0 11 rfl rfl)
theorem dX0_findRing_12 : decode cX0_findRing 12 = .ok (.baload, 1) := dk_51 (dk_at dksX0_findRing_0 12 rfl rfl)
theorem dX0_findRing_13 : decode cX0_findRing 13 = .ok (.ifCond .ne 9, 3) := dk_154 0 9 (dk_at dksX0_findRing_0 13 rfl rfl)
theorem dX0_findRing_16 : decode cX0_findRing 16 = .ok (.iinc 1 1, 3) := dk_132 1 1 (dk_at dksX0_findRing_0 16 rfl rfl)
theorem dX0_findRing_19 : decode cX0_findRing 19 = .ok (.goto (-12), 3) := dk_167 255 244 (dk_at dksX0_findRing_0 19 rfl rfl)
theorem dX0_findRing_22 : decode cX0_findRing 22 = .ok (.aload_n 0, 1) := dk_42 (dk_at dksX0_findRing_0 22 rfl rfl)
theorem dX0_findRing_23 : decode cX0_findRing 23 = .ok (.iload_n 1, 1) := dk_27 (dk_at dksX0_findRing_0 23 rfl rfl)
theorem dX0_findRing_24 : decode cX0_findRing 24 = .ok (.invokevirtual 288, 3) := dk_182 1 32 (dk_at dksX0_findRing_1 0 rfl rfl)
theorem dX0_findRing_27 : decode cX0_findRing 27 = .ok (.bipush (-9), 2) := dk_16 247 (dk_at dksX0_findRing_1 3 rfl rfl)
theorem dX0_findRing_29 : decode cX0_findRing 29 = .ok (.if_icmp .ne 32, 3) := dk_160 0 32 (dk_at dksX0_findRing_1 5 rfl rfl)
theorem dX0_findRing_32 : decode cX0_findRing 32 = .ok (.aload_n 0, 1) := dk_42 (dk_at dksX0_findRing_1 8 rfl rfl)
theorem dX0_findRing_33 : decode cX0_findRing 33 = .ok (.getfield 168, 3) := dk_180 0 168 (dk_at dksX0_findRing_1 9 rfl rfl)
theorem dX0_findRing_36 : decode cX0_findRing 36 = .ok (.aload_n 0, 1) := dk_42 (dk_at dksX0_findRing_1 12 rfl rfl)
theorem dX0_findRing_37 : decode cX0_findRing 37 = .ok (.getfield 285, 3) := dk_180 1 29 (dk_at dksX0_findRing_1 13 rfl rfl)
theorem dX0_findRing_40 : decode cX0_findRing 40 = .ok (.iload_n 1, 1) := dk_27 (dk_at dksX0_findRing_1 16 rfl rfl)
theorem dX0_findRing_41 : decode cX0_findRing 41 = .ok (.iastore, 1) := dk_79 (dk_at dksX0_findRing_1 17 rfl rfl)
theorem dX0_findRing_42 : decode cX0_findRing 42 = .ok (.aload_n 0, 1) := dk_42 (dk_at dksX0_findRing_1 18 rfl rfl)
theorem dX0_findRing_43 : decode cX0_findRing 43 = .ok (.dup, 1) := dk_89 (dk_at dksX0_findRing_1 19 rfl rfl)
theorem dX0_findRing_44 : decode cX0_findRing 44 = .ok (.getfield 285, 3) := dk_180 1 29 (dk_at dksX0_findRing_1 20 rfl rfl)
theorem dX0_findRing_47 : decode cX0_findRing 47 = .ok (.iconst 1, 1) := dk_4 (dk_at dksX0_findRing_1 23 rfl rfl)
theorem dX0_findRing_48 : decode cX0_findRing 48 = .ok (.iadd, 1) := dk_96 (dk_at dksX0_findRing_2 0 rfl rfl)
theorem dX0_findRing_49 : decode cX0_findRing 49 = .ok (.putfield 285, 3) := dk_181 1 29 (dk_at dksX0_findRing_2 1 rfl rfl)
theorem dX0_findRing_52 : decode cX0_findRing 52 = .ok (.aload_n 0, 1) := dk_42 (dk_at dksX0_findRing_2 4 rfl rfl)
theorem dX0_findRing_53 : decode cX0_findRing 53 = .ok (.iload_n 1, 1) := dk_27 (dk_at dksX0_findRing_2 5 rfl rfl)
theorem dX0_findRing_54 : decode cX0_findRing 54 = .ok (.invokevirtual 281, 3) := dk_182 1 25 (dk_at dksX0_findRing_2 6 rfl rfl)
theorem dX0_findRing_57 : decode cX0_findRing 57 = .ok (.istore_n 1, 1) := dk_60 (dk_at dksX0_findRing_2 9 rfl rfl)
theorem dX0_findRing_58 : decode cX0_findRing 58 = .ok (.goto (-36), 3) := dk_167 255 220 (dk_at dksX0_findRing_2 10 rfl rfl)
theorem dX0_findRing_61 : decode cX0_findRing 61 = .ok (.aload_n 0, 1) := dk_42 (dk_at dksX0_findRing_2 13 rfl rfl)
theorem dX0_findRing_62 : decode cX0_findRing 62 = .ok (.iload_n 1, 1) := dk_27 (dk_at dksX0_findRing_2 14 rfl rfl)
theorem dX0_findRing_63 : decode cX0_findRing 63 = .ok (.invokevirtual 288, 3) := dk_182 1 32 (dk_at dksX0_findRing_2 15 rfl rfl)
theorem dX0_findRing_66 : decode cX0_findRing 66 = .ok (.istore_n 2, 1) := dk_61 (dk_at dksX0_findRing_2 18 rfl rfl)
theorem dX0_findRing_67 : decode cX0_findRing 67 = .ok (.iload_n 2, 1) := dk_28 (dk_at dksX0_findRing_2 19 rfl rfl)
theorem dX0_findRing_68 : decode cX0_findRing 68 = .ok (.istore_n 3, 1) := dk_62 (dk_at dksX0_findRing_2 20 rfl rfl)
theorem dX0_findRing_69 : decode cX0_findRing 69 = .ok (.iload_n 3, 1) := dk_29 (dk_at dksX0_findRing_2 21 rfl rfl)
theorem dX0_findRing_70 : decode cX0_findRing 70 = .ok (.aload_n 0, 1) := dk_42 (dk_at dksX0_findRing_2 22 rfl rfl)
theorem dX0_findRing_71 : decode cX0_findRing 71 = .ok (.getfield 285, 3) := dk_180 1 29 (dk_at dksX0_findRing_3 0 rfl rfl)
theorem dX0_findRing_74 : decode cX0_findRing 74 = .ok (.if_icmp .ge 23, 3) := dk_162 0 23 (dk_at dksX0_findRing_3 3 rfl rfl)
theorem dX0_findRing_77 : decode cX0_findRing 77 = .ok (.aload_n 0, 1) := dk_42 (dk_at dksX0_findRing_3 6 rfl rfl)
theorem dX0_findRing_78 : decode cX0_findRing 78 = .ok (.getfield 168, 3) := dk_180 0 168 (dk_at dksX0_findRing_3 7 rfl rfl)
theorem dX0_findRing_81 : decode cX0_findRing 81 = .ok (.iload_n 3, 1) := dk_29 (dk_at dksX0_findRing_3 10 rfl rfl)
theorem dX0_findRing_82 : decode cX0_findRing 82 = .ok (.iload_n 2, 1) := dk_28 (dk_at dksX0_findRing_3 11 rfl rfl)
theorem dX0_findRing_83 : decode cX0_findRing 83 = .ok (.isub, 1) := dk_100 (dk_at dksX0_findRing_3 12 rfl rfl)
theorem dX0_findRing_84 : decode cX0_findRing 84 = .ok (.aload_n 0, 1) := dk_42 (dk_at dksX0_findRing_3 13 rfl rfl)
theorem dX0_findRing_85 : decode cX0_findRing 85 = .ok (.getfield 168, 3) := dk_180 0 168 (dk_at dksX0_findRing_3 14 rfl rfl)
theorem dX0_findRing_88 : decode cX0_findRing 88 = .ok (.iload_n 3, 1) := dk_29 (dk_at dksX0_findRing_3 17 rfl rfl)
theorem dX0_findRing_89 : decode cX0_findRing 89 = .ok (.iaload, 1) := dk_46 (dk_at dksX0_findRing_3 18 rfl rfl)
theorem dX0_findRing_90 : decode cX0_findRing 90 = .ok (.iastore, 1) := dk_79 (dk_at dksX0_findRing_3 19 rfl rfl)
theorem dX0_findRing_91 : decode cX0_findRing 91 = .ok (.iinc 3 1, 3) := dk_132 3 1 (dk_at dksX0_findRing_3 20 rfl rfl)
theorem dX0_findRing_94 : decode cX0_findRing 94 = .ok (.goto (-25), 3) := dk_167 255 231 (dk_at dksX0_findRing_4 0 rfl rfl)
theorem dX0_findRing_97 : decode cX0_findRing 97 = .ok (.aload_n 0, 1) := dk_42 (dk_at dksX0_findRing_4 3 rfl rfl)
theorem dX0_findRing_98 : decode cX0_findRing 98 = .ok (.dup, 1) := dk_89 (dk_at dksX0_findRing_4 4 rfl rfl)
theorem dX0_findRing_99 : decode cX0_findRing 99 = .ok (.getfield 285, 3) := dk_180 1 29 (dk_at dksX0_findRing_4 5 rfl rfl)
theorem dX0_findRing_102 : decode cX0_findRing 102 = .ok (.iload_n 2, 1) := dk_28 (dk_at dksX0_findRing_4 8 rfl rfl)
theorem dX0_findRing_103 : decode cX0_findRing 103 = .ok (.isub, 1) := dk_100 (dk_at dksX0_findRing_4 9 rfl rfl)
theorem dX0_findRing_104 : decode cX0_findRing 104 = .ok (.putfield 285, 3) := dk_181 1 29 (dk_at dksX0_findRing_4 10 rfl rfl)
theorem dX0_findRing_107 : decode cX0_findRing 107 = .ok (.return_, 1) := dk_177 (dk_at dksX0_findRing_4 13 rfl rfl)
abbrev cX0_placeInRing : ByteArray := prog_1_method_24_code
def yX0_placeInRing : MethodName := ⟨RX0, "placeInRing", "(I)I"⟩
def dkwX0_placeInRing_1 : List UInt8 := [132, 2, 1, 167, 255, 233, 16, 247, 172]
abbrev dktX0_placeInRing_1 : List UInt8 := dkwX0_placeInRing_1 ++ []
def dkwX0_placeInRing_0 : List UInt8 := [3, 61, 28, 42, 180, 1, 29, 162, 0, 21, 42, 180, 0, 168, 28, 46, 27, 160, 0, 5, 28, 172]
abbrev dktX0_placeInRing_0 : List UInt8 := dkwX0_placeInRing_0 ++ dktX0_placeInRing_1
theorem dksX0_placeInRing_0 : cX0_placeInRing.data.toList.drop 0 = dktX0_placeInRing_0 := by decide +kernel
theorem dksX0_placeInRing_1 : cX0_placeInRing.data.toList.drop 22 = dktX0_placeInRing_1 := dk_seg dksX0_placeInRing_0 22 rfl rfl
theorem dX0_placeInRing_0 : decode cX0_placeInRing 0 = .ok (.iconst 0, 1) := dk_3 (dk_at dksX0_placeInRing_0 0 rfl rfl)
theorem dX0_placeInRing_1 : decode cX0_placeInRing 1 = .ok (.istore_n 2, 1) := dk_61 (dk_at dksX0_placeInRing_0 1 rfl rfl)
theorem dX0_placeInRing_2 : decode cX0_placeInRing 2 = .ok (.iload_n 2, 1) := dk_28 (dk_at dksX0_placeInRing_0 2 rfl rfl)
theorem dX0_placeInRing_3 : decode cX0_placeInRing 3 = .ok (.aload_n 0, 1) := dk_42 (dk_at dksX0_placeInRing_0 3 rfl rfl)
theorem dX0_placeInRing_4 : decode cX0_placeInRing 4 = .ok (.getfield 285, 3) := dk_180 1 29 (dk_at dksX0_placeInRing_0 4 rfl rfl)
theorem dX0_placeInRing_7 : decode cX0_placeInRing 7 = .ok (.if_icmp .ge 21, 3) := dk_162 0 21 (dk_at dksX0_placeInRing_0 7 rfl rfl)
theorem dX0_placeInRing_10 : decode cX0_placeInRing 10 = .ok (.aload_n 0, 1) := dk_42 (dk_at dksX0_placeInRing_0 10 rfl rfl)
theorem dX0_placeInRing_11 : decode cX0_placeInRing 11 = .ok (.getfield 168, 3) := dk_180 0 168 (dk_at dksX0_placeInRing_0 11 rfl rfl)
theorem dX0_placeInRing_14 : decode cX0_placeInRing 14 = .ok (.iload_n 2, 1) := dk_28 (dk_at dksX0_placeInRing_0 14 rfl rfl)
theorem dX0_placeInRing_15 : decode cX0_placeInRing 15 = .ok (.iaload, 1) := dk_46 (dk_at dksX0_placeInRing_0 15 rfl rfl)
theorem dX0_placeInRing_16 : decode cX0_placeInRing 16 = .ok (.iload_n 1, 1) := dk_27 (dk_at dksX0_placeInRing_0 16 rfl rfl)
theorem dX0_placeInRing_17 : decode cX0_placeInRing 17 = .ok (.if_icmp .ne 5, 3) := dk_160 0 5 (dk_at dksX0_placeInRing_0 17 rfl rfl)
theorem dX0_placeInRing_20 : decode cX0_placeInRing 20 = .ok (.iload_n 2, 1) := dk_28 (dk_at dksX0_placeInRing_0 20 rfl rfl)
theorem dX0_placeInRing_21 : decode cX0_placeInRing 21 = .ok (.ireturn, 1) := dk_172 (dk_at dksX0_placeInRing_0 21 rfl rfl)
theorem dX0_placeInRing_22 : decode cX0_placeInRing 22 = .ok (.iinc 2 1, 3) := dk_132 2 1 (dk_at dksX0_placeInRing_1 0 rfl rfl)
theorem dX0_placeInRing_25 : decode cX0_placeInRing 25 = .ok (.goto (-23), 3) := dk_167 255 233 (dk_at dksX0_placeInRing_1 3 rfl rfl)
theorem dX0_placeInRing_28 : decode cX0_placeInRing 28 = .ok (.bipush (-9), 2) := dk_16 247 (dk_at dksX0_placeInRing_1 6 rfl rfl)
theorem dX0_placeInRing_30 : decode cX0_placeInRing 30 = .ok (.ireturn, 1) := dk_172 (dk_at dksX0_placeInRing_1 8 rfl rfl)
abbrev cX0_layChains : ByteArray := prog_1_method_27_code
def yX0_layChains : MethodName := ⟨RX0, "layChains", "(LRoleLoom$Role;)V"⟩
def dkwX0_layChains_5 : List UInt8 := [132, 2, 1, 167, 255, 138, 177]
abbrev dktX0_layChains_5 : List UInt8 := dkwX0_layChains_5 ++ []
def dkwX0_layChains_4 : List UInt8 := [180, 0, 244, 28, 50, 182, 0, 210, 87, 132, 4, 1, 167, 255, 170, 43, 180, 1, 44, 45, 182, 0, 210, 87]
abbrev dktX0_layChains_4 : List UInt8 := dkwX0_layChains_4 ++ dktX0_layChains_5
def dkwX0_layChains_3 : List UInt8 := [25, 5, 180, 0, 241, 28, 50, 182, 0, 210, 87, 25, 5, 180, 0, 244, 28, 50, 198, 0, 15, 45, 25, 5]
abbrev dktX0_layChains_3 : List UInt8 := dkwX0_layChains_3 ++ dktX0_layChains_4
def dkwX0_layChains_2 : List UInt8 := [25, 5, 180, 0, 241, 28, 50, 198, 0, 28, 42, 25, 5, 180, 1, 16, 28, 182, 1, 40, 154, 0, 15, 45]
abbrev dktX0_layChains_2 : List UInt8 := dkwX0_layChains_2 ++ dktX0_layChains_3
def dkwX0_layChains_1 : List UInt8 := [180, 1, 35, 182, 0, 201, 162, 0, 80, 43, 180, 1, 35, 21, 4, 182, 0, 218, 192, 0, 205, 58, 5]
abbrev dktX0_layChains_1 : List UInt8 := dkwX0_layChains_1 ++ dktX0_layChains_2
def dkwX0_layChains_0 : List UInt8 := [3, 61, 28, 16, 12, 162, 0, 118, 187, 0, 122, 89, 183, 0, 124, 78, 3, 54, 4, 21, 4, 43]
abbrev dktX0_layChains_0 : List UInt8 := dkwX0_layChains_0 ++ dktX0_layChains_1
theorem dksX0_layChains_0 : cX0_layChains.data.toList.drop 0 = dktX0_layChains_0 := by decide +kernel
theorem dksX0_layChains_1 : cX0_layChains.data.toList.drop 22 = dktX0_layChains_1 := dk_seg dksX0_layChains_0 22 rfl rfl
theorem dksX0_layChains_2 : cX0_layChains.data.toList.drop 45 = dktX0_layChains_2 := dk_seg dksX0_layChains_1 23 rfl rfl
theorem dksX0_layChains_3 : cX0_layChains.data.toList.drop 69 = dktX0_layChains_3 := dk_seg dksX0_layChains_2 24 rfl rfl
theorem dksX0_layChains_4 : cX0_layChains.data.toList.drop 93 = dktX0_layChains_4 := dk_seg dksX0_layChains_3 24 rfl rfl
theorem dksX0_layChains_5 : cX0_layChains.data.toList.drop 117 = dktX0_layChains_5 := dk_seg dksX0_layChains_4 24 rfl rfl
theorem dX0_layChains_0 : decode cX0_layChains 0 = .ok (.iconst 0, 1) := dk_3 (dk_at dksX0_layChains_0 0 rfl rfl)
theorem dX0_layChains_1 : decode cX0_layChains 1 = .ok (.istore_n 2, 1) := dk_61 (dk_at dksX0_layChains_0 1 rfl rfl)
theorem dX0_layChains_2 : decode cX0_layChains 2 = .ok (.iload_n 2, 1) := dk_28 (dk_at dksX0_layChains_0 2 rfl rfl)
theorem dX0_layChains_3 : decode cX0_layChains 3 = .ok (.bipush 12, 2) := dk_16 12 (dk_at dksX0_layChains_0 3 rfl rfl)
theorem dX0_layChains_5 : decode cX0_layChains 5 = .ok (.if_icmp .ge 118, 3) := dk_162 0 118 (dk_at dksX0_layChains_0 5 rfl rfl)
theorem dX0_layChains_8 : decode cX0_layChains 8 = .ok (.new 122, 3) := dk_187 0 122 (dk_at dksX0_layChains_0 8 rfl rfl)
theorem dX0_layChains_11 : decode cX0_layChains 11 = .ok (.dup, 1) := dk_89 (dk_at dksX0_layChains_0 11 rfl rfl)
theorem dX0_layChains_12 : decode cX0_layChains 12 = .ok (.invokespecial 124, 3) := dk_183 0 124 (dk_at dksX0_layChains_0 12 rfl rfl)
theorem dX0_layChains_15 : decode cX0_layChains 15 = .ok (.astore_n 3, 1) := dk_78 (dk_at dksX0_layChains_0 15 rfl rfl)
theorem dX0_layChains_16 : decode cX0_layChains 16 = .ok (.iconst 0, 1) := dk_3 (dk_at dksX0_layChains_0 16 rfl rfl)
theorem dX0_layChains_17 : decode cX0_layChains 17 = .ok (.istore 4, 2) := dk_54 4 (dk_at dksX0_layChains_0 17 rfl rfl)
theorem dX0_layChains_19 : decode cX0_layChains 19 = .ok (.iload 4, 2) := dk_21 4 (dk_at dksX0_layChains_0 19 rfl rfl)
theorem dX0_layChains_21 : decode cX0_layChains 21 = .ok (.aload_n 1, 1) := dk_43 (dk_at dksX0_layChains_0 21 rfl rfl)
theorem dX0_layChains_22 : decode cX0_layChains 22 = .ok (.getfield 291, 3) := dk_180 1 35 (dk_at dksX0_layChains_1 0 rfl rfl)
theorem dX0_layChains_25 : decode cX0_layChains 25 = .ok (.invokevirtual 201, 3) := dk_182 0 201 (dk_at dksX0_layChains_1 3 rfl rfl)
theorem dX0_layChains_28 : decode cX0_layChains 28 = .ok (.if_icmp .ge 80, 3) := dk_162 0 80 (dk_at dksX0_layChains_1 6 rfl rfl)
theorem dX0_layChains_31 : decode cX0_layChains 31 = .ok (.aload_n 1, 1) := dk_43 (dk_at dksX0_layChains_1 9 rfl rfl)
theorem dX0_layChains_32 : decode cX0_layChains 32 = .ok (.getfield 291, 3) := dk_180 1 35 (dk_at dksX0_layChains_1 10 rfl rfl)
theorem dX0_layChains_35 : decode cX0_layChains 35 = .ok (.iload 4, 2) := dk_21 4 (dk_at dksX0_layChains_1 13 rfl rfl)
theorem dX0_layChains_37 : decode cX0_layChains 37 = .ok (.invokevirtual 218, 3) := dk_182 0 218 (dk_at dksX0_layChains_1 15 rfl rfl)
theorem dX0_layChains_40 : decode cX0_layChains 40 = .ok (.checkcast 205, 3) := dk_192 0 205 (dk_at dksX0_layChains_1 18 rfl rfl)
theorem dX0_layChains_43 : decode cX0_layChains 43 = .ok (.astore 5, 2) := dk_58 5 (dk_at dksX0_layChains_1 21 rfl rfl)
theorem dX0_layChains_45 : decode cX0_layChains 45 = .ok (.aload 5, 2) := dk_25 5 (dk_at dksX0_layChains_2 0 rfl rfl)
theorem dX0_layChains_47 : decode cX0_layChains 47 = .ok (.getfield 241, 3) := dk_180 0 241 (dk_at dksX0_layChains_2 2 rfl rfl)
theorem dX0_layChains_50 : decode cX0_layChains 50 = .ok (.iload_n 2, 1) := dk_28 (dk_at dksX0_layChains_2 5 rfl rfl)
theorem dX0_layChains_51 : decode cX0_layChains 51 = .ok (.aaload, 1) := dk_50 (dk_at dksX0_layChains_2 6 rfl rfl)
theorem dX0_layChains_52 : decode cX0_layChains 52 = .ok (.ifnull 28, 3) := dk_198 0 28 (dk_at dksX0_layChains_2 7 rfl rfl)
theorem dX0_layChains_55 : decode cX0_layChains 55 = .ok (.aload_n 0, 1) := dk_42 (dk_at dksX0_layChains_2 10 rfl rfl)
theorem dX0_layChains_56 : decode cX0_layChains 56 = .ok (.aload 5, 2) := dk_25 5 (dk_at dksX0_layChains_2 11 rfl rfl)
theorem dX0_layChains_58 : decode cX0_layChains 58 = .ok (.getfield 272, 3) := dk_180 1 16 (dk_at dksX0_layChains_2 13 rfl rfl)
theorem dX0_layChains_61 : decode cX0_layChains 61 = .ok (.iload_n 2, 1) := dk_28 (dk_at dksX0_layChains_2 16 rfl rfl)
theorem dX0_layChains_62 : decode cX0_layChains 62 = .ok (.invokevirtual 296, 3) := dk_182 1 40 (dk_at dksX0_layChains_2 17 rfl rfl)
theorem dX0_layChains_65 : decode cX0_layChains 65 = .ok (.ifCond .ne 15, 3) := dk_154 0 15 (dk_at dksX0_layChains_2 20 rfl rfl)
theorem dX0_layChains_68 : decode cX0_layChains 68 = .ok (.aload_n 3, 1) := dk_45 (dk_at dksX0_layChains_2 23 rfl rfl)
theorem dX0_layChains_69 : decode cX0_layChains 69 = .ok (.aload 5, 2) := dk_25 5 (dk_at dksX0_layChains_3 0 rfl rfl)
theorem dX0_layChains_71 : decode cX0_layChains 71 = .ok (.getfield 241, 3) := dk_180 0 241 (dk_at dksX0_layChains_3 2 rfl rfl)
theorem dX0_layChains_74 : decode cX0_layChains 74 = .ok (.iload_n 2, 1) := dk_28 (dk_at dksX0_layChains_3 5 rfl rfl)
theorem dX0_layChains_75 : decode cX0_layChains 75 = .ok (.aaload, 1) := dk_50 (dk_at dksX0_layChains_3 6 rfl rfl)
theorem dX0_layChains_76 : decode cX0_layChains 76 = .ok (.invokevirtual 210, 3) := dk_182 0 210 (dk_at dksX0_layChains_3 7 rfl rfl)
theorem dX0_layChains_79 : decode cX0_layChains 79 = .ok (.pop, 1) := dk_87 (dk_at dksX0_layChains_3 10 rfl rfl)
theorem dX0_layChains_80 : decode cX0_layChains 80 = .ok (.aload 5, 2) := dk_25 5 (dk_at dksX0_layChains_3 11 rfl rfl)
theorem dX0_layChains_82 : decode cX0_layChains 82 = .ok (.getfield 244, 3) := dk_180 0 244 (dk_at dksX0_layChains_3 13 rfl rfl)
theorem dX0_layChains_85 : decode cX0_layChains 85 = .ok (.iload_n 2, 1) := dk_28 (dk_at dksX0_layChains_3 16 rfl rfl)
theorem dX0_layChains_86 : decode cX0_layChains 86 = .ok (.aaload, 1) := dk_50 (dk_at dksX0_layChains_3 17 rfl rfl)
theorem dX0_layChains_87 : decode cX0_layChains 87 = .ok (.ifnull 15, 3) := dk_198 0 15 (dk_at dksX0_layChains_3 18 rfl rfl)
theorem dX0_layChains_90 : decode cX0_layChains 90 = .ok (.aload_n 3, 1) := dk_45 (dk_at dksX0_layChains_3 21 rfl rfl)
theorem dX0_layChains_91 : decode cX0_layChains 91 = .ok (.aload 5, 2) := dk_25 5 (dk_at dksX0_layChains_3 22 rfl rfl)
theorem dX0_layChains_93 : decode cX0_layChains 93 = .ok (.getfield 244, 3) := dk_180 0 244 (dk_at dksX0_layChains_4 0 rfl rfl)
theorem dX0_layChains_96 : decode cX0_layChains 96 = .ok (.iload_n 2, 1) := dk_28 (dk_at dksX0_layChains_4 3 rfl rfl)
theorem dX0_layChains_97 : decode cX0_layChains 97 = .ok (.aaload, 1) := dk_50 (dk_at dksX0_layChains_4 4 rfl rfl)
theorem dX0_layChains_98 : decode cX0_layChains 98 = .ok (.invokevirtual 210, 3) := dk_182 0 210 (dk_at dksX0_layChains_4 5 rfl rfl)
theorem dX0_layChains_101 : decode cX0_layChains 101 = .ok (.pop, 1) := dk_87 (dk_at dksX0_layChains_4 8 rfl rfl)
theorem dX0_layChains_102 : decode cX0_layChains 102 = .ok (.iinc 4 1, 3) := dk_132 4 1 (dk_at dksX0_layChains_4 9 rfl rfl)
theorem dX0_layChains_105 : decode cX0_layChains 105 = .ok (.goto (-86), 3) := dk_167 255 170 (dk_at dksX0_layChains_4 12 rfl rfl)
theorem dX0_layChains_108 : decode cX0_layChains 108 = .ok (.aload_n 1, 1) := dk_43 (dk_at dksX0_layChains_4 15 rfl rfl)
theorem dX0_layChains_109 : decode cX0_layChains 109 = .ok (.getfield 300, 3) := dk_180 1 44 (dk_at dksX0_layChains_4 16 rfl rfl)
theorem dX0_layChains_112 : decode cX0_layChains 112 = .ok (.aload_n 3, 1) := dk_45 (dk_at dksX0_layChains_4 19 rfl rfl)
theorem dX0_layChains_113 : decode cX0_layChains 113 = .ok (.invokevirtual 210, 3) := dk_182 0 210 (dk_at dksX0_layChains_4 20 rfl rfl)
theorem dX0_layChains_116 : decode cX0_layChains 116 = .ok (.pop, 1) := dk_87 (dk_at dksX0_layChains_4 23 rfl rfl)
theorem dX0_layChains_117 : decode cX0_layChains 117 = .ok (.iinc 2 1, 3) := dk_132 2 1 (dk_at dksX0_layChains_5 0 rfl rfl)
theorem dX0_layChains_120 : decode cX0_layChains 120 = .ok (.goto (-118), 3) := dk_167 255 138 (dk_at dksX0_layChains_5 3 rfl rfl)
theorem dX0_layChains_123 : decode cX0_layChains 123 = .ok (.return_, 1) := dk_177 (dk_at dksX0_layChains_5 6 rfl rfl)
abbrev cX0_isExcluded : ByteArray := prog_1_method_26_code
def yX0_isExcluded : MethodName := ⟨RX0, "isExcluded", "(II)Z"⟩
def dkwX0_isExcluded_2 : List UInt8 := [167, 255, 214, 29, 172]
abbrev dktX0_isExcluded_2 : List UInt8 := dkwX0_isExcluded_2 ++ []
def dkwX0_isExcluded_1 : List UInt8 := [160, 0, 18, 42, 180, 0, 152, 21, 4, 46, 28, 160, 0, 7, 4, 167, 0, 4, 3, 128, 62, 132, 4, 1]
abbrev dktX0_isExcluded_1 : List UInt8 := dkwX0_isExcluded_1 ++ dktX0_isExcluded_2
def dkwX0_isExcluded_0 : List UInt8 := [3, 62, 3, 54, 4, 21, 4, 42, 180, 1, 10, 162, 0, 39, 29, 42, 180, 0, 149, 21, 4, 46, 27]
abbrev dktX0_isExcluded_0 : List UInt8 := dkwX0_isExcluded_0 ++ dktX0_isExcluded_1
theorem dksX0_isExcluded_0 : cX0_isExcluded.data.toList.drop 0 = dktX0_isExcluded_0 := by decide +kernel
theorem dksX0_isExcluded_1 : cX0_isExcluded.data.toList.drop 23 = dktX0_isExcluded_1 := dk_seg dksX0_isExcluded_0 23 rfl rfl
theorem dksX0_isExcluded_2 : cX0_isExcluded.data.toList.drop 47 = dktX0_isExcluded_2 := dk_seg dksX0_isExcluded_1 24 rfl rfl
theorem dX0_isExcluded_0 : decode cX0_isExcluded 0 = .ok (.iconst 0, 1) := dk_3 (dk_at dksX0_isExcluded_0 0 rfl rfl)
theorem dX0_isExcluded_1 : decode cX0_isExcluded 1 = .ok (.istore_n 3, 1) := dk_62 (dk_at dksX0_isExcluded_0 1 rfl rfl)
theorem dX0_isExcluded_2 : decode cX0_isExcluded 2 = .ok (.iconst 0, 1) := dk_3 (dk_at dksX0_isExcluded_0 2 rfl rfl)
theorem dX0_isExcluded_3 : decode cX0_isExcluded 3 = .ok (.istore 4, 2) := dk_54 4 (dk_at dksX0_isExcluded_0 3 rfl rfl)
theorem dX0_isExcluded_5 : decode cX0_isExcluded 5 = .ok (.iload 4, 2) := dk_21 4 (dk_at dksX0_isExcluded_0 5 rfl rfl)
theorem dX0_isExcluded_7 : decode cX0_isExcluded 7 = .ok (.aload_n 0, 1) := dk_42 (dk_at dksX0_isExcluded_0 7 rfl rfl)
theorem dX0_isExcluded_8 : decode cX0_isExcluded 8 = .ok (.getfield 266, 3) := dk_180 1 10 (dk_at dksX0_isExcluded_0 8 rfl rfl)
theorem dX0_isExcluded_11 : decode cX0_isExcluded 11 = .ok (.if_icmp .ge 39, 3) := dk_162 0 39 (dk_at dksX0_isExcluded_0 11 rfl rfl)
theorem dX0_isExcluded_14 : decode cX0_isExcluded 14 = .ok (.iload_n 3, 1) := dk_29 (dk_at dksX0_isExcluded_0 14 rfl rfl)
theorem dX0_isExcluded_15 : decode cX0_isExcluded 15 = .ok (.aload_n 0, 1) := dk_42 (dk_at dksX0_isExcluded_0 15 rfl rfl)
theorem dX0_isExcluded_16 : decode cX0_isExcluded 16 = .ok (.getfield 149, 3) := dk_180 0 149 (dk_at dksX0_isExcluded_0 16 rfl rfl)
theorem dX0_isExcluded_19 : decode cX0_isExcluded 19 = .ok (.iload 4, 2) := dk_21 4 (dk_at dksX0_isExcluded_0 19 rfl rfl)
theorem dX0_isExcluded_21 : decode cX0_isExcluded 21 = .ok (.iaload, 1) := dk_46 (dk_at dksX0_isExcluded_0 21 rfl rfl)
theorem dX0_isExcluded_22 : decode cX0_isExcluded 22 = .ok (.iload_n 1, 1) := dk_27 (dk_at dksX0_isExcluded_0 22 rfl rfl)
theorem dX0_isExcluded_23 : decode cX0_isExcluded 23 = .ok (.if_icmp .ne 18, 3) := dk_160 0 18 (dk_at dksX0_isExcluded_1 0 rfl rfl)
theorem dX0_isExcluded_26 : decode cX0_isExcluded 26 = .ok (.aload_n 0, 1) := dk_42 (dk_at dksX0_isExcluded_1 3 rfl rfl)
theorem dX0_isExcluded_27 : decode cX0_isExcluded 27 = .ok (.getfield 152, 3) := dk_180 0 152 (dk_at dksX0_isExcluded_1 4 rfl rfl)
theorem dX0_isExcluded_30 : decode cX0_isExcluded 30 = .ok (.iload 4, 2) := dk_21 4 (dk_at dksX0_isExcluded_1 7 rfl rfl)
theorem dX0_isExcluded_32 : decode cX0_isExcluded 32 = .ok (.iaload, 1) := dk_46 (dk_at dksX0_isExcluded_1 9 rfl rfl)
theorem dX0_isExcluded_33 : decode cX0_isExcluded 33 = .ok (.iload_n 2, 1) := dk_28 (dk_at dksX0_isExcluded_1 10 rfl rfl)
theorem dX0_isExcluded_34 : decode cX0_isExcluded 34 = .ok (.if_icmp .ne 7, 3) := dk_160 0 7 (dk_at dksX0_isExcluded_1 11 rfl rfl)
theorem dX0_isExcluded_37 : decode cX0_isExcluded 37 = .ok (.iconst 1, 1) := dk_4 (dk_at dksX0_isExcluded_1 14 rfl rfl)
theorem dX0_isExcluded_38 : decode cX0_isExcluded 38 = .ok (.goto 4, 3) := dk_167 0 4 (dk_at dksX0_isExcluded_1 15 rfl rfl)
theorem dX0_isExcluded_41 : decode cX0_isExcluded 41 = .ok (.iconst 0, 1) := dk_3 (dk_at dksX0_isExcluded_1 18 rfl rfl)
theorem dX0_isExcluded_42 : decode cX0_isExcluded 42 = .ok (.ior, 1) := dk_128 (dk_at dksX0_isExcluded_1 19 rfl rfl)
theorem dX0_isExcluded_43 : decode cX0_isExcluded 43 = .ok (.istore_n 3, 1) := dk_62 (dk_at dksX0_isExcluded_1 20 rfl rfl)
theorem dX0_isExcluded_44 : decode cX0_isExcluded 44 = .ok (.iinc 4 1, 3) := dk_132 4 1 (dk_at dksX0_isExcluded_1 21 rfl rfl)
theorem dX0_isExcluded_47 : decode cX0_isExcluded 47 = .ok (.goto (-42), 3) := dk_167 255 214 (dk_at dksX0_isExcluded_2 0 rfl rfl)
theorem dX0_isExcluded_50 : decode cX0_isExcluded 50 = .ok (.iload_n 3, 1) := dk_29 (dk_at dksX0_isExcluded_2 3 rfl rfl)
theorem dX0_isExcluded_51 : decode cX0_isExcluded 51 = .ok (.ireturn, 1) := dk_172 (dk_at dksX0_isExcluded_2 4 rfl rfl)
abbrev cX0_isWhole : ByteArray := prog_1_method_29_code
def yX0_isWhole : MethodName := ⟨RX0, "isWhole", "(LRoleLoom$Role;)Z"⟩
def dkwX0_isWhole_8 : List UInt8 := [132, 2, 1, 167, 255, 159, 4, 172]
abbrev dktX0_isWhole_8 : List UInt8 := dkwX0_isWhole_8 ++ []
def dkwX0_isWhole_7 : List UInt8 := [180, 0, 155, 28, 46, 42, 180, 0, 158, 28, 46, 182, 1, 54, 172, 43, 180, 1, 57, 28, 45, 83]
abbrev dktX0_isWhole_7 : List UInt8 := dkwX0_isWhole_7 ++ dktX0_isWhole_8
def dkwX0_isWhole_6 : List UInt8 := [180, 1, 44, 42, 180, 0, 158, 28, 46, 182, 0, 218, 192, 0, 122, 45, 182, 0, 225, 154, 0, 20, 42, 42]
abbrev dktX0_isWhole_6 : List UInt8 := dkwX0_isWhole_6 ++ dktX0_isWhole_7
def dkwX0_isWhole_5 : List UInt8 := [182, 0, 218, 192, 0, 205, 180, 0, 241, 42, 180, 0, 158, 28, 46, 50, 78, 45, 198, 0, 26, 43]
abbrev dktX0_isWhole_5 : List UInt8 := dkwX0_isWhole_5 ++ dktX0_isWhole_6
def dkwX0_isWhole_4 : List UInt8 := [162, 0, 98, 42, 180, 0, 155, 28, 46, 16, 247, 159, 0, 81, 42, 180, 0, 125, 42, 180, 0, 155, 28, 46]
abbrev dktX0_isWhole_4 : List UInt8 := dkwX0_isWhole_4 ++ dktX0_isWhole_5
def dkwX0_isWhole_3 : List UInt8 := [180, 1, 16, 29, 182, 1, 54, 172, 132, 3, 1, 167, 255, 191, 132, 2, 1, 167, 255, 172, 3, 61, 28, 7]
abbrev dktX0_isWhole_3 : List UInt8 := dkwX0_isWhole_3 ++ dktX0_isWhole_4
def dkwX0_isWhole_2 : List UInt8 := [182, 0, 218, 192, 0, 122, 184, 1, 50, 154, 0, 23, 42, 43, 180, 1, 35, 28, 182, 0, 218, 192, 0, 205]
abbrev dktX0_isWhole_2 : List UInt8 := dkwX0_isWhole_2 ++ dktX0_isWhole_3
def dkwX0_isWhole_1 : List UInt8 := [180, 1, 35, 28, 182, 0, 218, 192, 0, 205, 180, 1, 7, 29, 51, 153, 0, 40, 43, 180, 1, 44, 29]
abbrev dktX0_isWhole_1 : List UInt8 := dkwX0_isWhole_1 ++ dktX0_isWhole_2
def dkwX0_isWhole_0 : List UInt8 := [3, 61, 28, 43, 180, 1, 35, 182, 0, 201, 162, 0, 79, 3, 62, 29, 16, 12, 162, 0, 65, 43]
abbrev dktX0_isWhole_0 : List UInt8 := dkwX0_isWhole_0 ++ dktX0_isWhole_1
theorem dksX0_isWhole_0 : cX0_isWhole.data.toList.drop 0 = dktX0_isWhole_0 := by decide +kernel
theorem dksX0_isWhole_1 : cX0_isWhole.data.toList.drop 22 = dktX0_isWhole_1 := dk_seg dksX0_isWhole_0 22 rfl rfl
theorem dksX0_isWhole_2 : cX0_isWhole.data.toList.drop 45 = dktX0_isWhole_2 := dk_seg dksX0_isWhole_1 23 rfl rfl
theorem dksX0_isWhole_3 : cX0_isWhole.data.toList.drop 69 = dktX0_isWhole_3 := dk_seg dksX0_isWhole_2 24 rfl rfl
theorem dksX0_isWhole_4 : cX0_isWhole.data.toList.drop 93 = dktX0_isWhole_4 := dk_seg dksX0_isWhole_3 24 rfl rfl
theorem dksX0_isWhole_5 : cX0_isWhole.data.toList.drop 117 = dktX0_isWhole_5 := dk_seg dksX0_isWhole_4 24 rfl rfl
theorem dksX0_isWhole_6 : cX0_isWhole.data.toList.drop 139 = dktX0_isWhole_6 := dk_seg dksX0_isWhole_5 22 rfl rfl
theorem dksX0_isWhole_7 : cX0_isWhole.data.toList.drop 163 = dktX0_isWhole_7 := dk_seg dksX0_isWhole_6 24 rfl rfl
theorem dksX0_isWhole_8 : cX0_isWhole.data.toList.drop 185 = dktX0_isWhole_8 := dk_seg dksX0_isWhole_7 22 rfl rfl
theorem dX0_isWhole_0 : decode cX0_isWhole 0 = .ok (.iconst 0, 1) := dk_3 (dk_at dksX0_isWhole_0 0 rfl rfl)
theorem dX0_isWhole_1 : decode cX0_isWhole 1 = .ok (.istore_n 2, 1) := dk_61 (dk_at dksX0_isWhole_0 1 rfl rfl)
theorem dX0_isWhole_2 : decode cX0_isWhole 2 = .ok (.iload_n 2, 1) := dk_28 (dk_at dksX0_isWhole_0 2 rfl rfl)
theorem dX0_isWhole_3 : decode cX0_isWhole 3 = .ok (.aload_n 1, 1) := dk_43 (dk_at dksX0_isWhole_0 3 rfl rfl)
theorem dX0_isWhole_4 : decode cX0_isWhole 4 = .ok (.getfield 291, 3) := dk_180 1 35 (dk_at dksX0_isWhole_0 4 rfl rfl)
theorem dX0_isWhole_7 : decode cX0_isWhole 7 = .ok (.invokevirtual 201, 3) := dk_182 0 201 (dk_at dksX0_isWhole_0 7 rfl rfl)
theorem dX0_isWhole_10 : decode cX0_isWhole 10 = .ok (.if_icmp .ge 79, 3) := dk_162 0 79 (dk_at dksX0_isWhole_0 10 rfl rfl)
theorem dX0_isWhole_13 : decode cX0_isWhole 13 = .ok (.iconst 0, 1) := dk_3 (dk_at dksX0_isWhole_0 13 rfl rfl)
theorem dX0_isWhole_14 : decode cX0_isWhole 14 = .ok (.istore_n 3, 1) := dk_62 (dk_at dksX0_isWhole_0 14 rfl rfl)
theorem dX0_isWhole_15 : decode cX0_isWhole 15 = .ok (.iload_n 3, 1) := dk_29 (dk_at dksX0_isWhole_0 15 rfl rfl)
theorem dX0_isWhole_16 : decode cX0_isWhole 16 = .ok (.bipush 12, 2) := dk_16 12 (dk_at dksX0_isWhole_0 16 rfl rfl)
theorem dX0_isWhole_18 : decode cX0_isWhole 18 = .ok (.if_icmp .ge 65, 3) := dk_162 0 65 (dk_at dksX0_isWhole_0 18 rfl rfl)
theorem dX0_isWhole_21 : decode cX0_isWhole 21 = .ok (.aload_n 1, 1) := dk_43 (dk_at dksX0_isWhole_0 21 rfl rfl)
theorem dX0_isWhole_22 : decode cX0_isWhole 22 = .ok (.getfield 291, 3) := dk_180 1 35 (dk_at dksX0_isWhole_1 0 rfl rfl)
theorem dX0_isWhole_25 : decode cX0_isWhole 25 = .ok (.iload_n 2, 1) := dk_28 (dk_at dksX0_isWhole_1 3 rfl rfl)
theorem dX0_isWhole_26 : decode cX0_isWhole 26 = .ok (.invokevirtual 218, 3) := dk_182 0 218 (dk_at dksX0_isWhole_1 4 rfl rfl)
theorem dX0_isWhole_29 : decode cX0_isWhole 29 = .ok (.checkcast 205, 3) := dk_192 0 205 (dk_at dksX0_isWhole_1 7 rfl rfl)
theorem dX0_isWhole_32 : decode cX0_isWhole 32 = .ok (.getfield 263, 3) := dk_180 1 7 (dk_at dksX0_isWhole_1 10 rfl rfl)
theorem dX0_isWhole_35 : decode cX0_isWhole 35 = .ok (.iload_n 3, 1) := dk_29 (dk_at dksX0_isWhole_1 13 rfl rfl)
theorem dX0_isWhole_36 : decode cX0_isWhole 36 = .ok (.baload, 1) := dk_51 (dk_at dksX0_isWhole_1 14 rfl rfl)
theorem dX0_isWhole_37 : decode cX0_isWhole 37 = .ok (.ifCond .eq 40, 3) := dk_153 0 40 (dk_at dksX0_isWhole_1 15 rfl rfl)
theorem dX0_isWhole_40 : decode cX0_isWhole 40 = .ok (.aload_n 1, 1) := dk_43 (dk_at dksX0_isWhole_1 18 rfl rfl)
theorem dX0_isWhole_41 : decode cX0_isWhole 41 = .ok (.getfield 300, 3) := dk_180 1 44 (dk_at dksX0_isWhole_1 19 rfl rfl)
theorem dX0_isWhole_44 : decode cX0_isWhole 44 = .ok (.iload_n 3, 1) := dk_29 (dk_at dksX0_isWhole_1 22 rfl rfl)
theorem dX0_isWhole_45 : decode cX0_isWhole 45 = .ok (.invokevirtual 218, 3) := dk_182 0 218 (dk_at dksX0_isWhole_2 0 rfl rfl)
theorem dX0_isWhole_48 : decode cX0_isWhole 48 = .ok (.checkcast 122, 3) := dk_192 0 122 (dk_at dksX0_isWhole_2 3 rfl rfl)
theorem dX0_isWhole_51 : decode cX0_isWhole 51 = .ok (.invokestatic 306, 3) := dk_184 1 50 (dk_at dksX0_isWhole_2 6 rfl rfl)
theorem dX0_isWhole_54 : decode cX0_isWhole 54 = .ok (.ifCond .ne 23, 3) := dk_154 0 23 (dk_at dksX0_isWhole_2 9 rfl rfl)
theorem dX0_isWhole_57 : decode cX0_isWhole 57 = .ok (.aload_n 0, 1) := dk_42 (dk_at dksX0_isWhole_2 12 rfl rfl)
theorem dX0_isWhole_58 : decode cX0_isWhole 58 = .ok (.aload_n 1, 1) := dk_43 (dk_at dksX0_isWhole_2 13 rfl rfl)
theorem dX0_isWhole_59 : decode cX0_isWhole 59 = .ok (.getfield 291, 3) := dk_180 1 35 (dk_at dksX0_isWhole_2 14 rfl rfl)
theorem dX0_isWhole_62 : decode cX0_isWhole 62 = .ok (.iload_n 2, 1) := dk_28 (dk_at dksX0_isWhole_2 17 rfl rfl)
theorem dX0_isWhole_63 : decode cX0_isWhole 63 = .ok (.invokevirtual 218, 3) := dk_182 0 218 (dk_at dksX0_isWhole_2 18 rfl rfl)
theorem dX0_isWhole_66 : decode cX0_isWhole 66 = .ok (.checkcast 205, 3) := dk_192 0 205 (dk_at dksX0_isWhole_2 21 rfl rfl)
theorem dX0_isWhole_69 : decode cX0_isWhole 69 = .ok (.getfield 272, 3) := dk_180 1 16 (dk_at dksX0_isWhole_3 0 rfl rfl)
theorem dX0_isWhole_72 : decode cX0_isWhole 72 = .ok (.iload_n 3, 1) := dk_29 (dk_at dksX0_isWhole_3 3 rfl rfl)
theorem dX0_isWhole_73 : decode cX0_isWhole 73 = .ok (.invokevirtual 310, 3) := dk_182 1 54 (dk_at dksX0_isWhole_3 4 rfl rfl)
theorem dX0_isWhole_76 : decode cX0_isWhole 76 = .ok (.ireturn, 1) := dk_172 (dk_at dksX0_isWhole_3 7 rfl rfl)
theorem dX0_isWhole_77 : decode cX0_isWhole 77 = .ok (.iinc 3 1, 3) := dk_132 3 1 (dk_at dksX0_isWhole_3 8 rfl rfl)
theorem dX0_isWhole_80 : decode cX0_isWhole 80 = .ok (.goto (-65), 3) := dk_167 255 191 (dk_at dksX0_isWhole_3 11 rfl rfl)
theorem dX0_isWhole_83 : decode cX0_isWhole 83 = .ok (.iinc 2 1, 3) := dk_132 2 1 (dk_at dksX0_isWhole_3 14 rfl rfl)
theorem dX0_isWhole_86 : decode cX0_isWhole 86 = .ok (.goto (-84), 3) := dk_167 255 172 (dk_at dksX0_isWhole_3 17 rfl rfl)
theorem dX0_isWhole_89 : decode cX0_isWhole 89 = .ok (.iconst 0, 1) := dk_3 (dk_at dksX0_isWhole_3 20 rfl rfl)
theorem dX0_isWhole_90 : decode cX0_isWhole 90 = .ok (.istore_n 2, 1) := dk_61 (dk_at dksX0_isWhole_3 21 rfl rfl)
theorem dX0_isWhole_91 : decode cX0_isWhole 91 = .ok (.iload_n 2, 1) := dk_28 (dk_at dksX0_isWhole_3 22 rfl rfl)
theorem dX0_isWhole_92 : decode cX0_isWhole 92 = .ok (.iconst 4, 1) := dk_7 (dk_at dksX0_isWhole_3 23 rfl rfl)
theorem dX0_isWhole_93 : decode cX0_isWhole 93 = .ok (.if_icmp .ge 98, 3) := dk_162 0 98 (dk_at dksX0_isWhole_4 0 rfl rfl)
theorem dX0_isWhole_96 : decode cX0_isWhole 96 = .ok (.aload_n 0, 1) := dk_42 (dk_at dksX0_isWhole_4 3 rfl rfl)
theorem dX0_isWhole_97 : decode cX0_isWhole 97 = .ok (.getfield 155, 3) := dk_180 0 155 (dk_at dksX0_isWhole_4 4 rfl rfl)
theorem dX0_isWhole_100 : decode cX0_isWhole 100 = .ok (.iload_n 2, 1) := dk_28 (dk_at dksX0_isWhole_4 7 rfl rfl)
theorem dX0_isWhole_101 : decode cX0_isWhole 101 = .ok (.iaload, 1) := dk_46 (dk_at dksX0_isWhole_4 8 rfl rfl)
theorem dX0_isWhole_102 : decode cX0_isWhole 102 = .ok (.bipush (-9), 2) := dk_16 247 (dk_at dksX0_isWhole_4 9 rfl rfl)
theorem dX0_isWhole_104 : decode cX0_isWhole 104 = .ok (.if_icmp .eq 81, 3) := dk_159 0 81 (dk_at dksX0_isWhole_4 11 rfl rfl)
theorem dX0_isWhole_107 : decode cX0_isWhole 107 = .ok (.aload_n 0, 1) := dk_42 (dk_at dksX0_isWhole_4 14 rfl rfl)
theorem dX0_isWhole_108 : decode cX0_isWhole 108 = .ok (.getfield 125, 3) := dk_180 0 125 (dk_at dksX0_isWhole_4 15 rfl rfl)
theorem dX0_isWhole_111 : decode cX0_isWhole 111 = .ok (.aload_n 0, 1) := dk_42 (dk_at dksX0_isWhole_4 18 rfl rfl)
theorem dX0_isWhole_112 : decode cX0_isWhole 112 = .ok (.getfield 155, 3) := dk_180 0 155 (dk_at dksX0_isWhole_4 19 rfl rfl)
theorem dX0_isWhole_115 : decode cX0_isWhole 115 = .ok (.iload_n 2, 1) := dk_28 (dk_at dksX0_isWhole_4 22 rfl rfl)
theorem dX0_isWhole_116 : decode cX0_isWhole 116 = .ok (.iaload, 1) := dk_46 (dk_at dksX0_isWhole_4 23 rfl rfl)
theorem dX0_isWhole_117 : decode cX0_isWhole 117 = .ok (.invokevirtual 218, 3) := dk_182 0 218 (dk_at dksX0_isWhole_5 0 rfl rfl)
theorem dX0_isWhole_120 : decode cX0_isWhole 120 = .ok (.checkcast 205, 3) := dk_192 0 205 (dk_at dksX0_isWhole_5 3 rfl rfl)
theorem dX0_isWhole_123 : decode cX0_isWhole 123 = .ok (.getfield 241, 3) := dk_180 0 241 (dk_at dksX0_isWhole_5 6 rfl rfl)
theorem dX0_isWhole_126 : decode cX0_isWhole 126 = .ok (.aload_n 0, 1) := dk_42 (dk_at dksX0_isWhole_5 9 rfl rfl)
theorem dX0_isWhole_127 : decode cX0_isWhole 127 = .ok (.getfield 158, 3) := dk_180 0 158 (dk_at dksX0_isWhole_5 10 rfl rfl)
theorem dX0_isWhole_130 : decode cX0_isWhole 130 = .ok (.iload_n 2, 1) := dk_28 (dk_at dksX0_isWhole_5 13 rfl rfl)
theorem dX0_isWhole_131 : decode cX0_isWhole 131 = .ok (.iaload, 1) := dk_46 (dk_at dksX0_isWhole_5 14 rfl rfl)
theorem dX0_isWhole_132 : decode cX0_isWhole 132 = .ok (.aaload, 1) := dk_50 (dk_at dksX0_isWhole_5 15 rfl rfl)
theorem dX0_isWhole_133 : decode cX0_isWhole 133 = .ok (.astore_n 3, 1) := dk_78 (dk_at dksX0_isWhole_5 16 rfl rfl)
theorem dX0_isWhole_134 : decode cX0_isWhole 134 = .ok (.aload_n 3, 1) := dk_45 (dk_at dksX0_isWhole_5 17 rfl rfl)
theorem dX0_isWhole_135 : decode cX0_isWhole 135 = .ok (.ifnull 26, 3) := dk_198 0 26 (dk_at dksX0_isWhole_5 18 rfl rfl)
theorem dX0_isWhole_138 : decode cX0_isWhole 138 = .ok (.aload_n 1, 1) := dk_43 (dk_at dksX0_isWhole_5 21 rfl rfl)
theorem dX0_isWhole_139 : decode cX0_isWhole 139 = .ok (.getfield 300, 3) := dk_180 1 44 (dk_at dksX0_isWhole_6 0 rfl rfl)
theorem dX0_isWhole_142 : decode cX0_isWhole 142 = .ok (.aload_n 0, 1) := dk_42 (dk_at dksX0_isWhole_6 3 rfl rfl)
theorem dX0_isWhole_143 : decode cX0_isWhole 143 = .ok (.getfield 158, 3) := dk_180 0 158 (dk_at dksX0_isWhole_6 4 rfl rfl)
theorem dX0_isWhole_146 : decode cX0_isWhole 146 = .ok (.iload_n 2, 1) := dk_28 (dk_at dksX0_isWhole_6 7 rfl rfl)
theorem dX0_isWhole_147 : decode cX0_isWhole 147 = .ok (.iaload, 1) := dk_46 (dk_at dksX0_isWhole_6 8 rfl rfl)
theorem dX0_isWhole_148 : decode cX0_isWhole 148 = .ok (.invokevirtual 218, 3) := dk_182 0 218 (dk_at dksX0_isWhole_6 9 rfl rfl)
theorem dX0_isWhole_151 : decode cX0_isWhole 151 = .ok (.checkcast 122, 3) := dk_192 0 122 (dk_at dksX0_isWhole_6 12 rfl rfl)
theorem dX0_isWhole_154 : decode cX0_isWhole 154 = .ok (.aload_n 3, 1) := dk_45 (dk_at dksX0_isWhole_6 15 rfl rfl)
theorem dX0_isWhole_155 : decode cX0_isWhole 155 = .ok (.invokevirtual 225, 3) := dk_182 0 225 (dk_at dksX0_isWhole_6 16 rfl rfl)
theorem dX0_isWhole_158 : decode cX0_isWhole 158 = .ok (.ifCond .ne 20, 3) := dk_154 0 20 (dk_at dksX0_isWhole_6 19 rfl rfl)
theorem dX0_isWhole_161 : decode cX0_isWhole 161 = .ok (.aload_n 0, 1) := dk_42 (dk_at dksX0_isWhole_6 22 rfl rfl)
theorem dX0_isWhole_162 : decode cX0_isWhole 162 = .ok (.aload_n 0, 1) := dk_42 (dk_at dksX0_isWhole_6 23 rfl rfl)
theorem dX0_isWhole_163 : decode cX0_isWhole 163 = .ok (.getfield 155, 3) := dk_180 0 155 (dk_at dksX0_isWhole_7 0 rfl rfl)
theorem dX0_isWhole_166 : decode cX0_isWhole 166 = .ok (.iload_n 2, 1) := dk_28 (dk_at dksX0_isWhole_7 3 rfl rfl)
theorem dX0_isWhole_167 : decode cX0_isWhole 167 = .ok (.iaload, 1) := dk_46 (dk_at dksX0_isWhole_7 4 rfl rfl)
theorem dX0_isWhole_168 : decode cX0_isWhole 168 = .ok (.aload_n 0, 1) := dk_42 (dk_at dksX0_isWhole_7 5 rfl rfl)
theorem dX0_isWhole_169 : decode cX0_isWhole 169 = .ok (.getfield 158, 3) := dk_180 0 158 (dk_at dksX0_isWhole_7 6 rfl rfl)
theorem dX0_isWhole_172 : decode cX0_isWhole 172 = .ok (.iload_n 2, 1) := dk_28 (dk_at dksX0_isWhole_7 9 rfl rfl)
theorem dX0_isWhole_173 : decode cX0_isWhole 173 = .ok (.iaload, 1) := dk_46 (dk_at dksX0_isWhole_7 10 rfl rfl)
theorem dX0_isWhole_174 : decode cX0_isWhole 174 = .ok (.invokevirtual 310, 3) := dk_182 1 54 (dk_at dksX0_isWhole_7 11 rfl rfl)
theorem dX0_isWhole_177 : decode cX0_isWhole 177 = .ok (.ireturn, 1) := dk_172 (dk_at dksX0_isWhole_7 14 rfl rfl)
theorem dX0_isWhole_178 : decode cX0_isWhole 178 = .ok (.aload_n 1, 1) := dk_43 (dk_at dksX0_isWhole_7 15 rfl rfl)
theorem dX0_isWhole_179 : decode cX0_isWhole 179 = .ok (.getfield 313, 3) := dk_180 1 57 (dk_at dksX0_isWhole_7 16 rfl rfl)
theorem dX0_isWhole_182 : decode cX0_isWhole 182 = .ok (.iload_n 2, 1) := dk_28 (dk_at dksX0_isWhole_7 19 rfl rfl)
theorem dX0_isWhole_183 : decode cX0_isWhole 183 = .ok (.aload_n 3, 1) := dk_45 (dk_at dksX0_isWhole_7 20 rfl rfl)
theorem dX0_isWhole_184 : decode cX0_isWhole 184 = .ok (.aastore, 1) := dk_83 (dk_at dksX0_isWhole_7 21 rfl rfl)
theorem dX0_isWhole_185 : decode cX0_isWhole 185 = .ok (.iinc 2 1, 3) := dk_132 2 1 (dk_at dksX0_isWhole_8 0 rfl rfl)
theorem dX0_isWhole_188 : decode cX0_isWhole 188 = .ok (.goto (-97), 3) := dk_167 255 159 (dk_at dksX0_isWhole_8 3 rfl rfl)
theorem dX0_isWhole_191 : decode cX0_isWhole 191 = .ok (.iconst 1, 1) := dk_4 (dk_at dksX0_isWhole_8 6 rfl rfl)
theorem dX0_isWhole_192 : decode cX0_isWhole 192 = .ok (.ireturn, 1) := dk_172 (dk_at dksX0_isWhole_8 7 rfl rfl)
abbrev cX0_hasGiver : ByteArray := prog_1_method_28_code
def yX0_hasGiver : MethodName := ⟨RX0, "hasGiver", "(Ljava/util/ArrayList;)Z"⟩
def dkwX0_hasGiver_1 : List UInt8 := [154, 0, 7, 4, 167, 0, 4, 3, 128, 60, 132, 2, 1, 167, 255, 223, 27, 172]
abbrev dktX0_hasGiver_1 : List UInt8 := dkwX0_hasGiver_1 ++ []
def dkwX0_hasGiver_0 : List UInt8 := [3, 60, 3, 61, 28, 42, 182, 0, 201, 162, 0, 31, 27, 42, 28, 182, 0, 218, 192, 0, 24, 180, 1, 47]
abbrev dktX0_hasGiver_0 : List UInt8 := dkwX0_hasGiver_0 ++ dktX0_hasGiver_1
theorem dksX0_hasGiver_0 : cX0_hasGiver.data.toList.drop 0 = dktX0_hasGiver_0 := by decide +kernel
theorem dksX0_hasGiver_1 : cX0_hasGiver.data.toList.drop 24 = dktX0_hasGiver_1 := dk_seg dksX0_hasGiver_0 24 rfl rfl
theorem dX0_hasGiver_0 : decode cX0_hasGiver 0 = .ok (.iconst 0, 1) := dk_3 (dk_at dksX0_hasGiver_0 0 rfl rfl)
theorem dX0_hasGiver_1 : decode cX0_hasGiver 1 = .ok (.istore_n 1, 1) := dk_60 (dk_at dksX0_hasGiver_0 1 rfl rfl)
theorem dX0_hasGiver_2 : decode cX0_hasGiver 2 = .ok (.iconst 0, 1) := dk_3 (dk_at dksX0_hasGiver_0 2 rfl rfl)
theorem dX0_hasGiver_3 : decode cX0_hasGiver 3 = .ok (.istore_n 2, 1) := dk_61 (dk_at dksX0_hasGiver_0 3 rfl rfl)
theorem dX0_hasGiver_4 : decode cX0_hasGiver 4 = .ok (.iload_n 2, 1) := dk_28 (dk_at dksX0_hasGiver_0 4 rfl rfl)
theorem dX0_hasGiver_5 : decode cX0_hasGiver 5 = .ok (.aload_n 0, 1) := dk_42 (dk_at dksX0_hasGiver_0 5 rfl rfl)
theorem dX0_hasGiver_6 : decode cX0_hasGiver 6 = .ok (.invokevirtual 201, 3) := dk_182 0 201 (dk_at dksX0_hasGiver_0 6 rfl rfl)
theorem dX0_hasGiver_9 : decode cX0_hasGiver 9 = .ok (.if_icmp .ge 31, 3) := dk_162 0 31 (dk_at dksX0_hasGiver_0 9 rfl rfl)
theorem dX0_hasGiver_12 : decode cX0_hasGiver 12 = .ok (.iload_n 1, 1) := dk_27 (dk_at dksX0_hasGiver_0 12 rfl rfl)
theorem dX0_hasGiver_13 : decode cX0_hasGiver 13 = .ok (.aload_n 0, 1) := dk_42 (dk_at dksX0_hasGiver_0 13 rfl rfl)
theorem dX0_hasGiver_14 : decode cX0_hasGiver 14 = .ok (.iload_n 2, 1) := dk_28 (dk_at dksX0_hasGiver_0 14 rfl rfl)
theorem dX0_hasGiver_15 : decode cX0_hasGiver 15 = .ok (.invokevirtual 218, 3) := dk_182 0 218 (dk_at dksX0_hasGiver_0 15 rfl rfl)
theorem dX0_hasGiver_18 : decode cX0_hasGiver 18 = .ok (.checkcast 24, 3) := dk_192 0 24 (dk_at dksX0_hasGiver_0 18 rfl rfl)
theorem dX0_hasGiver_21 : decode cX0_hasGiver 21 = .ok (.getfield 303, 3) := dk_180 1 47 (dk_at dksX0_hasGiver_0 21 rfl rfl)
theorem dX0_hasGiver_24 : decode cX0_hasGiver 24 = .ok (.ifCond .ne 7, 3) := dk_154 0 7 (dk_at dksX0_hasGiver_1 0 rfl rfl)
theorem dX0_hasGiver_27 : decode cX0_hasGiver 27 = .ok (.iconst 1, 1) := dk_4 (dk_at dksX0_hasGiver_1 3 rfl rfl)
theorem dX0_hasGiver_28 : decode cX0_hasGiver 28 = .ok (.goto 4, 3) := dk_167 0 4 (dk_at dksX0_hasGiver_1 4 rfl rfl)
theorem dX0_hasGiver_31 : decode cX0_hasGiver 31 = .ok (.iconst 0, 1) := dk_3 (dk_at dksX0_hasGiver_1 7 rfl rfl)
theorem dX0_hasGiver_32 : decode cX0_hasGiver 32 = .ok (.ior, 1) := dk_128 (dk_at dksX0_hasGiver_1 8 rfl rfl)
theorem dX0_hasGiver_33 : decode cX0_hasGiver 33 = .ok (.istore_n 1, 1) := dk_60 (dk_at dksX0_hasGiver_1 9 rfl rfl)
theorem dX0_hasGiver_34 : decode cX0_hasGiver 34 = .ok (.iinc 2 1, 3) := dk_132 2 1 (dk_at dksX0_hasGiver_1 10 rfl rfl)
theorem dX0_hasGiver_37 : decode cX0_hasGiver 37 = .ok (.goto (-33), 3) := dk_167 255 223 (dk_at dksX0_hasGiver_1 13 rfl rfl)
theorem dX0_hasGiver_40 : decode cX0_hasGiver 40 = .ok (.iload_n 1, 1) := dk_27 (dk_at dksX0_hasGiver_1 16 rfl rfl)
theorem dX0_hasGiver_41 : decode cX0_hasGiver 41 = .ok (.ireturn, 1) := dk_172 (dk_at dksX0_hasGiver_1 17 rfl rfl)
abbrev cX0_lacks : ByteArray := prog_1_method_30_code
def yX0_lacks : MethodName := ⟨RX0, "lacks", "(II)Z"⟩
def dkwX0_lacks_0 : List UInt8 := [42, 27, 181, 0, 171, 42, 28, 181, 0, 174, 3, 172]
abbrev dktX0_lacks_0 : List UInt8 := dkwX0_lacks_0 ++ []
theorem dksX0_lacks_0 : cX0_lacks.data.toList.drop 0 = dktX0_lacks_0 := by decide +kernel
theorem dX0_lacks_0 : decode cX0_lacks 0 = .ok (.aload_n 0, 1) := dk_42 (dk_at dksX0_lacks_0 0 rfl rfl)
theorem dX0_lacks_1 : decode cX0_lacks 1 = .ok (.iload_n 1, 1) := dk_27 (dk_at dksX0_lacks_0 1 rfl rfl)
theorem dX0_lacks_2 : decode cX0_lacks 2 = .ok (.putfield 171, 3) := dk_181 0 171 (dk_at dksX0_lacks_0 2 rfl rfl)
theorem dX0_lacks_5 : decode cX0_lacks 5 = .ok (.aload_n 0, 1) := dk_42 (dk_at dksX0_lacks_0 5 rfl rfl)
theorem dX0_lacks_6 : decode cX0_lacks 6 = .ok (.iload_n 2, 1) := dk_28 (dk_at dksX0_lacks_0 6 rfl rfl)
theorem dX0_lacks_7 : decode cX0_lacks 7 = .ok (.putfield 174, 3) := dk_181 0 174 (dk_at dksX0_lacks_0 7 rfl rfl)
theorem dX0_lacks_10 : decode cX0_lacks 10 = .ok (.iconst 0, 1) := dk_3 (dk_at dksX0_lacks_0 10 rfl rfl)
theorem dX0_lacks_11 : decode cX0_lacks 11 = .ok (.ireturn, 1) := dk_172 (dk_at dksX0_lacks_0 11 rfl rfl)
abbrev cX0_emptyDraft : ByteArray := prog_1_method_17_code
def yX0_emptyDraft : MethodName := ⟨RX0, "emptyDraft", "()V"⟩
def dkwX0_emptyDraft_1 : List UInt8 := [16, 247, 79, 132, 1, 1, 167, 255, 240, 177]
abbrev dktX0_emptyDraft_1 : List UInt8 := dkwX0_emptyDraft_1 ++ []
def dkwX0_emptyDraft_0 : List UInt8 := [42, 180, 0, 146, 182, 1, 13, 42, 3, 181, 1, 10, 3, 60, 27, 7, 162, 0, 17, 42, 180, 0, 155, 27]
abbrev dktX0_emptyDraft_0 : List UInt8 := dkwX0_emptyDraft_0 ++ dktX0_emptyDraft_1
theorem dksX0_emptyDraft_0 : cX0_emptyDraft.data.toList.drop 0 = dktX0_emptyDraft_0 := by decide +kernel
theorem dksX0_emptyDraft_1 : cX0_emptyDraft.data.toList.drop 24 = dktX0_emptyDraft_1 := dk_seg dksX0_emptyDraft_0 24 rfl rfl
theorem dX0_emptyDraft_0 : decode cX0_emptyDraft 0 = .ok (.aload_n 0, 1) := dk_42 (dk_at dksX0_emptyDraft_0 0 rfl rfl)
theorem dX0_emptyDraft_1 : decode cX0_emptyDraft 1 = .ok (.getfield 146, 3) := dk_180 0 146 (dk_at dksX0_emptyDraft_0 1 rfl rfl)
theorem dX0_emptyDraft_4 : decode cX0_emptyDraft 4 = .ok (.invokevirtual 269, 3) := dk_182 1 13 (dk_at dksX0_emptyDraft_0 4 rfl rfl)
theorem dX0_emptyDraft_7 : decode cX0_emptyDraft 7 = .ok (.aload_n 0, 1) := dk_42 (dk_at dksX0_emptyDraft_0 7 rfl rfl)
theorem dX0_emptyDraft_8 : decode cX0_emptyDraft 8 = .ok (.iconst 0, 1) := dk_3 (dk_at dksX0_emptyDraft_0 8 rfl rfl)
theorem dX0_emptyDraft_9 : decode cX0_emptyDraft 9 = .ok (.putfield 266, 3) := dk_181 1 10 (dk_at dksX0_emptyDraft_0 9 rfl rfl)
theorem dX0_emptyDraft_12 : decode cX0_emptyDraft 12 = .ok (.iconst 0, 1) := dk_3 (dk_at dksX0_emptyDraft_0 12 rfl rfl)
theorem dX0_emptyDraft_13 : decode cX0_emptyDraft 13 = .ok (.istore_n 1, 1) := dk_60 (dk_at dksX0_emptyDraft_0 13 rfl rfl)
theorem dX0_emptyDraft_14 : decode cX0_emptyDraft 14 = .ok (.iload_n 1, 1) := dk_27 (dk_at dksX0_emptyDraft_0 14 rfl rfl)
theorem dX0_emptyDraft_15 : decode cX0_emptyDraft 15 = .ok (.iconst 4, 1) := dk_7 (dk_at dksX0_emptyDraft_0 15 rfl rfl)
theorem dX0_emptyDraft_16 : decode cX0_emptyDraft 16 = .ok (.if_icmp .ge 17, 3) := dk_162 0 17 (dk_at dksX0_emptyDraft_0 16 rfl rfl)
theorem dX0_emptyDraft_19 : decode cX0_emptyDraft 19 = .ok (.aload_n 0, 1) := dk_42 (dk_at dksX0_emptyDraft_0 19 rfl rfl)
theorem dX0_emptyDraft_20 : decode cX0_emptyDraft 20 = .ok (.getfield 155, 3) := dk_180 0 155 (dk_at dksX0_emptyDraft_0 20 rfl rfl)
theorem dX0_emptyDraft_23 : decode cX0_emptyDraft 23 = .ok (.iload_n 1, 1) := dk_27 (dk_at dksX0_emptyDraft_0 23 rfl rfl)
theorem dX0_emptyDraft_24 : decode cX0_emptyDraft 24 = .ok (.bipush (-9), 2) := dk_16 247 (dk_at dksX0_emptyDraft_1 0 rfl rfl)
theorem dX0_emptyDraft_26 : decode cX0_emptyDraft 26 = .ok (.iastore, 1) := dk_79 (dk_at dksX0_emptyDraft_1 2 rfl rfl)
theorem dX0_emptyDraft_27 : decode cX0_emptyDraft 27 = .ok (.iinc 1 1, 3) := dk_132 1 1 (dk_at dksX0_emptyDraft_1 3 rfl rfl)
theorem dX0_emptyDraft_30 : decode cX0_emptyDraft 30 = .ok (.goto (-16), 3) := dk_167 255 240 (dk_at dksX0_emptyDraft_1 6 rfl rfl)
theorem dX0_emptyDraft_33 : decode cX0_emptyDraft 33 = .ok (.return_, 1) := dk_177 (dk_at dksX0_emptyDraft_1 9 rfl rfl)
abbrev cX0_ring : ByteArray := prog_1_method_33_code
def yX0_ring : MethodName := ⟨RX0, "ring", "(I)I"⟩
def dkwX0_ring_1 : List UInt8 := [16, 247, 172]
abbrev dktX0_ring_1 : List UInt8 := dkwX0_ring_1 ++ []
def dkwX0_ring_0 : List UInt8 := [27, 3, 42, 180, 1, 29, 4, 100, 184, 0, 45, 153, 0, 12, 42, 180, 0, 168, 27, 46, 167, 0, 5]
abbrev dktX0_ring_0 : List UInt8 := dkwX0_ring_0 ++ dktX0_ring_1
theorem dksX0_ring_0 : cX0_ring.data.toList.drop 0 = dktX0_ring_0 := by decide +kernel
theorem dksX0_ring_1 : cX0_ring.data.toList.drop 23 = dktX0_ring_1 := dk_seg dksX0_ring_0 23 rfl rfl
theorem dX0_ring_0 : decode cX0_ring 0 = .ok (.iload_n 1, 1) := dk_27 (dk_at dksX0_ring_0 0 rfl rfl)
theorem dX0_ring_1 : decode cX0_ring 1 = .ok (.iconst 0, 1) := dk_3 (dk_at dksX0_ring_0 1 rfl rfl)
theorem dX0_ring_2 : decode cX0_ring 2 = .ok (.aload_n 0, 1) := dk_42 (dk_at dksX0_ring_0 2 rfl rfl)
theorem dX0_ring_3 : decode cX0_ring 3 = .ok (.getfield 285, 3) := dk_180 1 29 (dk_at dksX0_ring_0 3 rfl rfl)
theorem dX0_ring_6 : decode cX0_ring 6 = .ok (.iconst 1, 1) := dk_4 (dk_at dksX0_ring_0 6 rfl rfl)
theorem dX0_ring_7 : decode cX0_ring 7 = .ok (.isub, 1) := dk_100 (dk_at dksX0_ring_0 7 rfl rfl)
theorem dX0_ring_8 : decode cX0_ring 8 = .ok (.invokestatic 45, 3) := dk_184 0 45 (dk_at dksX0_ring_0 8 rfl rfl)
theorem dX0_ring_11 : decode cX0_ring 11 = .ok (.ifCond .eq 12, 3) := dk_153 0 12 (dk_at dksX0_ring_0 11 rfl rfl)
theorem dX0_ring_14 : decode cX0_ring 14 = .ok (.aload_n 0, 1) := dk_42 (dk_at dksX0_ring_0 14 rfl rfl)
theorem dX0_ring_15 : decode cX0_ring 15 = .ok (.getfield 168, 3) := dk_180 0 168 (dk_at dksX0_ring_0 15 rfl rfl)
theorem dX0_ring_18 : decode cX0_ring 18 = .ok (.iload_n 1, 1) := dk_27 (dk_at dksX0_ring_0 18 rfl rfl)
theorem dX0_ring_19 : decode cX0_ring 19 = .ok (.iaload, 1) := dk_46 (dk_at dksX0_ring_0 19 rfl rfl)
theorem dX0_ring_20 : decode cX0_ring 20 = .ok (.goto 5, 3) := dk_167 0 5 (dk_at dksX0_ring_0 20 rfl rfl)
theorem dX0_ring_23 : decode cX0_ring 23 = .ok (.bipush (-9), 2) := dk_16 247 (dk_at dksX0_ring_1 0 rfl rfl)
theorem dX0_ring_25 : decode cX0_ring 25 = .ok (.ireturn, 1) := dk_172 (dk_at dksX0_ring_1 2 rfl rfl)
abbrev cX0_lacks_2 : ByteArray := prog_1_method_34_code
def yX0_lacks_2 : MethodName := ⟨RX0, "lacks", "(I)I"⟩
def dkwX0_lacks_2_1 : List UInt8 := [172]
abbrev dktX0_lacks_2_1 : List UInt8 := dkwX0_lacks_2_1 ++ []
def dkwX0_lacks_2_0 : List UInt8 := [27, 154, 0, 10, 42, 180, 0, 171, 167, 0, 16, 27, 4, 160, 0, 10, 42, 180, 0, 174, 167, 0, 4, 2]
abbrev dktX0_lacks_2_0 : List UInt8 := dkwX0_lacks_2_0 ++ dktX0_lacks_2_1
theorem dksX0_lacks_2_0 : cX0_lacks_2.data.toList.drop 0 = dktX0_lacks_2_0 := by decide +kernel
theorem dksX0_lacks_2_1 : cX0_lacks_2.data.toList.drop 24 = dktX0_lacks_2_1 := dk_seg dksX0_lacks_2_0 24 rfl rfl
theorem dX0_lacks_2_0 : decode cX0_lacks_2 0 = .ok (.iload_n 1, 1) := dk_27 (dk_at dksX0_lacks_2_0 0 rfl rfl)
theorem dX0_lacks_2_1 : decode cX0_lacks_2 1 = .ok (.ifCond .ne 10, 3) := dk_154 0 10 (dk_at dksX0_lacks_2_0 1 rfl rfl)
theorem dX0_lacks_2_4 : decode cX0_lacks_2 4 = .ok (.aload_n 0, 1) := dk_42 (dk_at dksX0_lacks_2_0 4 rfl rfl)
theorem dX0_lacks_2_5 : decode cX0_lacks_2 5 = .ok (.getfield 171, 3) := dk_180 0 171 (dk_at dksX0_lacks_2_0 5 rfl rfl)
theorem dX0_lacks_2_8 : decode cX0_lacks_2 8 = .ok (.goto 16, 3) := dk_167 0 16 (dk_at dksX0_lacks_2_0 8 rfl rfl)
theorem dX0_lacks_2_11 : decode cX0_lacks_2 11 = .ok (.iload_n 1, 1) := dk_27 (dk_at dksX0_lacks_2_0 11 rfl rfl)
theorem dX0_lacks_2_12 : decode cX0_lacks_2 12 = .ok (.iconst 1, 1) := dk_4 (dk_at dksX0_lacks_2_0 12 rfl rfl)
theorem dX0_lacks_2_13 : decode cX0_lacks_2 13 = .ok (.if_icmp .ne 10, 3) := dk_160 0 10 (dk_at dksX0_lacks_2_0 13 rfl rfl)
theorem dX0_lacks_2_16 : decode cX0_lacks_2 16 = .ok (.aload_n 0, 1) := dk_42 (dk_at dksX0_lacks_2_0 16 rfl rfl)
theorem dX0_lacks_2_17 : decode cX0_lacks_2 17 = .ok (.getfield 174, 3) := dk_180 0 174 (dk_at dksX0_lacks_2_0 17 rfl rfl)
theorem dX0_lacks_2_20 : decode cX0_lacks_2 20 = .ok (.goto 4, 3) := dk_167 0 4 (dk_at dksX0_lacks_2_0 20 rfl rfl)
theorem dX0_lacks_2_23 : decode cX0_lacks_2 23 = .ok (.iconst (-1), 1) := dk_2 (dk_at dksX0_lacks_2_0 23 rfl rfl)
theorem dX0_lacks_2_24 : decode cX0_lacks_2 24 = .ok (.ireturn, 1) := dk_172 (dk_at dksX0_lacks_2_1 0 rfl rfl)
abbrev cX0_line : ByteArray := prog_1_method_36_code
def yX0_line : MethodName := ⟨RX0, "line", "(II)I"⟩
def dkwX0_line_2 : List UInt8 := [192, 0, 205, 180, 1, 16, 167, 0, 5, 16, 247, 172]
abbrev dktX0_line_2 : List UInt8 := dkwX0_line_2 ++ []
def dkwX0_line_1 : List UInt8 := [45, 180, 1, 35, 182, 0, 201, 4, 100, 184, 0, 45, 153, 0, 20, 45, 180, 1, 35, 28, 182, 0, 218]
abbrev dktX0_line_1 : List UInt8 := dkwX0_line_1 ++ dktX0_line_2
def dkwX0_line_0 : List UInt8 := [42, 27, 182, 1, 90, 154, 0, 5, 2, 172, 42, 180, 0, 136, 27, 182, 0, 218, 192, 1, 36, 78, 28, 3]
abbrev dktX0_line_0 : List UInt8 := dkwX0_line_0 ++ dktX0_line_1
theorem dksX0_line_0 : cX0_line.data.toList.drop 0 = dktX0_line_0 := by decide +kernel
theorem dksX0_line_1 : cX0_line.data.toList.drop 24 = dktX0_line_1 := dk_seg dksX0_line_0 24 rfl rfl
theorem dksX0_line_2 : cX0_line.data.toList.drop 47 = dktX0_line_2 := dk_seg dksX0_line_1 23 rfl rfl
theorem dX0_line_0 : decode cX0_line 0 = .ok (.aload_n 0, 1) := dk_42 (dk_at dksX0_line_0 0 rfl rfl)
theorem dX0_line_1 : decode cX0_line 1 = .ok (.iload_n 1, 1) := dk_27 (dk_at dksX0_line_0 1 rfl rfl)
theorem dX0_line_2 : decode cX0_line 2 = .ok (.invokevirtual 346, 3) := dk_182 1 90 (dk_at dksX0_line_0 2 rfl rfl)
theorem dX0_line_5 : decode cX0_line 5 = .ok (.ifCond .ne 5, 3) := dk_154 0 5 (dk_at dksX0_line_0 5 rfl rfl)
theorem dX0_line_8 : decode cX0_line 8 = .ok (.iconst (-1), 1) := dk_2 (dk_at dksX0_line_0 8 rfl rfl)
theorem dX0_line_9 : decode cX0_line 9 = .ok (.ireturn, 1) := dk_172 (dk_at dksX0_line_0 9 rfl rfl)
theorem dX0_line_10 : decode cX0_line 10 = .ok (.aload_n 0, 1) := dk_42 (dk_at dksX0_line_0 10 rfl rfl)
theorem dX0_line_11 : decode cX0_line 11 = .ok (.getfield 136, 3) := dk_180 0 136 (dk_at dksX0_line_0 11 rfl rfl)
theorem dX0_line_14 : decode cX0_line 14 = .ok (.iload_n 1, 1) := dk_27 (dk_at dksX0_line_0 14 rfl rfl)
theorem dX0_line_15 : decode cX0_line 15 = .ok (.invokevirtual 218, 3) := dk_182 0 218 (dk_at dksX0_line_0 15 rfl rfl)
theorem dX0_line_18 : decode cX0_line 18 = .ok (.checkcast 292, 3) := dk_192 1 36 (dk_at dksX0_line_0 18 rfl rfl)
theorem dX0_line_21 : decode cX0_line 21 = .ok (.astore_n 3, 1) := dk_78 (dk_at dksX0_line_0 21 rfl rfl)
theorem dX0_line_22 : decode cX0_line 22 = .ok (.iload_n 2, 1) := dk_28 (dk_at dksX0_line_0 22 rfl rfl)
theorem dX0_line_23 : decode cX0_line 23 = .ok (.iconst 0, 1) := dk_3 (dk_at dksX0_line_0 23 rfl rfl)
theorem dX0_line_24 : decode cX0_line 24 = .ok (.aload_n 3, 1) := dk_45 (dk_at dksX0_line_1 0 rfl rfl)
theorem dX0_line_25 : decode cX0_line 25 = .ok (.getfield 291, 3) := dk_180 1 35 (dk_at dksX0_line_1 1 rfl rfl)
theorem dX0_line_28 : decode cX0_line 28 = .ok (.invokevirtual 201, 3) := dk_182 0 201 (dk_at dksX0_line_1 4 rfl rfl)
theorem dX0_line_31 : decode cX0_line 31 = .ok (.iconst 1, 1) := dk_4 (dk_at dksX0_line_1 7 rfl rfl)
theorem dX0_line_32 : decode cX0_line 32 = .ok (.isub, 1) := dk_100 (dk_at dksX0_line_1 8 rfl rfl)
theorem dX0_line_33 : decode cX0_line 33 = .ok (.invokestatic 45, 3) := dk_184 0 45 (dk_at dksX0_line_1 9 rfl rfl)
theorem dX0_line_36 : decode cX0_line 36 = .ok (.ifCond .eq 20, 3) := dk_153 0 20 (dk_at dksX0_line_1 12 rfl rfl)
theorem dX0_line_39 : decode cX0_line 39 = .ok (.aload_n 3, 1) := dk_45 (dk_at dksX0_line_1 15 rfl rfl)
theorem dX0_line_40 : decode cX0_line 40 = .ok (.getfield 291, 3) := dk_180 1 35 (dk_at dksX0_line_1 16 rfl rfl)
theorem dX0_line_43 : decode cX0_line 43 = .ok (.iload_n 2, 1) := dk_28 (dk_at dksX0_line_1 19 rfl rfl)
theorem dX0_line_44 : decode cX0_line 44 = .ok (.invokevirtual 218, 3) := dk_182 0 218 (dk_at dksX0_line_1 20 rfl rfl)
theorem dX0_line_47 : decode cX0_line 47 = .ok (.checkcast 205, 3) := dk_192 0 205 (dk_at dksX0_line_2 0 rfl rfl)
theorem dX0_line_50 : decode cX0_line 50 = .ok (.getfield 272, 3) := dk_180 1 16 (dk_at dksX0_line_2 3 rfl rfl)
theorem dX0_line_53 : decode cX0_line 53 = .ok (.goto 5, 3) := dk_167 0 5 (dk_at dksX0_line_2 6 rfl rfl)
theorem dX0_line_56 : decode cX0_line 56 = .ok (.bipush (-9), 2) := dk_16 247 (dk_at dksX0_line_2 9 rfl rfl)
theorem dX0_line_58 : decode cX0_line 58 = .ok (.ireturn, 1) := dk_172 (dk_at dksX0_line_2 11 rfl rfl)
abbrev cX0_isRole : ByteArray := prog_1_method_35_code
def yX0_isRole : MethodName := ⟨RX0, "isRole", "(I)Z"⟩
def dkwX0_isRole_0 : List UInt8 := [27, 3, 42, 180, 0, 136, 182, 0, 201, 4, 100, 184, 0, 45, 172]
abbrev dktX0_isRole_0 : List UInt8 := dkwX0_isRole_0 ++ []
theorem dksX0_isRole_0 : cX0_isRole.data.toList.drop 0 = dktX0_isRole_0 := by decide +kernel
theorem dX0_isRole_0 : decode cX0_isRole 0 = .ok (.iload_n 1, 1) := dk_27 (dk_at dksX0_isRole_0 0 rfl rfl)
theorem dX0_isRole_1 : decode cX0_isRole 1 = .ok (.iconst 0, 1) := dk_3 (dk_at dksX0_isRole_0 1 rfl rfl)
theorem dX0_isRole_2 : decode cX0_isRole 2 = .ok (.aload_n 0, 1) := dk_42 (dk_at dksX0_isRole_0 2 rfl rfl)
theorem dX0_isRole_3 : decode cX0_isRole 3 = .ok (.getfield 136, 3) := dk_180 0 136 (dk_at dksX0_isRole_0 3 rfl rfl)
theorem dX0_isRole_6 : decode cX0_isRole 6 = .ok (.invokevirtual 201, 3) := dk_182 0 201 (dk_at dksX0_isRole_0 6 rfl rfl)
theorem dX0_isRole_9 : decode cX0_isRole 9 = .ok (.iconst 1, 1) := dk_4 (dk_at dksX0_isRole_0 9 rfl rfl)
theorem dX0_isRole_10 : decode cX0_isRole 10 = .ok (.isub, 1) := dk_100 (dk_at dksX0_isRole_0 10 rfl rfl)
theorem dX0_isRole_11 : decode cX0_isRole 11 = .ok (.invokestatic 45, 3) := dk_184 0 45 (dk_at dksX0_isRole_0 11 rfl rfl)
theorem dX0_isRole_14 : decode cX0_isRole 14 = .ok (.ireturn, 1) := dk_172 (dk_at dksX0_isRole_0 14 rfl rfl)
abbrev cX0_chain : ByteArray := prog_1_method_37_code
def yX0_chain : MethodName := ⟨RX0, "chain", "(III)I"⟩
def dkwX0_chain_3 : List UInt8 := [180, 1, 16, 104, 25, 4, 29, 182, 0, 218, 192, 0, 24, 180, 1, 47, 96, 167, 0, 5, 16, 247, 172]
abbrev dktX0_chain_3 : List UInt8 := dkwX0_chain_3 ++ []
def dkwX0_chain_2 : List UInt8 := [182, 0, 201, 4, 100, 184, 0, 45, 153, 0, 36, 5, 25, 4, 29, 182, 0, 218, 192, 0, 24, 180, 0, 23]
abbrev dktX0_chain_2 : List UInt8 := dkwX0_chain_2 ++ dktX0_chain_3
def dkwX0_chain_1 : List UInt8 := [27, 182, 0, 218, 192, 1, 36, 180, 1, 44, 28, 182, 0, 218, 192, 0, 122, 58, 4, 29, 3, 25, 4]
abbrev dktX0_chain_1 : List UInt8 := dkwX0_chain_1 ++ dktX0_chain_2
def dkwX0_chain_0 : List UInt8 := [42, 27, 182, 1, 90, 153, 0, 13, 28, 3, 16, 11, 184, 0, 45, 154, 0, 5, 2, 172, 42, 180, 0, 136]
abbrev dktX0_chain_0 : List UInt8 := dkwX0_chain_0 ++ dktX0_chain_1
theorem dksX0_chain_0 : cX0_chain.data.toList.drop 0 = dktX0_chain_0 := by decide +kernel
theorem dksX0_chain_1 : cX0_chain.data.toList.drop 24 = dktX0_chain_1 := dk_seg dksX0_chain_0 24 rfl rfl
theorem dksX0_chain_2 : cX0_chain.data.toList.drop 47 = dktX0_chain_2 := dk_seg dksX0_chain_1 23 rfl rfl
theorem dksX0_chain_3 : cX0_chain.data.toList.drop 71 = dktX0_chain_3 := dk_seg dksX0_chain_2 24 rfl rfl
theorem dX0_chain_0 : decode cX0_chain 0 = .ok (.aload_n 0, 1) := dk_42 (dk_at dksX0_chain_0 0 rfl rfl)
theorem dX0_chain_1 : decode cX0_chain 1 = .ok (.iload_n 1, 1) := dk_27 (dk_at dksX0_chain_0 1 rfl rfl)
theorem dX0_chain_2 : decode cX0_chain 2 = .ok (.invokevirtual 346, 3) := dk_182 1 90 (dk_at dksX0_chain_0 2 rfl rfl)
theorem dX0_chain_5 : decode cX0_chain 5 = .ok (.ifCond .eq 13, 3) := dk_153 0 13 (dk_at dksX0_chain_0 5 rfl rfl)
theorem dX0_chain_8 : decode cX0_chain 8 = .ok (.iload_n 2, 1) := dk_28 (dk_at dksX0_chain_0 8 rfl rfl)
theorem dX0_chain_9 : decode cX0_chain 9 = .ok (.iconst 0, 1) := dk_3 (dk_at dksX0_chain_0 9 rfl rfl)
theorem dX0_chain_10 : decode cX0_chain 10 = .ok (.bipush 11, 2) := dk_16 11 (dk_at dksX0_chain_0 10 rfl rfl)
theorem dX0_chain_12 : decode cX0_chain 12 = .ok (.invokestatic 45, 3) := dk_184 0 45 (dk_at dksX0_chain_0 12 rfl rfl)
theorem dX0_chain_15 : decode cX0_chain 15 = .ok (.ifCond .ne 5, 3) := dk_154 0 5 (dk_at dksX0_chain_0 15 rfl rfl)
theorem dX0_chain_18 : decode cX0_chain 18 = .ok (.iconst (-1), 1) := dk_2 (dk_at dksX0_chain_0 18 rfl rfl)
theorem dX0_chain_19 : decode cX0_chain 19 = .ok (.ireturn, 1) := dk_172 (dk_at dksX0_chain_0 19 rfl rfl)
theorem dX0_chain_20 : decode cX0_chain 20 = .ok (.aload_n 0, 1) := dk_42 (dk_at dksX0_chain_0 20 rfl rfl)
theorem dX0_chain_21 : decode cX0_chain 21 = .ok (.getfield 136, 3) := dk_180 0 136 (dk_at dksX0_chain_0 21 rfl rfl)
theorem dX0_chain_24 : decode cX0_chain 24 = .ok (.iload_n 1, 1) := dk_27 (dk_at dksX0_chain_1 0 rfl rfl)
theorem dX0_chain_25 : decode cX0_chain 25 = .ok (.invokevirtual 218, 3) := dk_182 0 218 (dk_at dksX0_chain_1 1 rfl rfl)
theorem dX0_chain_28 : decode cX0_chain 28 = .ok (.checkcast 292, 3) := dk_192 1 36 (dk_at dksX0_chain_1 4 rfl rfl)
theorem dX0_chain_31 : decode cX0_chain 31 = .ok (.getfield 300, 3) := dk_180 1 44 (dk_at dksX0_chain_1 7 rfl rfl)
theorem dX0_chain_34 : decode cX0_chain 34 = .ok (.iload_n 2, 1) := dk_28 (dk_at dksX0_chain_1 10 rfl rfl)
theorem dX0_chain_35 : decode cX0_chain 35 = .ok (.invokevirtual 218, 3) := dk_182 0 218 (dk_at dksX0_chain_1 11 rfl rfl)
theorem dX0_chain_38 : decode cX0_chain 38 = .ok (.checkcast 122, 3) := dk_192 0 122 (dk_at dksX0_chain_1 14 rfl rfl)
theorem dX0_chain_41 : decode cX0_chain 41 = .ok (.astore 4, 2) := dk_58 4 (dk_at dksX0_chain_1 17 rfl rfl)
theorem dX0_chain_43 : decode cX0_chain 43 = .ok (.iload_n 3, 1) := dk_29 (dk_at dksX0_chain_1 19 rfl rfl)
theorem dX0_chain_44 : decode cX0_chain 44 = .ok (.iconst 0, 1) := dk_3 (dk_at dksX0_chain_1 20 rfl rfl)
theorem dX0_chain_45 : decode cX0_chain 45 = .ok (.aload 4, 2) := dk_25 4 (dk_at dksX0_chain_1 21 rfl rfl)
theorem dX0_chain_47 : decode cX0_chain 47 = .ok (.invokevirtual 201, 3) := dk_182 0 201 (dk_at dksX0_chain_2 0 rfl rfl)
theorem dX0_chain_50 : decode cX0_chain 50 = .ok (.iconst 1, 1) := dk_4 (dk_at dksX0_chain_2 3 rfl rfl)
theorem dX0_chain_51 : decode cX0_chain 51 = .ok (.isub, 1) := dk_100 (dk_at dksX0_chain_2 4 rfl rfl)
theorem dX0_chain_52 : decode cX0_chain 52 = .ok (.invokestatic 45, 3) := dk_184 0 45 (dk_at dksX0_chain_2 5 rfl rfl)
theorem dX0_chain_55 : decode cX0_chain 55 = .ok (.ifCond .eq 36, 3) := dk_153 0 36 (dk_at dksX0_chain_2 8 rfl rfl)
theorem dX0_chain_58 : decode cX0_chain 58 = .ok (.iconst 2, 1) := dk_5 (dk_at dksX0_chain_2 11 rfl rfl)
theorem dX0_chain_59 : decode cX0_chain 59 = .ok (.aload 4, 2) := dk_25 4 (dk_at dksX0_chain_2 12 rfl rfl)
theorem dX0_chain_61 : decode cX0_chain 61 = .ok (.iload_n 3, 1) := dk_29 (dk_at dksX0_chain_2 14 rfl rfl)
theorem dX0_chain_62 : decode cX0_chain 62 = .ok (.invokevirtual 218, 3) := dk_182 0 218 (dk_at dksX0_chain_2 15 rfl rfl)
theorem dX0_chain_65 : decode cX0_chain 65 = .ok (.checkcast 24, 3) := dk_192 0 24 (dk_at dksX0_chain_2 18 rfl rfl)
theorem dX0_chain_68 : decode cX0_chain 68 = .ok (.getfield 23, 3) := dk_180 0 23 (dk_at dksX0_chain_2 21 rfl rfl)
theorem dX0_chain_71 : decode cX0_chain 71 = .ok (.getfield 272, 3) := dk_180 1 16 (dk_at dksX0_chain_3 0 rfl rfl)
theorem dX0_chain_74 : decode cX0_chain 74 = .ok (.imul, 1) := dk_104 (dk_at dksX0_chain_3 3 rfl rfl)
theorem dX0_chain_75 : decode cX0_chain 75 = .ok (.aload 4, 2) := dk_25 4 (dk_at dksX0_chain_3 4 rfl rfl)
theorem dX0_chain_77 : decode cX0_chain 77 = .ok (.iload_n 3, 1) := dk_29 (dk_at dksX0_chain_3 6 rfl rfl)
theorem dX0_chain_78 : decode cX0_chain 78 = .ok (.invokevirtual 218, 3) := dk_182 0 218 (dk_at dksX0_chain_3 7 rfl rfl)
theorem dX0_chain_81 : decode cX0_chain 81 = .ok (.checkcast 24, 3) := dk_192 0 24 (dk_at dksX0_chain_3 10 rfl rfl)
theorem dX0_chain_84 : decode cX0_chain 84 = .ok (.getfield 303, 3) := dk_180 1 47 (dk_at dksX0_chain_3 13 rfl rfl)
theorem dX0_chain_87 : decode cX0_chain 87 = .ok (.iadd, 1) := dk_96 (dk_at dksX0_chain_3 16 rfl rfl)
theorem dX0_chain_88 : decode cX0_chain 88 = .ok (.goto 5, 3) := dk_167 0 5 (dk_at dksX0_chain_3 17 rfl rfl)
theorem dX0_chain_91 : decode cX0_chain 91 = .ok (.bipush (-9), 2) := dk_16 247 (dk_at dksX0_chain_3 20 rfl rfl)
theorem dX0_chain_93 : decode cX0_chain 93 = .ok (.ireturn, 1) := dk_172 (dk_at dksX0_chain_3 22 rfl rfl)
abbrev cX0_under : ByteArray := prog_1_method_40_code
def yX0_under : MethodName := ⟨RX0, "under", "(II)I"⟩
def dkwX0_under_2 : List UInt8 := [4, 167, 0, 4, 3, 172]
abbrev dktX0_under_2 : List UInt8 := dkwX0_under_2 ++ []
def dkwX0_under_1 : List UInt8 := [27, 182, 0, 218, 192, 1, 36, 42, 180, 0, 136, 28, 182, 0, 218, 192, 1, 36, 184, 1, 97, 153, 0, 7]
abbrev dktX0_under_1 : List UInt8 := dkwX0_under_1 ++ dktX0_under_2
def dkwX0_under_0 : List UInt8 := [42, 27, 182, 1, 90, 153, 0, 11, 42, 28, 182, 1, 90, 154, 0, 7, 2, 167, 0, 36, 42, 180, 0, 136]
abbrev dktX0_under_0 : List UInt8 := dkwX0_under_0 ++ dktX0_under_1
theorem dksX0_under_0 : cX0_under.data.toList.drop 0 = dktX0_under_0 := by decide +kernel
theorem dksX0_under_1 : cX0_under.data.toList.drop 24 = dktX0_under_1 := dk_seg dksX0_under_0 24 rfl rfl
theorem dksX0_under_2 : cX0_under.data.toList.drop 48 = dktX0_under_2 := dk_seg dksX0_under_1 24 rfl rfl
theorem dX0_under_0 : decode cX0_under 0 = .ok (.aload_n 0, 1) := dk_42 (dk_at dksX0_under_0 0 rfl rfl)
theorem dX0_under_1 : decode cX0_under 1 = .ok (.iload_n 1, 1) := dk_27 (dk_at dksX0_under_0 1 rfl rfl)
theorem dX0_under_2 : decode cX0_under 2 = .ok (.invokevirtual 346, 3) := dk_182 1 90 (dk_at dksX0_under_0 2 rfl rfl)
theorem dX0_under_5 : decode cX0_under 5 = .ok (.ifCond .eq 11, 3) := dk_153 0 11 (dk_at dksX0_under_0 5 rfl rfl)
theorem dX0_under_8 : decode cX0_under 8 = .ok (.aload_n 0, 1) := dk_42 (dk_at dksX0_under_0 8 rfl rfl)
theorem dX0_under_9 : decode cX0_under 9 = .ok (.iload_n 2, 1) := dk_28 (dk_at dksX0_under_0 9 rfl rfl)
theorem dX0_under_10 : decode cX0_under 10 = .ok (.invokevirtual 346, 3) := dk_182 1 90 (dk_at dksX0_under_0 10 rfl rfl)
theorem dX0_under_13 : decode cX0_under 13 = .ok (.ifCond .ne 7, 3) := dk_154 0 7 (dk_at dksX0_under_0 13 rfl rfl)
theorem dX0_under_16 : decode cX0_under 16 = .ok (.iconst (-1), 1) := dk_2 (dk_at dksX0_under_0 16 rfl rfl)
theorem dX0_under_17 : decode cX0_under 17 = .ok (.goto 36, 3) := dk_167 0 36 (dk_at dksX0_under_0 17 rfl rfl)
theorem dX0_under_20 : decode cX0_under 20 = .ok (.aload_n 0, 1) := dk_42 (dk_at dksX0_under_0 20 rfl rfl)
theorem dX0_under_21 : decode cX0_under 21 = .ok (.getfield 136, 3) := dk_180 0 136 (dk_at dksX0_under_0 21 rfl rfl)
theorem dX0_under_24 : decode cX0_under 24 = .ok (.iload_n 1, 1) := dk_27 (dk_at dksX0_under_1 0 rfl rfl)
theorem dX0_under_25 : decode cX0_under 25 = .ok (.invokevirtual 218, 3) := dk_182 0 218 (dk_at dksX0_under_1 1 rfl rfl)
theorem dX0_under_28 : decode cX0_under 28 = .ok (.checkcast 292, 3) := dk_192 1 36 (dk_at dksX0_under_1 4 rfl rfl)
theorem dX0_under_31 : decode cX0_under 31 = .ok (.aload_n 0, 1) := dk_42 (dk_at dksX0_under_1 7 rfl rfl)
theorem dX0_under_32 : decode cX0_under 32 = .ok (.getfield 136, 3) := dk_180 0 136 (dk_at dksX0_under_1 8 rfl rfl)
theorem dX0_under_35 : decode cX0_under 35 = .ok (.iload_n 2, 1) := dk_28 (dk_at dksX0_under_1 11 rfl rfl)
theorem dX0_under_36 : decode cX0_under 36 = .ok (.invokevirtual 218, 3) := dk_182 0 218 (dk_at dksX0_under_1 12 rfl rfl)
theorem dX0_under_39 : decode cX0_under 39 = .ok (.checkcast 292, 3) := dk_192 1 36 (dk_at dksX0_under_1 15 rfl rfl)
theorem dX0_under_42 : decode cX0_under 42 = .ok (.invokestatic 353, 3) := dk_184 1 97 (dk_at dksX0_under_1 18 rfl rfl)
theorem dX0_under_45 : decode cX0_under 45 = .ok (.ifCond .eq 7, 3) := dk_153 0 7 (dk_at dksX0_under_1 21 rfl rfl)
theorem dX0_under_48 : decode cX0_under 48 = .ok (.iconst 1, 1) := dk_4 (dk_at dksX0_under_2 0 rfl rfl)
theorem dX0_under_49 : decode cX0_under 49 = .ok (.goto 4, 3) := dk_167 0 4 (dk_at dksX0_under_2 1 rfl rfl)
theorem dX0_under_52 : decode cX0_under 52 = .ok (.iconst 0, 1) := dk_3 (dk_at dksX0_under_2 4 rfl rfl)
theorem dX0_under_53 : decode cX0_under 53 = .ok (.ireturn, 1) := dk_172 (dk_at dksX0_under_2 5 rfl rfl)
abbrev cX0_isUnder : ByteArray := prog_1_method_39_code
def yX0_isUnder : MethodName := ⟨RX0, "isUnder", "(LRoleLoom$Role;LRoleLoom$Role;)Z"⟩
def dkwX0_isUnder_0 : List UInt8 := [42, 43, 43, 180, 1, 35, 182, 0, 201, 184, 1, 93, 172]
abbrev dktX0_isUnder_0 : List UInt8 := dkwX0_isUnder_0 ++ []
theorem dksX0_isUnder_0 : cX0_isUnder.data.toList.drop 0 = dktX0_isUnder_0 := by decide +kernel
theorem dX0_isUnder_0 : decode cX0_isUnder 0 = .ok (.aload_n 0, 1) := dk_42 (dk_at dksX0_isUnder_0 0 rfl rfl)
theorem dX0_isUnder_1 : decode cX0_isUnder 1 = .ok (.aload_n 1, 1) := dk_43 (dk_at dksX0_isUnder_0 1 rfl rfl)
theorem dX0_isUnder_2 : decode cX0_isUnder 2 = .ok (.aload_n 1, 1) := dk_43 (dk_at dksX0_isUnder_0 2 rfl rfl)
theorem dX0_isUnder_3 : decode cX0_isUnder 3 = .ok (.getfield 291, 3) := dk_180 1 35 (dk_at dksX0_isUnder_0 3 rfl rfl)
theorem dX0_isUnder_6 : decode cX0_isUnder 6 = .ok (.invokevirtual 201, 3) := dk_182 0 201 (dk_at dksX0_isUnder_0 6 rfl rfl)
theorem dX0_isUnder_9 : decode cX0_isUnder 9 = .ok (.invokestatic 349, 3) := dk_184 1 93 (dk_at dksX0_isUnder_0 9 rfl rfl)
theorem dX0_isUnder_12 : decode cX0_isUnder 12 = .ok (.ireturn, 1) := dk_172 (dk_at dksX0_isUnder_0 12 rfl rfl)
abbrev cX0_isAlike : ByteArray := prog_1_method_38_code
def yX0_isAlike : MethodName := ⟨RX0, "isAlike", "(LRoleLoom$Role;LRoleLoom$Role;I)Z"⟩
def dkwX0_isAlike_3 : List UInt8 := [167, 255, 216, 29, 172]
abbrev dktX0_isAlike_3 : List UInt8 := dkwX0_isAlike_3 ++ []
def dkwX0_isAlike_2 : List UInt8 := [182, 0, 218, 43, 180, 1, 35, 21, 4, 182, 0, 218, 166, 0, 7, 4, 167, 0, 4, 3, 62, 132, 4, 1]
abbrev dktX0_isAlike_2 : List UInt8 := dkwX0_isAlike_2 ++ dktX0_isAlike_3
def dkwX0_isAlike_1 : List UInt8 := [167, 0, 4, 3, 62, 3, 54, 4, 21, 4, 28, 162, 0, 40, 29, 153, 0, 36, 42, 180, 1, 35, 21, 4]
abbrev dktX0_isAlike_1 : List UInt8 := dkwX0_isAlike_1 ++ dktX0_isAlike_2
def dkwX0_isAlike_0 : List UInt8 := [42, 180, 1, 35, 182, 0, 201, 28, 161, 0, 18, 43, 180, 1, 35, 182, 0, 201, 28, 161, 0, 7, 4]
abbrev dktX0_isAlike_0 : List UInt8 := dkwX0_isAlike_0 ++ dktX0_isAlike_1
theorem dksX0_isAlike_0 : cX0_isAlike.data.toList.drop 0 = dktX0_isAlike_0 := by decide +kernel
theorem dksX0_isAlike_1 : cX0_isAlike.data.toList.drop 23 = dktX0_isAlike_1 := dk_seg dksX0_isAlike_0 23 rfl rfl
theorem dksX0_isAlike_2 : cX0_isAlike.data.toList.drop 47 = dktX0_isAlike_2 := dk_seg dksX0_isAlike_1 24 rfl rfl
theorem dksX0_isAlike_3 : cX0_isAlike.data.toList.drop 71 = dktX0_isAlike_3 := dk_seg dksX0_isAlike_2 24 rfl rfl
theorem dX0_isAlike_0 : decode cX0_isAlike 0 = .ok (.aload_n 0, 1) := dk_42 (dk_at dksX0_isAlike_0 0 rfl rfl)
theorem dX0_isAlike_1 : decode cX0_isAlike 1 = .ok (.getfield 291, 3) := dk_180 1 35 (dk_at dksX0_isAlike_0 1 rfl rfl)
theorem dX0_isAlike_4 : decode cX0_isAlike 4 = .ok (.invokevirtual 201, 3) := dk_182 0 201 (dk_at dksX0_isAlike_0 4 rfl rfl)
theorem dX0_isAlike_7 : decode cX0_isAlike 7 = .ok (.iload_n 2, 1) := dk_28 (dk_at dksX0_isAlike_0 7 rfl rfl)
theorem dX0_isAlike_8 : decode cX0_isAlike 8 = .ok (.if_icmp .lt 18, 3) := dk_161 0 18 (dk_at dksX0_isAlike_0 8 rfl rfl)
theorem dX0_isAlike_11 : decode cX0_isAlike 11 = .ok (.aload_n 1, 1) := dk_43 (dk_at dksX0_isAlike_0 11 rfl rfl)
theorem dX0_isAlike_12 : decode cX0_isAlike 12 = .ok (.getfield 291, 3) := dk_180 1 35 (dk_at dksX0_isAlike_0 12 rfl rfl)
theorem dX0_isAlike_15 : decode cX0_isAlike 15 = .ok (.invokevirtual 201, 3) := dk_182 0 201 (dk_at dksX0_isAlike_0 15 rfl rfl)
theorem dX0_isAlike_18 : decode cX0_isAlike 18 = .ok (.iload_n 2, 1) := dk_28 (dk_at dksX0_isAlike_0 18 rfl rfl)
theorem dX0_isAlike_19 : decode cX0_isAlike 19 = .ok (.if_icmp .lt 7, 3) := dk_161 0 7 (dk_at dksX0_isAlike_0 19 rfl rfl)
theorem dX0_isAlike_22 : decode cX0_isAlike 22 = .ok (.iconst 1, 1) := dk_4 (dk_at dksX0_isAlike_0 22 rfl rfl)
theorem dX0_isAlike_23 : decode cX0_isAlike 23 = .ok (.goto 4, 3) := dk_167 0 4 (dk_at dksX0_isAlike_1 0 rfl rfl)
theorem dX0_isAlike_26 : decode cX0_isAlike 26 = .ok (.iconst 0, 1) := dk_3 (dk_at dksX0_isAlike_1 3 rfl rfl)
theorem dX0_isAlike_27 : decode cX0_isAlike 27 = .ok (.istore_n 3, 1) := dk_62 (dk_at dksX0_isAlike_1 4 rfl rfl)
theorem dX0_isAlike_28 : decode cX0_isAlike 28 = .ok (.iconst 0, 1) := dk_3 (dk_at dksX0_isAlike_1 5 rfl rfl)
theorem dX0_isAlike_29 : decode cX0_isAlike 29 = .ok (.istore 4, 2) := dk_54 4 (dk_at dksX0_isAlike_1 6 rfl rfl)
theorem dX0_isAlike_31 : decode cX0_isAlike 31 = .ok (.iload 4, 2) := dk_21 4 (dk_at dksX0_isAlike_1 8 rfl rfl)
theorem dX0_isAlike_33 : decode cX0_isAlike 33 = .ok (.iload_n 2, 1) := dk_28 (dk_at dksX0_isAlike_1 10 rfl rfl)
theorem dX0_isAlike_34 : decode cX0_isAlike 34 = .ok (.if_icmp .ge 40, 3) := dk_162 0 40 (dk_at dksX0_isAlike_1 11 rfl rfl)
theorem dX0_isAlike_37 : decode cX0_isAlike 37 = .ok (.iload_n 3, 1) := dk_29 (dk_at dksX0_isAlike_1 14 rfl rfl)
theorem dX0_isAlike_38 : decode cX0_isAlike 38 = .ok (.ifCond .eq 36, 3) := dk_153 0 36 (dk_at dksX0_isAlike_1 15 rfl rfl)
theorem dX0_isAlike_41 : decode cX0_isAlike 41 = .ok (.aload_n 0, 1) := dk_42 (dk_at dksX0_isAlike_1 18 rfl rfl)
theorem dX0_isAlike_42 : decode cX0_isAlike 42 = .ok (.getfield 291, 3) := dk_180 1 35 (dk_at dksX0_isAlike_1 19 rfl rfl)
theorem dX0_isAlike_45 : decode cX0_isAlike 45 = .ok (.iload 4, 2) := dk_21 4 (dk_at dksX0_isAlike_1 22 rfl rfl)
theorem dX0_isAlike_47 : decode cX0_isAlike 47 = .ok (.invokevirtual 218, 3) := dk_182 0 218 (dk_at dksX0_isAlike_2 0 rfl rfl)
theorem dX0_isAlike_50 : decode cX0_isAlike 50 = .ok (.aload_n 1, 1) := dk_43 (dk_at dksX0_isAlike_2 3 rfl rfl)
theorem dX0_isAlike_51 : decode cX0_isAlike 51 = .ok (.getfield 291, 3) := dk_180 1 35 (dk_at dksX0_isAlike_2 4 rfl rfl)
theorem dX0_isAlike_54 : decode cX0_isAlike 54 = .ok (.iload 4, 2) := dk_21 4 (dk_at dksX0_isAlike_2 7 rfl rfl)
theorem dX0_isAlike_56 : decode cX0_isAlike 56 = .ok (.invokevirtual 218, 3) := dk_182 0 218 (dk_at dksX0_isAlike_2 9 rfl rfl)
theorem dX0_isAlike_59 : decode cX0_isAlike 59 = .ok (.if_acmp .ne 7, 3) := dk_166 0 7 (dk_at dksX0_isAlike_2 12 rfl rfl)
theorem dX0_isAlike_62 : decode cX0_isAlike 62 = .ok (.iconst 1, 1) := dk_4 (dk_at dksX0_isAlike_2 15 rfl rfl)
theorem dX0_isAlike_63 : decode cX0_isAlike 63 = .ok (.goto 4, 3) := dk_167 0 4 (dk_at dksX0_isAlike_2 16 rfl rfl)
theorem dX0_isAlike_66 : decode cX0_isAlike 66 = .ok (.iconst 0, 1) := dk_3 (dk_at dksX0_isAlike_2 19 rfl rfl)
theorem dX0_isAlike_67 : decode cX0_isAlike 67 = .ok (.istore_n 3, 1) := dk_62 (dk_at dksX0_isAlike_2 20 rfl rfl)
theorem dX0_isAlike_68 : decode cX0_isAlike 68 = .ok (.iinc 4 1, 3) := dk_132 4 1 (dk_at dksX0_isAlike_2 21 rfl rfl)
theorem dX0_isAlike_71 : decode cX0_isAlike 71 = .ok (.goto (-40), 3) := dk_167 255 216 (dk_at dksX0_isAlike_3 0 rfl rfl)
theorem dX0_isAlike_74 : decode cX0_isAlike 74 = .ok (.iload_n 3, 1) := dk_29 (dk_at dksX0_isAlike_3 3 rfl rfl)
theorem dX0_isAlike_75 : decode cX0_isAlike 75 = .ok (.ireturn, 1) := dk_172 (dk_at dksX0_isAlike_3 4 rfl rfl)
abbrev cX0_step : ByteArray := prog_1_method_42_code
def yX0_step : MethodName := ⟨RX0, "step", "(II)I"⟩
def dkwX0_step_2 : List UInt8 := [167, 0, 5, 16, 247, 172]
abbrev dktX0_step_2 : List UInt8 := dkwX0_step_2 ++ []
def dkwX0_step_1 : List UInt8 := [45, 180, 1, 35, 182, 0, 201, 4, 100, 184, 0, 45, 153, 0, 15, 42, 45, 28, 182, 1, 101, 180, 1, 83]
abbrev dktX0_step_1 : List UInt8 := dkwX0_step_1 ++ dktX0_step_2
def dkwX0_step_0 : List UInt8 := [42, 27, 182, 1, 90, 154, 0, 5, 2, 172, 42, 180, 0, 136, 27, 182, 0, 218, 192, 1, 36, 78, 28, 3]
abbrev dktX0_step_0 : List UInt8 := dkwX0_step_0 ++ dktX0_step_1
theorem dksX0_step_0 : cX0_step.data.toList.drop 0 = dktX0_step_0 := by decide +kernel
theorem dksX0_step_1 : cX0_step.data.toList.drop 24 = dktX0_step_1 := dk_seg dksX0_step_0 24 rfl rfl
theorem dksX0_step_2 : cX0_step.data.toList.drop 48 = dktX0_step_2 := dk_seg dksX0_step_1 24 rfl rfl
theorem dX0_step_0 : decode cX0_step 0 = .ok (.aload_n 0, 1) := dk_42 (dk_at dksX0_step_0 0 rfl rfl)
theorem dX0_step_1 : decode cX0_step 1 = .ok (.iload_n 1, 1) := dk_27 (dk_at dksX0_step_0 1 rfl rfl)
theorem dX0_step_2 : decode cX0_step 2 = .ok (.invokevirtual 346, 3) := dk_182 1 90 (dk_at dksX0_step_0 2 rfl rfl)
theorem dX0_step_5 : decode cX0_step 5 = .ok (.ifCond .ne 5, 3) := dk_154 0 5 (dk_at dksX0_step_0 5 rfl rfl)
theorem dX0_step_8 : decode cX0_step 8 = .ok (.iconst (-1), 1) := dk_2 (dk_at dksX0_step_0 8 rfl rfl)
theorem dX0_step_9 : decode cX0_step 9 = .ok (.ireturn, 1) := dk_172 (dk_at dksX0_step_0 9 rfl rfl)
theorem dX0_step_10 : decode cX0_step 10 = .ok (.aload_n 0, 1) := dk_42 (dk_at dksX0_step_0 10 rfl rfl)
theorem dX0_step_11 : decode cX0_step 11 = .ok (.getfield 136, 3) := dk_180 0 136 (dk_at dksX0_step_0 11 rfl rfl)
theorem dX0_step_14 : decode cX0_step 14 = .ok (.iload_n 1, 1) := dk_27 (dk_at dksX0_step_0 14 rfl rfl)
theorem dX0_step_15 : decode cX0_step 15 = .ok (.invokevirtual 218, 3) := dk_182 0 218 (dk_at dksX0_step_0 15 rfl rfl)
theorem dX0_step_18 : decode cX0_step 18 = .ok (.checkcast 292, 3) := dk_192 1 36 (dk_at dksX0_step_0 18 rfl rfl)
theorem dX0_step_21 : decode cX0_step 21 = .ok (.astore_n 3, 1) := dk_78 (dk_at dksX0_step_0 21 rfl rfl)
theorem dX0_step_22 : decode cX0_step 22 = .ok (.iload_n 2, 1) := dk_28 (dk_at dksX0_step_0 22 rfl rfl)
theorem dX0_step_23 : decode cX0_step 23 = .ok (.iconst 0, 1) := dk_3 (dk_at dksX0_step_0 23 rfl rfl)
theorem dX0_step_24 : decode cX0_step 24 = .ok (.aload_n 3, 1) := dk_45 (dk_at dksX0_step_1 0 rfl rfl)
theorem dX0_step_25 : decode cX0_step 25 = .ok (.getfield 291, 3) := dk_180 1 35 (dk_at dksX0_step_1 1 rfl rfl)
theorem dX0_step_28 : decode cX0_step 28 = .ok (.invokevirtual 201, 3) := dk_182 0 201 (dk_at dksX0_step_1 4 rfl rfl)
theorem dX0_step_31 : decode cX0_step 31 = .ok (.iconst 1, 1) := dk_4 (dk_at dksX0_step_1 7 rfl rfl)
theorem dX0_step_32 : decode cX0_step 32 = .ok (.isub, 1) := dk_100 (dk_at dksX0_step_1 8 rfl rfl)
theorem dX0_step_33 : decode cX0_step 33 = .ok (.invokestatic 45, 3) := dk_184 0 45 (dk_at dksX0_step_1 9 rfl rfl)
theorem dX0_step_36 : decode cX0_step 36 = .ok (.ifCond .eq 15, 3) := dk_153 0 15 (dk_at dksX0_step_1 12 rfl rfl)
theorem dX0_step_39 : decode cX0_step 39 = .ok (.aload_n 0, 1) := dk_42 (dk_at dksX0_step_1 15 rfl rfl)
theorem dX0_step_40 : decode cX0_step 40 = .ok (.aload_n 3, 1) := dk_45 (dk_at dksX0_step_1 16 rfl rfl)
theorem dX0_step_41 : decode cX0_step 41 = .ok (.iload_n 2, 1) := dk_28 (dk_at dksX0_step_1 17 rfl rfl)
theorem dX0_step_42 : decode cX0_step 42 = .ok (.invokevirtual 357, 3) := dk_182 1 101 (dk_at dksX0_step_1 18 rfl rfl)
theorem dX0_step_45 : decode cX0_step 45 = .ok (.getfield 339, 3) := dk_180 1 83 (dk_at dksX0_step_1 21 rfl rfl)
theorem dX0_step_48 : decode cX0_step 48 = .ok (.goto 5, 3) := dk_167 0 5 (dk_at dksX0_step_2 0 rfl rfl)
theorem dX0_step_51 : decode cX0_step 51 = .ok (.bipush (-9), 2) := dk_16 247 (dk_at dksX0_step_2 3 rfl rfl)
theorem dX0_step_53 : decode cX0_step 53 = .ok (.ireturn, 1) := dk_172 (dk_at dksX0_step_2 5 rfl rfl)
abbrev cX0_stepOf : ByteArray := prog_1_method_41_code
def yX0_stepOf : MethodName := ⟨RX0, "stepOf", "(LRoleLoom$Role;I)LRoleLoom$Role;"⟩
def dkwX0_stepOf_1 : List UInt8 := [132, 3, 1, 167, 255, 232, 42, 180, 0, 136, 29, 182, 0, 218, 192, 1, 36, 176]
abbrev dktX0_stepOf_1 : List UInt8 := dkwX0_stepOf_1 ++ []
def dkwX0_stepOf_0 : List UInt8 := [3, 62, 43, 42, 180, 0, 136, 29, 182, 0, 218, 192, 1, 36, 28, 4, 96, 184, 1, 93, 154, 0, 9]
abbrev dktX0_stepOf_0 : List UInt8 := dkwX0_stepOf_0 ++ dktX0_stepOf_1
theorem dksX0_stepOf_0 : cX0_stepOf.data.toList.drop 0 = dktX0_stepOf_0 := by decide +kernel
theorem dksX0_stepOf_1 : cX0_stepOf.data.toList.drop 23 = dktX0_stepOf_1 := dk_seg dksX0_stepOf_0 23 rfl rfl
theorem dX0_stepOf_0 : decode cX0_stepOf 0 = .ok (.iconst 0, 1) := dk_3 (dk_at dksX0_stepOf_0 0 rfl rfl)
theorem dX0_stepOf_1 : decode cX0_stepOf 1 = .ok (.istore_n 3, 1) := dk_62 (dk_at dksX0_stepOf_0 1 rfl rfl)
theorem dX0_stepOf_2 : decode cX0_stepOf 2 = .ok (.aload_n 1, 1) := dk_43 (dk_at dksX0_stepOf_0 2 rfl rfl)
theorem dX0_stepOf_3 : decode cX0_stepOf 3 = .ok (.aload_n 0, 1) := dk_42 (dk_at dksX0_stepOf_0 3 rfl rfl)
theorem dX0_stepOf_4 : decode cX0_stepOf 4 = .ok (.getfield 136, 3) := dk_180 0 136 (dk_at dksX0_stepOf_0 4 rfl rfl)
theorem dX0_stepOf_7 : decode cX0_stepOf 7 = .ok (.iload_n 3, 1) := dk_29 (dk_at dksX0_stepOf_0 7 rfl rfl)
theorem dX0_stepOf_8 : decode cX0_stepOf 8 = .ok (.invokevirtual 218, 3) := dk_182 0 218 (dk_at dksX0_stepOf_0 8 rfl rfl)
theorem dX0_stepOf_11 : decode cX0_stepOf 11 = .ok (.checkcast 292, 3) := dk_192 1 36 (dk_at dksX0_stepOf_0 11 rfl rfl)
theorem dX0_stepOf_14 : decode cX0_stepOf 14 = .ok (.iload_n 2, 1) := dk_28 (dk_at dksX0_stepOf_0 14 rfl rfl)
theorem dX0_stepOf_15 : decode cX0_stepOf 15 = .ok (.iconst 1, 1) := dk_4 (dk_at dksX0_stepOf_0 15 rfl rfl)
theorem dX0_stepOf_16 : decode cX0_stepOf 16 = .ok (.iadd, 1) := dk_96 (dk_at dksX0_stepOf_0 16 rfl rfl)
theorem dX0_stepOf_17 : decode cX0_stepOf 17 = .ok (.invokestatic 349, 3) := dk_184 1 93 (dk_at dksX0_stepOf_0 17 rfl rfl)
theorem dX0_stepOf_20 : decode cX0_stepOf 20 = .ok (.ifCond .ne 9, 3) := dk_154 0 9 (dk_at dksX0_stepOf_0 20 rfl rfl)
theorem dX0_stepOf_23 : decode cX0_stepOf 23 = .ok (.iinc 3 1, 3) := dk_132 3 1 (dk_at dksX0_stepOf_1 0 rfl rfl)
theorem dX0_stepOf_26 : decode cX0_stepOf 26 = .ok (.goto (-24), 3) := dk_167 255 232 (dk_at dksX0_stepOf_1 3 rfl rfl)
theorem dX0_stepOf_29 : decode cX0_stepOf 29 = .ok (.aload_n 0, 1) := dk_42 (dk_at dksX0_stepOf_1 6 rfl rfl)
theorem dX0_stepOf_30 : decode cX0_stepOf 30 = .ok (.getfield 136, 3) := dk_180 0 136 (dk_at dksX0_stepOf_1 7 rfl rfl)
theorem dX0_stepOf_33 : decode cX0_stepOf 33 = .ok (.iload_n 3, 1) := dk_29 (dk_at dksX0_stepOf_1 10 rfl rfl)
theorem dX0_stepOf_34 : decode cX0_stepOf 34 = .ok (.invokevirtual 218, 3) := dk_182 0 218 (dk_at dksX0_stepOf_1 11 rfl rfl)
theorem dX0_stepOf_37 : decode cX0_stepOf 37 = .ok (.checkcast 292, 3) := dk_192 1 36 (dk_at dksX0_stepOf_1 14 rfl rfl)
theorem dX0_stepOf_40 : decode cX0_stepOf 40 = .ok (.areturn, 1) := dk_176 (dk_at dksX0_stepOf_1 17 rfl rfl)
abbrev cX0_started : ByteArray := prog_1_method_43_code
def yX0_started : MethodName := ⟨RX0, "started", "(II)I"⟩
def dkwX0_started_2 : List UInt8 := [28, 46, 167, 0, 5, 16, 247, 172]
abbrev dktX0_started_2 : List UInt8 := dkwX0_started_2 ++ []
def dkwX0_started_1 : List UInt8 := [45, 180, 1, 35, 182, 0, 201, 4, 100, 184, 0, 45, 153, 0, 17, 42, 45, 28, 182, 1, 101, 180, 1, 105]
abbrev dktX0_started_1 : List UInt8 := dkwX0_started_1 ++ dktX0_started_2
def dkwX0_started_0 : List UInt8 := [42, 27, 182, 1, 90, 154, 0, 5, 2, 172, 42, 180, 0, 136, 27, 182, 0, 218, 192, 1, 36, 78, 28, 3]
abbrev dktX0_started_0 : List UInt8 := dkwX0_started_0 ++ dktX0_started_1
theorem dksX0_started_0 : cX0_started.data.toList.drop 0 = dktX0_started_0 := by decide +kernel
theorem dksX0_started_1 : cX0_started.data.toList.drop 24 = dktX0_started_1 := dk_seg dksX0_started_0 24 rfl rfl
theorem dksX0_started_2 : cX0_started.data.toList.drop 48 = dktX0_started_2 := dk_seg dksX0_started_1 24 rfl rfl
theorem dX0_started_0 : decode cX0_started 0 = .ok (.aload_n 0, 1) := dk_42 (dk_at dksX0_started_0 0 rfl rfl)
theorem dX0_started_1 : decode cX0_started 1 = .ok (.iload_n 1, 1) := dk_27 (dk_at dksX0_started_0 1 rfl rfl)
theorem dX0_started_2 : decode cX0_started 2 = .ok (.invokevirtual 346, 3) := dk_182 1 90 (dk_at dksX0_started_0 2 rfl rfl)
theorem dX0_started_5 : decode cX0_started 5 = .ok (.ifCond .ne 5, 3) := dk_154 0 5 (dk_at dksX0_started_0 5 rfl rfl)
theorem dX0_started_8 : decode cX0_started 8 = .ok (.iconst (-1), 1) := dk_2 (dk_at dksX0_started_0 8 rfl rfl)
theorem dX0_started_9 : decode cX0_started 9 = .ok (.ireturn, 1) := dk_172 (dk_at dksX0_started_0 9 rfl rfl)
theorem dX0_started_10 : decode cX0_started 10 = .ok (.aload_n 0, 1) := dk_42 (dk_at dksX0_started_0 10 rfl rfl)
theorem dX0_started_11 : decode cX0_started 11 = .ok (.getfield 136, 3) := dk_180 0 136 (dk_at dksX0_started_0 11 rfl rfl)
theorem dX0_started_14 : decode cX0_started 14 = .ok (.iload_n 1, 1) := dk_27 (dk_at dksX0_started_0 14 rfl rfl)
theorem dX0_started_15 : decode cX0_started 15 = .ok (.invokevirtual 218, 3) := dk_182 0 218 (dk_at dksX0_started_0 15 rfl rfl)
theorem dX0_started_18 : decode cX0_started 18 = .ok (.checkcast 292, 3) := dk_192 1 36 (dk_at dksX0_started_0 18 rfl rfl)
theorem dX0_started_21 : decode cX0_started 21 = .ok (.astore_n 3, 1) := dk_78 (dk_at dksX0_started_0 21 rfl rfl)
theorem dX0_started_22 : decode cX0_started 22 = .ok (.iload_n 2, 1) := dk_28 (dk_at dksX0_started_0 22 rfl rfl)
theorem dX0_started_23 : decode cX0_started 23 = .ok (.iconst 0, 1) := dk_3 (dk_at dksX0_started_0 23 rfl rfl)
theorem dX0_started_24 : decode cX0_started 24 = .ok (.aload_n 3, 1) := dk_45 (dk_at dksX0_started_1 0 rfl rfl)
theorem dX0_started_25 : decode cX0_started 25 = .ok (.getfield 291, 3) := dk_180 1 35 (dk_at dksX0_started_1 1 rfl rfl)
theorem dX0_started_28 : decode cX0_started 28 = .ok (.invokevirtual 201, 3) := dk_182 0 201 (dk_at dksX0_started_1 4 rfl rfl)
theorem dX0_started_31 : decode cX0_started 31 = .ok (.iconst 1, 1) := dk_4 (dk_at dksX0_started_1 7 rfl rfl)
theorem dX0_started_32 : decode cX0_started 32 = .ok (.isub, 1) := dk_100 (dk_at dksX0_started_1 8 rfl rfl)
theorem dX0_started_33 : decode cX0_started 33 = .ok (.invokestatic 45, 3) := dk_184 0 45 (dk_at dksX0_started_1 9 rfl rfl)
theorem dX0_started_36 : decode cX0_started 36 = .ok (.ifCond .eq 17, 3) := dk_153 0 17 (dk_at dksX0_started_1 12 rfl rfl)
theorem dX0_started_39 : decode cX0_started 39 = .ok (.aload_n 0, 1) := dk_42 (dk_at dksX0_started_1 15 rfl rfl)
theorem dX0_started_40 : decode cX0_started 40 = .ok (.aload_n 3, 1) := dk_45 (dk_at dksX0_started_1 16 rfl rfl)
theorem dX0_started_41 : decode cX0_started 41 = .ok (.iload_n 2, 1) := dk_28 (dk_at dksX0_started_1 17 rfl rfl)
theorem dX0_started_42 : decode cX0_started 42 = .ok (.invokevirtual 357, 3) := dk_182 1 101 (dk_at dksX0_started_1 18 rfl rfl)
theorem dX0_started_45 : decode cX0_started 45 = .ok (.getfield 361, 3) := dk_180 1 105 (dk_at dksX0_started_1 21 rfl rfl)
theorem dX0_started_48 : decode cX0_started 48 = .ok (.iload_n 2, 1) := dk_28 (dk_at dksX0_started_2 0 rfl rfl)
theorem dX0_started_49 : decode cX0_started 49 = .ok (.iaload, 1) := dk_46 (dk_at dksX0_started_2 1 rfl rfl)
theorem dX0_started_50 : decode cX0_started 50 = .ok (.goto 5, 3) := dk_167 0 5 (dk_at dksX0_started_2 2 rfl rfl)
theorem dX0_started_53 : decode cX0_started 53 = .ok (.bipush (-9), 2) := dk_16 247 (dk_at dksX0_started_2 5 rfl rfl)
theorem dX0_started_55 : decode cX0_started 55 = .ok (.ireturn, 1) := dk_172 (dk_at dksX0_started_2 7 rfl rfl)
abbrev cX0_object : ByteArray := prog_1_method_49_code
def yX0_object : MethodName := ⟨RX0, "object", "(I)I"⟩
def dkwX0_object_10 : List UInt8 := [180, 1, 187, 172]
abbrev dktX0_object_10 : List UInt8 := dkwX0_object_10 ++ []
def dkwX0_object_9 : List UInt8 := [183, 1, 169, 182, 0, 210, 87, 132, 4, 1, 167, 255, 214, 42, 180, 0, 139, 45, 182, 0, 210, 87, 45]
abbrev dktX0_object_9 : List UInt8 := dkwX0_object_9 ++ dktX0_object_10
def dkwX0_object_8 : List UInt8 := [162, 0, 36, 45, 180, 1, 125, 187, 1, 138, 89, 44, 180, 1, 35, 21, 4, 182, 0, 218, 192, 0, 205]
abbrev dktX0_object_8 : List UInt8 := dkwX0_object_8 ++ dktX0_object_9
def dkwX0_object_7 : List UInt8 := [180, 0, 139, 182, 0, 201, 44, 183, 1, 184, 78, 3, 54, 4, 21, 4, 44, 180, 1, 35, 182, 0, 201]
abbrev dktX0_object_7 : List UInt8 := dkwX0_object_7 ++ dktX0_object_8
def dkwX0_object_6 : List UInt8 := [167, 0, 4, 5, 79, 21, 5, 154, 0, 6, 16, 241, 172, 132, 3, 1, 167, 255, 143, 187, 1, 126, 89, 42]
abbrev dktX0_object_6 : List UInt8 := dkwX0_object_6 ++ dktX0_object_7
def dkwX0_object_5 : List UInt8 := [153, 0, 7, 4, 167, 0, 4, 3, 54, 5, 25, 4, 180, 1, 105, 29, 21, 5, 153, 0, 7, 4]
abbrev dktX0_object_5 : List UInt8 := dkwX0_object_5 ++ dktX0_object_6
def dkwX0_object_4 : List UInt8 := [192, 0, 205, 180, 0, 247, 198, 0, 21, 42, 44, 180, 1, 35, 29, 182, 0, 218, 192, 0, 205, 182, 1, 181]
abbrev dktX0_object_4 : List UInt8 := dkwX0_object_4 ++ dktX0_object_5
def dkwX0_object_3 : List UInt8 := [160, 0, 6, 16, 240, 172, 25, 4, 180, 1, 105, 29, 46, 154, 0, 70, 44, 180, 1, 35, 29, 182, 0, 218]
abbrev dktX0_object_3 : List UInt8 := dkwX0_object_3 ++ dktX0_object_4
def dkwX0_object_2 : List UInt8 := [182, 0, 201, 162, 0, 108, 42, 44, 29, 182, 1, 101, 58, 4, 25, 4, 180, 1, 105, 29, 46, 5]
abbrev dktX0_object_2 : List UInt8 := dkwX0_object_2 ++ dktX0_object_3
def dkwX0_object_1 : List UInt8 := [172, 42, 182, 1, 178, 42, 180, 0, 136, 27, 182, 0, 218, 192, 1, 36, 77, 3, 62, 29, 44, 180, 1, 35]
abbrev dktX0_object_1 : List UInt8 := dkwX0_object_1 ++ dktX0_object_2
def dkwX0_object_0 : List UInt8 := [42, 27, 182, 1, 90, 154, 0, 5, 2, 172, 42, 180, 0, 139, 182, 0, 201, 16, 100, 160, 0, 6, 16, 254]
abbrev dktX0_object_0 : List UInt8 := dkwX0_object_0 ++ dktX0_object_1
theorem dksX0_object_0 : cX0_object.data.toList.drop 0 = dktX0_object_0 := by decide +kernel
theorem dksX0_object_1 : cX0_object.data.toList.drop 24 = dktX0_object_1 := dk_seg dksX0_object_0 24 rfl rfl
theorem dksX0_object_2 : cX0_object.data.toList.drop 48 = dktX0_object_2 := dk_seg dksX0_object_1 24 rfl rfl
theorem dksX0_object_3 : cX0_object.data.toList.drop 70 = dktX0_object_3 := dk_seg dksX0_object_2 22 rfl rfl
theorem dksX0_object_4 : cX0_object.data.toList.drop 94 = dktX0_object_4 := dk_seg dksX0_object_3 24 rfl rfl
theorem dksX0_object_5 : cX0_object.data.toList.drop 118 = dktX0_object_5 := dk_seg dksX0_object_4 24 rfl rfl
theorem dksX0_object_6 : cX0_object.data.toList.drop 140 = dktX0_object_6 := dk_seg dksX0_object_5 22 rfl rfl
theorem dksX0_object_7 : cX0_object.data.toList.drop 164 = dktX0_object_7 := dk_seg dksX0_object_6 24 rfl rfl
theorem dksX0_object_8 : cX0_object.data.toList.drop 187 = dktX0_object_8 := dk_seg dksX0_object_7 23 rfl rfl
theorem dksX0_object_9 : cX0_object.data.toList.drop 210 = dktX0_object_9 := dk_seg dksX0_object_8 23 rfl rfl
theorem dksX0_object_10 : cX0_object.data.toList.drop 233 = dktX0_object_10 := dk_seg dksX0_object_9 23 rfl rfl
theorem dX0_object_0 : decode cX0_object 0 = .ok (.aload_n 0, 1) := dk_42 (dk_at dksX0_object_0 0 rfl rfl)
theorem dX0_object_1 : decode cX0_object 1 = .ok (.iload_n 1, 1) := dk_27 (dk_at dksX0_object_0 1 rfl rfl)
theorem dX0_object_2 : decode cX0_object 2 = .ok (.invokevirtual 346, 3) := dk_182 1 90 (dk_at dksX0_object_0 2 rfl rfl)
theorem dX0_object_5 : decode cX0_object 5 = .ok (.ifCond .ne 5, 3) := dk_154 0 5 (dk_at dksX0_object_0 5 rfl rfl)
theorem dX0_object_8 : decode cX0_object 8 = .ok (.iconst (-1), 1) := dk_2 (dk_at dksX0_object_0 8 rfl rfl)
theorem dX0_object_9 : decode cX0_object 9 = .ok (.ireturn, 1) := dk_172 (dk_at dksX0_object_0 9 rfl rfl)
theorem dX0_object_10 : decode cX0_object 10 = .ok (.aload_n 0, 1) := dk_42 (dk_at dksX0_object_0 10 rfl rfl)
theorem dX0_object_11 : decode cX0_object 11 = .ok (.getfield 139, 3) := dk_180 0 139 (dk_at dksX0_object_0 11 rfl rfl)
theorem dX0_object_14 : decode cX0_object 14 = .ok (.invokevirtual 201, 3) := dk_182 0 201 (dk_at dksX0_object_0 14 rfl rfl)
theorem dX0_object_17 : decode cX0_object 17 = .ok (.bipush 100, 2) := dk_16 100 (dk_at dksX0_object_0 17 rfl rfl)
theorem dX0_object_19 : decode cX0_object 19 = .ok (.if_icmp .ne 6, 3) := dk_160 0 6 (dk_at dksX0_object_0 19 rfl rfl)
theorem dX0_object_22 : decode cX0_object 22 = .ok (.bipush (-2), 2) := dk_16 254 (dk_at dksX0_object_0 22 rfl rfl)
theorem dX0_object_24 : decode cX0_object 24 = .ok (.ireturn, 1) := dk_172 (dk_at dksX0_object_1 0 rfl rfl)
theorem dX0_object_25 : decode cX0_object 25 = .ok (.aload_n 0, 1) := dk_42 (dk_at dksX0_object_1 1 rfl rfl)
theorem dX0_object_26 : decode cX0_object 26 = .ok (.invokevirtual 434, 3) := dk_182 1 178 (dk_at dksX0_object_1 2 rfl rfl)
theorem dX0_object_29 : decode cX0_object 29 = .ok (.aload_n 0, 1) := dk_42 (dk_at dksX0_object_1 5 rfl rfl)
theorem dX0_object_30 : decode cX0_object 30 = .ok (.getfield 136, 3) := dk_180 0 136 (dk_at dksX0_object_1 6 rfl rfl)
theorem dX0_object_33 : decode cX0_object 33 = .ok (.iload_n 1, 1) := dk_27 (dk_at dksX0_object_1 9 rfl rfl)
theorem dX0_object_34 : decode cX0_object 34 = .ok (.invokevirtual 218, 3) := dk_182 0 218 (dk_at dksX0_object_1 10 rfl rfl)
theorem dX0_object_37 : decode cX0_object 37 = .ok (.checkcast 292, 3) := dk_192 1 36 (dk_at dksX0_object_1 13 rfl rfl)
theorem dX0_object_40 : decode cX0_object 40 = .ok (.astore_n 2, 1) := dk_77 (dk_at dksX0_object_1 16 rfl rfl)
theorem dX0_object_41 : decode cX0_object 41 = .ok (.iconst 0, 1) := dk_3 (dk_at dksX0_object_1 17 rfl rfl)
theorem dX0_object_42 : decode cX0_object 42 = .ok (.istore_n 3, 1) := dk_62 (dk_at dksX0_object_1 18 rfl rfl)
theorem dX0_object_43 : decode cX0_object 43 = .ok (.iload_n 3, 1) := dk_29 (dk_at dksX0_object_1 19 rfl rfl)
theorem dX0_object_44 : decode cX0_object 44 = .ok (.aload_n 2, 1) := dk_44 (dk_at dksX0_object_1 20 rfl rfl)
theorem dX0_object_45 : decode cX0_object 45 = .ok (.getfield 291, 3) := dk_180 1 35 (dk_at dksX0_object_1 21 rfl rfl)
theorem dX0_object_48 : decode cX0_object 48 = .ok (.invokevirtual 201, 3) := dk_182 0 201 (dk_at dksX0_object_2 0 rfl rfl)
theorem dX0_object_51 : decode cX0_object 51 = .ok (.if_icmp .ge 108, 3) := dk_162 0 108 (dk_at dksX0_object_2 3 rfl rfl)
theorem dX0_object_54 : decode cX0_object 54 = .ok (.aload_n 0, 1) := dk_42 (dk_at dksX0_object_2 6 rfl rfl)
theorem dX0_object_55 : decode cX0_object 55 = .ok (.aload_n 2, 1) := dk_44 (dk_at dksX0_object_2 7 rfl rfl)
theorem dX0_object_56 : decode cX0_object 56 = .ok (.iload_n 3, 1) := dk_29 (dk_at dksX0_object_2 8 rfl rfl)
theorem dX0_object_57 : decode cX0_object 57 = .ok (.invokevirtual 357, 3) := dk_182 1 101 (dk_at dksX0_object_2 9 rfl rfl)
theorem dX0_object_60 : decode cX0_object 60 = .ok (.astore 4, 2) := dk_58 4 (dk_at dksX0_object_2 12 rfl rfl)
theorem dX0_object_62 : decode cX0_object 62 = .ok (.aload 4, 2) := dk_25 4 (dk_at dksX0_object_2 14 rfl rfl)
theorem dX0_object_64 : decode cX0_object 64 = .ok (.getfield 361, 3) := dk_180 1 105 (dk_at dksX0_object_2 16 rfl rfl)
theorem dX0_object_67 : decode cX0_object 67 = .ok (.iload_n 3, 1) := dk_29 (dk_at dksX0_object_2 19 rfl rfl)
theorem dX0_object_68 : decode cX0_object 68 = .ok (.iaload, 1) := dk_46 (dk_at dksX0_object_2 20 rfl rfl)
theorem dX0_object_69 : decode cX0_object 69 = .ok (.iconst 2, 1) := dk_5 (dk_at dksX0_object_2 21 rfl rfl)
theorem dX0_object_70 : decode cX0_object 70 = .ok (.if_icmp .ne 6, 3) := dk_160 0 6 (dk_at dksX0_object_3 0 rfl rfl)
theorem dX0_object_73 : decode cX0_object 73 = .ok (.bipush (-16), 2) := dk_16 240 (dk_at dksX0_object_3 3 rfl rfl)
theorem dX0_object_75 : decode cX0_object 75 = .ok (.ireturn, 1) := dk_172 (dk_at dksX0_object_3 5 rfl rfl)
theorem dX0_object_76 : decode cX0_object 76 = .ok (.aload 4, 2) := dk_25 4 (dk_at dksX0_object_3 6 rfl rfl)
theorem dX0_object_78 : decode cX0_object 78 = .ok (.getfield 361, 3) := dk_180 1 105 (dk_at dksX0_object_3 8 rfl rfl)
theorem dX0_object_81 : decode cX0_object 81 = .ok (.iload_n 3, 1) := dk_29 (dk_at dksX0_object_3 11 rfl rfl)
theorem dX0_object_82 : decode cX0_object 82 = .ok (.iaload, 1) := dk_46 (dk_at dksX0_object_3 12 rfl rfl)
theorem dX0_object_83 : decode cX0_object 83 = .ok (.ifCond .ne 70, 3) := dk_154 0 70 (dk_at dksX0_object_3 13 rfl rfl)
theorem dX0_object_86 : decode cX0_object 86 = .ok (.aload_n 2, 1) := dk_44 (dk_at dksX0_object_3 16 rfl rfl)
theorem dX0_object_87 : decode cX0_object 87 = .ok (.getfield 291, 3) := dk_180 1 35 (dk_at dksX0_object_3 17 rfl rfl)
theorem dX0_object_90 : decode cX0_object 90 = .ok (.iload_n 3, 1) := dk_29 (dk_at dksX0_object_3 20 rfl rfl)
theorem dX0_object_91 : decode cX0_object 91 = .ok (.invokevirtual 218, 3) := dk_182 0 218 (dk_at dksX0_object_3 21 rfl rfl)
theorem dX0_object_94 : decode cX0_object 94 = .ok (.checkcast 205, 3) := dk_192 0 205 (dk_at dksX0_object_4 0 rfl rfl)
theorem dX0_object_97 : decode cX0_object 97 = .ok (.getfield 247, 3) := dk_180 0 247 (dk_at dksX0_object_4 3 rfl rfl)
theorem dX0_object_100 : decode cX0_object 100 = .ok (.ifnull 21, 3) := dk_198 0 21 (dk_at dksX0_object_4 6 rfl rfl)
theorem dX0_object_103 : decode cX0_object 103 = .ok (.aload_n 0, 1) := dk_42 (dk_at dksX0_object_4 9 rfl rfl)
theorem dX0_object_104 : decode cX0_object 104 = .ok (.aload_n 2, 1) := dk_44 (dk_at dksX0_object_4 10 rfl rfl)
theorem dX0_object_105 : decode cX0_object 105 = .ok (.getfield 291, 3) := dk_180 1 35 (dk_at dksX0_object_4 11 rfl rfl)
theorem dX0_object_108 : decode cX0_object 108 = .ok (.iload_n 3, 1) := dk_29 (dk_at dksX0_object_4 14 rfl rfl)
theorem dX0_object_109 : decode cX0_object 109 = .ok (.invokevirtual 218, 3) := dk_182 0 218 (dk_at dksX0_object_4 15 rfl rfl)
theorem dX0_object_112 : decode cX0_object 112 = .ok (.checkcast 205, 3) := dk_192 0 205 (dk_at dksX0_object_4 18 rfl rfl)
theorem dX0_object_115 : decode cX0_object 115 = .ok (.invokevirtual 437, 3) := dk_182 1 181 (dk_at dksX0_object_4 21 rfl rfl)
theorem dX0_object_118 : decode cX0_object 118 = .ok (.ifCond .eq 7, 3) := dk_153 0 7 (dk_at dksX0_object_5 0 rfl rfl)
theorem dX0_object_121 : decode cX0_object 121 = .ok (.iconst 1, 1) := dk_4 (dk_at dksX0_object_5 3 rfl rfl)
theorem dX0_object_122 : decode cX0_object 122 = .ok (.goto 4, 3) := dk_167 0 4 (dk_at dksX0_object_5 4 rfl rfl)
theorem dX0_object_125 : decode cX0_object 125 = .ok (.iconst 0, 1) := dk_3 (dk_at dksX0_object_5 7 rfl rfl)
theorem dX0_object_126 : decode cX0_object 126 = .ok (.istore 5, 2) := dk_54 5 (dk_at dksX0_object_5 8 rfl rfl)
theorem dX0_object_128 : decode cX0_object 128 = .ok (.aload 4, 2) := dk_25 4 (dk_at dksX0_object_5 10 rfl rfl)
theorem dX0_object_130 : decode cX0_object 130 = .ok (.getfield 361, 3) := dk_180 1 105 (dk_at dksX0_object_5 12 rfl rfl)
theorem dX0_object_133 : decode cX0_object 133 = .ok (.iload_n 3, 1) := dk_29 (dk_at dksX0_object_5 15 rfl rfl)
theorem dX0_object_134 : decode cX0_object 134 = .ok (.iload 5, 2) := dk_21 5 (dk_at dksX0_object_5 16 rfl rfl)
theorem dX0_object_136 : decode cX0_object 136 = .ok (.ifCond .eq 7, 3) := dk_153 0 7 (dk_at dksX0_object_5 18 rfl rfl)
theorem dX0_object_139 : decode cX0_object 139 = .ok (.iconst 1, 1) := dk_4 (dk_at dksX0_object_5 21 rfl rfl)
theorem dX0_object_140 : decode cX0_object 140 = .ok (.goto 4, 3) := dk_167 0 4 (dk_at dksX0_object_6 0 rfl rfl)
theorem dX0_object_143 : decode cX0_object 143 = .ok (.iconst 2, 1) := dk_5 (dk_at dksX0_object_6 3 rfl rfl)
theorem dX0_object_144 : decode cX0_object 144 = .ok (.iastore, 1) := dk_79 (dk_at dksX0_object_6 4 rfl rfl)
theorem dX0_object_145 : decode cX0_object 145 = .ok (.iload 5, 2) := dk_21 5 (dk_at dksX0_object_6 5 rfl rfl)
theorem dX0_object_147 : decode cX0_object 147 = .ok (.ifCond .ne 6, 3) := dk_154 0 6 (dk_at dksX0_object_6 7 rfl rfl)
theorem dX0_object_150 : decode cX0_object 150 = .ok (.bipush (-15), 2) := dk_16 241 (dk_at dksX0_object_6 10 rfl rfl)
theorem dX0_object_152 : decode cX0_object 152 = .ok (.ireturn, 1) := dk_172 (dk_at dksX0_object_6 12 rfl rfl)
theorem dX0_object_153 : decode cX0_object 153 = .ok (.iinc 3 1, 3) := dk_132 3 1 (dk_at dksX0_object_6 13 rfl rfl)
theorem dX0_object_156 : decode cX0_object 156 = .ok (.goto (-113), 3) := dk_167 255 143 (dk_at dksX0_object_6 16 rfl rfl)
theorem dX0_object_159 : decode cX0_object 159 = .ok (.new 382, 3) := dk_187 1 126 (dk_at dksX0_object_6 19 rfl rfl)
theorem dX0_object_162 : decode cX0_object 162 = .ok (.dup, 1) := dk_89 (dk_at dksX0_object_6 22 rfl rfl)
theorem dX0_object_163 : decode cX0_object 163 = .ok (.aload_n 0, 1) := dk_42 (dk_at dksX0_object_6 23 rfl rfl)
theorem dX0_object_164 : decode cX0_object 164 = .ok (.getfield 139, 3) := dk_180 0 139 (dk_at dksX0_object_7 0 rfl rfl)
theorem dX0_object_167 : decode cX0_object 167 = .ok (.invokevirtual 201, 3) := dk_182 0 201 (dk_at dksX0_object_7 3 rfl rfl)
theorem dX0_object_170 : decode cX0_object 170 = .ok (.aload_n 2, 1) := dk_44 (dk_at dksX0_object_7 6 rfl rfl)
theorem dX0_object_171 : decode cX0_object 171 = .ok (.invokespecial 440, 3) := dk_183 1 184 (dk_at dksX0_object_7 7 rfl rfl)
theorem dX0_object_174 : decode cX0_object 174 = .ok (.astore_n 3, 1) := dk_78 (dk_at dksX0_object_7 10 rfl rfl)
theorem dX0_object_175 : decode cX0_object 175 = .ok (.iconst 0, 1) := dk_3 (dk_at dksX0_object_7 11 rfl rfl)
theorem dX0_object_176 : decode cX0_object 176 = .ok (.istore 4, 2) := dk_54 4 (dk_at dksX0_object_7 12 rfl rfl)
theorem dX0_object_178 : decode cX0_object 178 = .ok (.iload 4, 2) := dk_21 4 (dk_at dksX0_object_7 14 rfl rfl)
theorem dX0_object_180 : decode cX0_object 180 = .ok (.aload_n 2, 1) := dk_44 (dk_at dksX0_object_7 16 rfl rfl)
theorem dX0_object_181 : decode cX0_object 181 = .ok (.getfield 291, 3) := dk_180 1 35 (dk_at dksX0_object_7 17 rfl rfl)
theorem dX0_object_184 : decode cX0_object 184 = .ok (.invokevirtual 201, 3) := dk_182 0 201 (dk_at dksX0_object_7 20 rfl rfl)
theorem dX0_object_187 : decode cX0_object 187 = .ok (.if_icmp .ge 36, 3) := dk_162 0 36 (dk_at dksX0_object_8 0 rfl rfl)
theorem dX0_object_190 : decode cX0_object 190 = .ok (.aload_n 3, 1) := dk_45 (dk_at dksX0_object_8 3 rfl rfl)
theorem dX0_object_191 : decode cX0_object 191 = .ok (.getfield 381, 3) := dk_180 1 125 (dk_at dksX0_object_8 4 rfl rfl)
theorem dX0_object_194 : decode cX0_object 194 = .ok (.new 394, 3) := dk_187 1 138 (dk_at dksX0_object_8 7 rfl rfl)
theorem dX0_object_197 : decode cX0_object 197 = .ok (.dup, 1) := dk_89 (dk_at dksX0_object_8 10 rfl rfl)
theorem dX0_object_198 : decode cX0_object 198 = .ok (.aload_n 2, 1) := dk_44 (dk_at dksX0_object_8 11 rfl rfl)
theorem dX0_object_199 : decode cX0_object 199 = .ok (.getfield 291, 3) := dk_180 1 35 (dk_at dksX0_object_8 12 rfl rfl)
theorem dX0_object_202 : decode cX0_object 202 = .ok (.iload 4, 2) := dk_21 4 (dk_at dksX0_object_8 15 rfl rfl)
theorem dX0_object_204 : decode cX0_object 204 = .ok (.invokevirtual 218, 3) := dk_182 0 218 (dk_at dksX0_object_8 17 rfl rfl)
theorem dX0_object_207 : decode cX0_object 207 = .ok (.checkcast 205, 3) := dk_192 0 205 (dk_at dksX0_object_8 20 rfl rfl)
theorem dX0_object_210 : decode cX0_object 210 = .ok (.invokespecial 425, 3) := dk_183 1 169 (dk_at dksX0_object_9 0 rfl rfl)
theorem dX0_object_213 : decode cX0_object 213 = .ok (.invokevirtual 210, 3) := dk_182 0 210 (dk_at dksX0_object_9 3 rfl rfl)
theorem dX0_object_216 : decode cX0_object 216 = .ok (.pop, 1) := dk_87 (dk_at dksX0_object_9 6 rfl rfl)
theorem dX0_object_217 : decode cX0_object 217 = .ok (.iinc 4 1, 3) := dk_132 4 1 (dk_at dksX0_object_9 7 rfl rfl)
theorem dX0_object_220 : decode cX0_object 220 = .ok (.goto (-42), 3) := dk_167 255 214 (dk_at dksX0_object_9 10 rfl rfl)
theorem dX0_object_223 : decode cX0_object 223 = .ok (.aload_n 0, 1) := dk_42 (dk_at dksX0_object_9 13 rfl rfl)
theorem dX0_object_224 : decode cX0_object 224 = .ok (.getfield 139, 3) := dk_180 0 139 (dk_at dksX0_object_9 14 rfl rfl)
theorem dX0_object_227 : decode cX0_object 227 = .ok (.aload_n 3, 1) := dk_45 (dk_at dksX0_object_9 17 rfl rfl)
theorem dX0_object_228 : decode cX0_object 228 = .ok (.invokevirtual 210, 3) := dk_182 0 210 (dk_at dksX0_object_9 18 rfl rfl)
theorem dX0_object_231 : decode cX0_object 231 = .ok (.pop, 1) := dk_87 (dk_at dksX0_object_9 21 rfl rfl)
theorem dX0_object_232 : decode cX0_object 232 = .ok (.aload_n 3, 1) := dk_45 (dk_at dksX0_object_9 22 rfl rfl)
theorem dX0_object_233 : decode cX0_object 233 = .ok (.getfield 443, 3) := dk_180 1 187 (dk_at dksX0_object_10 0 rfl rfl)
theorem dX0_object_236 : decode cX0_object 236 = .ok (.ireturn, 1) := dk_172 (dk_at dksX0_object_10 3 rfl rfl)
abbrev cX0_beginRun : ByteArray := prog_1_method_44_code
def yX0_beginRun : MethodName := ⟨RX0, "beginRun", "()V"⟩
def dkwX0_beginRun_1 : List UInt8 := [16, 247, 181, 0, 194, 42, 9, 181, 1, 114, 177]
abbrev dktX0_beginRun_1 : List UInt8 := dkwX0_beginRun_1 ++ []
def dkwX0_beginRun_0 : List UInt8 := [42, 3, 181, 1, 108, 42, 3, 181, 1, 111, 42, 16, 247, 181, 0, 188, 42, 16, 247, 181, 0, 191, 42]
abbrev dktX0_beginRun_0 : List UInt8 := dkwX0_beginRun_0 ++ dktX0_beginRun_1
theorem dksX0_beginRun_0 : cX0_beginRun.data.toList.drop 0 = dktX0_beginRun_0 := by decide +kernel
theorem dksX0_beginRun_1 : cX0_beginRun.data.toList.drop 23 = dktX0_beginRun_1 := dk_seg dksX0_beginRun_0 23 rfl rfl
theorem dX0_beginRun_0 : decode cX0_beginRun 0 = .ok (.aload_n 0, 1) := dk_42 (dk_at dksX0_beginRun_0 0 rfl rfl)
theorem dX0_beginRun_1 : decode cX0_beginRun 1 = .ok (.iconst 0, 1) := dk_3 (dk_at dksX0_beginRun_0 1 rfl rfl)
theorem dX0_beginRun_2 : decode cX0_beginRun 2 = .ok (.putfield 364, 3) := dk_181 1 108 (dk_at dksX0_beginRun_0 2 rfl rfl)
theorem dX0_beginRun_5 : decode cX0_beginRun 5 = .ok (.aload_n 0, 1) := dk_42 (dk_at dksX0_beginRun_0 5 rfl rfl)
theorem dX0_beginRun_6 : decode cX0_beginRun 6 = .ok (.iconst 0, 1) := dk_3 (dk_at dksX0_beginRun_0 6 rfl rfl)
theorem dX0_beginRun_7 : decode cX0_beginRun 7 = .ok (.putfield 367, 3) := dk_181 1 111 (dk_at dksX0_beginRun_0 7 rfl rfl)
theorem dX0_beginRun_10 : decode cX0_beginRun 10 = .ok (.aload_n 0, 1) := dk_42 (dk_at dksX0_beginRun_0 10 rfl rfl)
theorem dX0_beginRun_11 : decode cX0_beginRun 11 = .ok (.bipush (-9), 2) := dk_16 247 (dk_at dksX0_beginRun_0 11 rfl rfl)
theorem dX0_beginRun_13 : decode cX0_beginRun 13 = .ok (.putfield 188, 3) := dk_181 0 188 (dk_at dksX0_beginRun_0 13 rfl rfl)
theorem dX0_beginRun_16 : decode cX0_beginRun 16 = .ok (.aload_n 0, 1) := dk_42 (dk_at dksX0_beginRun_0 16 rfl rfl)
theorem dX0_beginRun_17 : decode cX0_beginRun 17 = .ok (.bipush (-9), 2) := dk_16 247 (dk_at dksX0_beginRun_0 17 rfl rfl)
theorem dX0_beginRun_19 : decode cX0_beginRun 19 = .ok (.putfield 191, 3) := dk_181 0 191 (dk_at dksX0_beginRun_0 19 rfl rfl)
theorem dX0_beginRun_22 : decode cX0_beginRun 22 = .ok (.aload_n 0, 1) := dk_42 (dk_at dksX0_beginRun_0 22 rfl rfl)
theorem dX0_beginRun_23 : decode cX0_beginRun 23 = .ok (.bipush (-9), 2) := dk_16 247 (dk_at dksX0_beginRun_1 0 rfl rfl)
theorem dX0_beginRun_25 : decode cX0_beginRun 25 = .ok (.putfield 194, 3) := dk_181 0 194 (dk_at dksX0_beginRun_1 2 rfl rfl)
theorem dX0_beginRun_28 : decode cX0_beginRun 28 = .ok (.aload_n 0, 1) := dk_42 (dk_at dksX0_beginRun_1 5 rfl rfl)
theorem dX0_beginRun_29 : decode cX0_beginRun 29 = .ok (.lconst 0, 1) := dk_9 (dk_at dksX0_beginRun_1 6 rfl rfl)
theorem dX0_beginRun_30 : decode cX0_beginRun 30 = .ok (.putfield 370, 3) := dk_181 1 114 (dk_at dksX0_beginRun_1 7 rfl rfl)
theorem dX0_beginRun_33 : decode cX0_beginRun 33 = .ok (.return_, 1) := dk_177 (dk_at dksX0_beginRun_1 10 rfl rfl)
abbrev cX0_starts : ByteArray := prog_1_method_48_code
def yX0_starts : MethodName := ⟨RX0, "starts", "(LRoleLoom$Part;)Z"⟩
def dkwX0_starts_2 : List UInt8 := [181, 1, 171, 4, 172, 78, 42, 45, 182, 1, 174, 3, 172, 78, 3, 172]
abbrev dktX0_starts_2 : List UInt8 := dkwX0_starts_2 ++ []
def dkwX0_starts_1 : List UInt8 := [44, 1, 181, 1, 144, 44, 3, 181, 1, 147, 42, 42, 44, 43, 180, 0, 247, 9, 4, 182, 1, 150]
abbrev dktX0_starts_1 : List UInt8 := dkwX0_starts_1 ++ dktX0_starts_2
def dkwX0_starts_0 : List UInt8 := [42, 180, 0, 177, 4, 50, 77, 44, 1, 181, 1, 121, 44, 187, 1, 138, 89, 43, 183, 1, 169, 181, 1, 140]
abbrev dktX0_starts_0 : List UInt8 := dkwX0_starts_0 ++ dktX0_starts_1
theorem dksX0_starts_0 : cX0_starts.data.toList.drop 0 = dktX0_starts_0 := by decide +kernel
theorem dksX0_starts_1 : cX0_starts.data.toList.drop 24 = dktX0_starts_1 := dk_seg dksX0_starts_0 24 rfl rfl
theorem dksX0_starts_2 : cX0_starts.data.toList.drop 46 = dktX0_starts_2 := dk_seg dksX0_starts_1 22 rfl rfl
theorem dX0_starts_0 : decode cX0_starts 0 = .ok (.aload_n 0, 1) := dk_42 (dk_at dksX0_starts_0 0 rfl rfl)
theorem dX0_starts_1 : decode cX0_starts 1 = .ok (.getfield 177, 3) := dk_180 0 177 (dk_at dksX0_starts_0 1 rfl rfl)
theorem dX0_starts_4 : decode cX0_starts 4 = .ok (.iconst 1, 1) := dk_4 (dk_at dksX0_starts_0 4 rfl rfl)
theorem dX0_starts_5 : decode cX0_starts 5 = .ok (.aaload, 1) := dk_50 (dk_at dksX0_starts_0 5 rfl rfl)
theorem dX0_starts_6 : decode cX0_starts 6 = .ok (.astore_n 2, 1) := dk_77 (dk_at dksX0_starts_0 6 rfl rfl)
theorem dX0_starts_7 : decode cX0_starts 7 = .ok (.aload_n 2, 1) := dk_44 (dk_at dksX0_starts_0 7 rfl rfl)
theorem dX0_starts_8 : decode cX0_starts 8 = .ok (.aconst_null, 1) := dk_1 (dk_at dksX0_starts_0 8 rfl rfl)
theorem dX0_starts_9 : decode cX0_starts 9 = .ok (.putfield 377, 3) := dk_181 1 121 (dk_at dksX0_starts_0 9 rfl rfl)
theorem dX0_starts_12 : decode cX0_starts 12 = .ok (.aload_n 2, 1) := dk_44 (dk_at dksX0_starts_0 12 rfl rfl)
theorem dX0_starts_13 : decode cX0_starts 13 = .ok (.new 394, 3) := dk_187 1 138 (dk_at dksX0_starts_0 13 rfl rfl)
theorem dX0_starts_16 : decode cX0_starts 16 = .ok (.dup, 1) := dk_89 (dk_at dksX0_starts_0 16 rfl rfl)
theorem dX0_starts_17 : decode cX0_starts 17 = .ok (.aload_n 1, 1) := dk_43 (dk_at dksX0_starts_0 17 rfl rfl)
theorem dX0_starts_18 : decode cX0_starts 18 = .ok (.invokespecial 425, 3) := dk_183 1 169 (dk_at dksX0_starts_0 18 rfl rfl)
theorem dX0_starts_21 : decode cX0_starts 21 = .ok (.putfield 396, 3) := dk_181 1 140 (dk_at dksX0_starts_0 21 rfl rfl)
theorem dX0_starts_24 : decode cX0_starts 24 = .ok (.aload_n 2, 1) := dk_44 (dk_at dksX0_starts_1 0 rfl rfl)
theorem dX0_starts_25 : decode cX0_starts 25 = .ok (.aconst_null, 1) := dk_1 (dk_at dksX0_starts_1 1 rfl rfl)
theorem dX0_starts_26 : decode cX0_starts 26 = .ok (.putfield 400, 3) := dk_181 1 144 (dk_at dksX0_starts_1 2 rfl rfl)
theorem dX0_starts_29 : decode cX0_starts 29 = .ok (.aload_n 2, 1) := dk_44 (dk_at dksX0_starts_1 5 rfl rfl)
theorem dX0_starts_30 : decode cX0_starts 30 = .ok (.iconst 0, 1) := dk_3 (dk_at dksX0_starts_1 6 rfl rfl)
theorem dX0_starts_31 : decode cX0_starts 31 = .ok (.putfield 403, 3) := dk_181 1 147 (dk_at dksX0_starts_1 7 rfl rfl)
theorem dX0_starts_34 : decode cX0_starts 34 = .ok (.aload_n 0, 1) := dk_42 (dk_at dksX0_starts_1 10 rfl rfl)
theorem dX0_starts_35 : decode cX0_starts 35 = .ok (.aload_n 0, 1) := dk_42 (dk_at dksX0_starts_1 11 rfl rfl)
theorem dX0_starts_36 : decode cX0_starts 36 = .ok (.aload_n 2, 1) := dk_44 (dk_at dksX0_starts_1 12 rfl rfl)
theorem dX0_starts_37 : decode cX0_starts 37 = .ok (.aload_n 1, 1) := dk_43 (dk_at dksX0_starts_1 13 rfl rfl)
theorem dX0_starts_38 : decode cX0_starts 38 = .ok (.getfield 247, 3) := dk_180 0 247 (dk_at dksX0_starts_1 14 rfl rfl)
theorem dX0_starts_41 : decode cX0_starts 41 = .ok (.lconst 0, 1) := dk_9 (dk_at dksX0_starts_1 17 rfl rfl)
theorem dX0_starts_42 : decode cX0_starts 42 = .ok (.iconst 1, 1) := dk_4 (dk_at dksX0_starts_1 18 rfl rfl)
theorem dX0_starts_43 : decode cX0_starts 43 = .ok (.invokevirtual 406, 3) := dk_182 1 150 (dk_at dksX0_starts_1 19 rfl rfl)
theorem dX0_starts_46 : decode cX0_starts 46 = .ok (.putfield 427, 3) := dk_181 1 171 (dk_at dksX0_starts_2 0 rfl rfl)
theorem dX0_starts_49 : decode cX0_starts 49 = .ok (.iconst 1, 1) := dk_4 (dk_at dksX0_starts_2 3 rfl rfl)
theorem dX0_starts_50 : decode cX0_starts 50 = .ok (.ireturn, 1) := dk_172 (dk_at dksX0_starts_2 4 rfl rfl)
theorem dX0_starts_51 : decode cX0_starts 51 = .ok (.astore_n 3, 1) := dk_78 (dk_at dksX0_starts_2 5 rfl rfl)
theorem dX0_starts_52 : decode cX0_starts 52 = .ok (.aload_n 0, 1) := dk_42 (dk_at dksX0_starts_2 6 rfl rfl)
theorem dX0_starts_53 : decode cX0_starts 53 = .ok (.aload_n 3, 1) := dk_45 (dk_at dksX0_starts_2 7 rfl rfl)
theorem dX0_starts_54 : decode cX0_starts 54 = .ok (.invokevirtual 430, 3) := dk_182 1 174 (dk_at dksX0_starts_2 8 rfl rfl)
theorem dX0_starts_57 : decode cX0_starts 57 = .ok (.iconst 0, 1) := dk_3 (dk_at dksX0_starts_2 11 rfl rfl)
theorem dX0_starts_58 : decode cX0_starts 58 = .ok (.ireturn, 1) := dk_172 (dk_at dksX0_starts_2 12 rfl rfl)
theorem dX0_starts_59 : decode cX0_starts 59 = .ok (.astore_n 3, 1) := dk_78 (dk_at dksX0_starts_2 13 rfl rfl)
theorem dX0_starts_60 : decode cX0_starts 60 = .ok (.iconst 0, 1) := dk_3 (dk_at dksX0_starts_2 14 rfl rfl)
theorem dX0_starts_61 : decode cX0_starts 61 = .ok (.ireturn, 1) := dk_172 (dk_at dksX0_starts_2 15 rfl rfl)
abbrev cX0_goes : ByteArray := prog_1_method_47_code
def yX0_goes : MethodName := ⟨RX0, "goes", "(LRoleLoom$Frame;LRoleLoom$Body;JI)J"⟩
def dkwX0_goes_8 : List UInt8 := [25, 10, 180, 0, 13, 55, 6, 167, 255, 145, 22, 6, 173]
abbrev dktX0_goes_8 : List UInt8 := dkwX0_goes_8 ++ []
def dkwX0_goes_7 : List UInt8 := [21, 8, 153, 0, 15, 25, 10, 180, 0, 7, 44, 180, 1, 160, 159, 0, 6, 25, 10, 191, 3, 54, 8]
abbrev dktX0_goes_7 : List UInt8 := dkwX0_goes_7 ++ dktX0_goes_8
def dkwX0_goes_6 : List UInt8 := [180, 0, 30, 4, 96, 181, 0, 30, 25, 9, 43, 22, 6, 182, 1, 165, 55, 6, 167, 0, 35, 58, 10]
abbrev dktX0_goes_6 : List UInt8 := dkwX0_goes_6 ++ dktX0_goes_7
def dkwX0_goes_5 : List UInt8 := [4, 96, 181, 1, 108, 44, 180, 1, 4, 43, 180, 0, 30, 182, 0, 218, 192, 1, 163, 58, 9, 43, 89]
abbrev dktX0_goes_5 : List UInt8 := dkwX0_goes_5 ++ dktX0_goes_6
def dkwX0_goes_4 : List UInt8 := [162, 0, 103, 42, 180, 1, 108, 17, 5, 220, 160, 0, 9, 42, 6, 182, 1, 117, 191, 42, 89, 180, 1, 108]
abbrev dktX0_goes_4 : List UInt8 := dkwX0_goes_4 ++ dktX0_goes_5
def dkwX0_goes_3 : List UInt8 := [16, 247, 159, 0, 7, 4, 167, 0, 4, 3, 54, 8, 43, 180, 0, 30, 44, 180, 1, 4, 182, 0, 201]
abbrev dktX0_goes_3 : List UInt8 := dkwX0_goes_3 ++ dktX0_goes_4
def dkwX0_goes_2 : List UInt8 := [180, 1, 111, 21, 5, 79, 42, 89, 180, 1, 111, 4, 96, 181, 1, 111, 33, 55, 6, 44, 180, 1, 160]
abbrev dktX0_goes_2 : List UInt8 := dkwX0_goes_2 ++ dktX0_goes_3
def dkwX0_goes_1 : List UInt8 := [180, 1, 111, 16, 60, 162, 0, 34, 42, 180, 0, 181, 42, 180, 1, 111, 44, 83, 42, 180, 0, 185, 42]
abbrev dktX0_goes_1 : List UInt8 := dkwX0_goes_1 ++ dktX0_goes_2
def dkwX0_goes_0 : List UInt8 := [43, 44, 181, 0, 17, 43, 33, 181, 1, 154, 43, 3, 181, 0, 30, 43, 21, 5, 181, 1, 157, 42]
abbrev dktX0_goes_0 : List UInt8 := dkwX0_goes_0 ++ dktX0_goes_1
theorem dksX0_goes_0 : cX0_goes.data.toList.drop 0 = dktX0_goes_0 := by decide +kernel
theorem dksX0_goes_1 : cX0_goes.data.toList.drop 22 = dktX0_goes_1 := dk_seg dksX0_goes_0 22 rfl rfl
theorem dksX0_goes_2 : cX0_goes.data.toList.drop 45 = dktX0_goes_2 := dk_seg dksX0_goes_1 23 rfl rfl
theorem dksX0_goes_3 : cX0_goes.data.toList.drop 68 = dktX0_goes_3 := dk_seg dksX0_goes_2 23 rfl rfl
theorem dksX0_goes_4 : cX0_goes.data.toList.drop 91 = dktX0_goes_4 := dk_seg dksX0_goes_3 23 rfl rfl
theorem dksX0_goes_5 : cX0_goes.data.toList.drop 115 = dktX0_goes_5 := dk_seg dksX0_goes_4 24 rfl rfl
theorem dksX0_goes_6 : cX0_goes.data.toList.drop 138 = dktX0_goes_6 := dk_seg dksX0_goes_5 23 rfl rfl
theorem dksX0_goes_7 : cX0_goes.data.toList.drop 161 = dktX0_goes_7 := dk_seg dksX0_goes_6 23 rfl rfl
theorem dksX0_goes_8 : cX0_goes.data.toList.drop 184 = dktX0_goes_8 := dk_seg dksX0_goes_7 23 rfl rfl
theorem dX0_goes_0 : decode cX0_goes 0 = .ok (.aload_n 1, 1) := dk_43 (dk_at dksX0_goes_0 0 rfl rfl)
theorem dX0_goes_1 : decode cX0_goes 1 = .ok (.aload_n 2, 1) := dk_44 (dk_at dksX0_goes_0 1 rfl rfl)
theorem dX0_goes_2 : decode cX0_goes 2 = .ok (.putfield 17, 3) := dk_181 0 17 (dk_at dksX0_goes_0 2 rfl rfl)
theorem dX0_goes_5 : decode cX0_goes 5 = .ok (.aload_n 1, 1) := dk_43 (dk_at dksX0_goes_0 5 rfl rfl)
theorem dX0_goes_6 : decode cX0_goes 6 = .ok (.lload_n 3, 1) := dk_33 (dk_at dksX0_goes_0 6 rfl rfl)
theorem dX0_goes_7 : decode cX0_goes 7 = .ok (.putfield 410, 3) := dk_181 1 154 (dk_at dksX0_goes_0 7 rfl rfl)
theorem dX0_goes_10 : decode cX0_goes 10 = .ok (.aload_n 1, 1) := dk_43 (dk_at dksX0_goes_0 10 rfl rfl)
theorem dX0_goes_11 : decode cX0_goes 11 = .ok (.iconst 0, 1) := dk_3 (dk_at dksX0_goes_0 11 rfl rfl)
theorem dX0_goes_12 : decode cX0_goes 12 = .ok (.putfield 30, 3) := dk_181 0 30 (dk_at dksX0_goes_0 12 rfl rfl)
theorem dX0_goes_15 : decode cX0_goes 15 = .ok (.aload_n 1, 1) := dk_43 (dk_at dksX0_goes_0 15 rfl rfl)
theorem dX0_goes_16 : decode cX0_goes 16 = .ok (.iload 5, 2) := dk_21 5 (dk_at dksX0_goes_0 16 rfl rfl)
theorem dX0_goes_18 : decode cX0_goes 18 = .ok (.putfield 413, 3) := dk_181 1 157 (dk_at dksX0_goes_0 18 rfl rfl)
theorem dX0_goes_21 : decode cX0_goes 21 = .ok (.aload_n 0, 1) := dk_42 (dk_at dksX0_goes_0 21 rfl rfl)
theorem dX0_goes_22 : decode cX0_goes 22 = .ok (.getfield 367, 3) := dk_180 1 111 (dk_at dksX0_goes_1 0 rfl rfl)
theorem dX0_goes_25 : decode cX0_goes 25 = .ok (.bipush 60, 2) := dk_16 60 (dk_at dksX0_goes_1 3 rfl rfl)
theorem dX0_goes_27 : decode cX0_goes 27 = .ok (.if_icmp .ge 34, 3) := dk_162 0 34 (dk_at dksX0_goes_1 5 rfl rfl)
theorem dX0_goes_30 : decode cX0_goes 30 = .ok (.aload_n 0, 1) := dk_42 (dk_at dksX0_goes_1 8 rfl rfl)
theorem dX0_goes_31 : decode cX0_goes 31 = .ok (.getfield 181, 3) := dk_180 0 181 (dk_at dksX0_goes_1 9 rfl rfl)
theorem dX0_goes_34 : decode cX0_goes 34 = .ok (.aload_n 0, 1) := dk_42 (dk_at dksX0_goes_1 12 rfl rfl)
theorem dX0_goes_35 : decode cX0_goes 35 = .ok (.getfield 367, 3) := dk_180 1 111 (dk_at dksX0_goes_1 13 rfl rfl)
theorem dX0_goes_38 : decode cX0_goes 38 = .ok (.aload_n 2, 1) := dk_44 (dk_at dksX0_goes_1 16 rfl rfl)
theorem dX0_goes_39 : decode cX0_goes 39 = .ok (.aastore, 1) := dk_83 (dk_at dksX0_goes_1 17 rfl rfl)
theorem dX0_goes_40 : decode cX0_goes 40 = .ok (.aload_n 0, 1) := dk_42 (dk_at dksX0_goes_1 18 rfl rfl)
theorem dX0_goes_41 : decode cX0_goes 41 = .ok (.getfield 185, 3) := dk_180 0 185 (dk_at dksX0_goes_1 19 rfl rfl)
theorem dX0_goes_44 : decode cX0_goes 44 = .ok (.aload_n 0, 1) := dk_42 (dk_at dksX0_goes_1 22 rfl rfl)
theorem dX0_goes_45 : decode cX0_goes 45 = .ok (.getfield 367, 3) := dk_180 1 111 (dk_at dksX0_goes_2 0 rfl rfl)
theorem dX0_goes_48 : decode cX0_goes 48 = .ok (.iload 5, 2) := dk_21 5 (dk_at dksX0_goes_2 3 rfl rfl)
theorem dX0_goes_50 : decode cX0_goes 50 = .ok (.iastore, 1) := dk_79 (dk_at dksX0_goes_2 5 rfl rfl)
theorem dX0_goes_51 : decode cX0_goes 51 = .ok (.aload_n 0, 1) := dk_42 (dk_at dksX0_goes_2 6 rfl rfl)
theorem dX0_goes_52 : decode cX0_goes 52 = .ok (.dup, 1) := dk_89 (dk_at dksX0_goes_2 7 rfl rfl)
theorem dX0_goes_53 : decode cX0_goes 53 = .ok (.getfield 367, 3) := dk_180 1 111 (dk_at dksX0_goes_2 8 rfl rfl)
theorem dX0_goes_56 : decode cX0_goes 56 = .ok (.iconst 1, 1) := dk_4 (dk_at dksX0_goes_2 11 rfl rfl)
theorem dX0_goes_57 : decode cX0_goes 57 = .ok (.iadd, 1) := dk_96 (dk_at dksX0_goes_2 12 rfl rfl)
theorem dX0_goes_58 : decode cX0_goes 58 = .ok (.putfield 367, 3) := dk_181 1 111 (dk_at dksX0_goes_2 13 rfl rfl)
theorem dX0_goes_61 : decode cX0_goes 61 = .ok (.lload_n 3, 1) := dk_33 (dk_at dksX0_goes_2 16 rfl rfl)
theorem dX0_goes_62 : decode cX0_goes 62 = .ok (.lstore 6, 2) := dk_55 6 (dk_at dksX0_goes_2 17 rfl rfl)
theorem dX0_goes_64 : decode cX0_goes 64 = .ok (.aload_n 2, 1) := dk_44 (dk_at dksX0_goes_2 19 rfl rfl)
theorem dX0_goes_65 : decode cX0_goes 65 = .ok (.getfield 416, 3) := dk_180 1 160 (dk_at dksX0_goes_2 20 rfl rfl)
theorem dX0_goes_68 : decode cX0_goes 68 = .ok (.bipush (-9), 2) := dk_16 247 (dk_at dksX0_goes_3 0 rfl rfl)
theorem dX0_goes_70 : decode cX0_goes 70 = .ok (.if_icmp .eq 7, 3) := dk_159 0 7 (dk_at dksX0_goes_3 2 rfl rfl)
theorem dX0_goes_73 : decode cX0_goes 73 = .ok (.iconst 1, 1) := dk_4 (dk_at dksX0_goes_3 5 rfl rfl)
theorem dX0_goes_74 : decode cX0_goes 74 = .ok (.goto 4, 3) := dk_167 0 4 (dk_at dksX0_goes_3 6 rfl rfl)
theorem dX0_goes_77 : decode cX0_goes 77 = .ok (.iconst 0, 1) := dk_3 (dk_at dksX0_goes_3 9 rfl rfl)
theorem dX0_goes_78 : decode cX0_goes 78 = .ok (.istore 8, 2) := dk_54 8 (dk_at dksX0_goes_3 10 rfl rfl)
theorem dX0_goes_80 : decode cX0_goes 80 = .ok (.aload_n 1, 1) := dk_43 (dk_at dksX0_goes_3 12 rfl rfl)
theorem dX0_goes_81 : decode cX0_goes 81 = .ok (.getfield 30, 3) := dk_180 0 30 (dk_at dksX0_goes_3 13 rfl rfl)
theorem dX0_goes_84 : decode cX0_goes 84 = .ok (.aload_n 2, 1) := dk_44 (dk_at dksX0_goes_3 16 rfl rfl)
theorem dX0_goes_85 : decode cX0_goes 85 = .ok (.getfield 260, 3) := dk_180 1 4 (dk_at dksX0_goes_3 17 rfl rfl)
theorem dX0_goes_88 : decode cX0_goes 88 = .ok (.invokevirtual 201, 3) := dk_182 0 201 (dk_at dksX0_goes_3 20 rfl rfl)
theorem dX0_goes_91 : decode cX0_goes 91 = .ok (.if_icmp .ge 103, 3) := dk_162 0 103 (dk_at dksX0_goes_4 0 rfl rfl)
theorem dX0_goes_94 : decode cX0_goes 94 = .ok (.aload_n 0, 1) := dk_42 (dk_at dksX0_goes_4 3 rfl rfl)
theorem dX0_goes_95 : decode cX0_goes 95 = .ok (.getfield 364, 3) := dk_180 1 108 (dk_at dksX0_goes_4 4 rfl rfl)
theorem dX0_goes_98 : decode cX0_goes 98 = .ok (.sipush 1500, 3) := dk_17 5 220 (dk_at dksX0_goes_4 7 rfl rfl)
theorem dX0_goes_101 : decode cX0_goes 101 = .ok (.if_icmp .ne 9, 3) := dk_160 0 9 (dk_at dksX0_goes_4 10 rfl rfl)
theorem dX0_goes_104 : decode cX0_goes 104 = .ok (.aload_n 0, 1) := dk_42 (dk_at dksX0_goes_4 13 rfl rfl)
theorem dX0_goes_105 : decode cX0_goes 105 = .ok (.iconst 3, 1) := dk_6 (dk_at dksX0_goes_4 14 rfl rfl)
theorem dX0_goes_106 : decode cX0_goes 106 = .ok (.invokevirtual 373, 3) := dk_182 1 117 (dk_at dksX0_goes_4 15 rfl rfl)
theorem dX0_goes_109 : decode cX0_goes 109 = .ok (.athrow, 1) := dk_191 (dk_at dksX0_goes_4 18 rfl rfl)
theorem dX0_goes_110 : decode cX0_goes 110 = .ok (.aload_n 0, 1) := dk_42 (dk_at dksX0_goes_4 19 rfl rfl)
theorem dX0_goes_111 : decode cX0_goes 111 = .ok (.dup, 1) := dk_89 (dk_at dksX0_goes_4 20 rfl rfl)
theorem dX0_goes_112 : decode cX0_goes 112 = .ok (.getfield 364, 3) := dk_180 1 108 (dk_at dksX0_goes_4 21 rfl rfl)
theorem dX0_goes_115 : decode cX0_goes 115 = .ok (.iconst 1, 1) := dk_4 (dk_at dksX0_goes_5 0 rfl rfl)
theorem dX0_goes_116 : decode cX0_goes 116 = .ok (.iadd, 1) := dk_96 (dk_at dksX0_goes_5 1 rfl rfl)
theorem dX0_goes_117 : decode cX0_goes 117 = .ok (.putfield 364, 3) := dk_181 1 108 (dk_at dksX0_goes_5 2 rfl rfl)
theorem dX0_goes_120 : decode cX0_goes 120 = .ok (.aload_n 2, 1) := dk_44 (dk_at dksX0_goes_5 5 rfl rfl)
theorem dX0_goes_121 : decode cX0_goes 121 = .ok (.getfield 260, 3) := dk_180 1 4 (dk_at dksX0_goes_5 6 rfl rfl)
theorem dX0_goes_124 : decode cX0_goes 124 = .ok (.aload_n 1, 1) := dk_43 (dk_at dksX0_goes_5 9 rfl rfl)
theorem dX0_goes_125 : decode cX0_goes 125 = .ok (.getfield 30, 3) := dk_180 0 30 (dk_at dksX0_goes_5 10 rfl rfl)
theorem dX0_goes_128 : decode cX0_goes 128 = .ok (.invokevirtual 218, 3) := dk_182 0 218 (dk_at dksX0_goes_5 13 rfl rfl)
theorem dX0_goes_131 : decode cX0_goes 131 = .ok (.checkcast 419, 3) := dk_192 1 163 (dk_at dksX0_goes_5 16 rfl rfl)
theorem dX0_goes_134 : decode cX0_goes 134 = .ok (.astore 9, 2) := dk_58 9 (dk_at dksX0_goes_5 19 rfl rfl)
theorem dX0_goes_136 : decode cX0_goes 136 = .ok (.aload_n 1, 1) := dk_43 (dk_at dksX0_goes_5 21 rfl rfl)
theorem dX0_goes_137 : decode cX0_goes 137 = .ok (.dup, 1) := dk_89 (dk_at dksX0_goes_5 22 rfl rfl)
theorem dX0_goes_138 : decode cX0_goes 138 = .ok (.getfield 30, 3) := dk_180 0 30 (dk_at dksX0_goes_6 0 rfl rfl)
theorem dX0_goes_141 : decode cX0_goes 141 = .ok (.iconst 1, 1) := dk_4 (dk_at dksX0_goes_6 3 rfl rfl)
theorem dX0_goes_142 : decode cX0_goes 142 = .ok (.iadd, 1) := dk_96 (dk_at dksX0_goes_6 4 rfl rfl)
theorem dX0_goes_143 : decode cX0_goes 143 = .ok (.putfield 30, 3) := dk_181 0 30 (dk_at dksX0_goes_6 5 rfl rfl)
theorem dX0_goes_146 : decode cX0_goes 146 = .ok (.aload 9, 2) := dk_25 9 (dk_at dksX0_goes_6 8 rfl rfl)
theorem dX0_goes_148 : decode cX0_goes 148 = .ok (.aload_n 1, 1) := dk_43 (dk_at dksX0_goes_6 10 rfl rfl)
theorem dX0_goes_149 : decode cX0_goes 149 = .ok (.lload 6, 2) := dk_22 6 (dk_at dksX0_goes_6 11 rfl rfl)
theorem dX0_goes_151 : decode cX0_goes 151 = .ok (.invokevirtual 421, 3) := dk_182 1 165 (dk_at dksX0_goes_6 13 rfl rfl)
theorem dX0_goes_154 : decode cX0_goes 154 = .ok (.lstore 6, 2) := dk_55 6 (dk_at dksX0_goes_6 16 rfl rfl)
theorem dX0_goes_156 : decode cX0_goes 156 = .ok (.goto 35, 3) := dk_167 0 35 (dk_at dksX0_goes_6 18 rfl rfl)
theorem dX0_goes_159 : decode cX0_goes 159 = .ok (.astore 10, 2) := dk_58 10 (dk_at dksX0_goes_6 21 rfl rfl)
theorem dX0_goes_161 : decode cX0_goes 161 = .ok (.iload 8, 2) := dk_21 8 (dk_at dksX0_goes_7 0 rfl rfl)
theorem dX0_goes_163 : decode cX0_goes 163 = .ok (.ifCond .eq 15, 3) := dk_153 0 15 (dk_at dksX0_goes_7 2 rfl rfl)
theorem dX0_goes_166 : decode cX0_goes 166 = .ok (.aload 10, 2) := dk_25 10 (dk_at dksX0_goes_7 5 rfl rfl)
theorem dX0_goes_168 : decode cX0_goes 168 = .ok (.getfield 7, 3) := dk_180 0 7 (dk_at dksX0_goes_7 7 rfl rfl)
theorem dX0_goes_171 : decode cX0_goes 171 = .ok (.aload_n 2, 1) := dk_44 (dk_at dksX0_goes_7 10 rfl rfl)
theorem dX0_goes_172 : decode cX0_goes 172 = .ok (.getfield 416, 3) := dk_180 1 160 (dk_at dksX0_goes_7 11 rfl rfl)
theorem dX0_goes_175 : decode cX0_goes 175 = .ok (.if_icmp .eq 6, 3) := dk_159 0 6 (dk_at dksX0_goes_7 14 rfl rfl)
theorem dX0_goes_178 : decode cX0_goes 178 = .ok (.aload 10, 2) := dk_25 10 (dk_at dksX0_goes_7 17 rfl rfl)
theorem dX0_goes_180 : decode cX0_goes 180 = .ok (.athrow, 1) := dk_191 (dk_at dksX0_goes_7 19 rfl rfl)
theorem dX0_goes_181 : decode cX0_goes 181 = .ok (.iconst 0, 1) := dk_3 (dk_at dksX0_goes_7 20 rfl rfl)
theorem dX0_goes_182 : decode cX0_goes 182 = .ok (.istore 8, 2) := dk_54 8 (dk_at dksX0_goes_7 21 rfl rfl)
theorem dX0_goes_184 : decode cX0_goes 184 = .ok (.aload 10, 2) := dk_25 10 (dk_at dksX0_goes_8 0 rfl rfl)
theorem dX0_goes_186 : decode cX0_goes 186 = .ok (.getfield 13, 3) := dk_180 0 13 (dk_at dksX0_goes_8 2 rfl rfl)
theorem dX0_goes_189 : decode cX0_goes 189 = .ok (.lstore 6, 2) := dk_55 6 (dk_at dksX0_goes_8 5 rfl rfl)
theorem dX0_goes_191 : decode cX0_goes 191 = .ok (.goto (-111), 3) := dk_167 255 145 (dk_at dksX0_goes_8 7 rfl rfl)
theorem dX0_goes_194 : decode cX0_goes 194 = .ok (.lload 6, 2) := dk_22 6 (dk_at dksX0_goes_8 10 rfl rfl)
theorem dX0_goes_196 : decode cX0_goes 196 = .ok (.lreturn, 1) := dk_173 (dk_at dksX0_goes_8 12 rfl rfl)
abbrev cX0_stops : ByteArray := prog_1_method_3_code
def yX0_stops : MethodName := ⟨RX0, "stops", "(I)LRoleLoom$Stop;"⟩
def dkwX0_stops_0 : List UInt8 := [42, 180, 0, 36, 27, 181, 0, 40, 42, 180, 0, 36, 176]
abbrev dktX0_stops_0 : List UInt8 := dkwX0_stops_0 ++ []
theorem dksX0_stops_0 : cX0_stops.data.toList.drop 0 = dktX0_stops_0 := by decide +kernel
theorem dX0_stops_0 : decode cX0_stops 0 = .ok (.aload_n 0, 1) := dk_42 (dk_at dksX0_stops_0 0 rfl rfl)
theorem dX0_stops_1 : decode cX0_stops 1 = .ok (.getfield 36, 3) := dk_180 0 36 (dk_at dksX0_stops_0 1 rfl rfl)
theorem dX0_stops_4 : decode cX0_stops 4 = .ok (.iload_n 1, 1) := dk_27 (dk_at dksX0_stops_0 4 rfl rfl)
theorem dX0_stops_5 : decode cX0_stops 5 = .ok (.putfield 40, 3) := dk_181 0 40 (dk_at dksX0_stops_0 5 rfl rfl)
theorem dX0_stops_8 : decode cX0_stops 8 = .ok (.aload_n 0, 1) := dk_42 (dk_at dksX0_stops_0 8 rfl rfl)
theorem dX0_stops_9 : decode cX0_stops 9 = .ok (.getfield 36, 3) := dk_180 0 36 (dk_at dksX0_stops_0 9 rfl rfl)
theorem dX0_stops_12 : decode cX0_stops 12 = .ok (.areturn, 1) := dk_176 (dk_at dksX0_stops_0 12 rfl rfl)
abbrev cX0_thrown : ByteArray := prog_1_method_2_code
def yX0_thrown : MethodName := ⟨RX0, "thrown", "(LRoleLoom$Frame;IJ)LRoleLoom$Thrown;"⟩
def dkwX0_thrown_1 : List UInt8 := [180, 0, 23, 181, 0, 29, 42, 180, 0, 1, 43, 180, 0, 30, 4, 100, 181, 0, 33, 42, 180, 0, 1, 176]
abbrev dktX0_thrown_1 : List UInt8 := dkwX0_thrown_1 ++ []
def dkwX0_thrown_0 : List UInt8 := [42, 180, 0, 1, 28, 181, 0, 7, 42, 180, 0, 1, 33, 181, 0, 13, 42, 180, 0, 1, 43, 180, 0, 17]
abbrev dktX0_thrown_0 : List UInt8 := dkwX0_thrown_0 ++ dktX0_thrown_1
theorem dksX0_thrown_0 : cX0_thrown.data.toList.drop 0 = dktX0_thrown_0 := by decide +kernel
theorem dksX0_thrown_1 : cX0_thrown.data.toList.drop 24 = dktX0_thrown_1 := dk_seg dksX0_thrown_0 24 rfl rfl
theorem dX0_thrown_0 : decode cX0_thrown 0 = .ok (.aload_n 0, 1) := dk_42 (dk_at dksX0_thrown_0 0 rfl rfl)
theorem dX0_thrown_1 : decode cX0_thrown 1 = .ok (.getfield 1, 3) := dk_180 0 1 (dk_at dksX0_thrown_0 1 rfl rfl)
theorem dX0_thrown_4 : decode cX0_thrown 4 = .ok (.iload_n 2, 1) := dk_28 (dk_at dksX0_thrown_0 4 rfl rfl)
theorem dX0_thrown_5 : decode cX0_thrown 5 = .ok (.putfield 7, 3) := dk_181 0 7 (dk_at dksX0_thrown_0 5 rfl rfl)
theorem dX0_thrown_8 : decode cX0_thrown 8 = .ok (.aload_n 0, 1) := dk_42 (dk_at dksX0_thrown_0 8 rfl rfl)
theorem dX0_thrown_9 : decode cX0_thrown 9 = .ok (.getfield 1, 3) := dk_180 0 1 (dk_at dksX0_thrown_0 9 rfl rfl)
theorem dX0_thrown_12 : decode cX0_thrown 12 = .ok (.lload_n 3, 1) := dk_33 (dk_at dksX0_thrown_0 12 rfl rfl)
theorem dX0_thrown_13 : decode cX0_thrown 13 = .ok (.putfield 13, 3) := dk_181 0 13 (dk_at dksX0_thrown_0 13 rfl rfl)
theorem dX0_thrown_16 : decode cX0_thrown 16 = .ok (.aload_n 0, 1) := dk_42 (dk_at dksX0_thrown_0 16 rfl rfl)
theorem dX0_thrown_17 : decode cX0_thrown 17 = .ok (.getfield 1, 3) := dk_180 0 1 (dk_at dksX0_thrown_0 17 rfl rfl)
theorem dX0_thrown_20 : decode cX0_thrown 20 = .ok (.aload_n 1, 1) := dk_43 (dk_at dksX0_thrown_0 20 rfl rfl)
theorem dX0_thrown_21 : decode cX0_thrown 21 = .ok (.getfield 17, 3) := dk_180 0 17 (dk_at dksX0_thrown_0 21 rfl rfl)
theorem dX0_thrown_24 : decode cX0_thrown 24 = .ok (.getfield 23, 3) := dk_180 0 23 (dk_at dksX0_thrown_1 0 rfl rfl)
theorem dX0_thrown_27 : decode cX0_thrown 27 = .ok (.putfield 29, 3) := dk_181 0 29 (dk_at dksX0_thrown_1 3 rfl rfl)
theorem dX0_thrown_30 : decode cX0_thrown 30 = .ok (.aload_n 0, 1) := dk_42 (dk_at dksX0_thrown_1 6 rfl rfl)
theorem dX0_thrown_31 : decode cX0_thrown 31 = .ok (.getfield 1, 3) := dk_180 0 1 (dk_at dksX0_thrown_1 7 rfl rfl)
theorem dX0_thrown_34 : decode cX0_thrown 34 = .ok (.aload_n 1, 1) := dk_43 (dk_at dksX0_thrown_1 10 rfl rfl)
theorem dX0_thrown_35 : decode cX0_thrown 35 = .ok (.getfield 30, 3) := dk_180 0 30 (dk_at dksX0_thrown_1 11 rfl rfl)
theorem dX0_thrown_38 : decode cX0_thrown 38 = .ok (.iconst 1, 1) := dk_4 (dk_at dksX0_thrown_1 14 rfl rfl)
theorem dX0_thrown_39 : decode cX0_thrown 39 = .ok (.isub, 1) := dk_100 (dk_at dksX0_thrown_1 15 rfl rfl)
theorem dX0_thrown_40 : decode cX0_thrown 40 = .ok (.putfield 33, 3) := dk_181 0 33 (dk_at dksX0_thrown_1 16 rfl rfl)
theorem dX0_thrown_43 : decode cX0_thrown 43 = .ok (.aload_n 0, 1) := dk_42 (dk_at dksX0_thrown_1 19 rfl rfl)
theorem dX0_thrown_44 : decode cX0_thrown 44 = .ok (.getfield 1, 3) := dk_180 0 1 (dk_at dksX0_thrown_1 20 rfl rfl)
theorem dX0_thrown_47 : decode cX0_thrown 47 = .ok (.areturn, 1) := dk_176 (dk_at dksX0_thrown_1 23 rfl rfl)
abbrev cX0_run : ByteArray := prog_1_method_46_code
def yX0_run : MethodName := ⟨RX0, "run", "(LRoleLoom$Thing;Ljava/util/ArrayList;IJI)J"⟩
def dkwX0_run_3 : List UInt8 := [181, 1, 144, 25, 8, 29, 181, 1, 147, 42, 25, 8, 25, 7, 22, 4, 21, 6, 182, 1, 150, 173]
abbrev dktX0_run_3 : List UInt8 := dkwX0_run_3 ++ []
def dkwX0_run_2 : List UInt8 := [180, 1, 35, 25, 7, 180, 0, 23, 182, 1, 134, 182, 0, 218, 192, 1, 138, 181, 1, 140, 25, 8, 44]
abbrev dktX0_run_2 : List UInt8 := dkwX0_run_2 ++ dktX0_run_3
def dkwX0_run_1 : List UInt8 := [180, 0, 177, 21, 6, 50, 58, 8, 25, 8, 43, 181, 1, 121, 25, 8, 43, 180, 1, 125, 43, 180, 1, 130]
abbrev dktX0_run_1 : List UInt8 := dkwX0_run_1 ++ dktX0_run_2
def dkwX0_run_0 : List UInt8 := [44, 29, 182, 0, 218, 192, 0, 24, 58, 7, 21, 6, 16, 40, 164, 0, 9, 42, 7, 182, 1, 117, 191, 42]
abbrev dktX0_run_0 : List UInt8 := dkwX0_run_0 ++ dktX0_run_1
theorem dksX0_run_0 : cX0_run.data.toList.drop 0 = dktX0_run_0 := by decide +kernel
theorem dksX0_run_1 : cX0_run.data.toList.drop 24 = dktX0_run_1 := dk_seg dksX0_run_0 24 rfl rfl
theorem dksX0_run_2 : cX0_run.data.toList.drop 48 = dktX0_run_2 := dk_seg dksX0_run_1 24 rfl rfl
theorem dksX0_run_3 : cX0_run.data.toList.drop 71 = dktX0_run_3 := dk_seg dksX0_run_2 23 rfl rfl
theorem dX0_run_0 : decode cX0_run 0 = .ok (.aload_n 2, 1) := dk_44 (dk_at dksX0_run_0 0 rfl rfl)
theorem dX0_run_1 : decode cX0_run 1 = .ok (.iload_n 3, 1) := dk_29 (dk_at dksX0_run_0 1 rfl rfl)
theorem dX0_run_2 : decode cX0_run 2 = .ok (.invokevirtual 218, 3) := dk_182 0 218 (dk_at dksX0_run_0 2 rfl rfl)
theorem dX0_run_5 : decode cX0_run 5 = .ok (.checkcast 24, 3) := dk_192 0 24 (dk_at dksX0_run_0 5 rfl rfl)
theorem dX0_run_8 : decode cX0_run 8 = .ok (.astore 7, 2) := dk_58 7 (dk_at dksX0_run_0 8 rfl rfl)
theorem dX0_run_10 : decode cX0_run 10 = .ok (.iload 6, 2) := dk_21 6 (dk_at dksX0_run_0 10 rfl rfl)
theorem dX0_run_12 : decode cX0_run 12 = .ok (.bipush 40, 2) := dk_16 40 (dk_at dksX0_run_0 12 rfl rfl)
theorem dX0_run_14 : decode cX0_run 14 = .ok (.if_icmp .le 9, 3) := dk_164 0 9 (dk_at dksX0_run_0 14 rfl rfl)
theorem dX0_run_17 : decode cX0_run 17 = .ok (.aload_n 0, 1) := dk_42 (dk_at dksX0_run_0 17 rfl rfl)
theorem dX0_run_18 : decode cX0_run 18 = .ok (.iconst 4, 1) := dk_7 (dk_at dksX0_run_0 18 rfl rfl)
theorem dX0_run_19 : decode cX0_run 19 = .ok (.invokevirtual 373, 3) := dk_182 1 117 (dk_at dksX0_run_0 19 rfl rfl)
theorem dX0_run_22 : decode cX0_run 22 = .ok (.athrow, 1) := dk_191 (dk_at dksX0_run_0 22 rfl rfl)
theorem dX0_run_23 : decode cX0_run 23 = .ok (.aload_n 0, 1) := dk_42 (dk_at dksX0_run_0 23 rfl rfl)
theorem dX0_run_24 : decode cX0_run 24 = .ok (.getfield 177, 3) := dk_180 0 177 (dk_at dksX0_run_1 0 rfl rfl)
theorem dX0_run_27 : decode cX0_run 27 = .ok (.iload 6, 2) := dk_21 6 (dk_at dksX0_run_1 3 rfl rfl)
theorem dX0_run_29 : decode cX0_run 29 = .ok (.aaload, 1) := dk_50 (dk_at dksX0_run_1 5 rfl rfl)
theorem dX0_run_30 : decode cX0_run 30 = .ok (.astore 8, 2) := dk_58 8 (dk_at dksX0_run_1 6 rfl rfl)
theorem dX0_run_32 : decode cX0_run 32 = .ok (.aload 8, 2) := dk_25 8 (dk_at dksX0_run_1 8 rfl rfl)
theorem dX0_run_34 : decode cX0_run 34 = .ok (.aload_n 1, 1) := dk_43 (dk_at dksX0_run_1 10 rfl rfl)
theorem dX0_run_35 : decode cX0_run 35 = .ok (.putfield 377, 3) := dk_181 1 121 (dk_at dksX0_run_1 11 rfl rfl)
theorem dX0_run_38 : decode cX0_run 38 = .ok (.aload 8, 2) := dk_25 8 (dk_at dksX0_run_1 14 rfl rfl)
theorem dX0_run_40 : decode cX0_run 40 = .ok (.aload_n 1, 1) := dk_43 (dk_at dksX0_run_1 16 rfl rfl)
theorem dX0_run_41 : decode cX0_run 41 = .ok (.getfield 381, 3) := dk_180 1 125 (dk_at dksX0_run_1 17 rfl rfl)
theorem dX0_run_44 : decode cX0_run 44 = .ok (.aload_n 1, 1) := dk_43 (dk_at dksX0_run_1 20 rfl rfl)
theorem dX0_run_45 : decode cX0_run 45 = .ok (.getfield 386, 3) := dk_180 1 130 (dk_at dksX0_run_1 21 rfl rfl)
theorem dX0_run_48 : decode cX0_run 48 = .ok (.getfield 291, 3) := dk_180 1 35 (dk_at dksX0_run_2 0 rfl rfl)
theorem dX0_run_51 : decode cX0_run 51 = .ok (.aload 7, 2) := dk_25 7 (dk_at dksX0_run_2 3 rfl rfl)
theorem dX0_run_53 : decode cX0_run 53 = .ok (.getfield 23, 3) := dk_180 0 23 (dk_at dksX0_run_2 5 rfl rfl)
theorem dX0_run_56 : decode cX0_run 56 = .ok (.invokevirtual 390, 3) := dk_182 1 134 (dk_at dksX0_run_2 8 rfl rfl)
theorem dX0_run_59 : decode cX0_run 59 = .ok (.invokevirtual 218, 3) := dk_182 0 218 (dk_at dksX0_run_2 11 rfl rfl)
theorem dX0_run_62 : decode cX0_run 62 = .ok (.checkcast 394, 3) := dk_192 1 138 (dk_at dksX0_run_2 14 rfl rfl)
theorem dX0_run_65 : decode cX0_run 65 = .ok (.putfield 396, 3) := dk_181 1 140 (dk_at dksX0_run_2 17 rfl rfl)
theorem dX0_run_68 : decode cX0_run 68 = .ok (.aload 8, 2) := dk_25 8 (dk_at dksX0_run_2 20 rfl rfl)
theorem dX0_run_70 : decode cX0_run 70 = .ok (.aload_n 2, 1) := dk_44 (dk_at dksX0_run_2 22 rfl rfl)
theorem dX0_run_71 : decode cX0_run 71 = .ok (.putfield 400, 3) := dk_181 1 144 (dk_at dksX0_run_3 0 rfl rfl)
theorem dX0_run_74 : decode cX0_run 74 = .ok (.aload 8, 2) := dk_25 8 (dk_at dksX0_run_3 3 rfl rfl)
theorem dX0_run_76 : decode cX0_run 76 = .ok (.iload_n 3, 1) := dk_29 (dk_at dksX0_run_3 5 rfl rfl)
theorem dX0_run_77 : decode cX0_run 77 = .ok (.putfield 403, 3) := dk_181 1 147 (dk_at dksX0_run_3 6 rfl rfl)
theorem dX0_run_80 : decode cX0_run 80 = .ok (.aload_n 0, 1) := dk_42 (dk_at dksX0_run_3 9 rfl rfl)
theorem dX0_run_81 : decode cX0_run 81 = .ok (.aload 8, 2) := dk_25 8 (dk_at dksX0_run_3 10 rfl rfl)
theorem dX0_run_83 : decode cX0_run 83 = .ok (.aload 7, 2) := dk_25 7 (dk_at dksX0_run_3 12 rfl rfl)
theorem dX0_run_85 : decode cX0_run 85 = .ok (.lload 4, 2) := dk_22 4 (dk_at dksX0_run_3 14 rfl rfl)
theorem dX0_run_87 : decode cX0_run 87 = .ok (.iload 6, 2) := dk_21 6 (dk_at dksX0_run_3 16 rfl rfl)
theorem dX0_run_89 : decode cX0_run 89 = .ok (.invokevirtual 406, 3) := dk_182 1 150 (dk_at dksX0_run_3 18 rfl rfl)
theorem dX0_run_92 : decode cX0_run 92 = .ok (.lreturn, 1) := dk_173 (dk_at dksX0_run_3 21 rfl rfl)
abbrev cX0_noteThrown : ByteArray := prog_1_method_45_code
def yX0_noteThrown : MethodName := ⟨RX0, "noteThrown", "(LRoleLoom$Thrown;)V"⟩
def dkwX0_noteThrown_1 : List UInt8 := [181, 0, 194, 42, 43, 180, 0, 13, 181, 1, 114, 177]
abbrev dktX0_noteThrown_1 : List UInt8 := dkwX0_noteThrown_1 ++ []
def dkwX0_noteThrown_0 : List UInt8 := [42, 43, 180, 0, 7, 181, 0, 188, 42, 43, 180, 0, 29, 180, 1, 16, 181, 0, 191, 42, 43, 180, 0, 33]
abbrev dktX0_noteThrown_0 : List UInt8 := dkwX0_noteThrown_0 ++ dktX0_noteThrown_1
theorem dksX0_noteThrown_0 : cX0_noteThrown.data.toList.drop 0 = dktX0_noteThrown_0 := by decide +kernel
theorem dksX0_noteThrown_1 : cX0_noteThrown.data.toList.drop 24 = dktX0_noteThrown_1 := dk_seg dksX0_noteThrown_0 24 rfl rfl
theorem dX0_noteThrown_0 : decode cX0_noteThrown 0 = .ok (.aload_n 0, 1) := dk_42 (dk_at dksX0_noteThrown_0 0 rfl rfl)
theorem dX0_noteThrown_1 : decode cX0_noteThrown 1 = .ok (.aload_n 1, 1) := dk_43 (dk_at dksX0_noteThrown_0 1 rfl rfl)
theorem dX0_noteThrown_2 : decode cX0_noteThrown 2 = .ok (.getfield 7, 3) := dk_180 0 7 (dk_at dksX0_noteThrown_0 2 rfl rfl)
theorem dX0_noteThrown_5 : decode cX0_noteThrown 5 = .ok (.putfield 188, 3) := dk_181 0 188 (dk_at dksX0_noteThrown_0 5 rfl rfl)
theorem dX0_noteThrown_8 : decode cX0_noteThrown 8 = .ok (.aload_n 0, 1) := dk_42 (dk_at dksX0_noteThrown_0 8 rfl rfl)
theorem dX0_noteThrown_9 : decode cX0_noteThrown 9 = .ok (.aload_n 1, 1) := dk_43 (dk_at dksX0_noteThrown_0 9 rfl rfl)
theorem dX0_noteThrown_10 : decode cX0_noteThrown 10 = .ok (.getfield 29, 3) := dk_180 0 29 (dk_at dksX0_noteThrown_0 10 rfl rfl)
theorem dX0_noteThrown_13 : decode cX0_noteThrown 13 = .ok (.getfield 272, 3) := dk_180 1 16 (dk_at dksX0_noteThrown_0 13 rfl rfl)
theorem dX0_noteThrown_16 : decode cX0_noteThrown 16 = .ok (.putfield 191, 3) := dk_181 0 191 (dk_at dksX0_noteThrown_0 16 rfl rfl)
theorem dX0_noteThrown_19 : decode cX0_noteThrown 19 = .ok (.aload_n 0, 1) := dk_42 (dk_at dksX0_noteThrown_0 19 rfl rfl)
theorem dX0_noteThrown_20 : decode cX0_noteThrown 20 = .ok (.aload_n 1, 1) := dk_43 (dk_at dksX0_noteThrown_0 20 rfl rfl)
theorem dX0_noteThrown_21 : decode cX0_noteThrown 21 = .ok (.getfield 33, 3) := dk_180 0 33 (dk_at dksX0_noteThrown_0 21 rfl rfl)
theorem dX0_noteThrown_24 : decode cX0_noteThrown 24 = .ok (.putfield 194, 3) := dk_181 0 194 (dk_at dksX0_noteThrown_1 0 rfl rfl)
theorem dX0_noteThrown_27 : decode cX0_noteThrown 27 = .ok (.aload_n 0, 1) := dk_42 (dk_at dksX0_noteThrown_1 3 rfl rfl)
theorem dX0_noteThrown_28 : decode cX0_noteThrown 28 = .ok (.aload_n 1, 1) := dk_43 (dk_at dksX0_noteThrown_1 4 rfl rfl)
theorem dX0_noteThrown_29 : decode cX0_noteThrown 29 = .ok (.getfield 13, 3) := dk_180 0 13 (dk_at dksX0_noteThrown_1 5 rfl rfl)
theorem dX0_noteThrown_32 : decode cX0_noteThrown 32 = .ok (.putfield 370, 3) := dk_181 1 114 (dk_at dksX0_noteThrown_1 8 rfl rfl)
theorem dX0_noteThrown_35 : decode cX0_noteThrown 35 = .ok (.return_, 1) := dk_177 (dk_at dksX0_noteThrown_1 11 rfl rfl)
abbrev cX0_call : ByteArray := prog_1_method_51_code
def yX0_call : MethodName := ⟨RX0, "call", "(IIJ)I"⟩
def dkwX0_call_4 : List UInt8 := [182, 1, 174, 4, 172, 58, 7, 25, 7, 180, 0, 40, 172]
abbrev dktX0_call_4 : List UInt8 := dkwX0_call_4 ++ []
def dkwX0_call_3 : List UInt8 := [25, 6, 182, 0, 201, 4, 100, 33, 4, 182, 1, 191, 181, 1, 195, 3, 172, 58, 7, 42, 25, 7]
abbrev dktX0_call_3 : List UInt8 := dkwX0_call_3 ++ dktX0_call_4
def dkwX0_call_2 : List UInt8 := [182, 0, 218, 192, 0, 122, 58, 6, 25, 6, 182, 0, 228, 153, 0, 5, 5, 172, 42, 42, 25, 5, 25, 6]
abbrev dktX0_call_2 : List UInt8 := dkwX0_call_2 ++ dktX0_call_3
def dkwX0_call_1 : List UInt8 := [42, 180, 0, 139, 27, 182, 0, 218, 192, 1, 126, 58, 5, 25, 5, 180, 1, 130, 180, 1, 44, 28]
abbrev dktX0_call_1 : List UInt8 := dkwX0_call_1 ++ dktX0_call_2
def dkwX0_call_0 : List UInt8 := [42, 27, 182, 1, 188, 153, 0, 13, 28, 3, 16, 11, 184, 0, 45, 154, 0, 5, 2, 172, 42, 182, 1, 178]
abbrev dktX0_call_0 : List UInt8 := dkwX0_call_0 ++ dktX0_call_1
theorem dksX0_call_0 : cX0_call.data.toList.drop 0 = dktX0_call_0 := by decide +kernel
theorem dksX0_call_1 : cX0_call.data.toList.drop 24 = dktX0_call_1 := dk_seg dksX0_call_0 24 rfl rfl
theorem dksX0_call_2 : cX0_call.data.toList.drop 46 = dktX0_call_2 := dk_seg dksX0_call_1 22 rfl rfl
theorem dksX0_call_3 : cX0_call.data.toList.drop 70 = dktX0_call_3 := dk_seg dksX0_call_2 24 rfl rfl
theorem dksX0_call_4 : cX0_call.data.toList.drop 92 = dktX0_call_4 := dk_seg dksX0_call_3 22 rfl rfl
theorem dX0_call_0 : decode cX0_call 0 = .ok (.aload_n 0, 1) := dk_42 (dk_at dksX0_call_0 0 rfl rfl)
theorem dX0_call_1 : decode cX0_call 1 = .ok (.iload_n 1, 1) := dk_27 (dk_at dksX0_call_0 1 rfl rfl)
theorem dX0_call_2 : decode cX0_call 2 = .ok (.invokevirtual 444, 3) := dk_182 1 188 (dk_at dksX0_call_0 2 rfl rfl)
theorem dX0_call_5 : decode cX0_call 5 = .ok (.ifCond .eq 13, 3) := dk_153 0 13 (dk_at dksX0_call_0 5 rfl rfl)
theorem dX0_call_8 : decode cX0_call 8 = .ok (.iload_n 2, 1) := dk_28 (dk_at dksX0_call_0 8 rfl rfl)
theorem dX0_call_9 : decode cX0_call 9 = .ok (.iconst 0, 1) := dk_3 (dk_at dksX0_call_0 9 rfl rfl)
theorem dX0_call_10 : decode cX0_call 10 = .ok (.bipush 11, 2) := dk_16 11 (dk_at dksX0_call_0 10 rfl rfl)
theorem dX0_call_12 : decode cX0_call 12 = .ok (.invokestatic 45, 3) := dk_184 0 45 (dk_at dksX0_call_0 12 rfl rfl)
theorem dX0_call_15 : decode cX0_call 15 = .ok (.ifCond .ne 5, 3) := dk_154 0 5 (dk_at dksX0_call_0 15 rfl rfl)
theorem dX0_call_18 : decode cX0_call 18 = .ok (.iconst (-1), 1) := dk_2 (dk_at dksX0_call_0 18 rfl rfl)
theorem dX0_call_19 : decode cX0_call 19 = .ok (.ireturn, 1) := dk_172 (dk_at dksX0_call_0 19 rfl rfl)
theorem dX0_call_20 : decode cX0_call 20 = .ok (.aload_n 0, 1) := dk_42 (dk_at dksX0_call_0 20 rfl rfl)
theorem dX0_call_21 : decode cX0_call 21 = .ok (.invokevirtual 434, 3) := dk_182 1 178 (dk_at dksX0_call_0 21 rfl rfl)
theorem dX0_call_24 : decode cX0_call 24 = .ok (.aload_n 0, 1) := dk_42 (dk_at dksX0_call_1 0 rfl rfl)
theorem dX0_call_25 : decode cX0_call 25 = .ok (.getfield 139, 3) := dk_180 0 139 (dk_at dksX0_call_1 1 rfl rfl)
theorem dX0_call_28 : decode cX0_call 28 = .ok (.iload_n 1, 1) := dk_27 (dk_at dksX0_call_1 4 rfl rfl)
theorem dX0_call_29 : decode cX0_call 29 = .ok (.invokevirtual 218, 3) := dk_182 0 218 (dk_at dksX0_call_1 5 rfl rfl)
theorem dX0_call_32 : decode cX0_call 32 = .ok (.checkcast 382, 3) := dk_192 1 126 (dk_at dksX0_call_1 8 rfl rfl)
theorem dX0_call_35 : decode cX0_call 35 = .ok (.astore 5, 2) := dk_58 5 (dk_at dksX0_call_1 11 rfl rfl)
theorem dX0_call_37 : decode cX0_call 37 = .ok (.aload 5, 2) := dk_25 5 (dk_at dksX0_call_1 13 rfl rfl)
theorem dX0_call_39 : decode cX0_call 39 = .ok (.getfield 386, 3) := dk_180 1 130 (dk_at dksX0_call_1 15 rfl rfl)
theorem dX0_call_42 : decode cX0_call 42 = .ok (.getfield 300, 3) := dk_180 1 44 (dk_at dksX0_call_1 18 rfl rfl)
theorem dX0_call_45 : decode cX0_call 45 = .ok (.iload_n 2, 1) := dk_28 (dk_at dksX0_call_1 21 rfl rfl)
theorem dX0_call_46 : decode cX0_call 46 = .ok (.invokevirtual 218, 3) := dk_182 0 218 (dk_at dksX0_call_2 0 rfl rfl)
theorem dX0_call_49 : decode cX0_call 49 = .ok (.checkcast 122, 3) := dk_192 0 122 (dk_at dksX0_call_2 3 rfl rfl)
theorem dX0_call_52 : decode cX0_call 52 = .ok (.astore 6, 2) := dk_58 6 (dk_at dksX0_call_2 6 rfl rfl)
theorem dX0_call_54 : decode cX0_call 54 = .ok (.aload 6, 2) := dk_25 6 (dk_at dksX0_call_2 8 rfl rfl)
theorem dX0_call_56 : decode cX0_call 56 = .ok (.invokevirtual 228, 3) := dk_182 0 228 (dk_at dksX0_call_2 10 rfl rfl)
theorem dX0_call_59 : decode cX0_call 59 = .ok (.ifCond .eq 5, 3) := dk_153 0 5 (dk_at dksX0_call_2 13 rfl rfl)
theorem dX0_call_62 : decode cX0_call 62 = .ok (.iconst 2, 1) := dk_5 (dk_at dksX0_call_2 16 rfl rfl)
theorem dX0_call_63 : decode cX0_call 63 = .ok (.ireturn, 1) := dk_172 (dk_at dksX0_call_2 17 rfl rfl)
theorem dX0_call_64 : decode cX0_call 64 = .ok (.aload_n 0, 1) := dk_42 (dk_at dksX0_call_2 18 rfl rfl)
theorem dX0_call_65 : decode cX0_call 65 = .ok (.aload_n 0, 1) := dk_42 (dk_at dksX0_call_2 19 rfl rfl)
theorem dX0_call_66 : decode cX0_call 66 = .ok (.aload 5, 2) := dk_25 5 (dk_at dksX0_call_2 20 rfl rfl)
theorem dX0_call_68 : decode cX0_call 68 = .ok (.aload 6, 2) := dk_25 6 (dk_at dksX0_call_2 22 rfl rfl)
theorem dX0_call_70 : decode cX0_call 70 = .ok (.aload 6, 2) := dk_25 6 (dk_at dksX0_call_3 0 rfl rfl)
theorem dX0_call_72 : decode cX0_call 72 = .ok (.invokevirtual 201, 3) := dk_182 0 201 (dk_at dksX0_call_3 2 rfl rfl)
theorem dX0_call_75 : decode cX0_call 75 = .ok (.iconst 1, 1) := dk_4 (dk_at dksX0_call_3 5 rfl rfl)
theorem dX0_call_76 : decode cX0_call 76 = .ok (.isub, 1) := dk_100 (dk_at dksX0_call_3 6 rfl rfl)
theorem dX0_call_77 : decode cX0_call 77 = .ok (.lload_n 3, 1) := dk_33 (dk_at dksX0_call_3 7 rfl rfl)
theorem dX0_call_78 : decode cX0_call 78 = .ok (.iconst 1, 1) := dk_4 (dk_at dksX0_call_3 8 rfl rfl)
theorem dX0_call_79 : decode cX0_call 79 = .ok (.invokevirtual 447, 3) := dk_182 1 191 (dk_at dksX0_call_3 9 rfl rfl)
theorem dX0_call_82 : decode cX0_call 82 = .ok (.putfield 451, 3) := dk_181 1 195 (dk_at dksX0_call_3 12 rfl rfl)
theorem dX0_call_85 : decode cX0_call 85 = .ok (.iconst 0, 1) := dk_3 (dk_at dksX0_call_3 15 rfl rfl)
theorem dX0_call_86 : decode cX0_call 86 = .ok (.ireturn, 1) := dk_172 (dk_at dksX0_call_3 16 rfl rfl)
theorem dX0_call_87 : decode cX0_call 87 = .ok (.astore 7, 2) := dk_58 7 (dk_at dksX0_call_3 17 rfl rfl)
theorem dX0_call_89 : decode cX0_call 89 = .ok (.aload_n 0, 1) := dk_42 (dk_at dksX0_call_3 19 rfl rfl)
theorem dX0_call_90 : decode cX0_call 90 = .ok (.aload 7, 2) := dk_25 7 (dk_at dksX0_call_3 20 rfl rfl)
theorem dX0_call_92 : decode cX0_call 92 = .ok (.invokevirtual 430, 3) := dk_182 1 174 (dk_at dksX0_call_4 0 rfl rfl)
theorem dX0_call_95 : decode cX0_call 95 = .ok (.iconst 1, 1) := dk_4 (dk_at dksX0_call_4 3 rfl rfl)
theorem dX0_call_96 : decode cX0_call 96 = .ok (.ireturn, 1) := dk_172 (dk_at dksX0_call_4 4 rfl rfl)
theorem dX0_call_97 : decode cX0_call 97 = .ok (.astore 7, 2) := dk_58 7 (dk_at dksX0_call_4 5 rfl rfl)
theorem dX0_call_99 : decode cX0_call 99 = .ok (.aload 7, 2) := dk_25 7 (dk_at dksX0_call_4 7 rfl rfl)
theorem dX0_call_101 : decode cX0_call 101 = .ok (.getfield 40, 3) := dk_180 0 40 (dk_at dksX0_call_4 9 rfl rfl)
theorem dX0_call_104 : decode cX0_call 104 = .ok (.ireturn, 1) := dk_172 (dk_at dksX0_call_4 12 rfl rfl)
abbrev cX0_isThing : ByteArray := prog_1_method_50_code
def yX0_isThing : MethodName := ⟨RX0, "isThing", "(I)Z"⟩
def dkwX0_isThing_0 : List UInt8 := [27, 3, 42, 180, 0, 139, 182, 0, 201, 4, 100, 184, 0, 45, 172]
abbrev dktX0_isThing_0 : List UInt8 := dkwX0_isThing_0 ++ []
theorem dksX0_isThing_0 : cX0_isThing.data.toList.drop 0 = dktX0_isThing_0 := by decide +kernel
theorem dX0_isThing_0 : decode cX0_isThing 0 = .ok (.iload_n 1, 1) := dk_27 (dk_at dksX0_isThing_0 0 rfl rfl)
theorem dX0_isThing_1 : decode cX0_isThing 1 = .ok (.iconst 0, 1) := dk_3 (dk_at dksX0_isThing_0 1 rfl rfl)
theorem dX0_isThing_2 : decode cX0_isThing 2 = .ok (.aload_n 0, 1) := dk_42 (dk_at dksX0_isThing_0 2 rfl rfl)
theorem dX0_isThing_3 : decode cX0_isThing 3 = .ok (.getfield 139, 3) := dk_180 0 139 (dk_at dksX0_isThing_0 3 rfl rfl)
theorem dX0_isThing_6 : decode cX0_isThing 6 = .ok (.invokevirtual 201, 3) := dk_182 0 201 (dk_at dksX0_isThing_0 6 rfl rfl)
theorem dX0_isThing_9 : decode cX0_isThing 9 = .ok (.iconst 1, 1) := dk_4 (dk_at dksX0_isThing_0 9 rfl rfl)
theorem dX0_isThing_10 : decode cX0_isThing 10 = .ok (.isub, 1) := dk_100 (dk_at dksX0_isThing_0 10 rfl rfl)
theorem dX0_isThing_11 : decode cX0_isThing 11 = .ok (.invokestatic 45, 3) := dk_184 0 45 (dk_at dksX0_isThing_0 11 rfl rfl)
theorem dX0_isThing_14 : decode cX0_isThing 14 = .ok (.ireturn, 1) := dk_172 (dk_at dksX0_isThing_0 14 rfl rfl)
abbrev cX0_answer : ByteArray := prog_1_method_52_code
def yX0_answer : MethodName := ⟨RX0, "answer", "()J"⟩
theorem dX0_answer_0 : decode cX0_answer 0 = .ok (.aload_n 0, 1) := by decide +kernel
theorem dX0_answer_1 : decode cX0_answer 1 = .ok (.getfield 451, 3) := by decide +kernel
theorem dX0_answer_4 : decode cX0_answer 4 = .ok (.lreturn, 1) := by decide +kernel
abbrev cX0_threw : ByteArray := prog_1_method_53_code
def yX0_threw : MethodName := ⟨RX0, "threw", "(I)I"⟩
def dkwX0_threw_1 : List UInt8 := [5, 160, 0, 10, 42, 180, 0, 194, 167, 0, 4, 2, 172]
abbrev dktX0_threw_1 : List UInt8 := dkwX0_threw_1 ++ []
def dkwX0_threw_0 : List UInt8 := [27, 154, 0, 10, 42, 180, 0, 188, 167, 0, 28, 27, 4, 160, 0, 10, 42, 180, 0, 191, 167, 0, 16, 27]
abbrev dktX0_threw_0 : List UInt8 := dkwX0_threw_0 ++ dktX0_threw_1
theorem dksX0_threw_0 : cX0_threw.data.toList.drop 0 = dktX0_threw_0 := by decide +kernel
theorem dksX0_threw_1 : cX0_threw.data.toList.drop 24 = dktX0_threw_1 := dk_seg dksX0_threw_0 24 rfl rfl
theorem dX0_threw_0 : decode cX0_threw 0 = .ok (.iload_n 1, 1) := dk_27 (dk_at dksX0_threw_0 0 rfl rfl)
theorem dX0_threw_1 : decode cX0_threw 1 = .ok (.ifCond .ne 10, 3) := dk_154 0 10 (dk_at dksX0_threw_0 1 rfl rfl)
theorem dX0_threw_4 : decode cX0_threw 4 = .ok (.aload_n 0, 1) := dk_42 (dk_at dksX0_threw_0 4 rfl rfl)
theorem dX0_threw_5 : decode cX0_threw 5 = .ok (.getfield 188, 3) := dk_180 0 188 (dk_at dksX0_threw_0 5 rfl rfl)
theorem dX0_threw_8 : decode cX0_threw 8 = .ok (.goto 28, 3) := dk_167 0 28 (dk_at dksX0_threw_0 8 rfl rfl)
theorem dX0_threw_11 : decode cX0_threw 11 = .ok (.iload_n 1, 1) := dk_27 (dk_at dksX0_threw_0 11 rfl rfl)
theorem dX0_threw_12 : decode cX0_threw 12 = .ok (.iconst 1, 1) := dk_4 (dk_at dksX0_threw_0 12 rfl rfl)
theorem dX0_threw_13 : decode cX0_threw 13 = .ok (.if_icmp .ne 10, 3) := dk_160 0 10 (dk_at dksX0_threw_0 13 rfl rfl)
theorem dX0_threw_16 : decode cX0_threw 16 = .ok (.aload_n 0, 1) := dk_42 (dk_at dksX0_threw_0 16 rfl rfl)
theorem dX0_threw_17 : decode cX0_threw 17 = .ok (.getfield 191, 3) := dk_180 0 191 (dk_at dksX0_threw_0 17 rfl rfl)
theorem dX0_threw_20 : decode cX0_threw 20 = .ok (.goto 16, 3) := dk_167 0 16 (dk_at dksX0_threw_0 20 rfl rfl)
theorem dX0_threw_23 : decode cX0_threw 23 = .ok (.iload_n 1, 1) := dk_27 (dk_at dksX0_threw_0 23 rfl rfl)
theorem dX0_threw_24 : decode cX0_threw 24 = .ok (.iconst 2, 1) := dk_5 (dk_at dksX0_threw_1 0 rfl rfl)
theorem dX0_threw_25 : decode cX0_threw 25 = .ok (.if_icmp .ne 10, 3) := dk_160 0 10 (dk_at dksX0_threw_1 1 rfl rfl)
theorem dX0_threw_28 : decode cX0_threw 28 = .ok (.aload_n 0, 1) := dk_42 (dk_at dksX0_threw_1 4 rfl rfl)
theorem dX0_threw_29 : decode cX0_threw 29 = .ok (.getfield 194, 3) := dk_180 0 194 (dk_at dksX0_threw_1 5 rfl rfl)
theorem dX0_threw_32 : decode cX0_threw 32 = .ok (.goto 4, 3) := dk_167 0 4 (dk_at dksX0_threw_1 8 rfl rfl)
theorem dX0_threw_35 : decode cX0_threw 35 = .ok (.iconst (-1), 1) := dk_2 (dk_at dksX0_threw_1 11 rfl rfl)
theorem dX0_threw_36 : decode cX0_threw 36 = .ok (.ireturn, 1) := dk_172 (dk_at dksX0_threw_1 12 rfl rfl)
abbrev cX0_with : ByteArray := prog_1_method_54_code
def yX0_with : MethodName := ⟨RX0, "with", "()J"⟩
theorem dX0_with_0 : decode cX0_with 0 = .ok (.aload_n 0, 1) := by decide +kernel
theorem dX0_with_1 : decode cX0_with 1 = .ok (.getfield 370, 3) := by decide +kernel
theorem dX0_with_4 : decode cX0_with 4 = .ok (.lreturn, 1) := by decide +kernel
abbrev cX0_ran : ByteArray := prog_1_method_55_code
def yX0_ran : MethodName := ⟨RX0, "ran", "(II)I"⟩
def dkwX0_ran_3 : List UInt8 := [167, 0, 9, 42, 180, 0, 185, 27, 46, 172]
abbrev dktX0_ran_3 : List UInt8 := dkwX0_ran_3 ++ []
def dkwX0_ran_2 : List UInt8 := [167, 0, 33, 28, 4, 160, 0, 10, 45, 180, 1, 47, 167, 0, 21, 28, 5, 160, 0, 10, 45, 180, 1, 198]
abbrev dktX0_ran_2 : List UInt8 := dkwX0_ran_2 ++ dktX0_ran_3
def dkwX0_ran_1 : List UInt8 := [154, 0, 6, 16, 247, 172, 42, 180, 0, 181, 27, 50, 78, 28, 154, 0, 13, 45, 180, 0, 23, 180, 1, 16]
abbrev dktX0_ran_1 : List UInt8 := dkwX0_ran_1 ++ dktX0_ran_2
def dkwX0_ran_0 : List UInt8 := [28, 3, 6, 184, 0, 45, 154, 0, 5, 2, 172, 27, 3, 42, 180, 1, 111, 4, 100, 184, 0, 45]
abbrev dktX0_ran_0 : List UInt8 := dkwX0_ran_0 ++ dktX0_ran_1
theorem dksX0_ran_0 : cX0_ran.data.toList.drop 0 = dktX0_ran_0 := by decide +kernel
theorem dksX0_ran_1 : cX0_ran.data.toList.drop 22 = dktX0_ran_1 := dk_seg dksX0_ran_0 22 rfl rfl
theorem dksX0_ran_2 : cX0_ran.data.toList.drop 46 = dktX0_ran_2 := dk_seg dksX0_ran_1 24 rfl rfl
theorem dksX0_ran_3 : cX0_ran.data.toList.drop 70 = dktX0_ran_3 := dk_seg dksX0_ran_2 24 rfl rfl
theorem dX0_ran_0 : decode cX0_ran 0 = .ok (.iload_n 2, 1) := dk_28 (dk_at dksX0_ran_0 0 rfl rfl)
theorem dX0_ran_1 : decode cX0_ran 1 = .ok (.iconst 0, 1) := dk_3 (dk_at dksX0_ran_0 1 rfl rfl)
theorem dX0_ran_2 : decode cX0_ran 2 = .ok (.iconst 3, 1) := dk_6 (dk_at dksX0_ran_0 2 rfl rfl)
theorem dX0_ran_3 : decode cX0_ran 3 = .ok (.invokestatic 45, 3) := dk_184 0 45 (dk_at dksX0_ran_0 3 rfl rfl)
theorem dX0_ran_6 : decode cX0_ran 6 = .ok (.ifCond .ne 5, 3) := dk_154 0 5 (dk_at dksX0_ran_0 6 rfl rfl)
theorem dX0_ran_9 : decode cX0_ran 9 = .ok (.iconst (-1), 1) := dk_2 (dk_at dksX0_ran_0 9 rfl rfl)
theorem dX0_ran_10 : decode cX0_ran 10 = .ok (.ireturn, 1) := dk_172 (dk_at dksX0_ran_0 10 rfl rfl)
theorem dX0_ran_11 : decode cX0_ran 11 = .ok (.iload_n 1, 1) := dk_27 (dk_at dksX0_ran_0 11 rfl rfl)
theorem dX0_ran_12 : decode cX0_ran 12 = .ok (.iconst 0, 1) := dk_3 (dk_at dksX0_ran_0 12 rfl rfl)
theorem dX0_ran_13 : decode cX0_ran 13 = .ok (.aload_n 0, 1) := dk_42 (dk_at dksX0_ran_0 13 rfl rfl)
theorem dX0_ran_14 : decode cX0_ran 14 = .ok (.getfield 367, 3) := dk_180 1 111 (dk_at dksX0_ran_0 14 rfl rfl)
theorem dX0_ran_17 : decode cX0_ran 17 = .ok (.iconst 1, 1) := dk_4 (dk_at dksX0_ran_0 17 rfl rfl)
theorem dX0_ran_18 : decode cX0_ran 18 = .ok (.isub, 1) := dk_100 (dk_at dksX0_ran_0 18 rfl rfl)
theorem dX0_ran_19 : decode cX0_ran 19 = .ok (.invokestatic 45, 3) := dk_184 0 45 (dk_at dksX0_ran_0 19 rfl rfl)
theorem dX0_ran_22 : decode cX0_ran 22 = .ok (.ifCond .ne 6, 3) := dk_154 0 6 (dk_at dksX0_ran_1 0 rfl rfl)
theorem dX0_ran_25 : decode cX0_ran 25 = .ok (.bipush (-9), 2) := dk_16 247 (dk_at dksX0_ran_1 3 rfl rfl)
theorem dX0_ran_27 : decode cX0_ran 27 = .ok (.ireturn, 1) := dk_172 (dk_at dksX0_ran_1 5 rfl rfl)
theorem dX0_ran_28 : decode cX0_ran 28 = .ok (.aload_n 0, 1) := dk_42 (dk_at dksX0_ran_1 6 rfl rfl)
theorem dX0_ran_29 : decode cX0_ran 29 = .ok (.getfield 181, 3) := dk_180 0 181 (dk_at dksX0_ran_1 7 rfl rfl)
theorem dX0_ran_32 : decode cX0_ran 32 = .ok (.iload_n 1, 1) := dk_27 (dk_at dksX0_ran_1 10 rfl rfl)
theorem dX0_ran_33 : decode cX0_ran 33 = .ok (.aaload, 1) := dk_50 (dk_at dksX0_ran_1 11 rfl rfl)
theorem dX0_ran_34 : decode cX0_ran 34 = .ok (.astore_n 3, 1) := dk_78 (dk_at dksX0_ran_1 12 rfl rfl)
theorem dX0_ran_35 : decode cX0_ran 35 = .ok (.iload_n 2, 1) := dk_28 (dk_at dksX0_ran_1 13 rfl rfl)
theorem dX0_ran_36 : decode cX0_ran 36 = .ok (.ifCond .ne 13, 3) := dk_154 0 13 (dk_at dksX0_ran_1 14 rfl rfl)
theorem dX0_ran_39 : decode cX0_ran 39 = .ok (.aload_n 3, 1) := dk_45 (dk_at dksX0_ran_1 17 rfl rfl)
theorem dX0_ran_40 : decode cX0_ran 40 = .ok (.getfield 23, 3) := dk_180 0 23 (dk_at dksX0_ran_1 18 rfl rfl)
theorem dX0_ran_43 : decode cX0_ran 43 = .ok (.getfield 272, 3) := dk_180 1 16 (dk_at dksX0_ran_1 21 rfl rfl)
theorem dX0_ran_46 : decode cX0_ran 46 = .ok (.goto 33, 3) := dk_167 0 33 (dk_at dksX0_ran_2 0 rfl rfl)
theorem dX0_ran_49 : decode cX0_ran 49 = .ok (.iload_n 2, 1) := dk_28 (dk_at dksX0_ran_2 3 rfl rfl)
theorem dX0_ran_50 : decode cX0_ran 50 = .ok (.iconst 1, 1) := dk_4 (dk_at dksX0_ran_2 4 rfl rfl)
theorem dX0_ran_51 : decode cX0_ran 51 = .ok (.if_icmp .ne 10, 3) := dk_160 0 10 (dk_at dksX0_ran_2 5 rfl rfl)
theorem dX0_ran_54 : decode cX0_ran 54 = .ok (.aload_n 3, 1) := dk_45 (dk_at dksX0_ran_2 8 rfl rfl)
theorem dX0_ran_55 : decode cX0_ran 55 = .ok (.getfield 303, 3) := dk_180 1 47 (dk_at dksX0_ran_2 9 rfl rfl)
theorem dX0_ran_58 : decode cX0_ran 58 = .ok (.goto 21, 3) := dk_167 0 21 (dk_at dksX0_ran_2 12 rfl rfl)
theorem dX0_ran_61 : decode cX0_ran 61 = .ok (.iload_n 2, 1) := dk_28 (dk_at dksX0_ran_2 15 rfl rfl)
theorem dX0_ran_62 : decode cX0_ran 62 = .ok (.iconst 2, 1) := dk_5 (dk_at dksX0_ran_2 16 rfl rfl)
theorem dX0_ran_63 : decode cX0_ran 63 = .ok (.if_icmp .ne 10, 3) := dk_160 0 10 (dk_at dksX0_ran_2 17 rfl rfl)
theorem dX0_ran_66 : decode cX0_ran 66 = .ok (.aload_n 3, 1) := dk_45 (dk_at dksX0_ran_2 20 rfl rfl)
theorem dX0_ran_67 : decode cX0_ran 67 = .ok (.getfield 454, 3) := dk_180 1 198 (dk_at dksX0_ran_2 21 rfl rfl)
theorem dX0_ran_70 : decode cX0_ran 70 = .ok (.goto 9, 3) := dk_167 0 9 (dk_at dksX0_ran_3 0 rfl rfl)
theorem dX0_ran_73 : decode cX0_ran 73 = .ok (.aload_n 0, 1) := dk_42 (dk_at dksX0_ran_3 3 rfl rfl)
theorem dX0_ran_74 : decode cX0_ran 74 = .ok (.getfield 185, 3) := dk_180 0 185 (dk_at dksX0_ran_3 4 rfl rfl)
theorem dX0_ran_77 : decode cX0_ran 77 = .ok (.iload_n 1, 1) := dk_27 (dk_at dksX0_ran_3 7 rfl rfl)
theorem dX0_ran_78 : decode cX0_ran 78 = .ok (.iaload, 1) := dk_46 (dk_at dksX0_ran_3 8 rfl rfl)
theorem dX0_ran_79 : decode cX0_ran 79 = .ok (.ireturn, 1) := dk_172 (dk_at dksX0_ran_3 9 rfl rfl)
abbrev cX0_marks : ByteArray := prog_1_method_56_code
def yX0_marks : MethodName := ⟨RX0, "marks", "()I"⟩
theorem dX0_marks_0 : decode cX0_marks 0 = .ok (.aload_n 0, 1) := by decide +kernel
theorem dX0_marks_1 : decode cX0_marks 1 = .ok (.getfield 457, 3) := by decide +kernel
theorem dX0_marks_4 : decode cX0_marks 4 = .ok (.ireturn, 1) := by decide +kernel
abbrev cX0_mark : ByteArray := prog_1_method_58_code
def yX0_mark : MethodName := ⟨RX0, "mark", "(I)I"⟩
def dkwX0_mark_1 : List UInt8 := [27, 47, 182, 1, 213, 167, 0, 5, 16, 247, 172]
abbrev dktX0_mark_1 : List UInt8 := dkwX0_mark_1 ++ []
def dkwX0_mark_0 : List UInt8 := [27, 3, 42, 180, 1, 201, 16, 100, 184, 1, 207, 4, 100, 184, 0, 45, 153, 0, 16, 42, 42, 180, 0, 197]
abbrev dktX0_mark_0 : List UInt8 := dkwX0_mark_0 ++ dktX0_mark_1
theorem dksX0_mark_0 : cX0_mark.data.toList.drop 0 = dktX0_mark_0 := by decide +kernel
theorem dksX0_mark_1 : cX0_mark.data.toList.drop 24 = dktX0_mark_1 := dk_seg dksX0_mark_0 24 rfl rfl
theorem dX0_mark_0 : decode cX0_mark 0 = .ok (.iload_n 1, 1) := dk_27 (dk_at dksX0_mark_0 0 rfl rfl)
theorem dX0_mark_1 : decode cX0_mark 1 = .ok (.iconst 0, 1) := dk_3 (dk_at dksX0_mark_0 1 rfl rfl)
theorem dX0_mark_2 : decode cX0_mark 2 = .ok (.aload_n 0, 1) := dk_42 (dk_at dksX0_mark_0 2 rfl rfl)
theorem dX0_mark_3 : decode cX0_mark 3 = .ok (.getfield 457, 3) := dk_180 1 201 (dk_at dksX0_mark_0 3 rfl rfl)
theorem dX0_mark_6 : decode cX0_mark 6 = .ok (.bipush 100, 2) := dk_16 100 (dk_at dksX0_mark_0 6 rfl rfl)
theorem dX0_mark_8 : decode cX0_mark 8 = .ok (.invokestatic 463, 3) := dk_184 1 207 (dk_at dksX0_mark_0 8 rfl rfl)
theorem dX0_mark_11 : decode cX0_mark 11 = .ok (.iconst 1, 1) := dk_4 (dk_at dksX0_mark_0 11 rfl rfl)
theorem dX0_mark_12 : decode cX0_mark 12 = .ok (.isub, 1) := dk_100 (dk_at dksX0_mark_0 12 rfl rfl)
theorem dX0_mark_13 : decode cX0_mark 13 = .ok (.invokestatic 45, 3) := dk_184 0 45 (dk_at dksX0_mark_0 13 rfl rfl)
theorem dX0_mark_16 : decode cX0_mark 16 = .ok (.ifCond .eq 16, 3) := dk_153 0 16 (dk_at dksX0_mark_0 16 rfl rfl)
theorem dX0_mark_19 : decode cX0_mark 19 = .ok (.aload_n 0, 1) := dk_42 (dk_at dksX0_mark_0 19 rfl rfl)
theorem dX0_mark_20 : decode cX0_mark 20 = .ok (.aload_n 0, 1) := dk_42 (dk_at dksX0_mark_0 20 rfl rfl)
theorem dX0_mark_21 : decode cX0_mark 21 = .ok (.getfield 197, 3) := dk_180 0 197 (dk_at dksX0_mark_0 21 rfl rfl)
theorem dX0_mark_24 : decode cX0_mark 24 = .ok (.iload_n 1, 1) := dk_27 (dk_at dksX0_mark_1 0 rfl rfl)
theorem dX0_mark_25 : decode cX0_mark 25 = .ok (.laload, 1) := dk_47 (dk_at dksX0_mark_1 1 rfl rfl)
theorem dX0_mark_26 : decode cX0_mark 26 = .ok (.invokevirtual 469, 3) := dk_182 1 213 (dk_at dksX0_mark_1 2 rfl rfl)
theorem dX0_mark_29 : decode cX0_mark 29 = .ok (.goto 5, 3) := dk_167 0 5 (dk_at dksX0_mark_1 5 rfl rfl)
theorem dX0_mark_32 : decode cX0_mark 32 = .ok (.bipush (-9), 2) := dk_16 247 (dk_at dksX0_mark_1 8 rfl rfl)
theorem dX0_mark_34 : decode cX0_mark 34 = .ok (.ireturn, 1) := dk_172 (dk_at dksX0_mark_1 10 rfl rfl)
abbrev cX0_tells : ByteArray := prog_1_method_57_code
def yX0_tells : MethodName := ⟨RX0, "tells", "(J)I"⟩
def dkwX0_tells_0 : List UInt8 := [42, 31, 181, 1, 204, 4, 172]
abbrev dktX0_tells_0 : List UInt8 := dkwX0_tells_0 ++ []
theorem dksX0_tells_0 : cX0_tells.data.toList.drop 0 = dktX0_tells_0 := by decide +kernel
theorem dX0_tells_0 : decode cX0_tells 0 = .ok (.aload_n 0, 1) := dk_42 (dk_at dksX0_tells_0 0 rfl rfl)
theorem dX0_tells_1 : decode cX0_tells 1 = .ok (.lload_n 1, 1) := dk_31 (dk_at dksX0_tells_0 1 rfl rfl)
theorem dX0_tells_2 : decode cX0_tells 2 = .ok (.putfield 460, 3) := dk_181 1 204 (dk_at dksX0_tells_0 2 rfl rfl)
theorem dX0_tells_5 : decode cX0_tells 5 = .ok (.iconst 1, 1) := dk_4 (dk_at dksX0_tells_0 5 rfl rfl)
theorem dX0_tells_6 : decode cX0_tells 6 = .ok (.ireturn, 1) := dk_172 (dk_at dksX0_tells_0 6 rfl rfl)
abbrev cX0_cell : ByteArray := prog_1_method_60_code
def yX0_cell : MethodName := ⟨RX0, "cell", "(III)I"⟩
def dkwX0_cell_1 : List UInt8 := [184, 0, 45, 154, 0, 7, 2, 167, 0, 14, 42, 25, 4, 180, 1, 221, 29, 47, 182, 1, 213, 172]
abbrev dktX0_cell_1 : List UInt8 := dkwX0_cell_1 ++ []
def dkwX0_cell_0 : List UInt8 := [42, 27, 28, 182, 1, 217, 58, 4, 25, 4, 198, 0, 19, 29, 3, 25, 4, 180, 1, 221, 190, 4, 100]
abbrev dktX0_cell_0 : List UInt8 := dkwX0_cell_0 ++ dktX0_cell_1
theorem dksX0_cell_0 : cX0_cell.data.toList.drop 0 = dktX0_cell_0 := by decide +kernel
theorem dksX0_cell_1 : cX0_cell.data.toList.drop 23 = dktX0_cell_1 := dk_seg dksX0_cell_0 23 rfl rfl
theorem dX0_cell_0 : decode cX0_cell 0 = .ok (.aload_n 0, 1) := dk_42 (dk_at dksX0_cell_0 0 rfl rfl)
theorem dX0_cell_1 : decode cX0_cell 1 = .ok (.iload_n 1, 1) := dk_27 (dk_at dksX0_cell_0 1 rfl rfl)
theorem dX0_cell_2 : decode cX0_cell 2 = .ok (.iload_n 2, 1) := dk_28 (dk_at dksX0_cell_0 2 rfl rfl)
theorem dX0_cell_3 : decode cX0_cell 3 = .ok (.invokevirtual 473, 3) := dk_182 1 217 (dk_at dksX0_cell_0 3 rfl rfl)
theorem dX0_cell_6 : decode cX0_cell 6 = .ok (.astore 4, 2) := dk_58 4 (dk_at dksX0_cell_0 6 rfl rfl)
theorem dX0_cell_8 : decode cX0_cell 8 = .ok (.aload 4, 2) := dk_25 4 (dk_at dksX0_cell_0 8 rfl rfl)
theorem dX0_cell_10 : decode cX0_cell 10 = .ok (.ifnull 19, 3) := dk_198 0 19 (dk_at dksX0_cell_0 10 rfl rfl)
theorem dX0_cell_13 : decode cX0_cell 13 = .ok (.iload_n 3, 1) := dk_29 (dk_at dksX0_cell_0 13 rfl rfl)
theorem dX0_cell_14 : decode cX0_cell 14 = .ok (.iconst 0, 1) := dk_3 (dk_at dksX0_cell_0 14 rfl rfl)
theorem dX0_cell_15 : decode cX0_cell 15 = .ok (.aload 4, 2) := dk_25 4 (dk_at dksX0_cell_0 15 rfl rfl)
theorem dX0_cell_17 : decode cX0_cell 17 = .ok (.getfield 477, 3) := dk_180 1 221 (dk_at dksX0_cell_0 17 rfl rfl)
theorem dX0_cell_20 : decode cX0_cell 20 = .ok (.arraylength, 1) := dk_190 (dk_at dksX0_cell_0 20 rfl rfl)
theorem dX0_cell_21 : decode cX0_cell 21 = .ok (.iconst 1, 1) := dk_4 (dk_at dksX0_cell_0 21 rfl rfl)
theorem dX0_cell_22 : decode cX0_cell 22 = .ok (.isub, 1) := dk_100 (dk_at dksX0_cell_0 22 rfl rfl)
theorem dX0_cell_23 : decode cX0_cell 23 = .ok (.invokestatic 45, 3) := dk_184 0 45 (dk_at dksX0_cell_1 0 rfl rfl)
theorem dX0_cell_26 : decode cX0_cell 26 = .ok (.ifCond .ne 7, 3) := dk_154 0 7 (dk_at dksX0_cell_1 3 rfl rfl)
theorem dX0_cell_29 : decode cX0_cell 29 = .ok (.iconst (-1), 1) := dk_2 (dk_at dksX0_cell_1 6 rfl rfl)
theorem dX0_cell_30 : decode cX0_cell 30 = .ok (.goto 14, 3) := dk_167 0 14 (dk_at dksX0_cell_1 7 rfl rfl)
theorem dX0_cell_33 : decode cX0_cell 33 = .ok (.aload_n 0, 1) := dk_42 (dk_at dksX0_cell_1 10 rfl rfl)
theorem dX0_cell_34 : decode cX0_cell 34 = .ok (.aload 4, 2) := dk_25 4 (dk_at dksX0_cell_1 11 rfl rfl)
theorem dX0_cell_36 : decode cX0_cell 36 = .ok (.getfield 477, 3) := dk_180 1 221 (dk_at dksX0_cell_1 13 rfl rfl)
theorem dX0_cell_39 : decode cX0_cell 39 = .ok (.iload_n 3, 1) := dk_29 (dk_at dksX0_cell_1 16 rfl rfl)
theorem dX0_cell_40 : decode cX0_cell 40 = .ok (.laload, 1) := dk_47 (dk_at dksX0_cell_1 17 rfl rfl)
theorem dX0_cell_41 : decode cX0_cell 41 = .ok (.invokevirtual 469, 3) := dk_182 1 213 (dk_at dksX0_cell_1 18 rfl rfl)
theorem dX0_cell_44 : decode cX0_cell 44 = .ok (.ireturn, 1) := dk_172 (dk_at dksX0_cell_1 21 rfl rfl)
abbrev cX0_stateOf : ByteArray := prog_1_method_59_code
def yX0_stateOf : MethodName := ⟨RX0, "stateOf", "(II)LRoleLoom$State;"⟩
def dkwX0_stateOf_3 : List UInt8 := [192, 1, 138, 176]
abbrev dktX0_stateOf_3 : List UInt8 := dkwX0_stateOf_3 ++ []
def dkwX0_stateOf_2 : List UInt8 := [182, 1, 134, 54, 4, 21, 4, 156, 0, 7, 1, 167, 0, 15, 45, 180, 1, 125, 21, 4, 182, 0, 218]
abbrev dktX0_stateOf_2 : List UInt8 := dkwX0_stateOf_2 ++ dktX0_stateOf_3
def dkwX0_stateOf_1 : List UInt8 := [182, 0, 218, 192, 1, 126, 78, 45, 180, 1, 130, 180, 1, 35, 42, 180, 0, 125, 28, 182, 0, 218]
abbrev dktX0_stateOf_1 : List UInt8 := dkwX0_stateOf_1 ++ dktX0_stateOf_2
def dkwX0_stateOf_0 : List UInt8 := [42, 27, 182, 1, 188, 153, 0, 11, 42, 28, 182, 0, 214, 154, 0, 5, 1, 176, 42, 180, 0, 139, 27]
abbrev dktX0_stateOf_0 : List UInt8 := dkwX0_stateOf_0 ++ dktX0_stateOf_1
theorem dksX0_stateOf_0 : cX0_stateOf.data.toList.drop 0 = dktX0_stateOf_0 := by decide +kernel
theorem dksX0_stateOf_1 : cX0_stateOf.data.toList.drop 23 = dktX0_stateOf_1 := dk_seg dksX0_stateOf_0 23 rfl rfl
theorem dksX0_stateOf_2 : cX0_stateOf.data.toList.drop 45 = dktX0_stateOf_2 := dk_seg dksX0_stateOf_1 22 rfl rfl
theorem dksX0_stateOf_3 : cX0_stateOf.data.toList.drop 68 = dktX0_stateOf_3 := dk_seg dksX0_stateOf_2 23 rfl rfl
theorem dX0_stateOf_0 : decode cX0_stateOf 0 = .ok (.aload_n 0, 1) := dk_42 (dk_at dksX0_stateOf_0 0 rfl rfl)
theorem dX0_stateOf_1 : decode cX0_stateOf 1 = .ok (.iload_n 1, 1) := dk_27 (dk_at dksX0_stateOf_0 1 rfl rfl)
theorem dX0_stateOf_2 : decode cX0_stateOf 2 = .ok (.invokevirtual 444, 3) := dk_182 1 188 (dk_at dksX0_stateOf_0 2 rfl rfl)
theorem dX0_stateOf_5 : decode cX0_stateOf 5 = .ok (.ifCond .eq 11, 3) := dk_153 0 11 (dk_at dksX0_stateOf_0 5 rfl rfl)
theorem dX0_stateOf_8 : decode cX0_stateOf 8 = .ok (.aload_n 0, 1) := dk_42 (dk_at dksX0_stateOf_0 8 rfl rfl)
theorem dX0_stateOf_9 : decode cX0_stateOf 9 = .ok (.iload_n 2, 1) := dk_28 (dk_at dksX0_stateOf_0 9 rfl rfl)
theorem dX0_stateOf_10 : decode cX0_stateOf 10 = .ok (.invokevirtual 214, 3) := dk_182 0 214 (dk_at dksX0_stateOf_0 10 rfl rfl)
theorem dX0_stateOf_13 : decode cX0_stateOf 13 = .ok (.ifCond .ne 5, 3) := dk_154 0 5 (dk_at dksX0_stateOf_0 13 rfl rfl)
theorem dX0_stateOf_16 : decode cX0_stateOf 16 = .ok (.aconst_null, 1) := dk_1 (dk_at dksX0_stateOf_0 16 rfl rfl)
theorem dX0_stateOf_17 : decode cX0_stateOf 17 = .ok (.areturn, 1) := dk_176 (dk_at dksX0_stateOf_0 17 rfl rfl)
theorem dX0_stateOf_18 : decode cX0_stateOf 18 = .ok (.aload_n 0, 1) := dk_42 (dk_at dksX0_stateOf_0 18 rfl rfl)
theorem dX0_stateOf_19 : decode cX0_stateOf 19 = .ok (.getfield 139, 3) := dk_180 0 139 (dk_at dksX0_stateOf_0 19 rfl rfl)
theorem dX0_stateOf_22 : decode cX0_stateOf 22 = .ok (.iload_n 1, 1) := dk_27 (dk_at dksX0_stateOf_0 22 rfl rfl)
theorem dX0_stateOf_23 : decode cX0_stateOf 23 = .ok (.invokevirtual 218, 3) := dk_182 0 218 (dk_at dksX0_stateOf_1 0 rfl rfl)
theorem dX0_stateOf_26 : decode cX0_stateOf 26 = .ok (.checkcast 382, 3) := dk_192 1 126 (dk_at dksX0_stateOf_1 3 rfl rfl)
theorem dX0_stateOf_29 : decode cX0_stateOf 29 = .ok (.astore_n 3, 1) := dk_78 (dk_at dksX0_stateOf_1 6 rfl rfl)
theorem dX0_stateOf_30 : decode cX0_stateOf 30 = .ok (.aload_n 3, 1) := dk_45 (dk_at dksX0_stateOf_1 7 rfl rfl)
theorem dX0_stateOf_31 : decode cX0_stateOf 31 = .ok (.getfield 386, 3) := dk_180 1 130 (dk_at dksX0_stateOf_1 8 rfl rfl)
theorem dX0_stateOf_34 : decode cX0_stateOf 34 = .ok (.getfield 291, 3) := dk_180 1 35 (dk_at dksX0_stateOf_1 11 rfl rfl)
theorem dX0_stateOf_37 : decode cX0_stateOf 37 = .ok (.aload_n 0, 1) := dk_42 (dk_at dksX0_stateOf_1 14 rfl rfl)
theorem dX0_stateOf_38 : decode cX0_stateOf 38 = .ok (.getfield 125, 3) := dk_180 0 125 (dk_at dksX0_stateOf_1 15 rfl rfl)
theorem dX0_stateOf_41 : decode cX0_stateOf 41 = .ok (.iload_n 2, 1) := dk_28 (dk_at dksX0_stateOf_1 18 rfl rfl)
theorem dX0_stateOf_42 : decode cX0_stateOf 42 = .ok (.invokevirtual 218, 3) := dk_182 0 218 (dk_at dksX0_stateOf_1 19 rfl rfl)
theorem dX0_stateOf_45 : decode cX0_stateOf 45 = .ok (.invokevirtual 390, 3) := dk_182 1 134 (dk_at dksX0_stateOf_2 0 rfl rfl)
theorem dX0_stateOf_48 : decode cX0_stateOf 48 = .ok (.istore 4, 2) := dk_54 4 (dk_at dksX0_stateOf_2 3 rfl rfl)
theorem dX0_stateOf_50 : decode cX0_stateOf 50 = .ok (.iload 4, 2) := dk_21 4 (dk_at dksX0_stateOf_2 5 rfl rfl)
theorem dX0_stateOf_52 : decode cX0_stateOf 52 = .ok (.ifCond .ge 7, 3) := dk_156 0 7 (dk_at dksX0_stateOf_2 7 rfl rfl)
theorem dX0_stateOf_55 : decode cX0_stateOf 55 = .ok (.aconst_null, 1) := dk_1 (dk_at dksX0_stateOf_2 10 rfl rfl)
theorem dX0_stateOf_56 : decode cX0_stateOf 56 = .ok (.goto 15, 3) := dk_167 0 15 (dk_at dksX0_stateOf_2 11 rfl rfl)
theorem dX0_stateOf_59 : decode cX0_stateOf 59 = .ok (.aload_n 3, 1) := dk_45 (dk_at dksX0_stateOf_2 14 rfl rfl)
theorem dX0_stateOf_60 : decode cX0_stateOf 60 = .ok (.getfield 381, 3) := dk_180 1 125 (dk_at dksX0_stateOf_2 15 rfl rfl)
theorem dX0_stateOf_63 : decode cX0_stateOf 63 = .ok (.iload 4, 2) := dk_21 4 (dk_at dksX0_stateOf_2 18 rfl rfl)
theorem dX0_stateOf_65 : decode cX0_stateOf 65 = .ok (.invokevirtual 218, 3) := dk_182 0 218 (dk_at dksX0_stateOf_2 20 rfl rfl)
theorem dX0_stateOf_68 : decode cX0_stateOf 68 = .ok (.checkcast 394, 3) := dk_192 1 138 (dk_at dksX0_stateOf_3 0 rfl rfl)
theorem dX0_stateOf_71 : decode cX0_stateOf 71 = .ok (.areturn, 1) := dk_176 (dk_at dksX0_stateOf_3 3 rfl rfl)
abbrev cX0_row : ByteArray := prog_1_method_61_code
def yX0_row : MethodName := ⟨RX0, "row", "(IIII)I"⟩
def dkwX0_row_4 : List UInt8 := [16, 12, 29, 104, 21, 4, 96, 47, 182, 1, 213, 172]
abbrev dktX0_row_4 : List UInt8 := dkwX0_row_4 ++ []
def dkwX0_row_3 : List UInt8 := [42, 21, 4, 2, 160, 0, 14, 25, 5, 180, 1, 227, 29, 46, 133, 167, 0, 16, 25, 5, 180, 1, 230]
abbrev dktX0_row_3 : List UInt8 := dkwX0_row_3 ++ dktX0_row_4
def dkwX0_row_2 : List UInt8 := [155, 0, 21, 21, 4, 2, 25, 5, 180, 1, 227, 29, 46, 4, 100, 184, 0, 45, 154, 0, 6, 16, 247, 172]
abbrev dktX0_row_2 : List UInt8 := dkwX0_row_2 ++ dktX0_row_3
def dkwX0_row_1 : List UInt8 := [192, 0, 205, 180, 1, 224, 4, 100, 184, 0, 45, 154, 0, 5, 2, 172, 25, 5, 180, 1, 227, 29, 46]
abbrev dktX0_row_1 : List UInt8 := dkwX0_row_1 ++ dktX0_row_2
def dkwX0_row_0 : List UInt8 := [42, 27, 28, 182, 1, 217, 58, 5, 25, 5, 198, 0, 27, 29, 3, 42, 180, 0, 125, 28, 182, 0, 218]
abbrev dktX0_row_0 : List UInt8 := dkwX0_row_0 ++ dktX0_row_1
theorem dksX0_row_0 : cX0_row.data.toList.drop 0 = dktX0_row_0 := by decide +kernel
theorem dksX0_row_1 : cX0_row.data.toList.drop 23 = dktX0_row_1 := dk_seg dksX0_row_0 23 rfl rfl
theorem dksX0_row_2 : cX0_row.data.toList.drop 46 = dktX0_row_2 := dk_seg dksX0_row_1 23 rfl rfl
theorem dksX0_row_3 : cX0_row.data.toList.drop 70 = dktX0_row_3 := dk_seg dksX0_row_2 24 rfl rfl
theorem dksX0_row_4 : cX0_row.data.toList.drop 93 = dktX0_row_4 := dk_seg dksX0_row_3 23 rfl rfl
theorem dX0_row_0 : decode cX0_row 0 = .ok (.aload_n 0, 1) := dk_42 (dk_at dksX0_row_0 0 rfl rfl)
theorem dX0_row_1 : decode cX0_row 1 = .ok (.iload_n 1, 1) := dk_27 (dk_at dksX0_row_0 1 rfl rfl)
theorem dX0_row_2 : decode cX0_row 2 = .ok (.iload_n 2, 1) := dk_28 (dk_at dksX0_row_0 2 rfl rfl)
theorem dX0_row_3 : decode cX0_row 3 = .ok (.invokevirtual 473, 3) := dk_182 1 217 (dk_at dksX0_row_0 3 rfl rfl)
theorem dX0_row_6 : decode cX0_row 6 = .ok (.astore 5, 2) := dk_58 5 (dk_at dksX0_row_0 6 rfl rfl)
theorem dX0_row_8 : decode cX0_row 8 = .ok (.aload 5, 2) := dk_25 5 (dk_at dksX0_row_0 8 rfl rfl)
theorem dX0_row_10 : decode cX0_row 10 = .ok (.ifnull 27, 3) := dk_198 0 27 (dk_at dksX0_row_0 10 rfl rfl)
theorem dX0_row_13 : decode cX0_row 13 = .ok (.iload_n 3, 1) := dk_29 (dk_at dksX0_row_0 13 rfl rfl)
theorem dX0_row_14 : decode cX0_row 14 = .ok (.iconst 0, 1) := dk_3 (dk_at dksX0_row_0 14 rfl rfl)
theorem dX0_row_15 : decode cX0_row 15 = .ok (.aload_n 0, 1) := dk_42 (dk_at dksX0_row_0 15 rfl rfl)
theorem dX0_row_16 : decode cX0_row 16 = .ok (.getfield 125, 3) := dk_180 0 125 (dk_at dksX0_row_0 16 rfl rfl)
theorem dX0_row_19 : decode cX0_row 19 = .ok (.iload_n 2, 1) := dk_28 (dk_at dksX0_row_0 19 rfl rfl)
theorem dX0_row_20 : decode cX0_row 20 = .ok (.invokevirtual 218, 3) := dk_182 0 218 (dk_at dksX0_row_0 20 rfl rfl)
theorem dX0_row_23 : decode cX0_row 23 = .ok (.checkcast 205, 3) := dk_192 0 205 (dk_at dksX0_row_1 0 rfl rfl)
theorem dX0_row_26 : decode cX0_row 26 = .ok (.getfield 480, 3) := dk_180 1 224 (dk_at dksX0_row_1 3 rfl rfl)
theorem dX0_row_29 : decode cX0_row 29 = .ok (.iconst 1, 1) := dk_4 (dk_at dksX0_row_1 6 rfl rfl)
theorem dX0_row_30 : decode cX0_row 30 = .ok (.isub, 1) := dk_100 (dk_at dksX0_row_1 7 rfl rfl)
theorem dX0_row_31 : decode cX0_row 31 = .ok (.invokestatic 45, 3) := dk_184 0 45 (dk_at dksX0_row_1 8 rfl rfl)
theorem dX0_row_34 : decode cX0_row 34 = .ok (.ifCond .ne 5, 3) := dk_154 0 5 (dk_at dksX0_row_1 11 rfl rfl)
theorem dX0_row_37 : decode cX0_row 37 = .ok (.iconst (-1), 1) := dk_2 (dk_at dksX0_row_1 14 rfl rfl)
theorem dX0_row_38 : decode cX0_row 38 = .ok (.ireturn, 1) := dk_172 (dk_at dksX0_row_1 15 rfl rfl)
theorem dX0_row_39 : decode cX0_row 39 = .ok (.aload 5, 2) := dk_25 5 (dk_at dksX0_row_1 16 rfl rfl)
theorem dX0_row_41 : decode cX0_row 41 = .ok (.getfield 483, 3) := dk_180 1 227 (dk_at dksX0_row_1 18 rfl rfl)
theorem dX0_row_44 : decode cX0_row 44 = .ok (.iload_n 3, 1) := dk_29 (dk_at dksX0_row_1 21 rfl rfl)
theorem dX0_row_45 : decode cX0_row 45 = .ok (.iaload, 1) := dk_46 (dk_at dksX0_row_1 22 rfl rfl)
theorem dX0_row_46 : decode cX0_row 46 = .ok (.ifCond .lt 21, 3) := dk_155 0 21 (dk_at dksX0_row_2 0 rfl rfl)
theorem dX0_row_49 : decode cX0_row 49 = .ok (.iload 4, 2) := dk_21 4 (dk_at dksX0_row_2 3 rfl rfl)
theorem dX0_row_51 : decode cX0_row 51 = .ok (.iconst (-1), 1) := dk_2 (dk_at dksX0_row_2 5 rfl rfl)
theorem dX0_row_52 : decode cX0_row 52 = .ok (.aload 5, 2) := dk_25 5 (dk_at dksX0_row_2 6 rfl rfl)
theorem dX0_row_54 : decode cX0_row 54 = .ok (.getfield 483, 3) := dk_180 1 227 (dk_at dksX0_row_2 8 rfl rfl)
theorem dX0_row_57 : decode cX0_row 57 = .ok (.iload_n 3, 1) := dk_29 (dk_at dksX0_row_2 11 rfl rfl)
theorem dX0_row_58 : decode cX0_row 58 = .ok (.iaload, 1) := dk_46 (dk_at dksX0_row_2 12 rfl rfl)
theorem dX0_row_59 : decode cX0_row 59 = .ok (.iconst 1, 1) := dk_4 (dk_at dksX0_row_2 13 rfl rfl)
theorem dX0_row_60 : decode cX0_row 60 = .ok (.isub, 1) := dk_100 (dk_at dksX0_row_2 14 rfl rfl)
theorem dX0_row_61 : decode cX0_row 61 = .ok (.invokestatic 45, 3) := dk_184 0 45 (dk_at dksX0_row_2 15 rfl rfl)
theorem dX0_row_64 : decode cX0_row 64 = .ok (.ifCond .ne 6, 3) := dk_154 0 6 (dk_at dksX0_row_2 18 rfl rfl)
theorem dX0_row_67 : decode cX0_row 67 = .ok (.bipush (-9), 2) := dk_16 247 (dk_at dksX0_row_2 21 rfl rfl)
theorem dX0_row_69 : decode cX0_row 69 = .ok (.ireturn, 1) := dk_172 (dk_at dksX0_row_2 23 rfl rfl)
theorem dX0_row_70 : decode cX0_row 70 = .ok (.aload_n 0, 1) := dk_42 (dk_at dksX0_row_3 0 rfl rfl)
theorem dX0_row_71 : decode cX0_row 71 = .ok (.iload 4, 2) := dk_21 4 (dk_at dksX0_row_3 1 rfl rfl)
theorem dX0_row_73 : decode cX0_row 73 = .ok (.iconst (-1), 1) := dk_2 (dk_at dksX0_row_3 3 rfl rfl)
theorem dX0_row_74 : decode cX0_row 74 = .ok (.if_icmp .ne 14, 3) := dk_160 0 14 (dk_at dksX0_row_3 4 rfl rfl)
theorem dX0_row_77 : decode cX0_row 77 = .ok (.aload 5, 2) := dk_25 5 (dk_at dksX0_row_3 7 rfl rfl)
theorem dX0_row_79 : decode cX0_row 79 = .ok (.getfield 483, 3) := dk_180 1 227 (dk_at dksX0_row_3 9 rfl rfl)
theorem dX0_row_82 : decode cX0_row 82 = .ok (.iload_n 3, 1) := dk_29 (dk_at dksX0_row_3 12 rfl rfl)
theorem dX0_row_83 : decode cX0_row 83 = .ok (.iaload, 1) := dk_46 (dk_at dksX0_row_3 13 rfl rfl)
theorem dX0_row_84 : decode cX0_row 84 = .ok (.i2l, 1) := dk_133 (dk_at dksX0_row_3 14 rfl rfl)
theorem dX0_row_85 : decode cX0_row 85 = .ok (.goto 16, 3) := dk_167 0 16 (dk_at dksX0_row_3 15 rfl rfl)
theorem dX0_row_88 : decode cX0_row 88 = .ok (.aload 5, 2) := dk_25 5 (dk_at dksX0_row_3 18 rfl rfl)
theorem dX0_row_90 : decode cX0_row 90 = .ok (.getfield 486, 3) := dk_180 1 230 (dk_at dksX0_row_3 20 rfl rfl)
theorem dX0_row_93 : decode cX0_row 93 = .ok (.bipush 12, 2) := dk_16 12 (dk_at dksX0_row_4 0 rfl rfl)
theorem dX0_row_95 : decode cX0_row 95 = .ok (.iload_n 3, 1) := dk_29 (dk_at dksX0_row_4 2 rfl rfl)
theorem dX0_row_96 : decode cX0_row 96 = .ok (.imul, 1) := dk_104 (dk_at dksX0_row_4 3 rfl rfl)
theorem dX0_row_97 : decode cX0_row 97 = .ok (.iload 4, 2) := dk_21 4 (dk_at dksX0_row_4 4 rfl rfl)
theorem dX0_row_99 : decode cX0_row 99 = .ok (.iadd, 1) := dk_96 (dk_at dksX0_row_4 6 rfl rfl)
theorem dX0_row_100 : decode cX0_row 100 = .ok (.laload, 1) := dk_47 (dk_at dksX0_row_4 7 rfl rfl)
theorem dX0_row_101 : decode cX0_row 101 = .ok (.invokevirtual 469, 3) := dk_182 1 213 (dk_at dksX0_row_4 8 rfl rfl)
theorem dX0_row_104 : decode cX0_row 104 = .ok (.ireturn, 1) := dk_172 (dk_at dksX0_row_4 11 rfl rfl)
abbrev cX0_hold : ByteArray := prog_1_method_62_code
def yX0_hold : MethodName := ⟨RX0, "hold", "(IIII)I"⟩
def dkwX0_hold_4 : List UInt8 := [160, 0, 7, 1, 167, 0, 15, 42, 180, 0, 139, 21, 4, 182, 0, 218, 192, 1, 126, 83, 21, 6, 172]
abbrev dktX0_hold_4 : List UInt8 := dkwX0_hold_4 ++ []
def dkwX0_hold_3 : List UInt8 := [25, 5, 180, 1, 235, 29, 50, 180, 1, 187, 54, 6, 25, 5, 180, 1, 235, 29, 21, 4, 16, 247]
abbrev dktX0_hold_3 : List UInt8 := dkwX0_hold_3 ++ dktX0_hold_4
def dkwX0_hold_2 : List UInt8 := [182, 1, 188, 154, 0, 5, 2, 172, 25, 5, 180, 1, 235, 29, 50, 199, 0, 8, 16, 247, 167, 0, 13]
abbrev dktX0_hold_2 : List UInt8 := dkwX0_hold_2 ++ dktX0_hold_3
def dkwX0_hold_1 : List UInt8 := [192, 0, 205, 180, 1, 232, 4, 100, 184, 0, 45, 153, 0, 19, 21, 4, 16, 247, 159, 0, 14, 42, 21, 4]
abbrev dktX0_hold_1 : List UInt8 := dkwX0_hold_1 ++ dktX0_hold_2
def dkwX0_hold_0 : List UInt8 := [42, 27, 28, 182, 1, 217, 58, 5, 25, 5, 198, 0, 43, 29, 3, 42, 180, 0, 125, 28, 182, 0, 218]
abbrev dktX0_hold_0 : List UInt8 := dkwX0_hold_0 ++ dktX0_hold_1
theorem dksX0_hold_0 : cX0_hold.data.toList.drop 0 = dktX0_hold_0 := by decide +kernel
theorem dksX0_hold_1 : cX0_hold.data.toList.drop 23 = dktX0_hold_1 := dk_seg dksX0_hold_0 23 rfl rfl
theorem dksX0_hold_2 : cX0_hold.data.toList.drop 47 = dktX0_hold_2 := dk_seg dksX0_hold_1 24 rfl rfl
theorem dksX0_hold_3 : cX0_hold.data.toList.drop 70 = dktX0_hold_3 := dk_seg dksX0_hold_2 23 rfl rfl
theorem dksX0_hold_4 : cX0_hold.data.toList.drop 92 = dktX0_hold_4 := dk_seg dksX0_hold_3 22 rfl rfl
theorem dX0_hold_0 : decode cX0_hold 0 = .ok (.aload_n 0, 1) := dk_42 (dk_at dksX0_hold_0 0 rfl rfl)
theorem dX0_hold_1 : decode cX0_hold 1 = .ok (.iload_n 1, 1) := dk_27 (dk_at dksX0_hold_0 1 rfl rfl)
theorem dX0_hold_2 : decode cX0_hold 2 = .ok (.iload_n 2, 1) := dk_28 (dk_at dksX0_hold_0 2 rfl rfl)
theorem dX0_hold_3 : decode cX0_hold 3 = .ok (.invokevirtual 473, 3) := dk_182 1 217 (dk_at dksX0_hold_0 3 rfl rfl)
theorem dX0_hold_6 : decode cX0_hold 6 = .ok (.astore 5, 2) := dk_58 5 (dk_at dksX0_hold_0 6 rfl rfl)
theorem dX0_hold_8 : decode cX0_hold 8 = .ok (.aload 5, 2) := dk_25 5 (dk_at dksX0_hold_0 8 rfl rfl)
theorem dX0_hold_10 : decode cX0_hold 10 = .ok (.ifnull 43, 3) := dk_198 0 43 (dk_at dksX0_hold_0 10 rfl rfl)
theorem dX0_hold_13 : decode cX0_hold 13 = .ok (.iload_n 3, 1) := dk_29 (dk_at dksX0_hold_0 13 rfl rfl)
theorem dX0_hold_14 : decode cX0_hold 14 = .ok (.iconst 0, 1) := dk_3 (dk_at dksX0_hold_0 14 rfl rfl)
theorem dX0_hold_15 : decode cX0_hold 15 = .ok (.aload_n 0, 1) := dk_42 (dk_at dksX0_hold_0 15 rfl rfl)
theorem dX0_hold_16 : decode cX0_hold 16 = .ok (.getfield 125, 3) := dk_180 0 125 (dk_at dksX0_hold_0 16 rfl rfl)
theorem dX0_hold_19 : decode cX0_hold 19 = .ok (.iload_n 2, 1) := dk_28 (dk_at dksX0_hold_0 19 rfl rfl)
theorem dX0_hold_20 : decode cX0_hold 20 = .ok (.invokevirtual 218, 3) := dk_182 0 218 (dk_at dksX0_hold_0 20 rfl rfl)
theorem dX0_hold_23 : decode cX0_hold 23 = .ok (.checkcast 205, 3) := dk_192 0 205 (dk_at dksX0_hold_1 0 rfl rfl)
theorem dX0_hold_26 : decode cX0_hold 26 = .ok (.getfield 488, 3) := dk_180 1 232 (dk_at dksX0_hold_1 3 rfl rfl)
theorem dX0_hold_29 : decode cX0_hold 29 = .ok (.iconst 1, 1) := dk_4 (dk_at dksX0_hold_1 6 rfl rfl)
theorem dX0_hold_30 : decode cX0_hold 30 = .ok (.isub, 1) := dk_100 (dk_at dksX0_hold_1 7 rfl rfl)
theorem dX0_hold_31 : decode cX0_hold 31 = .ok (.invokestatic 45, 3) := dk_184 0 45 (dk_at dksX0_hold_1 8 rfl rfl)
theorem dX0_hold_34 : decode cX0_hold 34 = .ok (.ifCond .eq 19, 3) := dk_153 0 19 (dk_at dksX0_hold_1 11 rfl rfl)
theorem dX0_hold_37 : decode cX0_hold 37 = .ok (.iload 4, 2) := dk_21 4 (dk_at dksX0_hold_1 14 rfl rfl)
theorem dX0_hold_39 : decode cX0_hold 39 = .ok (.bipush (-9), 2) := dk_16 247 (dk_at dksX0_hold_1 16 rfl rfl)
theorem dX0_hold_41 : decode cX0_hold 41 = .ok (.if_icmp .eq 14, 3) := dk_159 0 14 (dk_at dksX0_hold_1 18 rfl rfl)
theorem dX0_hold_44 : decode cX0_hold 44 = .ok (.aload_n 0, 1) := dk_42 (dk_at dksX0_hold_1 21 rfl rfl)
theorem dX0_hold_45 : decode cX0_hold 45 = .ok (.iload 4, 2) := dk_21 4 (dk_at dksX0_hold_1 22 rfl rfl)
theorem dX0_hold_47 : decode cX0_hold 47 = .ok (.invokevirtual 444, 3) := dk_182 1 188 (dk_at dksX0_hold_2 0 rfl rfl)
theorem dX0_hold_50 : decode cX0_hold 50 = .ok (.ifCond .ne 5, 3) := dk_154 0 5 (dk_at dksX0_hold_2 3 rfl rfl)
theorem dX0_hold_53 : decode cX0_hold 53 = .ok (.iconst (-1), 1) := dk_2 (dk_at dksX0_hold_2 6 rfl rfl)
theorem dX0_hold_54 : decode cX0_hold 54 = .ok (.ireturn, 1) := dk_172 (dk_at dksX0_hold_2 7 rfl rfl)
theorem dX0_hold_55 : decode cX0_hold 55 = .ok (.aload 5, 2) := dk_25 5 (dk_at dksX0_hold_2 8 rfl rfl)
theorem dX0_hold_57 : decode cX0_hold 57 = .ok (.getfield 491, 3) := dk_180 1 235 (dk_at dksX0_hold_2 10 rfl rfl)
theorem dX0_hold_60 : decode cX0_hold 60 = .ok (.iload_n 3, 1) := dk_29 (dk_at dksX0_hold_2 13 rfl rfl)
theorem dX0_hold_61 : decode cX0_hold 61 = .ok (.aaload, 1) := dk_50 (dk_at dksX0_hold_2 14 rfl rfl)
theorem dX0_hold_62 : decode cX0_hold 62 = .ok (.ifnonnull 8, 3) := dk_199 0 8 (dk_at dksX0_hold_2 15 rfl rfl)
theorem dX0_hold_65 : decode cX0_hold 65 = .ok (.bipush (-9), 2) := dk_16 247 (dk_at dksX0_hold_2 18 rfl rfl)
theorem dX0_hold_67 : decode cX0_hold 67 = .ok (.goto 13, 3) := dk_167 0 13 (dk_at dksX0_hold_2 20 rfl rfl)
theorem dX0_hold_70 : decode cX0_hold 70 = .ok (.aload 5, 2) := dk_25 5 (dk_at dksX0_hold_3 0 rfl rfl)
theorem dX0_hold_72 : decode cX0_hold 72 = .ok (.getfield 491, 3) := dk_180 1 235 (dk_at dksX0_hold_3 2 rfl rfl)
theorem dX0_hold_75 : decode cX0_hold 75 = .ok (.iload_n 3, 1) := dk_29 (dk_at dksX0_hold_3 5 rfl rfl)
theorem dX0_hold_76 : decode cX0_hold 76 = .ok (.aaload, 1) := dk_50 (dk_at dksX0_hold_3 6 rfl rfl)
theorem dX0_hold_77 : decode cX0_hold 77 = .ok (.getfield 443, 3) := dk_180 1 187 (dk_at dksX0_hold_3 7 rfl rfl)
theorem dX0_hold_80 : decode cX0_hold 80 = .ok (.istore 6, 2) := dk_54 6 (dk_at dksX0_hold_3 10 rfl rfl)
theorem dX0_hold_82 : decode cX0_hold 82 = .ok (.aload 5, 2) := dk_25 5 (dk_at dksX0_hold_3 12 rfl rfl)
theorem dX0_hold_84 : decode cX0_hold 84 = .ok (.getfield 491, 3) := dk_180 1 235 (dk_at dksX0_hold_3 14 rfl rfl)
theorem dX0_hold_87 : decode cX0_hold 87 = .ok (.iload_n 3, 1) := dk_29 (dk_at dksX0_hold_3 17 rfl rfl)
theorem dX0_hold_88 : decode cX0_hold 88 = .ok (.iload 4, 2) := dk_21 4 (dk_at dksX0_hold_3 18 rfl rfl)
theorem dX0_hold_90 : decode cX0_hold 90 = .ok (.bipush (-9), 2) := dk_16 247 (dk_at dksX0_hold_3 20 rfl rfl)
theorem dX0_hold_92 : decode cX0_hold 92 = .ok (.if_icmp .ne 7, 3) := dk_160 0 7 (dk_at dksX0_hold_4 0 rfl rfl)
theorem dX0_hold_95 : decode cX0_hold 95 = .ok (.aconst_null, 1) := dk_1 (dk_at dksX0_hold_4 3 rfl rfl)
theorem dX0_hold_96 : decode cX0_hold 96 = .ok (.goto 15, 3) := dk_167 0 15 (dk_at dksX0_hold_4 4 rfl rfl)
theorem dX0_hold_99 : decode cX0_hold 99 = .ok (.aload_n 0, 1) := dk_42 (dk_at dksX0_hold_4 7 rfl rfl)
theorem dX0_hold_100 : decode cX0_hold 100 = .ok (.getfield 139, 3) := dk_180 0 139 (dk_at dksX0_hold_4 8 rfl rfl)
theorem dX0_hold_103 : decode cX0_hold 103 = .ok (.iload 4, 2) := dk_21 4 (dk_at dksX0_hold_4 11 rfl rfl)
theorem dX0_hold_105 : decode cX0_hold 105 = .ok (.invokevirtual 218, 3) := dk_182 0 218 (dk_at dksX0_hold_4 13 rfl rfl)
theorem dX0_hold_108 : decode cX0_hold 108 = .ok (.checkcast 382, 3) := dk_192 1 126 (dk_at dksX0_hold_4 16 rfl rfl)
theorem dX0_hold_111 : decode cX0_hold 111 = .ok (.aastore, 1) := dk_83 (dk_at dksX0_hold_4 19 rfl rfl)
theorem dX0_hold_112 : decode cX0_hold 112 = .ok (.iload 6, 2) := dk_21 6 (dk_at dksX0_hold_4 20 rfl rfl)
theorem dX0_hold_114 : decode cX0_hold 114 = .ok (.ireturn, 1) := dk_172 (dk_at dksX0_hold_4 22 rfl rfl)
abbrev cX0_shared : ByteArray := prog_1_method_63_code
def yX0_shared : MethodName := ⟨RX0, "shared", "(I)I"⟩
def dkwX0_shared_1 : List UInt8 := [172]
abbrev dktX0_shared_1 : List UInt8 := dkwX0_shared_1 ++ []
def dkwX0_shared_0 : List UInt8 := [27, 3, 16, 7, 184, 0, 45, 153, 0, 16, 42, 42, 180, 0, 142, 27, 47, 182, 1, 213, 167, 0, 4, 2]
abbrev dktX0_shared_0 : List UInt8 := dkwX0_shared_0 ++ dktX0_shared_1
theorem dksX0_shared_0 : cX0_shared.data.toList.drop 0 = dktX0_shared_0 := by decide +kernel
theorem dksX0_shared_1 : cX0_shared.data.toList.drop 24 = dktX0_shared_1 := dk_seg dksX0_shared_0 24 rfl rfl
theorem dX0_shared_0 : decode cX0_shared 0 = .ok (.iload_n 1, 1) := dk_27 (dk_at dksX0_shared_0 0 rfl rfl)
theorem dX0_shared_1 : decode cX0_shared 1 = .ok (.iconst 0, 1) := dk_3 (dk_at dksX0_shared_0 1 rfl rfl)
theorem dX0_shared_2 : decode cX0_shared 2 = .ok (.bipush 7, 2) := dk_16 7 (dk_at dksX0_shared_0 2 rfl rfl)
theorem dX0_shared_4 : decode cX0_shared 4 = .ok (.invokestatic 45, 3) := dk_184 0 45 (dk_at dksX0_shared_0 4 rfl rfl)
theorem dX0_shared_7 : decode cX0_shared 7 = .ok (.ifCond .eq 16, 3) := dk_153 0 16 (dk_at dksX0_shared_0 7 rfl rfl)
theorem dX0_shared_10 : decode cX0_shared 10 = .ok (.aload_n 0, 1) := dk_42 (dk_at dksX0_shared_0 10 rfl rfl)
theorem dX0_shared_11 : decode cX0_shared 11 = .ok (.aload_n 0, 1) := dk_42 (dk_at dksX0_shared_0 11 rfl rfl)
theorem dX0_shared_12 : decode cX0_shared 12 = .ok (.getfield 142, 3) := dk_180 0 142 (dk_at dksX0_shared_0 12 rfl rfl)
theorem dX0_shared_15 : decode cX0_shared 15 = .ok (.iload_n 1, 1) := dk_27 (dk_at dksX0_shared_0 15 rfl rfl)
theorem dX0_shared_16 : decode cX0_shared 16 = .ok (.laload, 1) := dk_47 (dk_at dksX0_shared_0 16 rfl rfl)
theorem dX0_shared_17 : decode cX0_shared 17 = .ok (.invokevirtual 469, 3) := dk_182 1 213 (dk_at dksX0_shared_0 17 rfl rfl)
theorem dX0_shared_20 : decode cX0_shared 20 = .ok (.goto 4, 3) := dk_167 0 4 (dk_at dksX0_shared_0 20 rfl rfl)
theorem dX0_shared_23 : decode cX0_shared 23 = .ok (.iconst (-1), 1) := dk_2 (dk_at dksX0_shared_0 23 rfl rfl)
theorem dX0_shared_24 : decode cX0_shared 24 = .ok (.ireturn, 1) := dk_172 (dk_at dksX0_shared_1 0 rfl rfl)
abbrev cX0_told : ByteArray := prog_1_method_64_code
def yX0_told : MethodName := ⟨RX0, "told", "()J"⟩
theorem dX0_told_0 : decode cX0_told 0 = .ok (.aload_n 0, 1) := by decide +kernel
theorem dX0_told_1 : decode cX0_told 1 = .ok (.getfield 460, 3) := by decide +kernel
theorem dX0_told_4 : decode cX0_told 4 = .ok (.lreturn, 1) := by decide +kernel
abbrev cX0_count : ByteArray := prog_1_method_65_code
def yX0_count : MethodName := ⟨RX0, "count", "(I)I"⟩
def dkwX0_count_3 : List UInt8 := [42, 180, 0, 232, 172, 42, 180, 1, 108, 172, 42, 180, 0, 146, 182, 0, 201, 172, 2, 172]
abbrev dktX0_count_3 : List UInt8 := dkwX0_count_3 ++ []
def dkwX0_count_2 : List UInt8 := [42, 180, 0, 125, 182, 0, 201, 172, 42, 180, 0, 136, 182, 0, 201, 172, 42, 180, 0, 139, 182, 0, 201, 172]
abbrev dktX0_count_2 : List UInt8 := dkwX0_count_2 ++ dktX0_count_3
def dkwX0_count_1 : List UInt8 := [170, 0, 0, 0, 0, 0, 81, 0, 0, 0, 0, 0, 0, 0, 5, 0, 0, 0, 39, 0, 0, 0, 47, 0, 0, 0, 55, 0, 0, 0, 63, 0, 0, 0, 68, 0, 0, 0, 73]
abbrev dktX0_count_1 : List UInt8 := dkwX0_count_1 ++ dktX0_count_2
def dkwX0_count_0 : List UInt8 := [27]
abbrev dktX0_count_0 : List UInt8 := dkwX0_count_0 ++ dktX0_count_1
theorem dksX0_count_0 : cX0_count.data.toList.drop 0 = dktX0_count_0 := by decide +kernel
theorem dksX0_count_1 : cX0_count.data.toList.drop 1 = dktX0_count_1 := dk_seg dksX0_count_0 1 rfl rfl
theorem dksX0_count_2 : cX0_count.data.toList.drop 40 = dktX0_count_2 := dk_seg dksX0_count_1 39 rfl rfl
theorem dksX0_count_3 : cX0_count.data.toList.drop 64 = dktX0_count_3 := dk_seg dksX0_count_2 24 rfl rfl
theorem dX0_count_0 : decode cX0_count 0 = .ok (.iload_n 1, 1) := dk_27 (dk_at dksX0_count_0 0 rfl rfl)
theorem dX0_count_1 : decode cX0_count 1 = .ok (.tableswitch 81 0 5 #[39, 47, 55, 63, 68, 73], 39) := by decide +kernel
theorem dX0_count_40 : decode cX0_count 40 = .ok (.aload_n 0, 1) := dk_42 (dk_at dksX0_count_2 0 rfl rfl)
theorem dX0_count_41 : decode cX0_count 41 = .ok (.getfield 125, 3) := dk_180 0 125 (dk_at dksX0_count_2 1 rfl rfl)
theorem dX0_count_44 : decode cX0_count 44 = .ok (.invokevirtual 201, 3) := dk_182 0 201 (dk_at dksX0_count_2 4 rfl rfl)
theorem dX0_count_47 : decode cX0_count 47 = .ok (.ireturn, 1) := dk_172 (dk_at dksX0_count_2 7 rfl rfl)
theorem dX0_count_48 : decode cX0_count 48 = .ok (.aload_n 0, 1) := dk_42 (dk_at dksX0_count_2 8 rfl rfl)
theorem dX0_count_49 : decode cX0_count 49 = .ok (.getfield 136, 3) := dk_180 0 136 (dk_at dksX0_count_2 9 rfl rfl)
theorem dX0_count_52 : decode cX0_count 52 = .ok (.invokevirtual 201, 3) := dk_182 0 201 (dk_at dksX0_count_2 12 rfl rfl)
theorem dX0_count_55 : decode cX0_count 55 = .ok (.ireturn, 1) := dk_172 (dk_at dksX0_count_2 15 rfl rfl)
theorem dX0_count_56 : decode cX0_count 56 = .ok (.aload_n 0, 1) := dk_42 (dk_at dksX0_count_2 16 rfl rfl)
theorem dX0_count_57 : decode cX0_count 57 = .ok (.getfield 139, 3) := dk_180 0 139 (dk_at dksX0_count_2 17 rfl rfl)
theorem dX0_count_60 : decode cX0_count 60 = .ok (.invokevirtual 201, 3) := dk_182 0 201 (dk_at dksX0_count_2 20 rfl rfl)
theorem dX0_count_63 : decode cX0_count 63 = .ok (.ireturn, 1) := dk_172 (dk_at dksX0_count_2 23 rfl rfl)
theorem dX0_count_64 : decode cX0_count 64 = .ok (.aload_n 0, 1) := dk_42 (dk_at dksX0_count_3 0 rfl rfl)
theorem dX0_count_65 : decode cX0_count 65 = .ok (.getfield 232, 3) := dk_180 0 232 (dk_at dksX0_count_3 1 rfl rfl)
theorem dX0_count_68 : decode cX0_count 68 = .ok (.ireturn, 1) := dk_172 (dk_at dksX0_count_3 4 rfl rfl)
theorem dX0_count_69 : decode cX0_count 69 = .ok (.aload_n 0, 1) := dk_42 (dk_at dksX0_count_3 5 rfl rfl)
theorem dX0_count_70 : decode cX0_count 70 = .ok (.getfield 364, 3) := dk_180 1 108 (dk_at dksX0_count_3 6 rfl rfl)
theorem dX0_count_73 : decode cX0_count 73 = .ok (.ireturn, 1) := dk_172 (dk_at dksX0_count_3 9 rfl rfl)
theorem dX0_count_74 : decode cX0_count 74 = .ok (.aload_n 0, 1) := dk_42 (dk_at dksX0_count_3 10 rfl rfl)
theorem dX0_count_75 : decode cX0_count 75 = .ok (.getfield 146, 3) := dk_180 0 146 (dk_at dksX0_count_3 11 rfl rfl)
theorem dX0_count_78 : decode cX0_count 78 = .ok (.invokevirtual 201, 3) := dk_182 0 201 (dk_at dksX0_count_3 14 rfl rfl)
theorem dX0_count_81 : decode cX0_count 81 = .ok (.ireturn, 1) := dk_172 (dk_at dksX0_count_3 17 rfl rfl)
theorem dX0_count_82 : decode cX0_count 82 = .ok (.iconst (-1), 1) := dk_2 (dk_at dksX0_count_3 18 rfl rfl)
theorem dX0_count_83 : decode cX0_count 83 = .ok (.ireturn, 1) := dk_172 (dk_at dksX0_count_3 19 rfl rfl)
abbrev cX0_digest : ByteArray := prog_1_method_66_code
def yX0_digest : MethodName := ⟨RX0, "digest", "()J"⟩
def dkwX0_digest_11 : List UInt8 := [132, 3, 1, 167, 255, 234, 31, 173]
abbrev dktX0_digest_11 : List UInt8 := dkwX0_digest_11 ++ []
def dkwX0_digest_10 : List UInt8 := [167, 255, 157, 3, 62, 29, 16, 8, 162, 0, 22, 20, 1, 240, 31, 105, 42, 180, 0, 142, 29, 47, 97, 64]
abbrev dktX0_digest_10 : List UInt8 := dkwX0_digest_10 ++ dktX0_digest_11
def dkwX0_digest_9 : List UInt8 := [180, 1, 35, 21, 5, 182, 0, 218, 192, 0, 205, 184, 1, 242, 64, 132, 5, 1, 167, 255, 206, 132, 3, 1]
abbrev dktX0_digest_9 : List UInt8 := dkwX0_digest_9 ++ dktX0_digest_10
def dkwX0_digest_8 : List UInt8 := [162, 0, 43, 31, 25, 4, 180, 1, 125, 21, 5, 182, 0, 218, 192, 1, 138, 25, 4, 180, 1, 130]
abbrev dktX0_digest_8 : List UInt8 := dkwX0_digest_8 ++ dktX0_digest_9
def dkwX0_digest_7 : List UInt8 := [180, 1, 130, 180, 1, 83, 133, 97, 64, 3, 54, 5, 21, 5, 25, 4, 180, 1, 125, 182, 0, 201]
abbrev dktX0_digest_7 : List UInt8 := dkwX0_digest_7 ++ dktX0_digest_8
def dkwX0_digest_6 : List UInt8 := [162, 0, 94, 42, 180, 0, 139, 29, 182, 0, 218, 192, 1, 126, 58, 4, 20, 1, 240, 31, 105, 25, 4]
abbrev dktX0_digest_6 : List UInt8 := dkwX0_digest_6 ++ dktX0_digest_7
def dkwX0_digest_5 : List UInt8 := [132, 5, 1, 167, 255, 218, 132, 3, 1, 167, 255, 139, 3, 62, 29, 42, 180, 0, 139, 182, 0, 201]
abbrev dktX0_digest_5 : List UInt8 := dkwX0_digest_5 ++ dktX0_digest_6
def dkwX0_digest_4 : List UInt8 := [20, 1, 240, 31, 105, 42, 25, 4, 21, 5, 182, 1, 101, 180, 1, 105, 21, 5, 46, 133, 97, 64]
abbrev dktX0_digest_4 : List UInt8 := dkwX0_digest_4 ++ dktX0_digest_5
def dkwX0_digest_3 : List UInt8 := [132, 5, 1, 167, 255, 216, 3, 54, 5, 21, 5, 25, 4, 180, 1, 35, 182, 0, 201, 162, 0, 31]
abbrev dktX0_digest_3 : List UInt8 := dkwX0_digest_3 ++ dktX0_digest_4
def dkwX0_digest_2 : List UInt8 := [20, 1, 240, 31, 105, 25, 4, 180, 1, 35, 21, 5, 182, 0, 218, 192, 0, 205, 180, 1, 16, 133, 97, 64]
abbrev dktX0_digest_2 : List UInt8 := dkwX0_digest_2 ++ dktX0_digest_3
def dkwX0_digest_1 : List UInt8 := [182, 0, 218, 192, 1, 36, 58, 4, 3, 54, 5, 21, 5, 25, 4, 180, 1, 35, 182, 0, 201, 162, 0, 33]
abbrev dktX0_digest_1 : List UInt8 := dkwX0_digest_1 ++ dktX0_digest_2
def dkwX0_digest_0 : List UInt8 := [20, 1, 238, 64, 3, 62, 29, 42, 180, 0, 136, 182, 0, 201, 162, 0, 112, 42, 180, 0, 136, 29]
abbrev dktX0_digest_0 : List UInt8 := dkwX0_digest_0 ++ dktX0_digest_1
theorem dksX0_digest_0 : cX0_digest.data.toList.drop 0 = dktX0_digest_0 := by decide +kernel
theorem dksX0_digest_1 : cX0_digest.data.toList.drop 22 = dktX0_digest_1 := dk_seg dksX0_digest_0 22 rfl rfl
theorem dksX0_digest_2 : cX0_digest.data.toList.drop 46 = dktX0_digest_2 := dk_seg dksX0_digest_1 24 rfl rfl
theorem dksX0_digest_3 : cX0_digest.data.toList.drop 70 = dktX0_digest_3 := dk_seg dksX0_digest_2 24 rfl rfl
theorem dksX0_digest_4 : cX0_digest.data.toList.drop 92 = dktX0_digest_4 := dk_seg dksX0_digest_3 22 rfl rfl
theorem dksX0_digest_5 : cX0_digest.data.toList.drop 114 = dktX0_digest_5 := dk_seg dksX0_digest_4 22 rfl rfl
theorem dksX0_digest_6 : cX0_digest.data.toList.drop 136 = dktX0_digest_6 := dk_seg dksX0_digest_5 22 rfl rfl
theorem dksX0_digest_7 : cX0_digest.data.toList.drop 159 = dktX0_digest_7 := dk_seg dksX0_digest_6 23 rfl rfl
theorem dksX0_digest_8 : cX0_digest.data.toList.drop 181 = dktX0_digest_8 := dk_seg dksX0_digest_7 22 rfl rfl
theorem dksX0_digest_9 : cX0_digest.data.toList.drop 203 = dktX0_digest_9 := dk_seg dksX0_digest_8 22 rfl rfl
theorem dksX0_digest_10 : cX0_digest.data.toList.drop 227 = dktX0_digest_10 := dk_seg dksX0_digest_9 24 rfl rfl
theorem dksX0_digest_11 : cX0_digest.data.toList.drop 251 = dktX0_digest_11 := dk_seg dksX0_digest_10 24 rfl rfl
theorem dX0_digest_0 : decode cX0_digest 0 = .ok (.ldc2_w 494, 3) := dk_20 1 238 (dk_at dksX0_digest_0 0 rfl rfl)
theorem dX0_digest_3 : decode cX0_digest 3 = .ok (.lstore_n 1, 1) := dk_64 (dk_at dksX0_digest_0 3 rfl rfl)
theorem dX0_digest_4 : decode cX0_digest 4 = .ok (.iconst 0, 1) := dk_3 (dk_at dksX0_digest_0 4 rfl rfl)
theorem dX0_digest_5 : decode cX0_digest 5 = .ok (.istore_n 3, 1) := dk_62 (dk_at dksX0_digest_0 5 rfl rfl)
theorem dX0_digest_6 : decode cX0_digest 6 = .ok (.iload_n 3, 1) := dk_29 (dk_at dksX0_digest_0 6 rfl rfl)
theorem dX0_digest_7 : decode cX0_digest 7 = .ok (.aload_n 0, 1) := dk_42 (dk_at dksX0_digest_0 7 rfl rfl)
theorem dX0_digest_8 : decode cX0_digest 8 = .ok (.getfield 136, 3) := dk_180 0 136 (dk_at dksX0_digest_0 8 rfl rfl)
theorem dX0_digest_11 : decode cX0_digest 11 = .ok (.invokevirtual 201, 3) := dk_182 0 201 (dk_at dksX0_digest_0 11 rfl rfl)
theorem dX0_digest_14 : decode cX0_digest 14 = .ok (.if_icmp .ge 112, 3) := dk_162 0 112 (dk_at dksX0_digest_0 14 rfl rfl)
theorem dX0_digest_17 : decode cX0_digest 17 = .ok (.aload_n 0, 1) := dk_42 (dk_at dksX0_digest_0 17 rfl rfl)
theorem dX0_digest_18 : decode cX0_digest 18 = .ok (.getfield 136, 3) := dk_180 0 136 (dk_at dksX0_digest_0 18 rfl rfl)
theorem dX0_digest_21 : decode cX0_digest 21 = .ok (.iload_n 3, 1) := dk_29 (dk_at dksX0_digest_0 21 rfl rfl)
theorem dX0_digest_22 : decode cX0_digest 22 = .ok (.invokevirtual 218, 3) := dk_182 0 218 (dk_at dksX0_digest_1 0 rfl rfl)
theorem dX0_digest_25 : decode cX0_digest 25 = .ok (.checkcast 292, 3) := dk_192 1 36 (dk_at dksX0_digest_1 3 rfl rfl)
theorem dX0_digest_28 : decode cX0_digest 28 = .ok (.astore 4, 2) := dk_58 4 (dk_at dksX0_digest_1 6 rfl rfl)
theorem dX0_digest_30 : decode cX0_digest 30 = .ok (.iconst 0, 1) := dk_3 (dk_at dksX0_digest_1 8 rfl rfl)
theorem dX0_digest_31 : decode cX0_digest 31 = .ok (.istore 5, 2) := dk_54 5 (dk_at dksX0_digest_1 9 rfl rfl)
theorem dX0_digest_33 : decode cX0_digest 33 = .ok (.iload 5, 2) := dk_21 5 (dk_at dksX0_digest_1 11 rfl rfl)
theorem dX0_digest_35 : decode cX0_digest 35 = .ok (.aload 4, 2) := dk_25 4 (dk_at dksX0_digest_1 13 rfl rfl)
theorem dX0_digest_37 : decode cX0_digest 37 = .ok (.getfield 291, 3) := dk_180 1 35 (dk_at dksX0_digest_1 15 rfl rfl)
theorem dX0_digest_40 : decode cX0_digest 40 = .ok (.invokevirtual 201, 3) := dk_182 0 201 (dk_at dksX0_digest_1 18 rfl rfl)
theorem dX0_digest_43 : decode cX0_digest 43 = .ok (.if_icmp .ge 33, 3) := dk_162 0 33 (dk_at dksX0_digest_1 21 rfl rfl)
theorem dX0_digest_46 : decode cX0_digest 46 = .ok (.ldc2_w 496, 3) := dk_20 1 240 (dk_at dksX0_digest_2 0 rfl rfl)
theorem dX0_digest_49 : decode cX0_digest 49 = .ok (.lload_n 1, 1) := dk_31 (dk_at dksX0_digest_2 3 rfl rfl)
theorem dX0_digest_50 : decode cX0_digest 50 = .ok (.lmul, 1) := dk_105 (dk_at dksX0_digest_2 4 rfl rfl)
theorem dX0_digest_51 : decode cX0_digest 51 = .ok (.aload 4, 2) := dk_25 4 (dk_at dksX0_digest_2 5 rfl rfl)
theorem dX0_digest_53 : decode cX0_digest 53 = .ok (.getfield 291, 3) := dk_180 1 35 (dk_at dksX0_digest_2 7 rfl rfl)
theorem dX0_digest_56 : decode cX0_digest 56 = .ok (.iload 5, 2) := dk_21 5 (dk_at dksX0_digest_2 10 rfl rfl)
theorem dX0_digest_58 : decode cX0_digest 58 = .ok (.invokevirtual 218, 3) := dk_182 0 218 (dk_at dksX0_digest_2 12 rfl rfl)
theorem dX0_digest_61 : decode cX0_digest 61 = .ok (.checkcast 205, 3) := dk_192 0 205 (dk_at dksX0_digest_2 15 rfl rfl)
theorem dX0_digest_64 : decode cX0_digest 64 = .ok (.getfield 272, 3) := dk_180 1 16 (dk_at dksX0_digest_2 18 rfl rfl)
theorem dX0_digest_67 : decode cX0_digest 67 = .ok (.i2l, 1) := dk_133 (dk_at dksX0_digest_2 21 rfl rfl)
theorem dX0_digest_68 : decode cX0_digest 68 = .ok (.ladd, 1) := dk_97 (dk_at dksX0_digest_2 22 rfl rfl)
theorem dX0_digest_69 : decode cX0_digest 69 = .ok (.lstore_n 1, 1) := dk_64 (dk_at dksX0_digest_2 23 rfl rfl)
theorem dX0_digest_70 : decode cX0_digest 70 = .ok (.iinc 5 1, 3) := dk_132 5 1 (dk_at dksX0_digest_3 0 rfl rfl)
theorem dX0_digest_73 : decode cX0_digest 73 = .ok (.goto (-40), 3) := dk_167 255 216 (dk_at dksX0_digest_3 3 rfl rfl)
theorem dX0_digest_76 : decode cX0_digest 76 = .ok (.iconst 0, 1) := dk_3 (dk_at dksX0_digest_3 6 rfl rfl)
theorem dX0_digest_77 : decode cX0_digest 77 = .ok (.istore 5, 2) := dk_54 5 (dk_at dksX0_digest_3 7 rfl rfl)
theorem dX0_digest_79 : decode cX0_digest 79 = .ok (.iload 5, 2) := dk_21 5 (dk_at dksX0_digest_3 9 rfl rfl)
theorem dX0_digest_81 : decode cX0_digest 81 = .ok (.aload 4, 2) := dk_25 4 (dk_at dksX0_digest_3 11 rfl rfl)
theorem dX0_digest_83 : decode cX0_digest 83 = .ok (.getfield 291, 3) := dk_180 1 35 (dk_at dksX0_digest_3 13 rfl rfl)
theorem dX0_digest_86 : decode cX0_digest 86 = .ok (.invokevirtual 201, 3) := dk_182 0 201 (dk_at dksX0_digest_3 16 rfl rfl)
theorem dX0_digest_89 : decode cX0_digest 89 = .ok (.if_icmp .ge 31, 3) := dk_162 0 31 (dk_at dksX0_digest_3 19 rfl rfl)
theorem dX0_digest_92 : decode cX0_digest 92 = .ok (.ldc2_w 496, 3) := dk_20 1 240 (dk_at dksX0_digest_4 0 rfl rfl)
theorem dX0_digest_95 : decode cX0_digest 95 = .ok (.lload_n 1, 1) := dk_31 (dk_at dksX0_digest_4 3 rfl rfl)
theorem dX0_digest_96 : decode cX0_digest 96 = .ok (.lmul, 1) := dk_105 (dk_at dksX0_digest_4 4 rfl rfl)
theorem dX0_digest_97 : decode cX0_digest 97 = .ok (.aload_n 0, 1) := dk_42 (dk_at dksX0_digest_4 5 rfl rfl)
theorem dX0_digest_98 : decode cX0_digest 98 = .ok (.aload 4, 2) := dk_25 4 (dk_at dksX0_digest_4 6 rfl rfl)
theorem dX0_digest_100 : decode cX0_digest 100 = .ok (.iload 5, 2) := dk_21 5 (dk_at dksX0_digest_4 8 rfl rfl)
theorem dX0_digest_102 : decode cX0_digest 102 = .ok (.invokevirtual 357, 3) := dk_182 1 101 (dk_at dksX0_digest_4 10 rfl rfl)
theorem dX0_digest_105 : decode cX0_digest 105 = .ok (.getfield 361, 3) := dk_180 1 105 (dk_at dksX0_digest_4 13 rfl rfl)
theorem dX0_digest_108 : decode cX0_digest 108 = .ok (.iload 5, 2) := dk_21 5 (dk_at dksX0_digest_4 16 rfl rfl)
theorem dX0_digest_110 : decode cX0_digest 110 = .ok (.iaload, 1) := dk_46 (dk_at dksX0_digest_4 18 rfl rfl)
theorem dX0_digest_111 : decode cX0_digest 111 = .ok (.i2l, 1) := dk_133 (dk_at dksX0_digest_4 19 rfl rfl)
theorem dX0_digest_112 : decode cX0_digest 112 = .ok (.ladd, 1) := dk_97 (dk_at dksX0_digest_4 20 rfl rfl)
theorem dX0_digest_113 : decode cX0_digest 113 = .ok (.lstore_n 1, 1) := dk_64 (dk_at dksX0_digest_4 21 rfl rfl)
theorem dX0_digest_114 : decode cX0_digest 114 = .ok (.iinc 5 1, 3) := dk_132 5 1 (dk_at dksX0_digest_5 0 rfl rfl)
theorem dX0_digest_117 : decode cX0_digest 117 = .ok (.goto (-38), 3) := dk_167 255 218 (dk_at dksX0_digest_5 3 rfl rfl)
theorem dX0_digest_120 : decode cX0_digest 120 = .ok (.iinc 3 1, 3) := dk_132 3 1 (dk_at dksX0_digest_5 6 rfl rfl)
theorem dX0_digest_123 : decode cX0_digest 123 = .ok (.goto (-117), 3) := dk_167 255 139 (dk_at dksX0_digest_5 9 rfl rfl)
theorem dX0_digest_126 : decode cX0_digest 126 = .ok (.iconst 0, 1) := dk_3 (dk_at dksX0_digest_5 12 rfl rfl)
theorem dX0_digest_127 : decode cX0_digest 127 = .ok (.istore_n 3, 1) := dk_62 (dk_at dksX0_digest_5 13 rfl rfl)
theorem dX0_digest_128 : decode cX0_digest 128 = .ok (.iload_n 3, 1) := dk_29 (dk_at dksX0_digest_5 14 rfl rfl)
theorem dX0_digest_129 : decode cX0_digest 129 = .ok (.aload_n 0, 1) := dk_42 (dk_at dksX0_digest_5 15 rfl rfl)
theorem dX0_digest_130 : decode cX0_digest 130 = .ok (.getfield 139, 3) := dk_180 0 139 (dk_at dksX0_digest_5 16 rfl rfl)
theorem dX0_digest_133 : decode cX0_digest 133 = .ok (.invokevirtual 201, 3) := dk_182 0 201 (dk_at dksX0_digest_5 19 rfl rfl)
theorem dX0_digest_136 : decode cX0_digest 136 = .ok (.if_icmp .ge 94, 3) := dk_162 0 94 (dk_at dksX0_digest_6 0 rfl rfl)
theorem dX0_digest_139 : decode cX0_digest 139 = .ok (.aload_n 0, 1) := dk_42 (dk_at dksX0_digest_6 3 rfl rfl)
theorem dX0_digest_140 : decode cX0_digest 140 = .ok (.getfield 139, 3) := dk_180 0 139 (dk_at dksX0_digest_6 4 rfl rfl)
theorem dX0_digest_143 : decode cX0_digest 143 = .ok (.iload_n 3, 1) := dk_29 (dk_at dksX0_digest_6 7 rfl rfl)
theorem dX0_digest_144 : decode cX0_digest 144 = .ok (.invokevirtual 218, 3) := dk_182 0 218 (dk_at dksX0_digest_6 8 rfl rfl)
theorem dX0_digest_147 : decode cX0_digest 147 = .ok (.checkcast 382, 3) := dk_192 1 126 (dk_at dksX0_digest_6 11 rfl rfl)
theorem dX0_digest_150 : decode cX0_digest 150 = .ok (.astore 4, 2) := dk_58 4 (dk_at dksX0_digest_6 14 rfl rfl)
theorem dX0_digest_152 : decode cX0_digest 152 = .ok (.ldc2_w 496, 3) := dk_20 1 240 (dk_at dksX0_digest_6 16 rfl rfl)
theorem dX0_digest_155 : decode cX0_digest 155 = .ok (.lload_n 1, 1) := dk_31 (dk_at dksX0_digest_6 19 rfl rfl)
theorem dX0_digest_156 : decode cX0_digest 156 = .ok (.lmul, 1) := dk_105 (dk_at dksX0_digest_6 20 rfl rfl)
theorem dX0_digest_157 : decode cX0_digest 157 = .ok (.aload 4, 2) := dk_25 4 (dk_at dksX0_digest_6 21 rfl rfl)
theorem dX0_digest_159 : decode cX0_digest 159 = .ok (.getfield 386, 3) := dk_180 1 130 (dk_at dksX0_digest_7 0 rfl rfl)
theorem dX0_digest_162 : decode cX0_digest 162 = .ok (.getfield 339, 3) := dk_180 1 83 (dk_at dksX0_digest_7 3 rfl rfl)
theorem dX0_digest_165 : decode cX0_digest 165 = .ok (.i2l, 1) := dk_133 (dk_at dksX0_digest_7 6 rfl rfl)
theorem dX0_digest_166 : decode cX0_digest 166 = .ok (.ladd, 1) := dk_97 (dk_at dksX0_digest_7 7 rfl rfl)
theorem dX0_digest_167 : decode cX0_digest 167 = .ok (.lstore_n 1, 1) := dk_64 (dk_at dksX0_digest_7 8 rfl rfl)
theorem dX0_digest_168 : decode cX0_digest 168 = .ok (.iconst 0, 1) := dk_3 (dk_at dksX0_digest_7 9 rfl rfl)
theorem dX0_digest_169 : decode cX0_digest 169 = .ok (.istore 5, 2) := dk_54 5 (dk_at dksX0_digest_7 10 rfl rfl)
theorem dX0_digest_171 : decode cX0_digest 171 = .ok (.iload 5, 2) := dk_21 5 (dk_at dksX0_digest_7 12 rfl rfl)
theorem dX0_digest_173 : decode cX0_digest 173 = .ok (.aload 4, 2) := dk_25 4 (dk_at dksX0_digest_7 14 rfl rfl)
theorem dX0_digest_175 : decode cX0_digest 175 = .ok (.getfield 381, 3) := dk_180 1 125 (dk_at dksX0_digest_7 16 rfl rfl)
theorem dX0_digest_178 : decode cX0_digest 178 = .ok (.invokevirtual 201, 3) := dk_182 0 201 (dk_at dksX0_digest_7 19 rfl rfl)
theorem dX0_digest_181 : decode cX0_digest 181 = .ok (.if_icmp .ge 43, 3) := dk_162 0 43 (dk_at dksX0_digest_8 0 rfl rfl)
theorem dX0_digest_184 : decode cX0_digest 184 = .ok (.lload_n 1, 1) := dk_31 (dk_at dksX0_digest_8 3 rfl rfl)
theorem dX0_digest_185 : decode cX0_digest 185 = .ok (.aload 4, 2) := dk_25 4 (dk_at dksX0_digest_8 4 rfl rfl)
theorem dX0_digest_187 : decode cX0_digest 187 = .ok (.getfield 381, 3) := dk_180 1 125 (dk_at dksX0_digest_8 6 rfl rfl)
theorem dX0_digest_190 : decode cX0_digest 190 = .ok (.iload 5, 2) := dk_21 5 (dk_at dksX0_digest_8 9 rfl rfl)
theorem dX0_digest_192 : decode cX0_digest 192 = .ok (.invokevirtual 218, 3) := dk_182 0 218 (dk_at dksX0_digest_8 11 rfl rfl)
theorem dX0_digest_195 : decode cX0_digest 195 = .ok (.checkcast 394, 3) := dk_192 1 138 (dk_at dksX0_digest_8 14 rfl rfl)
theorem dX0_digest_198 : decode cX0_digest 198 = .ok (.aload 4, 2) := dk_25 4 (dk_at dksX0_digest_8 17 rfl rfl)
theorem dX0_digest_200 : decode cX0_digest 200 = .ok (.getfield 386, 3) := dk_180 1 130 (dk_at dksX0_digest_8 19 rfl rfl)
theorem dX0_digest_203 : decode cX0_digest 203 = .ok (.getfield 291, 3) := dk_180 1 35 (dk_at dksX0_digest_9 0 rfl rfl)
theorem dX0_digest_206 : decode cX0_digest 206 = .ok (.iload 5, 2) := dk_21 5 (dk_at dksX0_digest_9 3 rfl rfl)
theorem dX0_digest_208 : decode cX0_digest 208 = .ok (.invokevirtual 218, 3) := dk_182 0 218 (dk_at dksX0_digest_9 5 rfl rfl)
theorem dX0_digest_211 : decode cX0_digest 211 = .ok (.checkcast 205, 3) := dk_192 0 205 (dk_at dksX0_digest_9 8 rfl rfl)
theorem dX0_digest_214 : decode cX0_digest 214 = .ok (.invokestatic 498, 3) := dk_184 1 242 (dk_at dksX0_digest_9 11 rfl rfl)
theorem dX0_digest_217 : decode cX0_digest 217 = .ok (.lstore_n 1, 1) := dk_64 (dk_at dksX0_digest_9 14 rfl rfl)
theorem dX0_digest_218 : decode cX0_digest 218 = .ok (.iinc 5 1, 3) := dk_132 5 1 (dk_at dksX0_digest_9 15 rfl rfl)
theorem dX0_digest_221 : decode cX0_digest 221 = .ok (.goto (-50), 3) := dk_167 255 206 (dk_at dksX0_digest_9 18 rfl rfl)
theorem dX0_digest_224 : decode cX0_digest 224 = .ok (.iinc 3 1, 3) := dk_132 3 1 (dk_at dksX0_digest_9 21 rfl rfl)
theorem dX0_digest_227 : decode cX0_digest 227 = .ok (.goto (-99), 3) := dk_167 255 157 (dk_at dksX0_digest_10 0 rfl rfl)
theorem dX0_digest_230 : decode cX0_digest 230 = .ok (.iconst 0, 1) := dk_3 (dk_at dksX0_digest_10 3 rfl rfl)
theorem dX0_digest_231 : decode cX0_digest 231 = .ok (.istore_n 3, 1) := dk_62 (dk_at dksX0_digest_10 4 rfl rfl)
theorem dX0_digest_232 : decode cX0_digest 232 = .ok (.iload_n 3, 1) := dk_29 (dk_at dksX0_digest_10 5 rfl rfl)
theorem dX0_digest_233 : decode cX0_digest 233 = .ok (.bipush 8, 2) := dk_16 8 (dk_at dksX0_digest_10 6 rfl rfl)
theorem dX0_digest_235 : decode cX0_digest 235 = .ok (.if_icmp .ge 22, 3) := dk_162 0 22 (dk_at dksX0_digest_10 8 rfl rfl)
theorem dX0_digest_238 : decode cX0_digest 238 = .ok (.ldc2_w 496, 3) := dk_20 1 240 (dk_at dksX0_digest_10 11 rfl rfl)
theorem dX0_digest_241 : decode cX0_digest 241 = .ok (.lload_n 1, 1) := dk_31 (dk_at dksX0_digest_10 14 rfl rfl)
theorem dX0_digest_242 : decode cX0_digest 242 = .ok (.lmul, 1) := dk_105 (dk_at dksX0_digest_10 15 rfl rfl)
theorem dX0_digest_243 : decode cX0_digest 243 = .ok (.aload_n 0, 1) := dk_42 (dk_at dksX0_digest_10 16 rfl rfl)
theorem dX0_digest_244 : decode cX0_digest 244 = .ok (.getfield 142, 3) := dk_180 0 142 (dk_at dksX0_digest_10 17 rfl rfl)
theorem dX0_digest_247 : decode cX0_digest 247 = .ok (.iload_n 3, 1) := dk_29 (dk_at dksX0_digest_10 20 rfl rfl)
theorem dX0_digest_248 : decode cX0_digest 248 = .ok (.laload, 1) := dk_47 (dk_at dksX0_digest_10 21 rfl rfl)
theorem dX0_digest_249 : decode cX0_digest 249 = .ok (.ladd, 1) := dk_97 (dk_at dksX0_digest_10 22 rfl rfl)
theorem dX0_digest_250 : decode cX0_digest 250 = .ok (.lstore_n 1, 1) := dk_64 (dk_at dksX0_digest_10 23 rfl rfl)
theorem dX0_digest_251 : decode cX0_digest 251 = .ok (.iinc 3 1, 3) := dk_132 3 1 (dk_at dksX0_digest_11 0 rfl rfl)
theorem dX0_digest_254 : decode cX0_digest 254 = .ok (.goto (-22), 3) := dk_167 255 234 (dk_at dksX0_digest_11 3 rfl rfl)
theorem dX0_digest_257 : decode cX0_digest 257 = .ok (.lload_n 1, 1) := dk_31 (dk_at dksX0_digest_11 6 rfl rfl)
theorem dX0_digest_258 : decode cX0_digest 258 = .ok (.lreturn, 1) := dk_173 (dk_at dksX0_digest_11 7 rfl rfl)
abbrev cX0_digest_2 : ByteArray := prog_1_method_67_code
def yX0_digest_2 : MethodName := ⟨RX0, "digest", "(JLRoleLoom$State;LRoleLoom$Part;)J"⟩
def dkwX0_digest_2_7 : List UInt8 := [132, 6, 1, 167, 255, 209, 22, 4, 173]
abbrev dktX0_digest_2_7 : List UInt8 := dkwX0_digest_2_7 ++ []
def dkwX0_digest_2_6 : List UInt8 := [199, 0, 8, 16, 247, 167, 0, 13, 44, 180, 1, 235, 21, 6, 50, 180, 1, 187, 133, 97, 55, 4]
abbrev dktX0_digest_2_6 : List UInt8 := dkwX0_digest_2_6 ++ dktX0_digest_2_7
def dkwX0_digest_2_5 : List UInt8 := [54, 6, 21, 6, 45, 180, 1, 232, 162, 0, 44, 20, 1, 240, 22, 4, 105, 44, 180, 1, 235, 21, 6, 50]
abbrev dktX0_digest_2_5 : List UInt8 := dkwX0_digest_2_5 ++ dktX0_digest_2_6
def dkwX0_digest_2_4 : List UInt8 := [21, 6, 104, 21, 7, 96, 47, 97, 55, 4, 132, 7, 1, 167, 255, 219, 132, 6, 1, 167, 255, 184, 3]
abbrev dktX0_digest_2_4 : List UInt8 := dkwX0_digest_2_4 ++ dktX0_digest_2_5
def dkwX0_digest_2_3 : List UInt8 := [21, 7, 44, 180, 1, 227, 21, 6, 46, 162, 0, 31, 20, 1, 240, 22, 4, 105, 44, 180, 1, 230, 16, 12]
abbrev dktX0_digest_2_3 : List UInt8 := dkwX0_digest_2_3 ++ dktX0_digest_2_4
def dkwX0_digest_2_2 : List UInt8 := [162, 0, 69, 20, 1, 240, 22, 4, 105, 44, 180, 1, 227, 21, 6, 46, 133, 97, 55, 4, 3, 54, 7]
abbrev dktX0_digest_2_2 : List UInt8 := dkwX0_digest_2_2 ++ dktX0_digest_2_3
def dkwX0_digest_2_1 : List UInt8 := [180, 1, 221, 21, 6, 47, 97, 55, 4, 132, 6, 1, 167, 255, 228, 3, 54, 6, 21, 6, 45, 180, 1, 224]
abbrev dktX0_digest_2_1 : List UInt8 := dkwX0_digest_2_1 ++ dktX0_digest_2_2
def dkwX0_digest_2_0 : List UInt8 := [30, 55, 4, 3, 54, 6, 21, 6, 45, 180, 1, 246, 162, 0, 25, 20, 1, 240, 22, 4, 105, 44]
abbrev dktX0_digest_2_0 : List UInt8 := dkwX0_digest_2_0 ++ dktX0_digest_2_1
theorem dksX0_digest_2_0 : cX0_digest_2.data.toList.drop 0 = dktX0_digest_2_0 := by decide +kernel
theorem dksX0_digest_2_1 : cX0_digest_2.data.toList.drop 22 = dktX0_digest_2_1 := dk_seg dksX0_digest_2_0 22 rfl rfl
theorem dksX0_digest_2_2 : cX0_digest_2.data.toList.drop 46 = dktX0_digest_2_2 := dk_seg dksX0_digest_2_1 24 rfl rfl
theorem dksX0_digest_2_3 : cX0_digest_2.data.toList.drop 69 = dktX0_digest_2_3 := dk_seg dksX0_digest_2_2 23 rfl rfl
theorem dksX0_digest_2_4 : cX0_digest_2.data.toList.drop 93 = dktX0_digest_2_4 := dk_seg dksX0_digest_2_3 24 rfl rfl
theorem dksX0_digest_2_5 : cX0_digest_2.data.toList.drop 116 = dktX0_digest_2_5 := dk_seg dksX0_digest_2_4 23 rfl rfl
theorem dksX0_digest_2_6 : cX0_digest_2.data.toList.drop 140 = dktX0_digest_2_6 := dk_seg dksX0_digest_2_5 24 rfl rfl
theorem dksX0_digest_2_7 : cX0_digest_2.data.toList.drop 162 = dktX0_digest_2_7 := dk_seg dksX0_digest_2_6 22 rfl rfl
theorem dX0_digest_2_0 : decode cX0_digest_2 0 = .ok (.lload_n 0, 1) := dk_30 (dk_at dksX0_digest_2_0 0 rfl rfl)
theorem dX0_digest_2_1 : decode cX0_digest_2 1 = .ok (.lstore 4, 2) := dk_55 4 (dk_at dksX0_digest_2_0 1 rfl rfl)
theorem dX0_digest_2_3 : decode cX0_digest_2 3 = .ok (.iconst 0, 1) := dk_3 (dk_at dksX0_digest_2_0 3 rfl rfl)
theorem dX0_digest_2_4 : decode cX0_digest_2 4 = .ok (.istore 6, 2) := dk_54 6 (dk_at dksX0_digest_2_0 4 rfl rfl)
theorem dX0_digest_2_6 : decode cX0_digest_2 6 = .ok (.iload 6, 2) := dk_21 6 (dk_at dksX0_digest_2_0 6 rfl rfl)
theorem dX0_digest_2_8 : decode cX0_digest_2 8 = .ok (.aload_n 3, 1) := dk_45 (dk_at dksX0_digest_2_0 8 rfl rfl)
theorem dX0_digest_2_9 : decode cX0_digest_2 9 = .ok (.getfield 502, 3) := dk_180 1 246 (dk_at dksX0_digest_2_0 9 rfl rfl)
theorem dX0_digest_2_12 : decode cX0_digest_2 12 = .ok (.if_icmp .ge 25, 3) := dk_162 0 25 (dk_at dksX0_digest_2_0 12 rfl rfl)
theorem dX0_digest_2_15 : decode cX0_digest_2 15 = .ok (.ldc2_w 496, 3) := dk_20 1 240 (dk_at dksX0_digest_2_0 15 rfl rfl)
theorem dX0_digest_2_18 : decode cX0_digest_2 18 = .ok (.lload 4, 2) := dk_22 4 (dk_at dksX0_digest_2_0 18 rfl rfl)
theorem dX0_digest_2_20 : decode cX0_digest_2 20 = .ok (.lmul, 1) := dk_105 (dk_at dksX0_digest_2_0 20 rfl rfl)
theorem dX0_digest_2_21 : decode cX0_digest_2 21 = .ok (.aload_n 2, 1) := dk_44 (dk_at dksX0_digest_2_0 21 rfl rfl)
theorem dX0_digest_2_22 : decode cX0_digest_2 22 = .ok (.getfield 477, 3) := dk_180 1 221 (dk_at dksX0_digest_2_1 0 rfl rfl)
theorem dX0_digest_2_25 : decode cX0_digest_2 25 = .ok (.iload 6, 2) := dk_21 6 (dk_at dksX0_digest_2_1 3 rfl rfl)
theorem dX0_digest_2_27 : decode cX0_digest_2 27 = .ok (.laload, 1) := dk_47 (dk_at dksX0_digest_2_1 5 rfl rfl)
theorem dX0_digest_2_28 : decode cX0_digest_2 28 = .ok (.ladd, 1) := dk_97 (dk_at dksX0_digest_2_1 6 rfl rfl)
theorem dX0_digest_2_29 : decode cX0_digest_2 29 = .ok (.lstore 4, 2) := dk_55 4 (dk_at dksX0_digest_2_1 7 rfl rfl)
theorem dX0_digest_2_31 : decode cX0_digest_2 31 = .ok (.iinc 6 1, 3) := dk_132 6 1 (dk_at dksX0_digest_2_1 9 rfl rfl)
theorem dX0_digest_2_34 : decode cX0_digest_2 34 = .ok (.goto (-28), 3) := dk_167 255 228 (dk_at dksX0_digest_2_1 12 rfl rfl)
theorem dX0_digest_2_37 : decode cX0_digest_2 37 = .ok (.iconst 0, 1) := dk_3 (dk_at dksX0_digest_2_1 15 rfl rfl)
theorem dX0_digest_2_38 : decode cX0_digest_2 38 = .ok (.istore 6, 2) := dk_54 6 (dk_at dksX0_digest_2_1 16 rfl rfl)
theorem dX0_digest_2_40 : decode cX0_digest_2 40 = .ok (.iload 6, 2) := dk_21 6 (dk_at dksX0_digest_2_1 18 rfl rfl)
theorem dX0_digest_2_42 : decode cX0_digest_2 42 = .ok (.aload_n 3, 1) := dk_45 (dk_at dksX0_digest_2_1 20 rfl rfl)
theorem dX0_digest_2_43 : decode cX0_digest_2 43 = .ok (.getfield 480, 3) := dk_180 1 224 (dk_at dksX0_digest_2_1 21 rfl rfl)
theorem dX0_digest_2_46 : decode cX0_digest_2 46 = .ok (.if_icmp .ge 69, 3) := dk_162 0 69 (dk_at dksX0_digest_2_2 0 rfl rfl)
theorem dX0_digest_2_49 : decode cX0_digest_2 49 = .ok (.ldc2_w 496, 3) := dk_20 1 240 (dk_at dksX0_digest_2_2 3 rfl rfl)
theorem dX0_digest_2_52 : decode cX0_digest_2 52 = .ok (.lload 4, 2) := dk_22 4 (dk_at dksX0_digest_2_2 6 rfl rfl)
theorem dX0_digest_2_54 : decode cX0_digest_2 54 = .ok (.lmul, 1) := dk_105 (dk_at dksX0_digest_2_2 8 rfl rfl)
theorem dX0_digest_2_55 : decode cX0_digest_2 55 = .ok (.aload_n 2, 1) := dk_44 (dk_at dksX0_digest_2_2 9 rfl rfl)
theorem dX0_digest_2_56 : decode cX0_digest_2 56 = .ok (.getfield 483, 3) := dk_180 1 227 (dk_at dksX0_digest_2_2 10 rfl rfl)
theorem dX0_digest_2_59 : decode cX0_digest_2 59 = .ok (.iload 6, 2) := dk_21 6 (dk_at dksX0_digest_2_2 13 rfl rfl)
theorem dX0_digest_2_61 : decode cX0_digest_2 61 = .ok (.iaload, 1) := dk_46 (dk_at dksX0_digest_2_2 15 rfl rfl)
theorem dX0_digest_2_62 : decode cX0_digest_2 62 = .ok (.i2l, 1) := dk_133 (dk_at dksX0_digest_2_2 16 rfl rfl)
theorem dX0_digest_2_63 : decode cX0_digest_2 63 = .ok (.ladd, 1) := dk_97 (dk_at dksX0_digest_2_2 17 rfl rfl)
theorem dX0_digest_2_64 : decode cX0_digest_2 64 = .ok (.lstore 4, 2) := dk_55 4 (dk_at dksX0_digest_2_2 18 rfl rfl)
theorem dX0_digest_2_66 : decode cX0_digest_2 66 = .ok (.iconst 0, 1) := dk_3 (dk_at dksX0_digest_2_2 20 rfl rfl)
theorem dX0_digest_2_67 : decode cX0_digest_2 67 = .ok (.istore 7, 2) := dk_54 7 (dk_at dksX0_digest_2_2 21 rfl rfl)
theorem dX0_digest_2_69 : decode cX0_digest_2 69 = .ok (.iload 7, 2) := dk_21 7 (dk_at dksX0_digest_2_3 0 rfl rfl)
theorem dX0_digest_2_71 : decode cX0_digest_2 71 = .ok (.aload_n 2, 1) := dk_44 (dk_at dksX0_digest_2_3 2 rfl rfl)
theorem dX0_digest_2_72 : decode cX0_digest_2 72 = .ok (.getfield 483, 3) := dk_180 1 227 (dk_at dksX0_digest_2_3 3 rfl rfl)
theorem dX0_digest_2_75 : decode cX0_digest_2 75 = .ok (.iload 6, 2) := dk_21 6 (dk_at dksX0_digest_2_3 6 rfl rfl)
theorem dX0_digest_2_77 : decode cX0_digest_2 77 = .ok (.iaload, 1) := dk_46 (dk_at dksX0_digest_2_3 8 rfl rfl)
theorem dX0_digest_2_78 : decode cX0_digest_2 78 = .ok (.if_icmp .ge 31, 3) := dk_162 0 31 (dk_at dksX0_digest_2_3 9 rfl rfl)
theorem dX0_digest_2_81 : decode cX0_digest_2 81 = .ok (.ldc2_w 496, 3) := dk_20 1 240 (dk_at dksX0_digest_2_3 12 rfl rfl)
theorem dX0_digest_2_84 : decode cX0_digest_2 84 = .ok (.lload 4, 2) := dk_22 4 (dk_at dksX0_digest_2_3 15 rfl rfl)
theorem dX0_digest_2_86 : decode cX0_digest_2 86 = .ok (.lmul, 1) := dk_105 (dk_at dksX0_digest_2_3 17 rfl rfl)
theorem dX0_digest_2_87 : decode cX0_digest_2 87 = .ok (.aload_n 2, 1) := dk_44 (dk_at dksX0_digest_2_3 18 rfl rfl)
theorem dX0_digest_2_88 : decode cX0_digest_2 88 = .ok (.getfield 486, 3) := dk_180 1 230 (dk_at dksX0_digest_2_3 19 rfl rfl)
theorem dX0_digest_2_91 : decode cX0_digest_2 91 = .ok (.bipush 12, 2) := dk_16 12 (dk_at dksX0_digest_2_3 22 rfl rfl)
theorem dX0_digest_2_93 : decode cX0_digest_2 93 = .ok (.iload 6, 2) := dk_21 6 (dk_at dksX0_digest_2_4 0 rfl rfl)
theorem dX0_digest_2_95 : decode cX0_digest_2 95 = .ok (.imul, 1) := dk_104 (dk_at dksX0_digest_2_4 2 rfl rfl)
theorem dX0_digest_2_96 : decode cX0_digest_2 96 = .ok (.iload 7, 2) := dk_21 7 (dk_at dksX0_digest_2_4 3 rfl rfl)
theorem dX0_digest_2_98 : decode cX0_digest_2 98 = .ok (.iadd, 1) := dk_96 (dk_at dksX0_digest_2_4 5 rfl rfl)
theorem dX0_digest_2_99 : decode cX0_digest_2 99 = .ok (.laload, 1) := dk_47 (dk_at dksX0_digest_2_4 6 rfl rfl)
theorem dX0_digest_2_100 : decode cX0_digest_2 100 = .ok (.ladd, 1) := dk_97 (dk_at dksX0_digest_2_4 7 rfl rfl)
theorem dX0_digest_2_101 : decode cX0_digest_2 101 = .ok (.lstore 4, 2) := dk_55 4 (dk_at dksX0_digest_2_4 8 rfl rfl)
theorem dX0_digest_2_103 : decode cX0_digest_2 103 = .ok (.iinc 7 1, 3) := dk_132 7 1 (dk_at dksX0_digest_2_4 10 rfl rfl)
theorem dX0_digest_2_106 : decode cX0_digest_2 106 = .ok (.goto (-37), 3) := dk_167 255 219 (dk_at dksX0_digest_2_4 13 rfl rfl)
theorem dX0_digest_2_109 : decode cX0_digest_2 109 = .ok (.iinc 6 1, 3) := dk_132 6 1 (dk_at dksX0_digest_2_4 16 rfl rfl)
theorem dX0_digest_2_112 : decode cX0_digest_2 112 = .ok (.goto (-72), 3) := dk_167 255 184 (dk_at dksX0_digest_2_4 19 rfl rfl)
theorem dX0_digest_2_115 : decode cX0_digest_2 115 = .ok (.iconst 0, 1) := dk_3 (dk_at dksX0_digest_2_4 22 rfl rfl)
theorem dX0_digest_2_116 : decode cX0_digest_2 116 = .ok (.istore 6, 2) := dk_54 6 (dk_at dksX0_digest_2_5 0 rfl rfl)
theorem dX0_digest_2_118 : decode cX0_digest_2 118 = .ok (.iload 6, 2) := dk_21 6 (dk_at dksX0_digest_2_5 2 rfl rfl)
theorem dX0_digest_2_120 : decode cX0_digest_2 120 = .ok (.aload_n 3, 1) := dk_45 (dk_at dksX0_digest_2_5 4 rfl rfl)
theorem dX0_digest_2_121 : decode cX0_digest_2 121 = .ok (.getfield 488, 3) := dk_180 1 232 (dk_at dksX0_digest_2_5 5 rfl rfl)
theorem dX0_digest_2_124 : decode cX0_digest_2 124 = .ok (.if_icmp .ge 44, 3) := dk_162 0 44 (dk_at dksX0_digest_2_5 8 rfl rfl)
theorem dX0_digest_2_127 : decode cX0_digest_2 127 = .ok (.ldc2_w 496, 3) := dk_20 1 240 (dk_at dksX0_digest_2_5 11 rfl rfl)
theorem dX0_digest_2_130 : decode cX0_digest_2 130 = .ok (.lload 4, 2) := dk_22 4 (dk_at dksX0_digest_2_5 14 rfl rfl)
theorem dX0_digest_2_132 : decode cX0_digest_2 132 = .ok (.lmul, 1) := dk_105 (dk_at dksX0_digest_2_5 16 rfl rfl)
theorem dX0_digest_2_133 : decode cX0_digest_2 133 = .ok (.aload_n 2, 1) := dk_44 (dk_at dksX0_digest_2_5 17 rfl rfl)
theorem dX0_digest_2_134 : decode cX0_digest_2 134 = .ok (.getfield 491, 3) := dk_180 1 235 (dk_at dksX0_digest_2_5 18 rfl rfl)
theorem dX0_digest_2_137 : decode cX0_digest_2 137 = .ok (.iload 6, 2) := dk_21 6 (dk_at dksX0_digest_2_5 21 rfl rfl)
theorem dX0_digest_2_139 : decode cX0_digest_2 139 = .ok (.aaload, 1) := dk_50 (dk_at dksX0_digest_2_5 23 rfl rfl)
theorem dX0_digest_2_140 : decode cX0_digest_2 140 = .ok (.ifnonnull 8, 3) := dk_199 0 8 (dk_at dksX0_digest_2_6 0 rfl rfl)
theorem dX0_digest_2_143 : decode cX0_digest_2 143 = .ok (.bipush (-9), 2) := dk_16 247 (dk_at dksX0_digest_2_6 3 rfl rfl)
theorem dX0_digest_2_145 : decode cX0_digest_2 145 = .ok (.goto 13, 3) := dk_167 0 13 (dk_at dksX0_digest_2_6 5 rfl rfl)
theorem dX0_digest_2_148 : decode cX0_digest_2 148 = .ok (.aload_n 2, 1) := dk_44 (dk_at dksX0_digest_2_6 8 rfl rfl)
theorem dX0_digest_2_149 : decode cX0_digest_2 149 = .ok (.getfield 491, 3) := dk_180 1 235 (dk_at dksX0_digest_2_6 9 rfl rfl)
theorem dX0_digest_2_152 : decode cX0_digest_2 152 = .ok (.iload 6, 2) := dk_21 6 (dk_at dksX0_digest_2_6 12 rfl rfl)
theorem dX0_digest_2_154 : decode cX0_digest_2 154 = .ok (.aaload, 1) := dk_50 (dk_at dksX0_digest_2_6 14 rfl rfl)
theorem dX0_digest_2_155 : decode cX0_digest_2 155 = .ok (.getfield 443, 3) := dk_180 1 187 (dk_at dksX0_digest_2_6 15 rfl rfl)
theorem dX0_digest_2_158 : decode cX0_digest_2 158 = .ok (.i2l, 1) := dk_133 (dk_at dksX0_digest_2_6 18 rfl rfl)
theorem dX0_digest_2_159 : decode cX0_digest_2 159 = .ok (.ladd, 1) := dk_97 (dk_at dksX0_digest_2_6 19 rfl rfl)
theorem dX0_digest_2_160 : decode cX0_digest_2 160 = .ok (.lstore 4, 2) := dk_55 4 (dk_at dksX0_digest_2_6 20 rfl rfl)
theorem dX0_digest_2_162 : decode cX0_digest_2 162 = .ok (.iinc 6 1, 3) := dk_132 6 1 (dk_at dksX0_digest_2_7 0 rfl rfl)
theorem dX0_digest_2_165 : decode cX0_digest_2 165 = .ok (.goto (-47), 3) := dk_167 255 209 (dk_at dksX0_digest_2_7 3 rfl rfl)
theorem dX0_digest_2_168 : decode cX0_digest_2 168 = .ok (.lload 4, 2) := dk_22 4 (dk_at dksX0_digest_2_7 6 rfl rfl)
theorem dX0_digest_2_170 : decode cX0_digest_2 170 = .ok (.lreturn, 1) := dk_173 (dk_at dksX0_digest_2_7 8 rfl rfl)
theorem q76 : (Jvm.Cond.initialized "RoleLoom") ∈ lw_all := lw_g (lw_at lw_m1 1 rfl) rfl
theorem q118 : (Jvm.Cond.instantiable "RoleLoom" (36 : Nat)) ∈ lw_all := lw_g (lw_at lw_m1 43 rfl) rfl
theorem q120 : (Jvm.Cond.instanceMethod ({ cls := "RoleLoom", name := "<init>", desc := "()V" } : Jvm.MethodName)) ∈ lw_all := lw_g (lw_at lw_m1 45 rfl) rfl
theorem q121 : (Jvm.Cond.code ({ cls := "RoleLoom", name := "<init>", desc := "()V" } : Jvm.MethodName) prog_1_method_6_code (2 : Nat) (Option.none : Option Jvm.ClassFile.FieldType)) ∈ lw_all := lw_g (lw_at lw_m1 46 rfl) rfl
theorem q122 : (Jvm.Cond.methodLink "RoleLoom" (115 : Nat) ({ cls := "java/lang/Object", name := "<init>", desc := "()V" } : Jvm.MethodName)) ∈ lw_all := lw_g (lw_at lw_m1 47 rfl) rfl
theorem q125 : (Jvm.Cond.classLink "RoleLoom" (8 : Nat) "RoleLoom$Thrown") ∈ lw_all := lw_g (lw_at lw_m1 50 rfl) rfl
theorem q163 : (Jvm.Cond.methodLinkNest "RoleLoom" (120 : Nat) ({ cls := "RoleLoom$Thrown", name := "<init>", desc := "()V" } : Jvm.MethodName) "RoleLoom") ∈ lw_tbl := lw_at lw_m1 88 rfl
theorem q170 : (Jvm.Cond.fieldLinkNest "RoleLoom" (7 : Nat) "RoleLoom$Thrown" "number" "I" "RoleLoom") ∈ lw_tbl := lw_at lw_m1 95 rfl
theorem q171 : (Jvm.Cond.fieldLinkNest "RoleLoom" (13 : Nat) "RoleLoom$Thrown" "value" "J" "RoleLoom") ∈ lw_tbl := lw_at lw_m1 96 rfl
theorem q172 : (Jvm.Cond.fieldLinkNest "RoleLoom" (29 : Nat) "RoleLoom$Thrown" "part" "LRoleLoom$Part;" "RoleLoom") ∈ lw_tbl := lw_at lw_m1 97 rfl
theorem q173 : (Jvm.Cond.fieldLinkNest "RoleLoom" (33 : Nat) "RoleLoom$Thrown" "place" "I" "RoleLoom") ∈ lw_tbl := lw_at lw_m1 98 rfl
theorem q194 : (Jvm.Cond.classLink "RoleLoom" (41 : Nat) "RoleLoom$Stop") ∈ lw_all := lw_g (lw_at lw_m1 119 rfl) rfl
theorem q203 : (Jvm.Cond.methodLinkNest "RoleLoom" (121 : Nat) ({ cls := "RoleLoom$Stop", name := "<init>", desc := "()V" } : Jvm.MethodName) "RoleLoom") ∈ lw_tbl := lw_at lw_m1 128 rfl
theorem q207 : (Jvm.Cond.fieldLinkNest "RoleLoom" (40 : Nat) "RoleLoom$Stop" "outcome" "I" "RoleLoom") ∈ lw_tbl := lw_at lw_m1 132 rfl
theorem q212 : (Jvm.Cond.classLink "RoleLoom" (122 : Nat) "java/util/ArrayList") ∈ lw_all := lw_g (lw_at lw_m1 137 rfl) rfl
theorem q214 : (Jvm.Cond.methodLink "RoleLoom" (124 : Nat) ({ cls := "java/util/ArrayList", name := "<init>", desc := "()V" } : Jvm.MethodName)) ∈ lw_all := lw_g (lw_at lw_m1 139 rfl) rfl
theorem q238 : (Jvm.Cond.classLink "RoleLoom" (18 : Nat) "RoleLoom$Frame") ∈ lw_all := lw_g (lw_at lw_m1 163 rfl) rfl
theorem q240 : (Jvm.Cond.classLink "RoleLoom" (24 : Nat) "RoleLoom$Body") ∈ lw_all := lw_g (lw_at lw_m1 165 rfl) rfl
theorem q243 : (Jvm.Cond.methodLinkNest "RoleLoom" (200 : Nat) ({ cls := "RoleLoom$Frame", name := "<init>", desc := "()V" } : Jvm.MethodName) "RoleLoom") ∈ lw_tbl := lw_at lw_m1 168 rfl
theorem q250 : (Jvm.Cond.fieldLinkNest "RoleLoom" (377 : Nat) "RoleLoom$Frame" "thing" "LRoleLoom$Thing;" "RoleLoom") ∈ lw_tbl := lw_at lw_m1 175 rfl
theorem q258 : (Jvm.Cond.fieldLinkNest "RoleLoom" (396 : Nat) "RoleLoom$Frame" "state" "LRoleLoom$State;" "RoleLoom") ∈ lw_tbl := lw_at lw_m1 183 rfl
theorem q260 : (Jvm.Cond.fieldLinkNest "RoleLoom" (400 : Nat) "RoleLoom$Frame" "chain" "Ljava/util/ArrayList;" "RoleLoom") ∈ lw_tbl := lw_at lw_m1 185 rfl
theorem q262 : (Jvm.Cond.fieldLinkNest "RoleLoom" (403 : Nat) "RoleLoom$Frame" "link" "I" "RoleLoom") ∈ lw_tbl := lw_at lw_m1 187 rfl
theorem q263 : (Jvm.Cond.fieldLinkNest "RoleLoom" (17 : Nat) "RoleLoom$Frame" "body" "LRoleLoom$Body;" "RoleLoom") ∈ lw_tbl := lw_at lw_m1 188 rfl
theorem q265 : (Jvm.Cond.fieldLinkNest "RoleLoom" (410 : Nat) "RoleLoom$Frame" "argument" "J" "RoleLoom") ∈ lw_tbl := lw_at lw_m1 190 rfl
theorem q267 : (Jvm.Cond.fieldLinkNest "RoleLoom" (30 : Nat) "RoleLoom$Frame" "at" "I" "RoleLoom") ∈ lw_tbl := lw_at lw_m1 192 rfl
theorem q271 : (Jvm.Cond.fieldLinkNest "RoleLoom" (413 : Nat) "RoleLoom$Frame" "deep" "I" "RoleLoom") ∈ lw_tbl := lw_at lw_m1 196 rfl
theorem q292 : (Jvm.Cond.fieldLink "RoleLoom" (1 : Nat) "RoleLoom" "thrown" "LRoleLoom$Thrown;") ∈ lw_all := lw_g (lw_at lw_m1 217 rfl) rfl
theorem q293 : (Jvm.Cond.fieldLink "RoleLoom" (36 : Nat) "RoleLoom" "stop" "LRoleLoom$Stop;") ∈ lw_all := lw_g (lw_at lw_m1 218 rfl) rfl
theorem q294 : (Jvm.Cond.fieldLink "RoleLoom" (125 : Nat) "RoleLoom" "parts" "Ljava/util/ArrayList;") ∈ lw_all := lw_g (lw_at lw_m1 219 rfl) rfl
theorem q295 : (Jvm.Cond.fieldLink "RoleLoom" (129 : Nat) "RoleLoom" "wantFirst" "[I") ∈ lw_all := lw_g (lw_at lw_m1 220 rfl) rfl
theorem q296 : (Jvm.Cond.fieldLink "RoleLoom" (133 : Nat) "RoleLoom" "wantSecond" "[I") ∈ lw_all := lw_g (lw_at lw_m1 221 rfl) rfl
theorem q297 : (Jvm.Cond.fieldLink "RoleLoom" (232 : Nat) "RoleLoom" "wants" "I") ∈ lw_all := lw_g (lw_at lw_m1 222 rfl) rfl
theorem q298 : (Jvm.Cond.fieldLink "RoleLoom" (238 : Nat) "RoleLoom" "latest" "LRoleLoom$Body;") ∈ lw_all := lw_g (lw_at lw_m1 223 rfl) rfl
theorem q300 : (Jvm.Cond.fieldLink "RoleLoom" (136 : Nat) "RoleLoom" "roles" "Ljava/util/ArrayList;") ∈ lw_all := lw_g (lw_at lw_m1 225 rfl) rfl
theorem q301 : (Jvm.Cond.fieldLink "RoleLoom" (139 : Nat) "RoleLoom" "things" "Ljava/util/ArrayList;") ∈ lw_all := lw_g (lw_at lw_m1 226 rfl) rfl
theorem q303 : (Jvm.Cond.fieldLink "RoleLoom" (142 : Nat) "RoleLoom" "shared" "[J") ∈ lw_all := lw_g (lw_at lw_m1 228 rfl) rfl
theorem q304 : (Jvm.Cond.fieldLink "RoleLoom" (146 : Nat) "RoleLoom" "named" "Ljava/util/ArrayList;") ∈ lw_all := lw_g (lw_at lw_m1 229 rfl) rfl
theorem q305 : (Jvm.Cond.fieldLink "RoleLoom" (149 : Nat) "RoleLoom" "outPart" "[I") ∈ lw_all := lw_g (lw_at lw_m1 230 rfl) rfl
theorem q306 : (Jvm.Cond.fieldLink "RoleLoom" (152 : Nat) "RoleLoom" "outMember" "[I") ∈ lw_all := lw_g (lw_at lw_m1 231 rfl) rfl
theorem q307 : (Jvm.Cond.fieldLink "RoleLoom" (266 : Nat) "RoleLoom" "outMany" "I") ∈ lw_all := lw_g (lw_at lw_m1 232 rfl) rfl
theorem q308 : (Jvm.Cond.fieldLink "RoleLoom" (155 : Nat) "RoleLoom" "aliasPart" "[I") ∈ lw_all := lw_g (lw_at lw_m1 233 rfl) rfl
theorem q309 : (Jvm.Cond.fieldLink "RoleLoom" (158 : Nat) "RoleLoom" "aliasMember" "[I") ∈ lw_all := lw_g (lw_at lw_m1 234 rfl) rfl
theorem q310 : (Jvm.Cond.fieldLink "RoleLoom" (161 : Nat) "RoleLoom" "isIn" "[Z") ∈ lw_all := lw_g (lw_at lw_m1 235 rfl) rfl
theorem q311 : (Jvm.Cond.fieldLink "RoleLoom" (165 : Nat) "RoleLoom" "behind" "[I") ∈ lw_all := lw_g (lw_at lw_m1 236 rfl) rfl
theorem q312 : (Jvm.Cond.fieldLink "RoleLoom" (168 : Nat) "RoleLoom" "ring" "[I") ∈ lw_all := lw_g (lw_at lw_m1 237 rfl) rfl
theorem q313 : (Jvm.Cond.fieldLink "RoleLoom" (285 : Nat) "RoleLoom" "ringMany" "I") ∈ lw_all := lw_g (lw_at lw_m1 238 rfl) rfl
theorem q314 : (Jvm.Cond.fieldLink "RoleLoom" (171 : Nat) "RoleLoom" "lackPart" "I") ∈ lw_all := lw_g (lw_at lw_m1 239 rfl) rfl
theorem q315 : (Jvm.Cond.fieldLink "RoleLoom" (174 : Nat) "RoleLoom" "lackMember" "I") ∈ lw_all := lw_g (lw_at lw_m2 0 rfl) rfl
theorem q316 : (Jvm.Cond.fieldLink "RoleLoom" (177 : Nat) "RoleLoom" "frames" "[LRoleLoom$Frame;") ∈ lw_all := lw_g (lw_at lw_m2 1 rfl) rfl
theorem q317 : (Jvm.Cond.fieldLink "RoleLoom" (364 : Nat) "RoleLoom" "turns" "I") ∈ lw_all := lw_g (lw_at lw_m2 2 rfl) rfl
theorem q318 : (Jvm.Cond.fieldLink "RoleLoom" (181 : Nat) "RoleLoom" "ran" "[LRoleLoom$Body;") ∈ lw_all := lw_g (lw_at lw_m2 3 rfl) rfl
theorem q319 : (Jvm.Cond.fieldLink "RoleLoom" (185 : Nat) "RoleLoom" "ranDeep" "[I") ∈ lw_all := lw_g (lw_at lw_m2 4 rfl) rfl
theorem q320 : (Jvm.Cond.fieldLink "RoleLoom" (367 : Nat) "RoleLoom" "ranMany" "I") ∈ lw_all := lw_g (lw_at lw_m2 5 rfl) rfl
theorem q321 : (Jvm.Cond.fieldLink "RoleLoom" (188 : Nat) "RoleLoom" "thrownNumber" "I") ∈ lw_all := lw_g (lw_at lw_m2 6 rfl) rfl
theorem q322 : (Jvm.Cond.fieldLink "RoleLoom" (191 : Nat) "RoleLoom" "thrownPart" "I") ∈ lw_all := lw_g (lw_at lw_m2 7 rfl) rfl
theorem q323 : (Jvm.Cond.fieldLink "RoleLoom" (194 : Nat) "RoleLoom" "thrownPlace" "I") ∈ lw_all := lw_g (lw_at lw_m2 8 rfl) rfl
theorem q324 : (Jvm.Cond.fieldLink "RoleLoom" (370 : Nat) "RoleLoom" "thrownWith" "J") ∈ lw_all := lw_g (lw_at lw_m2 9 rfl) rfl
theorem q325 : (Jvm.Cond.fieldLink "RoleLoom" (451 : Nat) "RoleLoom" "answer" "J") ∈ lw_all := lw_g (lw_at lw_m2 10 rfl) rfl
theorem q326 : (Jvm.Cond.fieldLink "RoleLoom" (427 : Nat) "RoleLoom" "startGave" "J") ∈ lw_all := lw_g (lw_at lw_m2 11 rfl) rfl
theorem q327 : (Jvm.Cond.fieldLink "RoleLoom" (460 : Nat) "RoleLoom" "told" "J") ∈ lw_all := lw_g (lw_at lw_m2 12 rfl) rfl
theorem q329 : (Jvm.Cond.fieldLink "RoleLoom" (197 : Nat) "RoleLoom" "marked" "[J") ∈ lw_all := lw_g (lw_at lw_m2 14 rfl) rfl
theorem q331 : (Jvm.Cond.fieldLink "RoleLoom" (457 : Nat) "RoleLoom" "markMany" "I") ∈ lw_all := lw_g (lw_at lw_m2 16 rfl) rfl
theorem q332 : (Jvm.Cond.laysFinal "RoleLoom" "RoleLoom" "thrown" "LRoleLoom$Thrown;") ∈ lw_all := lw_g (lw_at lw_m2 17 rfl) rfl
theorem q333 : (Jvm.Cond.soleField "RoleLoom" "thrown") ∈ lw_all := lw_g (lw_at lw_m2 18 rfl) rfl
theorem q334 : (Jvm.Cond.laysFinal "RoleLoom" "RoleLoom" "stop" "LRoleLoom$Stop;") ∈ lw_all := lw_g (lw_at lw_m2 19 rfl) rfl
theorem q335 : (Jvm.Cond.soleField "RoleLoom" "stop") ∈ lw_all := lw_g (lw_at lw_m2 20 rfl) rfl
theorem q336 : (Jvm.Cond.laysFinal "RoleLoom" "RoleLoom" "parts" "Ljava/util/ArrayList;") ∈ lw_all := lw_g (lw_at lw_m2 21 rfl) rfl
theorem q337 : (Jvm.Cond.soleField "RoleLoom" "parts") ∈ lw_all := lw_g (lw_at lw_m2 22 rfl) rfl
theorem q338 : (Jvm.Cond.laysFinal "RoleLoom" "RoleLoom" "wantFirst" "[I") ∈ lw_all := lw_g (lw_at lw_m2 23 rfl) rfl
theorem q339 : (Jvm.Cond.soleField "RoleLoom" "wantFirst") ∈ lw_all := lw_g (lw_at lw_m2 24 rfl) rfl
theorem q340 : (Jvm.Cond.laysFinal "RoleLoom" "RoleLoom" "wantSecond" "[I") ∈ lw_all := lw_g (lw_at lw_m2 25 rfl) rfl
theorem q341 : (Jvm.Cond.soleField "RoleLoom" "wantSecond") ∈ lw_all := lw_g (lw_at lw_m2 26 rfl) rfl
theorem q342 : (Jvm.Cond.lays "RoleLoom" "RoleLoom" "wants" "I") ∈ lw_all := lw_g (lw_at lw_m2 27 rfl) rfl
theorem q343 : (Jvm.Cond.soleField "RoleLoom" "wants") ∈ lw_all := lw_g (lw_at lw_m2 28 rfl) rfl
theorem q344 : (Jvm.Cond.lays "RoleLoom" "RoleLoom" "latest" "LRoleLoom$Body;") ∈ lw_all := lw_g (lw_at lw_m2 29 rfl) rfl
theorem q345 : (Jvm.Cond.soleField "RoleLoom" "latest") ∈ lw_all := lw_g (lw_at lw_m2 30 rfl) rfl
theorem q346 : (Jvm.Cond.laysFinal "RoleLoom" "RoleLoom" "roles" "Ljava/util/ArrayList;") ∈ lw_all := lw_g (lw_at lw_m2 31 rfl) rfl
theorem q347 : (Jvm.Cond.soleField "RoleLoom" "roles") ∈ lw_all := lw_g (lw_at lw_m2 32 rfl) rfl
theorem q348 : (Jvm.Cond.laysFinal "RoleLoom" "RoleLoom" "things" "Ljava/util/ArrayList;") ∈ lw_all := lw_g (lw_at lw_m2 33 rfl) rfl
theorem q349 : (Jvm.Cond.soleField "RoleLoom" "things") ∈ lw_all := lw_g (lw_at lw_m2 34 rfl) rfl
theorem q350 : (Jvm.Cond.laysFinal "RoleLoom" "RoleLoom" "shared" "[J") ∈ lw_all := lw_g (lw_at lw_m2 35 rfl) rfl
theorem q351 : (Jvm.Cond.soleField "RoleLoom" "shared") ∈ lw_all := lw_g (lw_at lw_m2 36 rfl) rfl
theorem q352 : (Jvm.Cond.laysFinal "RoleLoom" "RoleLoom" "named" "Ljava/util/ArrayList;") ∈ lw_all := lw_g (lw_at lw_m2 37 rfl) rfl
theorem q353 : (Jvm.Cond.soleField "RoleLoom" "named") ∈ lw_all := lw_g (lw_at lw_m2 38 rfl) rfl
theorem q354 : (Jvm.Cond.laysFinal "RoleLoom" "RoleLoom" "outPart" "[I") ∈ lw_all := lw_g (lw_at lw_m2 39 rfl) rfl
theorem q355 : (Jvm.Cond.soleField "RoleLoom" "outPart") ∈ lw_all := lw_g (lw_at lw_m2 40 rfl) rfl
theorem q356 : (Jvm.Cond.laysFinal "RoleLoom" "RoleLoom" "outMember" "[I") ∈ lw_all := lw_g (lw_at lw_m2 41 rfl) rfl
theorem q357 : (Jvm.Cond.soleField "RoleLoom" "outMember") ∈ lw_all := lw_g (lw_at lw_m2 42 rfl) rfl
theorem q358 : (Jvm.Cond.lays "RoleLoom" "RoleLoom" "outMany" "I") ∈ lw_all := lw_g (lw_at lw_m2 43 rfl) rfl
theorem q359 : (Jvm.Cond.soleField "RoleLoom" "outMany") ∈ lw_all := lw_g (lw_at lw_m2 44 rfl) rfl
theorem q360 : (Jvm.Cond.laysFinal "RoleLoom" "RoleLoom" "aliasPart" "[I") ∈ lw_all := lw_g (lw_at lw_m2 45 rfl) rfl
theorem q361 : (Jvm.Cond.soleField "RoleLoom" "aliasPart") ∈ lw_all := lw_g (lw_at lw_m2 46 rfl) rfl
theorem q362 : (Jvm.Cond.laysFinal "RoleLoom" "RoleLoom" "aliasMember" "[I") ∈ lw_all := lw_g (lw_at lw_m2 47 rfl) rfl
theorem q363 : (Jvm.Cond.soleField "RoleLoom" "aliasMember") ∈ lw_all := lw_g (lw_at lw_m2 48 rfl) rfl
theorem q364 : (Jvm.Cond.laysFinal "RoleLoom" "RoleLoom" "isIn" "[Z") ∈ lw_all := lw_g (lw_at lw_m2 49 rfl) rfl
theorem q365 : (Jvm.Cond.soleField "RoleLoom" "isIn") ∈ lw_all := lw_g (lw_at lw_m2 50 rfl) rfl
theorem q366 : (Jvm.Cond.laysFinal "RoleLoom" "RoleLoom" "behind" "[I") ∈ lw_all := lw_g (lw_at lw_m2 51 rfl) rfl
theorem q367 : (Jvm.Cond.soleField "RoleLoom" "behind") ∈ lw_all := lw_g (lw_at lw_m2 52 rfl) rfl
theorem q368 : (Jvm.Cond.laysFinal "RoleLoom" "RoleLoom" "ring" "[I") ∈ lw_all := lw_g (lw_at lw_m2 53 rfl) rfl
theorem q369 : (Jvm.Cond.soleField "RoleLoom" "ring") ∈ lw_all := lw_g (lw_at lw_m2 54 rfl) rfl
theorem q370 : (Jvm.Cond.lays "RoleLoom" "RoleLoom" "ringMany" "I") ∈ lw_all := lw_g (lw_at lw_m2 55 rfl) rfl
theorem q371 : (Jvm.Cond.soleField "RoleLoom" "ringMany") ∈ lw_all := lw_g (lw_at lw_m2 56 rfl) rfl
theorem q372 : (Jvm.Cond.lays "RoleLoom" "RoleLoom" "lackPart" "I") ∈ lw_all := lw_g (lw_at lw_m2 57 rfl) rfl
theorem q373 : (Jvm.Cond.soleField "RoleLoom" "lackPart") ∈ lw_all := lw_g (lw_at lw_m2 58 rfl) rfl
theorem q374 : (Jvm.Cond.lays "RoleLoom" "RoleLoom" "lackMember" "I") ∈ lw_all := lw_g (lw_at lw_m2 59 rfl) rfl
theorem q375 : (Jvm.Cond.soleField "RoleLoom" "lackMember") ∈ lw_all := lw_g (lw_at lw_m2 60 rfl) rfl
theorem q376 : (Jvm.Cond.laysFinal "RoleLoom" "RoleLoom" "frames" "[LRoleLoom$Frame;") ∈ lw_all := lw_g (lw_at lw_m2 61 rfl) rfl
theorem q377 : (Jvm.Cond.soleField "RoleLoom" "frames") ∈ lw_all := lw_g (lw_at lw_m2 62 rfl) rfl
theorem q378 : (Jvm.Cond.lays "RoleLoom" "RoleLoom" "turns" "I") ∈ lw_all := lw_g (lw_at lw_m2 63 rfl) rfl
theorem q379 : (Jvm.Cond.soleField "RoleLoom" "turns") ∈ lw_all := lw_g (lw_at lw_m2 64 rfl) rfl
theorem q380 : (Jvm.Cond.laysFinal "RoleLoom" "RoleLoom" "ran" "[LRoleLoom$Body;") ∈ lw_all := lw_g (lw_at lw_m2 65 rfl) rfl
theorem q381 : (Jvm.Cond.soleField "RoleLoom" "ran") ∈ lw_all := lw_g (lw_at lw_m2 66 rfl) rfl
theorem q382 : (Jvm.Cond.laysFinal "RoleLoom" "RoleLoom" "ranDeep" "[I") ∈ lw_all := lw_g (lw_at lw_m2 67 rfl) rfl
theorem q383 : (Jvm.Cond.soleField "RoleLoom" "ranDeep") ∈ lw_all := lw_g (lw_at lw_m2 68 rfl) rfl
theorem q384 : (Jvm.Cond.lays "RoleLoom" "RoleLoom" "ranMany" "I") ∈ lw_all := lw_g (lw_at lw_m2 69 rfl) rfl
theorem q385 : (Jvm.Cond.soleField "RoleLoom" "ranMany") ∈ lw_all := lw_g (lw_at lw_m2 70 rfl) rfl
theorem q386 : (Jvm.Cond.lays "RoleLoom" "RoleLoom" "thrownNumber" "I") ∈ lw_all := lw_g (lw_at lw_m2 71 rfl) rfl
theorem q387 : (Jvm.Cond.soleField "RoleLoom" "thrownNumber") ∈ lw_all := lw_g (lw_at lw_m2 72 rfl) rfl
theorem q388 : (Jvm.Cond.lays "RoleLoom" "RoleLoom" "thrownPart" "I") ∈ lw_all := lw_g (lw_at lw_m2 73 rfl) rfl
theorem q389 : (Jvm.Cond.soleField "RoleLoom" "thrownPart") ∈ lw_all := lw_g (lw_at lw_m2 74 rfl) rfl
theorem q390 : (Jvm.Cond.lays "RoleLoom" "RoleLoom" "thrownPlace" "I") ∈ lw_all := lw_g (lw_at lw_m2 75 rfl) rfl
theorem q391 : (Jvm.Cond.soleField "RoleLoom" "thrownPlace") ∈ lw_all := lw_g (lw_at lw_m2 76 rfl) rfl
theorem q392 : (Jvm.Cond.lays "RoleLoom" "RoleLoom" "thrownWith" "J") ∈ lw_all := lw_g (lw_at lw_m2 77 rfl) rfl
theorem q393 : (Jvm.Cond.soleField "RoleLoom" "thrownWith") ∈ lw_all := lw_g (lw_at lw_m2 78 rfl) rfl
theorem q394 : (Jvm.Cond.lays "RoleLoom" "RoleLoom" "answer" "J") ∈ lw_all := lw_g (lw_at lw_m2 79 rfl) rfl
theorem q395 : (Jvm.Cond.soleField "RoleLoom" "answer") ∈ lw_all := lw_g (lw_at lw_m2 80 rfl) rfl
theorem q396 : (Jvm.Cond.lays "RoleLoom" "RoleLoom" "startGave" "J") ∈ lw_all := lw_g (lw_at lw_m2 81 rfl) rfl
theorem q397 : (Jvm.Cond.soleField "RoleLoom" "startGave") ∈ lw_all := lw_g (lw_at lw_m2 82 rfl) rfl
theorem q398 : (Jvm.Cond.lays "RoleLoom" "RoleLoom" "told" "J") ∈ lw_all := lw_g (lw_at lw_m2 83 rfl) rfl
theorem q399 : (Jvm.Cond.soleField "RoleLoom" "told") ∈ lw_all := lw_g (lw_at lw_m2 84 rfl) rfl
theorem q400 : (Jvm.Cond.laysFinal "RoleLoom" "RoleLoom" "marked" "[J") ∈ lw_all := lw_g (lw_at lw_m2 85 rfl) rfl
theorem q401 : (Jvm.Cond.soleField "RoleLoom" "marked") ∈ lw_all := lw_g (lw_at lw_m2 86 rfl) rfl
theorem q402 : (Jvm.Cond.lays "RoleLoom" "RoleLoom" "markMany" "I") ∈ lw_all := lw_g (lw_at lw_m2 87 rfl) rfl
theorem q403 : (Jvm.Cond.soleField "RoleLoom" "markMany") ∈ lw_all := lw_g (lw_at lw_m2 88 rfl) rfl
theorem q404 : (Jvm.Cond.superclass "RoleLoom" "java/lang/Object") ∈ lw_all := lw_g (lw_at lw_m2 89 rfl) rfl
theorem q406 : (Jvm.Cond.instanceMethod ({ cls := "RoleLoom", name := "part", desc := "(III)I" } : Jvm.MethodName)) ∈ lw_all := lw_g (lw_at lw_m2 91 rfl) rfl
theorem q407 : (Jvm.Cond.selects "RoleLoom" ({ cls := "RoleLoom", name := "part", desc := "(III)I" } : Jvm.MethodName) ({ cls := "RoleLoom", name := "part", desc := "(III)I" } : Jvm.MethodName)) ∈ lw_all := lw_g (lw_at lw_m2 92 rfl) rfl
theorem q408 : (Jvm.Cond.code ({ cls := "RoleLoom", name := "part", desc := "(III)I" } : Jvm.MethodName) prog_1_method_8_code (4 : Nat) (Option.some Jvm.ClassFile.FieldType.int)) ∈ lw_all := lw_g (lw_at lw_m2 93 rfl) rfl
theorem q409 : (Jvm.Cond.methodLink "RoleLoom" (45 : Nat) ({ cls := "RoleLoom", name := "in", desc := "(III)Z" } : Jvm.MethodName)) ∈ lw_all := lw_g (lw_at lw_m2 94 rfl) rfl
theorem q410 : (Jvm.Cond.static ({ cls := "RoleLoom", name := "in", desc := "(III)Z" } : Jvm.MethodName)) ∈ lw_all := lw_g (lw_at lw_m2 95 rfl) rfl
theorem q411 : (Jvm.Cond.code ({ cls := "RoleLoom", name := "in", desc := "(III)Z" } : Jvm.MethodName) prog_1_method_1_code (3 : Nat) (Option.some Jvm.ClassFile.FieldType.boolean)) ∈ lw_all := lw_g (lw_at lw_m2 96 rfl) rfl
theorem q412 : (Jvm.Cond.methodLink "RoleLoom" (201 : Nat) ({ cls := "java/util/ArrayList", name := "size", desc := "()I" } : Jvm.MethodName)) ∈ lw_all := lw_g (lw_at lw_m2 97 rfl) rfl
theorem q416 : (Jvm.Cond.classLink "RoleLoom" (205 : Nat) "RoleLoom$Part") ∈ lw_all := lw_g (lw_at lw_m2 101 rfl) rfl
theorem q418 : (Jvm.Cond.methodLink "RoleLoom" (207 : Nat) ({ cls := "RoleLoom$Part", name := "<init>", desc := "(IIII)V" } : Jvm.MethodName)) ∈ lw_all := lw_g (lw_at lw_m2 103 rfl) rfl
theorem q426 : (Jvm.Cond.fieldLinkNest "RoleLoom" (272 : Nat) "RoleLoom$Part" "number" "I" "RoleLoom") ∈ lw_tbl := lw_at lw_m2 111 rfl
theorem q431 : (Jvm.Cond.fieldLinkNest "RoleLoom" (502 : Nat) "RoleLoom$Part" "cells" "I" "RoleLoom") ∈ lw_tbl := lw_at lw_m2 116 rfl
theorem q435 : (Jvm.Cond.fieldLinkNest "RoleLoom" (480 : Nat) "RoleLoom$Part" "rows" "I" "RoleLoom") ∈ lw_tbl := lw_at lw_m2 120 rfl
theorem q439 : (Jvm.Cond.fieldLinkNest "RoleLoom" (488 : Nat) "RoleLoom$Part" "holders" "I" "RoleLoom") ∈ lw_tbl := lw_at lw_m2 124 rfl
theorem q441 : (Jvm.Cond.fieldLinkNest "RoleLoom" (222 : Nat) "RoleLoom$Part" "extended" "Ljava/util/ArrayList;" "RoleLoom") ∈ lw_tbl := lw_at lw_m2 126 rfl
theorem q443 : (Jvm.Cond.fieldLinkNest "RoleLoom" (241 : Nat) "RoleLoom$Part" "gives" "[LRoleLoom$Body;" "RoleLoom") ∈ lw_tbl := lw_at lw_m2 128 rfl
theorem q445 : (Jvm.Cond.fieldLinkNest "RoleLoom" (244 : Nat) "RoleLoom$Part" "guards" "[LRoleLoom$Body;" "RoleLoom") ∈ lw_tbl := lw_at lw_m2 130 rfl
theorem q446 : (Jvm.Cond.fieldLinkNest "RoleLoom" (247 : Nat) "RoleLoom$Part" "start" "LRoleLoom$Body;" "RoleLoom") ∈ lw_tbl := lw_at lw_m2 131 rfl
theorem q448 : (Jvm.Cond.fieldLinkNest "RoleLoom" (263 : Nat) "RoleLoom$Part" "wishes" "[Z" "RoleLoom") ∈ lw_tbl := lw_at lw_m2 133 rfl
theorem q468 : (Jvm.Cond.methodLink "RoleLoom" (210 : Nat) ({ cls := "java/util/ArrayList", name := "add", desc := "(Ljava/lang/Object;)Z" } : Jvm.MethodName)) ∈ lw_all := lw_g (lw_at lw_m2 153 rfl) rfl
theorem q500 : (Jvm.Cond.selects "RoleLoom" ({ cls := "java/lang/Object", name := "getClass", desc := "()Ljava/lang/Class;" } : Jvm.MethodName) ({ cls := "java/lang/Object", name := "getClass", desc := "()Ljava/lang/Class;" } : Jvm.MethodName)) ∈ lw_all := lw_g (lw_at lw_m2 185 rfl) rfl
theorem q546 : (Jvm.Cond.instanceMethod ({ cls := "RoleLoom", name := "extend", desc := "(II)I" } : Jvm.MethodName)) ∈ lw_all := lw_g (lw_at lw_m2 231 rfl) rfl
theorem q547 : (Jvm.Cond.selects "RoleLoom" ({ cls := "RoleLoom", name := "extend", desc := "(II)I" } : Jvm.MethodName) ({ cls := "RoleLoom", name := "extend", desc := "(II)I" } : Jvm.MethodName)) ∈ lw_all := lw_g (lw_at lw_m2 232 rfl) rfl
theorem q548 : (Jvm.Cond.code ({ cls := "RoleLoom", name := "extend", desc := "(II)I" } : Jvm.MethodName) prog_1_method_9_code (4 : Nat) (Option.some Jvm.ClassFile.FieldType.int)) ∈ lw_all := lw_g (lw_at lw_m2 233 rfl) rfl
theorem q549 : (Jvm.Cond.methodLink "RoleLoom" (214 : Nat) ({ cls := "RoleLoom", name := "isPart", desc := "(I)Z" } : Jvm.MethodName)) ∈ lw_all := lw_g (lw_at lw_m2 234 rfl) rfl
theorem q550 : (Jvm.Cond.privateMethod ({ cls := "RoleLoom", name := "isPart", desc := "(I)Z" } : Jvm.MethodName)) ∈ lw_tbl := lw_at lw_m2 235 rfl
theorem q551 : (Jvm.Cond.instanceMethod ({ cls := "RoleLoom", name := "isPart", desc := "(I)Z" } : Jvm.MethodName)) ∈ lw_all := lw_g (lw_at lw_m2 236 rfl) rfl
theorem q552 : (Jvm.Cond.code ({ cls := "RoleLoom", name := "isPart", desc := "(I)Z" } : Jvm.MethodName) prog_1_method_7_code (2 : Nat) (Option.some Jvm.ClassFile.FieldType.boolean)) ∈ lw_all := lw_g (lw_at lw_m2 237 rfl) rfl
theorem q553 : (Jvm.Cond.methodLink "RoleLoom" (218 : Nat) ({ cls := "java/util/ArrayList", name := "get", desc := "(I)Ljava/lang/Object;" } : Jvm.MethodName)) ∈ lw_all := lw_g (lw_at lw_m2 238 rfl) rfl
theorem q567 : (Jvm.Cond.methodLink "RoleLoom" (225 : Nat) ({ cls := "java/util/ArrayList", name := "contains", desc := "(Ljava/lang/Object;)Z" } : Jvm.MethodName)) ∈ lw_all := lw_g (lw_at lw_m3 12 rfl) rfl
theorem q583 : (Jvm.Cond.selects "RoleLoom" ({ cls := "java/lang/Object", name := "equals", desc := "(Ljava/lang/Object;)Z" } : Jvm.MethodName) ({ cls := "java/lang/Object", name := "equals", desc := "(Ljava/lang/Object;)Z" } : Jvm.MethodName)) ∈ lw_all := lw_g (lw_at lw_m3 28 rfl) rfl
theorem q613 : (Jvm.Cond.methodLink "RoleLoom" (228 : Nat) ({ cls := "java/util/ArrayList", name := "isEmpty", desc := "()Z" } : Jvm.MethodName)) ∈ lw_all := lw_g (lw_at lw_m3 58 rfl) rfl
theorem q618 : (Jvm.Cond.instanceMethod ({ cls := "RoleLoom", name := "want", desc := "(II)I" } : Jvm.MethodName)) ∈ lw_all := lw_g (lw_at lw_m3 63 rfl) rfl
theorem q619 : (Jvm.Cond.selects "RoleLoom" ({ cls := "RoleLoom", name := "want", desc := "(II)I" } : Jvm.MethodName) ({ cls := "RoleLoom", name := "want", desc := "(II)I" } : Jvm.MethodName)) ∈ lw_all := lw_g (lw_at lw_m3 64 rfl) rfl
theorem q620 : (Jvm.Cond.code ({ cls := "RoleLoom", name := "want", desc := "(II)I" } : Jvm.MethodName) prog_1_method_10_code (3 : Nat) (Option.some Jvm.ClassFile.FieldType.int)) ∈ lw_all := lw_g (lw_at lw_m3 65 rfl) rfl
theorem q622 : (Jvm.Cond.instanceMethod ({ cls := "RoleLoom", name := "body", desc := "(IIII)I" } : Jvm.MethodName)) ∈ lw_all := lw_g (lw_at lw_m3 67 rfl) rfl
theorem q623 : (Jvm.Cond.selects "RoleLoom" ({ cls := "RoleLoom", name := "body", desc := "(IIII)I" } : Jvm.MethodName) ({ cls := "RoleLoom", name := "body", desc := "(IIII)I" } : Jvm.MethodName)) ∈ lw_all := lw_g (lw_at lw_m3 68 rfl) rfl
theorem q624 : (Jvm.Cond.code ({ cls := "RoleLoom", name := "body", desc := "(IIII)I" } : Jvm.MethodName) prog_1_method_11_code (6 : Nat) (Option.some Jvm.ClassFile.FieldType.int)) ∈ lw_all := lw_g (lw_at lw_m3 69 rfl) rfl
theorem q626 : (Jvm.Cond.methodLink "RoleLoom" (235 : Nat) ({ cls := "RoleLoom$Body", name := "<init>", desc := "(LRoleLoom$Part;III)V" } : Jvm.MethodName)) ∈ lw_all := lw_g (lw_at lw_m3 71 rfl) rfl
theorem q633 : (Jvm.Cond.fieldLinkNest "RoleLoom" (23 : Nat) "RoleLoom$Body" "part" "LRoleLoom$Part;" "RoleLoom") ∈ lw_tbl := lw_at lw_m3 78 rfl
theorem q635 : (Jvm.Cond.fieldLinkNest "RoleLoom" (303 : Nat) "RoleLoom$Body" "use" "I" "RoleLoom") ∈ lw_tbl := lw_at lw_m3 80 rfl
theorem q638 : (Jvm.Cond.fieldLinkNest "RoleLoom" (454 : Nat) "RoleLoom$Body" "member" "I" "RoleLoom") ∈ lw_tbl := lw_at lw_m3 83 rfl
theorem q640 : (Jvm.Cond.fieldLinkNest "RoleLoom" (416 : Nat) "RoleLoom$Body" "catches" "I" "RoleLoom") ∈ lw_tbl := lw_at lw_m3 85 rfl
theorem q642 : (Jvm.Cond.fieldLinkNest "RoleLoom" (260 : Nat) "RoleLoom$Body" "acts" "Ljava/util/ArrayList;" "RoleLoom") ∈ lw_tbl := lw_at lw_m3 87 rfl
theorem q655 : (Jvm.Cond.instanceMethod ({ cls := "RoleLoom", name := "act", desc := "(III)I" } : Jvm.MethodName)) ∈ lw_all := lw_g (lw_at lw_m3 100 rfl) rfl
theorem q656 : (Jvm.Cond.selects "RoleLoom" ({ cls := "RoleLoom", name := "act", desc := "(III)I" } : Jvm.MethodName) ({ cls := "RoleLoom", name := "act", desc := "(III)I" } : Jvm.MethodName)) ∈ lw_all := lw_g (lw_at lw_m3 101 rfl) rfl
theorem q657 : (Jvm.Cond.code ({ cls := "RoleLoom", name := "act", desc := "(III)I" } : Jvm.MethodName) prog_1_method_12_code (6 : Nat) (Option.some Jvm.ClassFile.FieldType.int)) ∈ lw_all := lw_g (lw_at lw_m3 102 rfl) rfl
theorem q658 : (Jvm.Cond.methodLink "RoleLoom" (250 : Nat) ({ cls := "RoleLoom", name := "make", desc := "(III)LRoleLoom$Act;" } : Jvm.MethodName)) ∈ lw_all := lw_g (lw_at lw_m3 103 rfl) rfl
theorem q659 : (Jvm.Cond.privateMethod ({ cls := "RoleLoom", name := "make", desc := "(III)LRoleLoom$Act;" } : Jvm.MethodName)) ∈ lw_tbl := lw_at lw_m3 104 rfl
theorem q660 : (Jvm.Cond.instanceMethod ({ cls := "RoleLoom", name := "make", desc := "(III)LRoleLoom$Act;" } : Jvm.MethodName)) ∈ lw_all := lw_g (lw_at lw_m3 105 rfl) rfl
theorem q661 : (Jvm.Cond.code ({ cls := "RoleLoom", name := "make", desc := "(III)LRoleLoom$Act;" } : Jvm.MethodName) prog_1_method_5_code (4 : Nat) (Option.some (Jvm.ClassFile.FieldType.object "RoleLoom$Act"))) ∈ lw_all := lw_g (lw_at lw_m3 106 rfl) rfl
theorem q662 : (Jvm.Cond.classLink "RoleLoom" (49 : Nat) "RoleLoom$Number") ∈ lw_all := lw_g (lw_at lw_m3 107 rfl) rfl
theorem q664 : (Jvm.Cond.methodLink "RoleLoom" (51 : Nat) ({ cls := "RoleLoom$Number", name := "<init>", desc := "(LRoleLoom;I)V" } : Jvm.MethodName)) ∈ lw_all := lw_g (lw_at lw_m3 109 rfl) rfl
theorem q718 : (Jvm.Cond.classLink "RoleLoom" (55 : Nat) "RoleLoom$Argument") ∈ lw_all := lw_g (lw_at lw_m3 163 rfl) rfl
theorem q720 : (Jvm.Cond.methodLink "RoleLoom" (57 : Nat) ({ cls := "RoleLoom$Argument", name := "<init>", desc := "(LRoleLoom;)V" } : Jvm.MethodName)) ∈ lw_all := lw_g (lw_at lw_m3 165 rfl) rfl
theorem q731 : (Jvm.Cond.classLink "RoleLoom" (60 : Nat) "RoleLoom$Add") ∈ lw_all := lw_g (lw_at lw_m3 176 rfl) rfl
theorem q733 : (Jvm.Cond.methodLink "RoleLoom" (62 : Nat) ({ cls := "RoleLoom$Add", name := "<init>", desc := "(LRoleLoom;I)V" } : Jvm.MethodName)) ∈ lw_all := lw_g (lw_at lw_m3 178 rfl) rfl
theorem q744 : (Jvm.Cond.classLink "RoleLoom" (63 : Nat) "RoleLoom$Times") ∈ lw_all := lw_g (lw_at lw_m3 189 rfl) rfl
theorem q746 : (Jvm.Cond.methodLink "RoleLoom" (65 : Nat) ({ cls := "RoleLoom$Times", name := "<init>", desc := "(LRoleLoom;I)V" } : Jvm.MethodName)) ∈ lw_all := lw_g (lw_at lw_m3 191 rfl) rfl
theorem q758 : (Jvm.Cond.classLink "RoleLoom" (66 : Nat) "RoleLoom$Get") ∈ lw_all := lw_g (lw_at lw_m3 203 rfl) rfl
theorem q760 : (Jvm.Cond.methodLink "RoleLoom" (68 : Nat) ({ cls := "RoleLoom$Get", name := "<init>", desc := "(LRoleLoom;I)V" } : Jvm.MethodName)) ∈ lw_all := lw_g (lw_at lw_m3 205 rfl) rfl
theorem q771 : (Jvm.Cond.classLink "RoleLoom" (69 : Nat) "RoleLoom$Set") ∈ lw_all := lw_g (lw_at lw_m3 216 rfl) rfl
theorem q773 : (Jvm.Cond.methodLink "RoleLoom" (71 : Nat) ({ cls := "RoleLoom$Set", name := "<init>", desc := "(LRoleLoom;I)V" } : Jvm.MethodName)) ∈ lw_all := lw_g (lw_at lw_m3 218 rfl) rfl
theorem q785 : (Jvm.Cond.classLink "RoleLoom" (72 : Nat) "RoleLoom$Share") ∈ lw_all := lw_g (lw_at lw_m3 230 rfl) rfl
theorem q787 : (Jvm.Cond.methodLink "RoleLoom" (74 : Nat) ({ cls := "RoleLoom$Share", name := "<init>", desc := "(LRoleLoom;I)V" } : Jvm.MethodName)) ∈ lw_all := lw_g (lw_at lw_m3 232 rfl) rfl
theorem q799 : (Jvm.Cond.classLink "RoleLoom" (75 : Nat) "RoleLoom$Over") ∈ lw_all := lw_g (lw_at lw_m4 4 rfl) rfl
theorem q801 : (Jvm.Cond.methodLink "RoleLoom" (77 : Nat) ({ cls := "RoleLoom$Over", name := "<init>", desc := "(LRoleLoom;IZ)V" } : Jvm.MethodName)) ∈ lw_all := lw_g (lw_at lw_m4 6 rfl) rfl
theorem q815 : (Jvm.Cond.classLink "RoleLoom" (80 : Nat) "RoleLoom$Next") ∈ lw_all := lw_g (lw_at lw_m4 20 rfl) rfl
theorem q817 : (Jvm.Cond.methodLink "RoleLoom" (82 : Nat) ({ cls := "RoleLoom$Next", name := "<init>", desc := "(LRoleLoom;)V" } : Jvm.MethodName)) ∈ lw_all := lw_g (lw_at lw_m4 22 rfl) rfl
theorem q828 : (Jvm.Cond.classLink "RoleLoom" (83 : Nat) "RoleLoom$Call") ∈ lw_all := lw_g (lw_at lw_m4 33 rfl) rfl
theorem q830 : (Jvm.Cond.methodLink "RoleLoom" (85 : Nat) ({ cls := "RoleLoom$Call", name := "<init>", desc := "(LRoleLoom;II)V" } : Jvm.MethodName)) ∈ lw_all := lw_g (lw_at lw_m4 35 rfl) rfl
theorem q841 : (Jvm.Cond.classLink "RoleLoom" (88 : Nat) "RoleLoom$Alias") ∈ lw_all := lw_g (lw_at lw_m4 46 rfl) rfl
theorem q843 : (Jvm.Cond.methodLink "RoleLoom" (90 : Nat) ({ cls := "RoleLoom$Alias", name := "<init>", desc := "(LRoleLoom;I)V" } : Jvm.MethodName)) ∈ lw_all := lw_g (lw_at lw_m4 48 rfl) rfl
theorem q855 : (Jvm.Cond.classLink "RoleLoom" (91 : Nat) "RoleLoom$If") ∈ lw_all := lw_g (lw_at lw_m4 60 rfl) rfl
theorem q857 : (Jvm.Cond.methodLink "RoleLoom" (93 : Nat) ({ cls := "RoleLoom$If", name := "<init>", desc := "(LRoleLoom;I)V" } : Jvm.MethodName)) ∈ lw_all := lw_g (lw_at lw_m4 62 rfl) rfl
theorem q868 : (Jvm.Cond.classLink "RoleLoom" (94 : Nat) "RoleLoom$Throw") ∈ lw_all := lw_g (lw_at lw_m4 73 rfl) rfl
theorem q870 : (Jvm.Cond.methodLink "RoleLoom" (96 : Nat) ({ cls := "RoleLoom$Throw", name := "<init>", desc := "(LRoleLoom;I)V" } : Jvm.MethodName)) ∈ lw_all := lw_g (lw_at lw_m4 75 rfl) rfl
theorem q881 : (Jvm.Cond.classLink "RoleLoom" (97 : Nat) "RoleLoom$Mark") ∈ lw_all := lw_g (lw_at lw_m4 86 rfl) rfl
theorem q883 : (Jvm.Cond.methodLink "RoleLoom" (99 : Nat) ({ cls := "RoleLoom$Mark", name := "<init>", desc := "(LRoleLoom;)V" } : Jvm.MethodName)) ∈ lw_all := lw_g (lw_at lw_m4 88 rfl) rfl
theorem q894 : (Jvm.Cond.classLink "RoleLoom" (100 : Nat) "RoleLoom$Make") ∈ lw_all := lw_g (lw_at lw_m4 99 rfl) rfl
theorem q896 : (Jvm.Cond.methodLink "RoleLoom" (102 : Nat) ({ cls := "RoleLoom$Make", name := "<init>", desc := "(LRoleLoom;II)V" } : Jvm.MethodName)) ∈ lw_all := lw_g (lw_at lw_m4 101 rfl) rfl
theorem q907 : (Jvm.Cond.classLink "RoleLoom" (103 : Nat) "RoleLoom$At") ∈ lw_all := lw_g (lw_at lw_m4 112 rfl) rfl
theorem q909 : (Jvm.Cond.methodLink "RoleLoom" (105 : Nat) ({ cls := "RoleLoom$At", name := "<init>", desc := "(LRoleLoom;II)V" } : Jvm.MethodName)) ∈ lw_all := lw_g (lw_at lw_m4 114 rfl) rfl
theorem q921 : (Jvm.Cond.classLink "RoleLoom" (106 : Nat) "RoleLoom$Lay") ∈ lw_all := lw_g (lw_at lw_m4 126 rfl) rfl
theorem q923 : (Jvm.Cond.methodLink "RoleLoom" (108 : Nat) ({ cls := "RoleLoom$Lay", name := "<init>", desc := "(LRoleLoom;II)V" } : Jvm.MethodName)) ∈ lw_all := lw_g (lw_at lw_m4 128 rfl) rfl
theorem q936 : (Jvm.Cond.classLink "RoleLoom" (109 : Nat) "RoleLoom$Ask") ∈ lw_all := lw_g (lw_at lw_m4 141 rfl) rfl
theorem q938 : (Jvm.Cond.methodLink "RoleLoom" (111 : Nat) ({ cls := "RoleLoom$Ask", name := "<init>", desc := "(LRoleLoom;II)V" } : Jvm.MethodName)) ∈ lw_all := lw_g (lw_at lw_m4 143 rfl) rfl
theorem q950 : (Jvm.Cond.classLink "RoleLoom" (112 : Nat) "RoleLoom$As") ∈ lw_all := lw_g (lw_at lw_m4 155 rfl) rfl
theorem q952 : (Jvm.Cond.methodLink "RoleLoom" (114 : Nat) ({ cls := "RoleLoom$As", name := "<init>", desc := "(LRoleLoom;II)V" } : Jvm.MethodName)) ∈ lw_all := lw_g (lw_at lw_m4 157 rfl) rfl
theorem q963 : (Jvm.Cond.interfaceEntry "RoleLoom" (254 : Nat)) ∈ lw_tbl := lw_at lw_m4 168 rfl
theorem q964 : (Jvm.Cond.methodLink "RoleLoom" (254 : Nat) ({ cls := "RoleLoom$Does", name := "fits", desc := "(LRoleLoom$Part;)Z" } : Jvm.MethodName)) ∈ lw_all := lw_g (lw_at lw_m4 169 rfl) rfl
theorem q974 : (Jvm.Cond.static ({ cls := "RoleLoom", name := "isNumber", desc := "(I)Z" } : Jvm.MethodName)) ∈ lw_all := lw_g (lw_at lw_m4 179 rfl) rfl
theorem q975 : (Jvm.Cond.code ({ cls := "RoleLoom", name := "isNumber", desc := "(I)Z" } : Jvm.MethodName) prog_1_method_4_code (1 : Nat) (Option.some Jvm.ClassFile.FieldType.boolean)) ∈ lw_all := lw_g (lw_at lw_m4 180 rfl) rfl
theorem q1076 : (Jvm.Cond.instanceMethod ({ cls := "RoleLoom", name := "wish", desc := "(II)I" } : Jvm.MethodName)) ∈ lw_all := lw_g (lw_at lw_m5 41 rfl) rfl
theorem q1077 : (Jvm.Cond.selects "RoleLoom" ({ cls := "RoleLoom", name := "wish", desc := "(II)I" } : Jvm.MethodName) ({ cls := "RoleLoom", name := "wish", desc := "(II)I" } : Jvm.MethodName)) ∈ lw_all := lw_g (lw_at lw_m5 42 rfl) rfl
theorem q1078 : (Jvm.Cond.code ({ cls := "RoleLoom", name := "wish", desc := "(II)I" } : Jvm.MethodName) prog_1_method_13_code (3 : Nat) (Option.some Jvm.ClassFile.FieldType.int)) ∈ lw_all := lw_g (lw_at lw_m5 43 rfl) rfl
theorem q1080 : (Jvm.Cond.instanceMethod ({ cls := "RoleLoom", name := "name", desc := "(I)I" } : Jvm.MethodName)) ∈ lw_all := lw_g (lw_at lw_m5 45 rfl) rfl
theorem q1081 : (Jvm.Cond.selects "RoleLoom" ({ cls := "RoleLoom", name := "name", desc := "(I)I" } : Jvm.MethodName) ({ cls := "RoleLoom", name := "name", desc := "(I)I" } : Jvm.MethodName)) ∈ lw_all := lw_g (lw_at lw_m5 46 rfl) rfl
theorem q1082 : (Jvm.Cond.code ({ cls := "RoleLoom", name := "name", desc := "(I)I" } : Jvm.MethodName) prog_1_method_14_code (2 : Nat) (Option.some Jvm.ClassFile.FieldType.int)) ∈ lw_all := lw_g (lw_at lw_m5 47 rfl) rfl
theorem q1084 : (Jvm.Cond.instanceMethod ({ cls := "RoleLoom", name := "exclude", desc := "(II)I" } : Jvm.MethodName)) ∈ lw_all := lw_g (lw_at lw_m5 49 rfl) rfl
theorem q1085 : (Jvm.Cond.selects "RoleLoom" ({ cls := "RoleLoom", name := "exclude", desc := "(II)I" } : Jvm.MethodName) ({ cls := "RoleLoom", name := "exclude", desc := "(II)I" } : Jvm.MethodName)) ∈ lw_all := lw_g (lw_at lw_m5 50 rfl) rfl
theorem q1086 : (Jvm.Cond.code ({ cls := "RoleLoom", name := "exclude", desc := "(II)I" } : Jvm.MethodName) prog_1_method_15_code (3 : Nat) (Option.some Jvm.ClassFile.FieldType.int)) ∈ lw_all := lw_g (lw_at lw_m5 51 rfl) rfl
theorem q1088 : (Jvm.Cond.instanceMethod ({ cls := "RoleLoom", name := "alias", desc := "(III)I" } : Jvm.MethodName)) ∈ lw_all := lw_g (lw_at lw_m5 53 rfl) rfl
theorem q1089 : (Jvm.Cond.selects "RoleLoom" ({ cls := "RoleLoom", name := "alias", desc := "(III)I" } : Jvm.MethodName) ({ cls := "RoleLoom", name := "alias", desc := "(III)I" } : Jvm.MethodName)) ∈ lw_all := lw_g (lw_at lw_m5 54 rfl) rfl
theorem q1090 : (Jvm.Cond.code ({ cls := "RoleLoom", name := "alias", desc := "(III)I" } : Jvm.MethodName) prog_1_method_16_code (4 : Nat) (Option.some Jvm.ClassFile.FieldType.int)) ∈ lw_all := lw_g (lw_at lw_m5 55 rfl) rfl
theorem q1092 : (Jvm.Cond.instanceMethod ({ cls := "RoleLoom", name := "weave", desc := "()I" } : Jvm.MethodName)) ∈ lw_all := lw_g (lw_at lw_m5 57 rfl) rfl
theorem q1093 : (Jvm.Cond.selects "RoleLoom" ({ cls := "RoleLoom", name := "weave", desc := "()I" } : Jvm.MethodName) ({ cls := "RoleLoom", name := "weave", desc := "()I" } : Jvm.MethodName)) ∈ lw_all := lw_g (lw_at lw_m5 58 rfl) rfl
theorem q1094 : (Jvm.Cond.code ({ cls := "RoleLoom", name := "weave", desc := "()I" } : Jvm.MethodName) prog_1_method_32_code (2 : Nat) (Option.some Jvm.ClassFile.FieldType.int)) ∈ lw_all := lw_g (lw_at lw_m5 59 rfl) rfl
theorem q1095 : (Jvm.Cond.methodLink "RoleLoom" (340 : Nat) ({ cls := "RoleLoom", name := "woven", desc := "()I" } : Jvm.MethodName)) ∈ lw_all := lw_g (lw_at lw_m5 60 rfl) rfl
theorem q1096 : (Jvm.Cond.privateMethod ({ cls := "RoleLoom", name := "woven", desc := "()I" } : Jvm.MethodName)) ∈ lw_tbl := lw_at lw_m5 61 rfl
theorem q1097 : (Jvm.Cond.instanceMethod ({ cls := "RoleLoom", name := "woven", desc := "()I" } : Jvm.MethodName)) ∈ lw_all := lw_g (lw_at lw_m5 62 rfl) rfl
theorem q1098 : (Jvm.Cond.code ({ cls := "RoleLoom", name := "woven", desc := "()I" } : Jvm.MethodName) prog_1_method_31_code (3 : Nat) (Option.some Jvm.ClassFile.FieldType.int)) ∈ lw_all := lw_g (lw_at lw_m5 63 rfl) rfl
theorem q1099 : (Jvm.Cond.methodLink "RoleLoom" (316 : Nat) ({ cls := "RoleLoom", name := "layOrder", desc := "()V" } : Jvm.MethodName)) ∈ lw_all := lw_g (lw_at lw_m5 64 rfl) rfl
theorem q1100 : (Jvm.Cond.privateMethod ({ cls := "RoleLoom", name := "layOrder", desc := "()V" } : Jvm.MethodName)) ∈ lw_tbl := lw_at lw_m5 65 rfl
theorem q1101 : (Jvm.Cond.instanceMethod ({ cls := "RoleLoom", name := "layOrder", desc := "()V" } : Jvm.MethodName)) ∈ lw_all := lw_g (lw_at lw_m5 66 rfl) rfl
theorem q1102 : (Jvm.Cond.code ({ cls := "RoleLoom", name := "layOrder", desc := "()V" } : Jvm.MethodName) prog_1_method_20_code (5 : Nat) (Option.none : Option Jvm.ClassFile.FieldType)) ∈ lw_all := lw_g (lw_at lw_m5 67 rfl) rfl
theorem q1103 : (Jvm.Cond.methodLink "RoleLoom" (273 : Nat) ({ cls := "RoleLoom", name := "take", desc := "(LRoleLoom$Part;)V" } : Jvm.MethodName)) ∈ lw_all := lw_g (lw_at lw_m5 68 rfl) rfl
theorem q1104 : (Jvm.Cond.privateMethod ({ cls := "RoleLoom", name := "take", desc := "(LRoleLoom$Part;)V" } : Jvm.MethodName)) ∈ lw_tbl := lw_at lw_m5 69 rfl
theorem q1105 : (Jvm.Cond.instanceMethod ({ cls := "RoleLoom", name := "take", desc := "(LRoleLoom$Part;)V" } : Jvm.MethodName)) ∈ lw_all := lw_g (lw_at lw_m5 70 rfl) rfl
theorem q1106 : (Jvm.Cond.code ({ cls := "RoleLoom", name := "take", desc := "(LRoleLoom$Part;)V" } : Jvm.MethodName) prog_1_method_18_code (3 : Nat) (Option.none : Option Jvm.ClassFile.FieldType)) ∈ lw_all := lw_g (lw_at lw_m5 71 rfl) rfl
theorem q1107 : (Jvm.Cond.methodLink "RoleLoom" (277 : Nat) ({ cls := "RoleLoom", name := "stands", desc := "(LRoleLoom$Part;LRoleLoom$Part;)V" } : Jvm.MethodName)) ∈ lw_all := lw_g (lw_at lw_m5 72 rfl) rfl
theorem q1108 : (Jvm.Cond.privateMethod ({ cls := "RoleLoom", name := "stands", desc := "(LRoleLoom$Part;LRoleLoom$Part;)V" } : Jvm.MethodName)) ∈ lw_tbl := lw_at lw_m5 73 rfl
theorem q1109 : (Jvm.Cond.instanceMethod ({ cls := "RoleLoom", name := "stands", desc := "(LRoleLoom$Part;LRoleLoom$Part;)V" } : Jvm.MethodName)) ∈ lw_all := lw_g (lw_at lw_m5 74 rfl) rfl
theorem q1110 : (Jvm.Cond.code ({ cls := "RoleLoom", name := "stands", desc := "(LRoleLoom$Part;LRoleLoom$Part;)V" } : Jvm.MethodName) prog_1_method_19_code (3 : Nat) (Option.none : Option Jvm.ClassFile.FieldType)) ∈ lw_all := lw_g (lw_at lw_m5 75 rfl) rfl
theorem q1111 : (Jvm.Cond.classLink "RoleLoom" (292 : Nat) "RoleLoom$Role") ∈ lw_all := lw_g (lw_at lw_m5 76 rfl) rfl
theorem q1113 : (Jvm.Cond.methodLink "RoleLoom" (319 : Nat) ({ cls := "RoleLoom$Role", name := "<init>", desc := "(I)V" } : Jvm.MethodName)) ∈ lw_all := lw_g (lw_at lw_m5 78 rfl) rfl
theorem q1121 : (Jvm.Cond.fieldLinkNest "RoleLoom" (339 : Nat) "RoleLoom$Role" "number" "I" "RoleLoom") ∈ lw_tbl := lw_at lw_m5 86 rfl
theorem q1123 : (Jvm.Cond.fieldLinkNest "RoleLoom" (291 : Nat) "RoleLoom$Role" "line" "Ljava/util/ArrayList;" "RoleLoom") ∈ lw_tbl := lw_at lw_m5 88 rfl
theorem q1127 : (Jvm.Cond.fieldLinkNest "RoleLoom" (300 : Nat) "RoleLoom$Role" "chains" "Ljava/util/ArrayList;" "RoleLoom") ∈ lw_tbl := lw_at lw_m5 92 rfl
theorem q1130 : (Jvm.Cond.fieldLinkNest "RoleLoom" (313 : Nat) "RoleLoom$Role" "aliases" "[LRoleLoom$Body;" "RoleLoom") ∈ lw_tbl := lw_at lw_m5 95 rfl
theorem q1132 : (Jvm.Cond.fieldLinkNest "RoleLoom" (361 : Nat) "RoleLoom$Role" "started" "[I" "RoleLoom") ∈ lw_tbl := lw_at lw_m5 97 rfl
theorem q1144 : (Jvm.Cond.methodLink "RoleLoom" (322 : Nat) ({ cls := "RoleLoom", name := "isAnyLeft", desc := "()Z" } : Jvm.MethodName)) ∈ lw_all := lw_g (lw_at lw_m5 109 rfl) rfl
theorem q1145 : (Jvm.Cond.privateMethod ({ cls := "RoleLoom", name := "isAnyLeft", desc := "()Z" } : Jvm.MethodName)) ∈ lw_tbl := lw_at lw_m5 110 rfl
theorem q1146 : (Jvm.Cond.instanceMethod ({ cls := "RoleLoom", name := "isAnyLeft", desc := "()Z" } : Jvm.MethodName)) ∈ lw_all := lw_g (lw_at lw_m5 111 rfl) rfl
theorem q1147 : (Jvm.Cond.code ({ cls := "RoleLoom", name := "isAnyLeft", desc := "()Z" } : Jvm.MethodName) prog_1_method_23_code (3 : Nat) (Option.some Jvm.ClassFile.FieldType.boolean)) ∈ lw_all := lw_g (lw_at lw_m5 112 rfl) rfl
theorem q1148 : (Jvm.Cond.methodLink "RoleLoom" (325 : Nat) ({ cls := "RoleLoom", name := "nextInLine", desc := "()I" } : Jvm.MethodName)) ∈ lw_all := lw_g (lw_at lw_m5 113 rfl) rfl
theorem q1149 : (Jvm.Cond.privateMethod ({ cls := "RoleLoom", name := "nextInLine", desc := "()I" } : Jvm.MethodName)) ∈ lw_tbl := lw_at lw_m5 114 rfl
theorem q1150 : (Jvm.Cond.instanceMethod ({ cls := "RoleLoom", name := "nextInLine", desc := "()I" } : Jvm.MethodName)) ∈ lw_all := lw_g (lw_at lw_m5 115 rfl) rfl
theorem q1151 : (Jvm.Cond.code ({ cls := "RoleLoom", name := "nextInLine", desc := "()I" } : Jvm.MethodName) prog_1_method_22_code (2 : Nat) (Option.some Jvm.ClassFile.FieldType.int)) ∈ lw_all := lw_g (lw_at lw_m5 116 rfl) rfl
theorem q1152 : (Jvm.Cond.methodLink "RoleLoom" (281 : Nat) ({ cls := "RoleLoom", name := "aheadOf", desc := "(I)I" } : Jvm.MethodName)) ∈ lw_all := lw_g (lw_at lw_m5 117 rfl) rfl
theorem q1153 : (Jvm.Cond.privateMethod ({ cls := "RoleLoom", name := "aheadOf", desc := "(I)I" } : Jvm.MethodName)) ∈ lw_tbl := lw_at lw_m5 118 rfl
theorem q1154 : (Jvm.Cond.instanceMethod ({ cls := "RoleLoom", name := "aheadOf", desc := "(I)I" } : Jvm.MethodName)) ∈ lw_all := lw_g (lw_at lw_m5 119 rfl) rfl
theorem q1155 : (Jvm.Cond.code ({ cls := "RoleLoom", name := "aheadOf", desc := "(I)I" } : Jvm.MethodName) prog_1_method_21_code (3 : Nat) (Option.some Jvm.ClassFile.FieldType.int)) ∈ lw_all := lw_g (lw_at lw_m5 120 rfl) rfl
theorem q1156 : (Jvm.Cond.methodLink "RoleLoom" (328 : Nat) ({ cls := "RoleLoom", name := "findRing", desc := "()V" } : Jvm.MethodName)) ∈ lw_all := lw_g (lw_at lw_m5 121 rfl) rfl
theorem q1157 : (Jvm.Cond.privateMethod ({ cls := "RoleLoom", name := "findRing", desc := "()V" } : Jvm.MethodName)) ∈ lw_tbl := lw_at lw_m5 122 rfl
theorem q1158 : (Jvm.Cond.instanceMethod ({ cls := "RoleLoom", name := "findRing", desc := "()V" } : Jvm.MethodName)) ∈ lw_all := lw_g (lw_at lw_m5 123 rfl) rfl
theorem q1159 : (Jvm.Cond.code ({ cls := "RoleLoom", name := "findRing", desc := "()V" } : Jvm.MethodName) prog_1_method_25_code (4 : Nat) (Option.none : Option Jvm.ClassFile.FieldType)) ∈ lw_all := lw_g (lw_at lw_m5 124 rfl) rfl
theorem q1160 : (Jvm.Cond.methodLink "RoleLoom" (288 : Nat) ({ cls := "RoleLoom", name := "placeInRing", desc := "(I)I" } : Jvm.MethodName)) ∈ lw_all := lw_g (lw_at lw_m5 125 rfl) rfl
theorem q1161 : (Jvm.Cond.privateMethod ({ cls := "RoleLoom", name := "placeInRing", desc := "(I)I" } : Jvm.MethodName)) ∈ lw_tbl := lw_at lw_m5 126 rfl
theorem q1162 : (Jvm.Cond.instanceMethod ({ cls := "RoleLoom", name := "placeInRing", desc := "(I)I" } : Jvm.MethodName)) ∈ lw_all := lw_g (lw_at lw_m5 127 rfl) rfl
theorem q1163 : (Jvm.Cond.code ({ cls := "RoleLoom", name := "placeInRing", desc := "(I)I" } : Jvm.MethodName) prog_1_method_24_code (3 : Nat) (Option.some Jvm.ClassFile.FieldType.int)) ∈ lw_all := lw_g (lw_at lw_m5 128 rfl) rfl
theorem q1164 : (Jvm.Cond.methodLink "RoleLoom" (331 : Nat) ({ cls := "RoleLoom", name := "layChains", desc := "(LRoleLoom$Role;)V" } : Jvm.MethodName)) ∈ lw_all := lw_g (lw_at lw_m5 129 rfl) rfl
theorem q1165 : (Jvm.Cond.privateMethod ({ cls := "RoleLoom", name := "layChains", desc := "(LRoleLoom$Role;)V" } : Jvm.MethodName)) ∈ lw_tbl := lw_at lw_m5 130 rfl
theorem q1166 : (Jvm.Cond.instanceMethod ({ cls := "RoleLoom", name := "layChains", desc := "(LRoleLoom$Role;)V" } : Jvm.MethodName)) ∈ lw_all := lw_g (lw_at lw_m5 131 rfl) rfl
theorem q1167 : (Jvm.Cond.code ({ cls := "RoleLoom", name := "layChains", desc := "(LRoleLoom$Role;)V" } : Jvm.MethodName) prog_1_method_27_code (6 : Nat) (Option.none : Option Jvm.ClassFile.FieldType)) ∈ lw_all := lw_g (lw_at lw_m5 132 rfl) rfl
theorem q1168 : (Jvm.Cond.methodLink "RoleLoom" (296 : Nat) ({ cls := "RoleLoom", name := "isExcluded", desc := "(II)Z" } : Jvm.MethodName)) ∈ lw_all := lw_g (lw_at lw_m5 133 rfl) rfl
theorem q1169 : (Jvm.Cond.privateMethod ({ cls := "RoleLoom", name := "isExcluded", desc := "(II)Z" } : Jvm.MethodName)) ∈ lw_tbl := lw_at lw_m5 134 rfl
theorem q1170 : (Jvm.Cond.instanceMethod ({ cls := "RoleLoom", name := "isExcluded", desc := "(II)Z" } : Jvm.MethodName)) ∈ lw_all := lw_g (lw_at lw_m5 135 rfl) rfl
theorem q1171 : (Jvm.Cond.code ({ cls := "RoleLoom", name := "isExcluded", desc := "(II)Z" } : Jvm.MethodName) prog_1_method_26_code (5 : Nat) (Option.some Jvm.ClassFile.FieldType.boolean)) ∈ lw_all := lw_g (lw_at lw_m5 136 rfl) rfl
theorem q1172 : (Jvm.Cond.methodLink "RoleLoom" (335 : Nat) ({ cls := "RoleLoom", name := "isWhole", desc := "(LRoleLoom$Role;)Z" } : Jvm.MethodName)) ∈ lw_all := lw_g (lw_at lw_m5 137 rfl) rfl
theorem q1173 : (Jvm.Cond.privateMethod ({ cls := "RoleLoom", name := "isWhole", desc := "(LRoleLoom$Role;)Z" } : Jvm.MethodName)) ∈ lw_tbl := lw_at lw_m5 138 rfl
theorem q1174 : (Jvm.Cond.instanceMethod ({ cls := "RoleLoom", name := "isWhole", desc := "(LRoleLoom$Role;)Z" } : Jvm.MethodName)) ∈ lw_all := lw_g (lw_at lw_m5 139 rfl) rfl
theorem q1175 : (Jvm.Cond.code ({ cls := "RoleLoom", name := "isWhole", desc := "(LRoleLoom$Role;)Z" } : Jvm.MethodName) prog_1_method_29_code (4 : Nat) (Option.some Jvm.ClassFile.FieldType.boolean)) ∈ lw_all := lw_g (lw_at lw_m5 140 rfl) rfl
theorem q1176 : (Jvm.Cond.methodLink "RoleLoom" (306 : Nat) ({ cls := "RoleLoom", name := "hasGiver", desc := "(Ljava/util/ArrayList;)Z" } : Jvm.MethodName)) ∈ lw_all := lw_g (lw_at lw_m5 141 rfl) rfl
theorem q1177 : (Jvm.Cond.static ({ cls := "RoleLoom", name := "hasGiver", desc := "(Ljava/util/ArrayList;)Z" } : Jvm.MethodName)) ∈ lw_all := lw_g (lw_at lw_m5 142 rfl) rfl
theorem q1178 : (Jvm.Cond.code ({ cls := "RoleLoom", name := "hasGiver", desc := "(Ljava/util/ArrayList;)Z" } : Jvm.MethodName) prog_1_method_28_code (3 : Nat) (Option.some Jvm.ClassFile.FieldType.boolean)) ∈ lw_all := lw_g (lw_at lw_m5 143 rfl) rfl
theorem q1179 : (Jvm.Cond.methodLink "RoleLoom" (310 : Nat) ({ cls := "RoleLoom", name := "lacks", desc := "(II)Z" } : Jvm.MethodName)) ∈ lw_all := lw_g (lw_at lw_m5 144 rfl) rfl
theorem q1180 : (Jvm.Cond.privateMethod ({ cls := "RoleLoom", name := "lacks", desc := "(II)Z" } : Jvm.MethodName)) ∈ lw_tbl := lw_at lw_m5 145 rfl
theorem q1181 : (Jvm.Cond.instanceMethod ({ cls := "RoleLoom", name := "lacks", desc := "(II)Z" } : Jvm.MethodName)) ∈ lw_all := lw_g (lw_at lw_m5 146 rfl) rfl
theorem q1182 : (Jvm.Cond.code ({ cls := "RoleLoom", name := "lacks", desc := "(II)Z" } : Jvm.MethodName) prog_1_method_30_code (3 : Nat) (Option.some Jvm.ClassFile.FieldType.boolean)) ∈ lw_all := lw_g (lw_at lw_m5 147 rfl) rfl
theorem q1183 : (Jvm.Cond.methodLink "RoleLoom" (343 : Nat) ({ cls := "RoleLoom", name := "emptyDraft", desc := "()V" } : Jvm.MethodName)) ∈ lw_all := lw_g (lw_at lw_m5 148 rfl) rfl
theorem q1184 : (Jvm.Cond.privateMethod ({ cls := "RoleLoom", name := "emptyDraft", desc := "()V" } : Jvm.MethodName)) ∈ lw_tbl := lw_at lw_m5 149 rfl
theorem q1185 : (Jvm.Cond.instanceMethod ({ cls := "RoleLoom", name := "emptyDraft", desc := "()V" } : Jvm.MethodName)) ∈ lw_all := lw_g (lw_at lw_m5 150 rfl) rfl
theorem q1186 : (Jvm.Cond.code ({ cls := "RoleLoom", name := "emptyDraft", desc := "()V" } : Jvm.MethodName) prog_1_method_17_code (2 : Nat) (Option.none : Option Jvm.ClassFile.FieldType)) ∈ lw_all := lw_g (lw_at lw_m5 151 rfl) rfl
theorem q1187 : (Jvm.Cond.methodLink "RoleLoom" (269 : Nat) ({ cls := "java/util/ArrayList", name := "clear", desc := "()V" } : Jvm.MethodName)) ∈ lw_all := lw_g (lw_at lw_m5 152 rfl) rfl
theorem q1192 : (Jvm.Cond.instanceMethod ({ cls := "RoleLoom", name := "ring", desc := "(I)I" } : Jvm.MethodName)) ∈ lw_all := lw_g (lw_at lw_m5 157 rfl) rfl
theorem q1193 : (Jvm.Cond.selects "RoleLoom" ({ cls := "RoleLoom", name := "ring", desc := "(I)I" } : Jvm.MethodName) ({ cls := "RoleLoom", name := "ring", desc := "(I)I" } : Jvm.MethodName)) ∈ lw_all := lw_g (lw_at lw_m5 158 rfl) rfl
theorem q1194 : (Jvm.Cond.code ({ cls := "RoleLoom", name := "ring", desc := "(I)I" } : Jvm.MethodName) prog_1_method_33_code (2 : Nat) (Option.some Jvm.ClassFile.FieldType.int)) ∈ lw_all := lw_g (lw_at lw_m5 159 rfl) rfl
theorem q1196 : (Jvm.Cond.instanceMethod ({ cls := "RoleLoom", name := "lacks", desc := "(I)I" } : Jvm.MethodName)) ∈ lw_all := lw_g (lw_at lw_m5 161 rfl) rfl
theorem q1197 : (Jvm.Cond.selects "RoleLoom" ({ cls := "RoleLoom", name := "lacks", desc := "(I)I" } : Jvm.MethodName) ({ cls := "RoleLoom", name := "lacks", desc := "(I)I" } : Jvm.MethodName)) ∈ lw_all := lw_g (lw_at lw_m5 162 rfl) rfl
theorem q1198 : (Jvm.Cond.code ({ cls := "RoleLoom", name := "lacks", desc := "(I)I" } : Jvm.MethodName) prog_1_method_34_code (2 : Nat) (Option.some Jvm.ClassFile.FieldType.int)) ∈ lw_all := lw_g (lw_at lw_m5 163 rfl) rfl
theorem q1200 : (Jvm.Cond.instanceMethod ({ cls := "RoleLoom", name := "line", desc := "(II)I" } : Jvm.MethodName)) ∈ lw_all := lw_g (lw_at lw_m5 165 rfl) rfl
theorem q1201 : (Jvm.Cond.selects "RoleLoom" ({ cls := "RoleLoom", name := "line", desc := "(II)I" } : Jvm.MethodName) ({ cls := "RoleLoom", name := "line", desc := "(II)I" } : Jvm.MethodName)) ∈ lw_all := lw_g (lw_at lw_m5 166 rfl) rfl
theorem q1202 : (Jvm.Cond.code ({ cls := "RoleLoom", name := "line", desc := "(II)I" } : Jvm.MethodName) prog_1_method_36_code (4 : Nat) (Option.some Jvm.ClassFile.FieldType.int)) ∈ lw_all := lw_g (lw_at lw_m5 167 rfl) rfl
theorem q1203 : (Jvm.Cond.methodLink "RoleLoom" (346 : Nat) ({ cls := "RoleLoom", name := "isRole", desc := "(I)Z" } : Jvm.MethodName)) ∈ lw_all := lw_g (lw_at lw_m5 168 rfl) rfl
theorem q1204 : (Jvm.Cond.privateMethod ({ cls := "RoleLoom", name := "isRole", desc := "(I)Z" } : Jvm.MethodName)) ∈ lw_tbl := lw_at lw_m5 169 rfl
theorem q1205 : (Jvm.Cond.instanceMethod ({ cls := "RoleLoom", name := "isRole", desc := "(I)Z" } : Jvm.MethodName)) ∈ lw_all := lw_g (lw_at lw_m5 170 rfl) rfl
theorem q1206 : (Jvm.Cond.code ({ cls := "RoleLoom", name := "isRole", desc := "(I)Z" } : Jvm.MethodName) prog_1_method_35_code (2 : Nat) (Option.some Jvm.ClassFile.FieldType.boolean)) ∈ lw_all := lw_g (lw_at lw_m5 171 rfl) rfl
theorem q1208 : (Jvm.Cond.instanceMethod ({ cls := "RoleLoom", name := "chain", desc := "(III)I" } : Jvm.MethodName)) ∈ lw_all := lw_g (lw_at lw_m5 173 rfl) rfl
theorem q1209 : (Jvm.Cond.selects "RoleLoom" ({ cls := "RoleLoom", name := "chain", desc := "(III)I" } : Jvm.MethodName) ({ cls := "RoleLoom", name := "chain", desc := "(III)I" } : Jvm.MethodName)) ∈ lw_all := lw_g (lw_at lw_m5 174 rfl) rfl
theorem q1210 : (Jvm.Cond.code ({ cls := "RoleLoom", name := "chain", desc := "(III)I" } : Jvm.MethodName) prog_1_method_37_code (5 : Nat) (Option.some Jvm.ClassFile.FieldType.int)) ∈ lw_all := lw_g (lw_at lw_m5 175 rfl) rfl
theorem q1212 : (Jvm.Cond.instanceMethod ({ cls := "RoleLoom", name := "under", desc := "(II)I" } : Jvm.MethodName)) ∈ lw_all := lw_g (lw_at lw_m5 177 rfl) rfl
theorem q1213 : (Jvm.Cond.selects "RoleLoom" ({ cls := "RoleLoom", name := "under", desc := "(II)I" } : Jvm.MethodName) ({ cls := "RoleLoom", name := "under", desc := "(II)I" } : Jvm.MethodName)) ∈ lw_all := lw_g (lw_at lw_m5 178 rfl) rfl
theorem q1214 : (Jvm.Cond.code ({ cls := "RoleLoom", name := "under", desc := "(II)I" } : Jvm.MethodName) prog_1_method_40_code (3 : Nat) (Option.some Jvm.ClassFile.FieldType.int)) ∈ lw_all := lw_g (lw_at lw_m5 179 rfl) rfl
theorem q1215 : (Jvm.Cond.methodLink "RoleLoom" (353 : Nat) ({ cls := "RoleLoom", name := "isUnder", desc := "(LRoleLoom$Role;LRoleLoom$Role;)Z" } : Jvm.MethodName)) ∈ lw_all := lw_g (lw_at lw_m5 180 rfl) rfl
theorem q1216 : (Jvm.Cond.static ({ cls := "RoleLoom", name := "isUnder", desc := "(LRoleLoom$Role;LRoleLoom$Role;)Z" } : Jvm.MethodName)) ∈ lw_all := lw_g (lw_at lw_m5 181 rfl) rfl
theorem q1217 : (Jvm.Cond.code ({ cls := "RoleLoom", name := "isUnder", desc := "(LRoleLoom$Role;LRoleLoom$Role;)Z" } : Jvm.MethodName) prog_1_method_39_code (2 : Nat) (Option.some Jvm.ClassFile.FieldType.boolean)) ∈ lw_all := lw_g (lw_at lw_m5 182 rfl) rfl
theorem q1218 : (Jvm.Cond.methodLink "RoleLoom" (349 : Nat) ({ cls := "RoleLoom", name := "isAlike", desc := "(LRoleLoom$Role;LRoleLoom$Role;I)Z" } : Jvm.MethodName)) ∈ lw_all := lw_g (lw_at lw_m5 183 rfl) rfl
theorem q1219 : (Jvm.Cond.static ({ cls := "RoleLoom", name := "isAlike", desc := "(LRoleLoom$Role;LRoleLoom$Role;I)Z" } : Jvm.MethodName)) ∈ lw_all := lw_g (lw_at lw_m5 184 rfl) rfl
theorem q1220 : (Jvm.Cond.code ({ cls := "RoleLoom", name := "isAlike", desc := "(LRoleLoom$Role;LRoleLoom$Role;I)Z" } : Jvm.MethodName) prog_1_method_38_code (5 : Nat) (Option.some Jvm.ClassFile.FieldType.boolean)) ∈ lw_all := lw_g (lw_at lw_m5 185 rfl) rfl
theorem q1222 : (Jvm.Cond.instanceMethod ({ cls := "RoleLoom", name := "step", desc := "(II)I" } : Jvm.MethodName)) ∈ lw_all := lw_g (lw_at lw_m5 187 rfl) rfl
theorem q1223 : (Jvm.Cond.selects "RoleLoom" ({ cls := "RoleLoom", name := "step", desc := "(II)I" } : Jvm.MethodName) ({ cls := "RoleLoom", name := "step", desc := "(II)I" } : Jvm.MethodName)) ∈ lw_all := lw_g (lw_at lw_m5 188 rfl) rfl
theorem q1224 : (Jvm.Cond.code ({ cls := "RoleLoom", name := "step", desc := "(II)I" } : Jvm.MethodName) prog_1_method_42_code (4 : Nat) (Option.some Jvm.ClassFile.FieldType.int)) ∈ lw_all := lw_g (lw_at lw_m5 189 rfl) rfl
theorem q1225 : (Jvm.Cond.methodLink "RoleLoom" (357 : Nat) ({ cls := "RoleLoom", name := "stepOf", desc := "(LRoleLoom$Role;I)LRoleLoom$Role;" } : Jvm.MethodName)) ∈ lw_all := lw_g (lw_at lw_m5 190 rfl) rfl
theorem q1226 : (Jvm.Cond.privateMethod ({ cls := "RoleLoom", name := "stepOf", desc := "(LRoleLoom$Role;I)LRoleLoom$Role;" } : Jvm.MethodName)) ∈ lw_tbl := lw_at lw_m5 191 rfl
theorem q1227 : (Jvm.Cond.instanceMethod ({ cls := "RoleLoom", name := "stepOf", desc := "(LRoleLoom$Role;I)LRoleLoom$Role;" } : Jvm.MethodName)) ∈ lw_all := lw_g (lw_at lw_m5 192 rfl) rfl
theorem q1228 : (Jvm.Cond.code ({ cls := "RoleLoom", name := "stepOf", desc := "(LRoleLoom$Role;I)LRoleLoom$Role;" } : Jvm.MethodName) prog_1_method_41_code (4 : Nat) (Option.some (Jvm.ClassFile.FieldType.object "RoleLoom$Role"))) ∈ lw_all := lw_g (lw_at lw_m5 193 rfl) rfl
theorem q1230 : (Jvm.Cond.instanceMethod ({ cls := "RoleLoom", name := "started", desc := "(II)I" } : Jvm.MethodName)) ∈ lw_all := lw_g (lw_at lw_m5 195 rfl) rfl
theorem q1231 : (Jvm.Cond.selects "RoleLoom" ({ cls := "RoleLoom", name := "started", desc := "(II)I" } : Jvm.MethodName) ({ cls := "RoleLoom", name := "started", desc := "(II)I" } : Jvm.MethodName)) ∈ lw_all := lw_g (lw_at lw_m5 196 rfl) rfl
theorem q1232 : (Jvm.Cond.code ({ cls := "RoleLoom", name := "started", desc := "(II)I" } : Jvm.MethodName) prog_1_method_43_code (4 : Nat) (Option.some Jvm.ClassFile.FieldType.int)) ∈ lw_all := lw_g (lw_at lw_m5 197 rfl) rfl
theorem q1234 : (Jvm.Cond.instanceMethod ({ cls := "RoleLoom", name := "object", desc := "(I)I" } : Jvm.MethodName)) ∈ lw_all := lw_g (lw_at lw_m5 199 rfl) rfl
theorem q1235 : (Jvm.Cond.selects "RoleLoom" ({ cls := "RoleLoom", name := "object", desc := "(I)I" } : Jvm.MethodName) ({ cls := "RoleLoom", name := "object", desc := "(I)I" } : Jvm.MethodName)) ∈ lw_all := lw_g (lw_at lw_m5 200 rfl) rfl
theorem q1236 : (Jvm.Cond.code ({ cls := "RoleLoom", name := "object", desc := "(I)I" } : Jvm.MethodName) prog_1_method_49_code (6 : Nat) (Option.some Jvm.ClassFile.FieldType.int)) ∈ lw_all := lw_g (lw_at lw_m5 201 rfl) rfl
theorem q1237 : (Jvm.Cond.methodLink "RoleLoom" (434 : Nat) ({ cls := "RoleLoom", name := "beginRun", desc := "()V" } : Jvm.MethodName)) ∈ lw_all := lw_g (lw_at lw_m5 202 rfl) rfl
theorem q1238 : (Jvm.Cond.privateMethod ({ cls := "RoleLoom", name := "beginRun", desc := "()V" } : Jvm.MethodName)) ∈ lw_tbl := lw_at lw_m5 203 rfl
theorem q1239 : (Jvm.Cond.instanceMethod ({ cls := "RoleLoom", name := "beginRun", desc := "()V" } : Jvm.MethodName)) ∈ lw_all := lw_g (lw_at lw_m5 204 rfl) rfl
theorem q1240 : (Jvm.Cond.code ({ cls := "RoleLoom", name := "beginRun", desc := "()V" } : Jvm.MethodName) prog_1_method_44_code (1 : Nat) (Option.none : Option Jvm.ClassFile.FieldType)) ∈ lw_all := lw_g (lw_at lw_m5 205 rfl) rfl
theorem q1241 : (Jvm.Cond.methodLink "RoleLoom" (437 : Nat) ({ cls := "RoleLoom", name := "starts", desc := "(LRoleLoom$Part;)Z" } : Jvm.MethodName)) ∈ lw_all := lw_g (lw_at lw_m5 206 rfl) rfl
theorem q1242 : (Jvm.Cond.privateMethod ({ cls := "RoleLoom", name := "starts", desc := "(LRoleLoom$Part;)Z" } : Jvm.MethodName)) ∈ lw_tbl := lw_at lw_m5 207 rfl
theorem q1243 : (Jvm.Cond.instanceMethod ({ cls := "RoleLoom", name := "starts", desc := "(LRoleLoom$Part;)Z" } : Jvm.MethodName)) ∈ lw_all := lw_g (lw_at lw_m5 208 rfl) rfl
theorem q1244 : (Jvm.Cond.codeWith ({ cls := "RoleLoom", name := "starts", desc := "(LRoleLoom$Part;)Z" } : Jvm.MethodName) prog_1_method_48_code (4 : Nat) (Option.some Jvm.ClassFile.FieldType.boolean) [((34 : Nat), (50 : Nat), (51 : Nat), (8 : Nat)), ((34 : Nat), (50 : Nat), (59 : Nat), (41 : Nat))]) ∈ lw_all := lw_g (lw_at lw_m5 209 rfl) rfl
theorem q1245 : (Jvm.Cond.classLink "RoleLoom" (394 : Nat) "RoleLoom$State") ∈ lw_all := lw_g (lw_at lw_m5 210 rfl) rfl
theorem q1247 : (Jvm.Cond.methodLink "RoleLoom" (425 : Nat) ({ cls := "RoleLoom$State", name := "<init>", desc := "(LRoleLoom$Part;)V" } : Jvm.MethodName)) ∈ lw_all := lw_g (lw_at lw_m5 212 rfl) rfl
theorem q1257 : (Jvm.Cond.fieldLinkNest "RoleLoom" (477 : Nat) "RoleLoom$State" "cells" "[J" "RoleLoom") ∈ lw_tbl := lw_at lw_m5 222 rfl
theorem q1262 : (Jvm.Cond.fieldLinkNest "RoleLoom" (486 : Nat) "RoleLoom$State" "rows" "[J" "RoleLoom") ∈ lw_tbl := lw_at lw_m5 227 rfl
theorem q1266 : (Jvm.Cond.fieldLinkNest "RoleLoom" (483 : Nat) "RoleLoom$State" "many" "[I" "RoleLoom") ∈ lw_tbl := lw_at lw_m5 231 rfl
theorem q1270 : (Jvm.Cond.fieldLinkNest "RoleLoom" (491 : Nat) "RoleLoom$State" "holders" "[LRoleLoom$Thing;" "RoleLoom") ∈ lw_tbl := lw_at lw_m5 235 rfl
theorem q1280 : (Jvm.Cond.methodLink "RoleLoom" (406 : Nat) ({ cls := "RoleLoom", name := "goes", desc := "(LRoleLoom$Frame;LRoleLoom$Body;JI)J" } : Jvm.MethodName)) ∈ lw_all := lw_g (lw_at lw_m6 5 rfl) rfl
theorem q1281 : (Jvm.Cond.privateMethod ({ cls := "RoleLoom", name := "goes", desc := "(LRoleLoom$Frame;LRoleLoom$Body;JI)J" } : Jvm.MethodName)) ∈ lw_tbl := lw_at lw_m6 6 rfl
theorem q1282 : (Jvm.Cond.instanceMethod ({ cls := "RoleLoom", name := "goes", desc := "(LRoleLoom$Frame;LRoleLoom$Body;JI)J" } : Jvm.MethodName)) ∈ lw_all := lw_g (lw_at lw_m6 7 rfl) rfl
theorem q1283 : (Jvm.Cond.codeWith ({ cls := "RoleLoom", name := "goes", desc := "(LRoleLoom$Frame;LRoleLoom$Body;JI)J" } : Jvm.MethodName) prog_1_method_47_code (11 : Nat) (Option.some Jvm.ClassFile.FieldType.long) [((146 : Nat), (156 : Nat), (159 : Nat), (8 : Nat))]) ∈ lw_all := lw_g (lw_at lw_m6 8 rfl) rfl
theorem q1284 : (Jvm.Cond.methodLink "RoleLoom" (373 : Nat) ({ cls := "RoleLoom", name := "stops", desc := "(I)LRoleLoom$Stop;" } : Jvm.MethodName)) ∈ lw_all := lw_g (lw_at lw_m6 9 rfl) rfl
theorem q1285 : (Jvm.Cond.privateMethod ({ cls := "RoleLoom", name := "stops", desc := "(I)LRoleLoom$Stop;" } : Jvm.MethodName)) ∈ lw_tbl := lw_at lw_m6 10 rfl
theorem q1286 : (Jvm.Cond.instanceMethod ({ cls := "RoleLoom", name := "stops", desc := "(I)LRoleLoom$Stop;" } : Jvm.MethodName)) ∈ lw_all := lw_g (lw_at lw_m6 11 rfl) rfl
theorem q1287 : (Jvm.Cond.code ({ cls := "RoleLoom", name := "stops", desc := "(I)LRoleLoom$Stop;" } : Jvm.MethodName) prog_1_method_3_code (2 : Nat) (Option.some (Jvm.ClassFile.FieldType.object "RoleLoom$Stop"))) ∈ lw_all := lw_g (lw_at lw_m6 12 rfl) rfl
theorem q1288 : (Jvm.Cond.classLink "RoleLoom" (419 : Nat) "RoleLoom$Act") ∈ lw_all := lw_g (lw_at lw_m6 13 rfl) rfl
theorem q1298 : (Jvm.Cond.privateMethod ({ cls := "RoleLoom", name := "thrown", desc := "(LRoleLoom$Frame;IJ)LRoleLoom$Thrown;" } : Jvm.MethodName)) ∈ lw_tbl := lw_at lw_m6 23 rfl
theorem q1299 : (Jvm.Cond.instanceMethod ({ cls := "RoleLoom", name := "thrown", desc := "(LRoleLoom$Frame;IJ)LRoleLoom$Thrown;" } : Jvm.MethodName)) ∈ lw_all := lw_g (lw_at lw_m6 24 rfl) rfl
theorem q1300 : (Jvm.Cond.code ({ cls := "RoleLoom", name := "thrown", desc := "(LRoleLoom$Frame;IJ)LRoleLoom$Thrown;" } : Jvm.MethodName) prog_1_method_2_code (5 : Nat) (Option.some (Jvm.ClassFile.FieldType.object "RoleLoom$Thrown"))) ∈ lw_all := lw_g (lw_at lw_m6 25 rfl) rfl
theorem q1305 : (Jvm.Cond.privateMethod ({ cls := "RoleLoom", name := "run", desc := "(LRoleLoom$Thing;Ljava/util/ArrayList;IJI)J" } : Jvm.MethodName)) ∈ lw_tbl := lw_at lw_m6 30 rfl
theorem q1306 : (Jvm.Cond.instanceMethod ({ cls := "RoleLoom", name := "run", desc := "(LRoleLoom$Thing;Ljava/util/ArrayList;IJI)J" } : Jvm.MethodName)) ∈ lw_all := lw_g (lw_at lw_m6 31 rfl) rfl
theorem q1307 : (Jvm.Cond.code ({ cls := "RoleLoom", name := "run", desc := "(LRoleLoom$Thing;Ljava/util/ArrayList;IJI)J" } : Jvm.MethodName) prog_1_method_46_code (9 : Nat) (Option.some Jvm.ClassFile.FieldType.long)) ∈ lw_all := lw_g (lw_at lw_m6 32 rfl) rfl
theorem q1308 : (Jvm.Cond.methodLink "RoleLoom" (390 : Nat) ({ cls := "java/util/ArrayList", name := "indexOf", desc := "(Ljava/lang/Object;)I" } : Jvm.MethodName)) ∈ lw_all := lw_g (lw_at lw_m6 33 rfl) rfl
theorem q1397 : (Jvm.Cond.methodLink "RoleLoom" (430 : Nat) ({ cls := "RoleLoom", name := "noteThrown", desc := "(LRoleLoom$Thrown;)V" } : Jvm.MethodName)) ∈ lw_all := lw_g (lw_at lw_m6 122 rfl) rfl
theorem q1398 : (Jvm.Cond.privateMethod ({ cls := "RoleLoom", name := "noteThrown", desc := "(LRoleLoom$Thrown;)V" } : Jvm.MethodName)) ∈ lw_tbl := lw_at lw_m6 123 rfl
theorem q1399 : (Jvm.Cond.instanceMethod ({ cls := "RoleLoom", name := "noteThrown", desc := "(LRoleLoom$Thrown;)V" } : Jvm.MethodName)) ∈ lw_all := lw_g (lw_at lw_m6 124 rfl) rfl
theorem q1400 : (Jvm.Cond.code ({ cls := "RoleLoom", name := "noteThrown", desc := "(LRoleLoom$Thrown;)V" } : Jvm.MethodName) prog_1_method_45_code (2 : Nat) (Option.none : Option Jvm.ClassFile.FieldType)) ∈ lw_all := lw_g (lw_at lw_m6 125 rfl) rfl
theorem q1401 : (Jvm.Cond.classLink "RoleLoom" (382 : Nat) "RoleLoom$Thing") ∈ lw_all := lw_g (lw_at lw_m6 126 rfl) rfl
theorem q1403 : (Jvm.Cond.methodLink "RoleLoom" (440 : Nat) ({ cls := "RoleLoom$Thing", name := "<init>", desc := "(ILRoleLoom$Role;)V" } : Jvm.MethodName)) ∈ lw_all := lw_g (lw_at lw_m6 128 rfl) rfl
theorem q1410 : (Jvm.Cond.fieldLinkNest "RoleLoom" (443 : Nat) "RoleLoom$Thing" "number" "I" "RoleLoom") ∈ lw_tbl := lw_at lw_m6 135 rfl
theorem q1415 : (Jvm.Cond.fieldLinkNest "RoleLoom" (386 : Nat) "RoleLoom$Thing" "role" "LRoleLoom$Role;" "RoleLoom") ∈ lw_tbl := lw_at lw_m6 140 rfl
theorem q1417 : (Jvm.Cond.fieldLinkNest "RoleLoom" (381 : Nat) "RoleLoom$Thing" "states" "Ljava/util/ArrayList;" "RoleLoom") ∈ lw_tbl := lw_at lw_m6 142 rfl
theorem q1426 : (Jvm.Cond.instanceMethod ({ cls := "RoleLoom", name := "call", desc := "(IIJ)I" } : Jvm.MethodName)) ∈ lw_all := lw_g (lw_at lw_m6 151 rfl) rfl
theorem q1427 : (Jvm.Cond.selects "RoleLoom" ({ cls := "RoleLoom", name := "call", desc := "(IIJ)I" } : Jvm.MethodName) ({ cls := "RoleLoom", name := "call", desc := "(IIJ)I" } : Jvm.MethodName)) ∈ lw_all := lw_g (lw_at lw_m6 152 rfl) rfl
theorem q1428 : (Jvm.Cond.codeWith ({ cls := "RoleLoom", name := "call", desc := "(IIJ)I" } : Jvm.MethodName) prog_1_method_51_code (8 : Nat) (Option.some Jvm.ClassFile.FieldType.int) [((64 : Nat), (86 : Nat), (87 : Nat), (8 : Nat)), ((64 : Nat), (86 : Nat), (97 : Nat), (41 : Nat))]) ∈ lw_all := lw_g (lw_at lw_m6 153 rfl) rfl
theorem q1429 : (Jvm.Cond.methodLink "RoleLoom" (444 : Nat) ({ cls := "RoleLoom", name := "isThing", desc := "(I)Z" } : Jvm.MethodName)) ∈ lw_all := lw_g (lw_at lw_m6 154 rfl) rfl
theorem q1430 : (Jvm.Cond.privateMethod ({ cls := "RoleLoom", name := "isThing", desc := "(I)Z" } : Jvm.MethodName)) ∈ lw_tbl := lw_at lw_m6 155 rfl
theorem q1431 : (Jvm.Cond.instanceMethod ({ cls := "RoleLoom", name := "isThing", desc := "(I)Z" } : Jvm.MethodName)) ∈ lw_all := lw_g (lw_at lw_m6 156 rfl) rfl
theorem q1432 : (Jvm.Cond.code ({ cls := "RoleLoom", name := "isThing", desc := "(I)Z" } : Jvm.MethodName) prog_1_method_50_code (2 : Nat) (Option.some Jvm.ClassFile.FieldType.boolean)) ∈ lw_all := lw_g (lw_at lw_m6 157 rfl) rfl
theorem q1433 : (Jvm.Cond.methodLink "RoleLoom" (447 : Nat) ({ cls := "RoleLoom", name := "run", desc := "(LRoleLoom$Thing;Ljava/util/ArrayList;IJI)J" } : Jvm.MethodName)) ∈ lw_all := lw_g (lw_at lw_m6 158 rfl) rfl
theorem q1435 : (Jvm.Cond.instanceMethod ({ cls := "RoleLoom", name := "answer", desc := "()J" } : Jvm.MethodName)) ∈ lw_all := lw_g (lw_at lw_m6 160 rfl) rfl
theorem q1436 : (Jvm.Cond.selects "RoleLoom" ({ cls := "RoleLoom", name := "answer", desc := "()J" } : Jvm.MethodName) ({ cls := "RoleLoom", name := "answer", desc := "()J" } : Jvm.MethodName)) ∈ lw_all := lw_g (lw_at lw_m6 161 rfl) rfl
theorem q1437 : (Jvm.Cond.code ({ cls := "RoleLoom", name := "answer", desc := "()J" } : Jvm.MethodName) prog_1_method_52_code (1 : Nat) (Option.some Jvm.ClassFile.FieldType.long)) ∈ lw_all := lw_g (lw_at lw_m6 162 rfl) rfl
theorem q1439 : (Jvm.Cond.instanceMethod ({ cls := "RoleLoom", name := "threw", desc := "(I)I" } : Jvm.MethodName)) ∈ lw_all := lw_g (lw_at lw_m6 164 rfl) rfl
theorem q1440 : (Jvm.Cond.selects "RoleLoom" ({ cls := "RoleLoom", name := "threw", desc := "(I)I" } : Jvm.MethodName) ({ cls := "RoleLoom", name := "threw", desc := "(I)I" } : Jvm.MethodName)) ∈ lw_all := lw_g (lw_at lw_m6 165 rfl) rfl
theorem q1441 : (Jvm.Cond.code ({ cls := "RoleLoom", name := "threw", desc := "(I)I" } : Jvm.MethodName) prog_1_method_53_code (2 : Nat) (Option.some Jvm.ClassFile.FieldType.int)) ∈ lw_all := lw_g (lw_at lw_m6 166 rfl) rfl
theorem q1443 : (Jvm.Cond.instanceMethod ({ cls := "RoleLoom", name := "with", desc := "()J" } : Jvm.MethodName)) ∈ lw_all := lw_g (lw_at lw_m6 168 rfl) rfl
theorem q1444 : (Jvm.Cond.selects "RoleLoom" ({ cls := "RoleLoom", name := "with", desc := "()J" } : Jvm.MethodName) ({ cls := "RoleLoom", name := "with", desc := "()J" } : Jvm.MethodName)) ∈ lw_all := lw_g (lw_at lw_m6 169 rfl) rfl
theorem q1445 : (Jvm.Cond.code ({ cls := "RoleLoom", name := "with", desc := "()J" } : Jvm.MethodName) prog_1_method_54_code (1 : Nat) (Option.some Jvm.ClassFile.FieldType.long)) ∈ lw_all := lw_g (lw_at lw_m6 170 rfl) rfl
theorem q1447 : (Jvm.Cond.instanceMethod ({ cls := "RoleLoom", name := "ran", desc := "(II)I" } : Jvm.MethodName)) ∈ lw_all := lw_g (lw_at lw_m6 172 rfl) rfl
theorem q1448 : (Jvm.Cond.selects "RoleLoom" ({ cls := "RoleLoom", name := "ran", desc := "(II)I" } : Jvm.MethodName) ({ cls := "RoleLoom", name := "ran", desc := "(II)I" } : Jvm.MethodName)) ∈ lw_all := lw_g (lw_at lw_m6 173 rfl) rfl
theorem q1449 : (Jvm.Cond.code ({ cls := "RoleLoom", name := "ran", desc := "(II)I" } : Jvm.MethodName) prog_1_method_55_code (4 : Nat) (Option.some Jvm.ClassFile.FieldType.int)) ∈ lw_all := lw_g (lw_at lw_m6 174 rfl) rfl
theorem q1451 : (Jvm.Cond.instanceMethod ({ cls := "RoleLoom", name := "marks", desc := "()I" } : Jvm.MethodName)) ∈ lw_all := lw_g (lw_at lw_m6 176 rfl) rfl
theorem q1452 : (Jvm.Cond.selects "RoleLoom" ({ cls := "RoleLoom", name := "marks", desc := "()I" } : Jvm.MethodName) ({ cls := "RoleLoom", name := "marks", desc := "()I" } : Jvm.MethodName)) ∈ lw_all := lw_g (lw_at lw_m6 177 rfl) rfl
theorem q1453 : (Jvm.Cond.code ({ cls := "RoleLoom", name := "marks", desc := "()I" } : Jvm.MethodName) prog_1_method_56_code (1 : Nat) (Option.some Jvm.ClassFile.FieldType.int)) ∈ lw_all := lw_g (lw_at lw_m6 178 rfl) rfl
theorem q1455 : (Jvm.Cond.instanceMethod ({ cls := "RoleLoom", name := "mark", desc := "(I)I" } : Jvm.MethodName)) ∈ lw_all := lw_g (lw_at lw_m6 180 rfl) rfl
theorem q1456 : (Jvm.Cond.selects "RoleLoom" ({ cls := "RoleLoom", name := "mark", desc := "(I)I" } : Jvm.MethodName) ({ cls := "RoleLoom", name := "mark", desc := "(I)I" } : Jvm.MethodName)) ∈ lw_all := lw_g (lw_at lw_m6 181 rfl) rfl
theorem q1457 : (Jvm.Cond.code ({ cls := "RoleLoom", name := "mark", desc := "(I)I" } : Jvm.MethodName) prog_1_method_58_code (2 : Nat) (Option.some Jvm.ClassFile.FieldType.int)) ∈ lw_all := lw_g (lw_at lw_m6 182 rfl) rfl
theorem q1458 : (Jvm.Cond.methodLink "RoleLoom" (463 : Nat) ({ cls := "java/lang/Math", name := "min", desc := "(II)I" } : Jvm.MethodName)) ∈ lw_all := lw_g (lw_at lw_m6 183 rfl) rfl
theorem q1459 : (Jvm.Cond.methodLink "RoleLoom" (469 : Nat) ({ cls := "RoleLoom", name := "tells", desc := "(J)I" } : Jvm.MethodName)) ∈ lw_all := lw_g (lw_at lw_m6 184 rfl) rfl
theorem q1460 : (Jvm.Cond.privateMethod ({ cls := "RoleLoom", name := "tells", desc := "(J)I" } : Jvm.MethodName)) ∈ lw_tbl := lw_at lw_m6 185 rfl
theorem q1461 : (Jvm.Cond.instanceMethod ({ cls := "RoleLoom", name := "tells", desc := "(J)I" } : Jvm.MethodName)) ∈ lw_all := lw_g (lw_at lw_m6 186 rfl) rfl
theorem q1462 : (Jvm.Cond.code ({ cls := "RoleLoom", name := "tells", desc := "(J)I" } : Jvm.MethodName) prog_1_method_57_code (3 : Nat) (Option.some Jvm.ClassFile.FieldType.int)) ∈ lw_all := lw_g (lw_at lw_m6 187 rfl) rfl
theorem q1464 : (Jvm.Cond.instanceMethod ({ cls := "RoleLoom", name := "cell", desc := "(III)I" } : Jvm.MethodName)) ∈ lw_all := lw_g (lw_at lw_m6 189 rfl) rfl
theorem q1465 : (Jvm.Cond.selects "RoleLoom" ({ cls := "RoleLoom", name := "cell", desc := "(III)I" } : Jvm.MethodName) ({ cls := "RoleLoom", name := "cell", desc := "(III)I" } : Jvm.MethodName)) ∈ lw_all := lw_g (lw_at lw_m6 190 rfl) rfl
theorem q1466 : (Jvm.Cond.code ({ cls := "RoleLoom", name := "cell", desc := "(III)I" } : Jvm.MethodName) prog_1_method_60_code (5 : Nat) (Option.some Jvm.ClassFile.FieldType.int)) ∈ lw_all := lw_g (lw_at lw_m6 191 rfl) rfl
theorem q1467 : (Jvm.Cond.methodLink "RoleLoom" (473 : Nat) ({ cls := "RoleLoom", name := "stateOf", desc := "(II)LRoleLoom$State;" } : Jvm.MethodName)) ∈ lw_all := lw_g (lw_at lw_m6 192 rfl) rfl
theorem q1468 : (Jvm.Cond.privateMethod ({ cls := "RoleLoom", name := "stateOf", desc := "(II)LRoleLoom$State;" } : Jvm.MethodName)) ∈ lw_tbl := lw_at lw_m6 193 rfl
theorem q1469 : (Jvm.Cond.instanceMethod ({ cls := "RoleLoom", name := "stateOf", desc := "(II)LRoleLoom$State;" } : Jvm.MethodName)) ∈ lw_all := lw_g (lw_at lw_m6 194 rfl) rfl
theorem q1470 : (Jvm.Cond.code ({ cls := "RoleLoom", name := "stateOf", desc := "(II)LRoleLoom$State;" } : Jvm.MethodName) prog_1_method_59_code (5 : Nat) (Option.some (Jvm.ClassFile.FieldType.object "RoleLoom$State"))) ∈ lw_all := lw_g (lw_at lw_m6 195 rfl) rfl
theorem q1472 : (Jvm.Cond.instanceMethod ({ cls := "RoleLoom", name := "row", desc := "(IIII)I" } : Jvm.MethodName)) ∈ lw_all := lw_g (lw_at lw_m6 197 rfl) rfl
theorem q1473 : (Jvm.Cond.selects "RoleLoom" ({ cls := "RoleLoom", name := "row", desc := "(IIII)I" } : Jvm.MethodName) ({ cls := "RoleLoom", name := "row", desc := "(IIII)I" } : Jvm.MethodName)) ∈ lw_all := lw_g (lw_at lw_m6 198 rfl) rfl
theorem q1474 : (Jvm.Cond.code ({ cls := "RoleLoom", name := "row", desc := "(IIII)I" } : Jvm.MethodName) prog_1_method_61_code (6 : Nat) (Option.some Jvm.ClassFile.FieldType.int)) ∈ lw_all := lw_g (lw_at lw_m6 199 rfl) rfl
theorem q1476 : (Jvm.Cond.instanceMethod ({ cls := "RoleLoom", name := "hold", desc := "(IIII)I" } : Jvm.MethodName)) ∈ lw_all := lw_g (lw_at lw_m6 201 rfl) rfl
theorem q1477 : (Jvm.Cond.selects "RoleLoom" ({ cls := "RoleLoom", name := "hold", desc := "(IIII)I" } : Jvm.MethodName) ({ cls := "RoleLoom", name := "hold", desc := "(IIII)I" } : Jvm.MethodName)) ∈ lw_all := lw_g (lw_at lw_m6 202 rfl) rfl
theorem q1478 : (Jvm.Cond.code ({ cls := "RoleLoom", name := "hold", desc := "(IIII)I" } : Jvm.MethodName) prog_1_method_62_code (7 : Nat) (Option.some Jvm.ClassFile.FieldType.int)) ∈ lw_all := lw_g (lw_at lw_m6 203 rfl) rfl
theorem q1480 : (Jvm.Cond.instanceMethod ({ cls := "RoleLoom", name := "shared", desc := "(I)I" } : Jvm.MethodName)) ∈ lw_all := lw_g (lw_at lw_m6 205 rfl) rfl
theorem q1481 : (Jvm.Cond.selects "RoleLoom" ({ cls := "RoleLoom", name := "shared", desc := "(I)I" } : Jvm.MethodName) ({ cls := "RoleLoom", name := "shared", desc := "(I)I" } : Jvm.MethodName)) ∈ lw_all := lw_g (lw_at lw_m6 206 rfl) rfl
theorem q1482 : (Jvm.Cond.code ({ cls := "RoleLoom", name := "shared", desc := "(I)I" } : Jvm.MethodName) prog_1_method_63_code (2 : Nat) (Option.some Jvm.ClassFile.FieldType.int)) ∈ lw_all := lw_g (lw_at lw_m6 207 rfl) rfl
theorem q1484 : (Jvm.Cond.instanceMethod ({ cls := "RoleLoom", name := "told", desc := "()J" } : Jvm.MethodName)) ∈ lw_all := lw_g (lw_at lw_m6 209 rfl) rfl
theorem q1485 : (Jvm.Cond.selects "RoleLoom" ({ cls := "RoleLoom", name := "told", desc := "()J" } : Jvm.MethodName) ({ cls := "RoleLoom", name := "told", desc := "()J" } : Jvm.MethodName)) ∈ lw_all := lw_g (lw_at lw_m6 210 rfl) rfl
theorem q1486 : (Jvm.Cond.code ({ cls := "RoleLoom", name := "told", desc := "()J" } : Jvm.MethodName) prog_1_method_64_code (1 : Nat) (Option.some Jvm.ClassFile.FieldType.long)) ∈ lw_all := lw_g (lw_at lw_m6 211 rfl) rfl
theorem q1488 : (Jvm.Cond.instanceMethod ({ cls := "RoleLoom", name := "count", desc := "(I)I" } : Jvm.MethodName)) ∈ lw_all := lw_g (lw_at lw_m6 213 rfl) rfl
theorem q1489 : (Jvm.Cond.selects "RoleLoom" ({ cls := "RoleLoom", name := "count", desc := "(I)I" } : Jvm.MethodName) ({ cls := "RoleLoom", name := "count", desc := "(I)I" } : Jvm.MethodName)) ∈ lw_all := lw_g (lw_at lw_m6 214 rfl) rfl
theorem q1490 : (Jvm.Cond.code ({ cls := "RoleLoom", name := "count", desc := "(I)I" } : Jvm.MethodName) prog_1_method_65_code (2 : Nat) (Option.some Jvm.ClassFile.FieldType.int)) ∈ lw_all := lw_g (lw_at lw_m6 215 rfl) rfl
theorem q1492 : (Jvm.Cond.instanceMethod ({ cls := "RoleLoom", name := "digest", desc := "()J" } : Jvm.MethodName)) ∈ lw_all := lw_g (lw_at lw_m6 217 rfl) rfl
theorem q1493 : (Jvm.Cond.selects "RoleLoom" ({ cls := "RoleLoom", name := "digest", desc := "()J" } : Jvm.MethodName) ({ cls := "RoleLoom", name := "digest", desc := "()J" } : Jvm.MethodName)) ∈ lw_all := lw_g (lw_at lw_m6 218 rfl) rfl
theorem q1494 : (Jvm.Cond.code ({ cls := "RoleLoom", name := "digest", desc := "()J" } : Jvm.MethodName) prog_1_method_66_code (6 : Nat) (Option.some Jvm.ClassFile.FieldType.long)) ∈ lw_all := lw_g (lw_at lw_m6 219 rfl) rfl
theorem q1495 : (Jvm.Cond.constantLong "RoleLoom" (494 : Nat) (17 : Int64)) ∈ lw_all := lw_g (lw_at lw_m6 220 rfl) rfl
theorem q1496 : (Jvm.Cond.constantLong "RoleLoom" (496 : Nat) (31 : Int64)) ∈ lw_all := lw_g (lw_at lw_m6 221 rfl) rfl
theorem q1497 : (Jvm.Cond.methodLink "RoleLoom" (498 : Nat) ({ cls := "RoleLoom", name := "digest", desc := "(JLRoleLoom$State;LRoleLoom$Part;)J" } : Jvm.MethodName)) ∈ lw_all := lw_g (lw_at lw_m6 222 rfl) rfl
theorem q1498 : (Jvm.Cond.static ({ cls := "RoleLoom", name := "digest", desc := "(JLRoleLoom$State;LRoleLoom$Part;)J" } : Jvm.MethodName)) ∈ lw_all := lw_g (lw_at lw_m6 223 rfl) rfl
theorem q1499 : (Jvm.Cond.code ({ cls := "RoleLoom", name := "digest", desc := "(JLRoleLoom$State;LRoleLoom$Part;)J" } : Jvm.MethodName) prog_1_method_67_code (8 : Nat) (Option.some Jvm.ClassFile.FieldType.long)) ∈ lw_all := lw_g (lw_at lw_m6 224 rfl) rfl
theorem q2072 : (Jvm.Cond.castable "RoleLoom" "java/lang/Object") ∈ lw_tbl := lw_at lw_m9 77 rfl
theorem in_X0 : ∀ w ∈ wsX00, w ∈ lw_all := lw_in wsX00 [332, 334, 336, 338, 340, 342, 344, 346, 348, 350, 352, 354, 356, 358, 360, 362, 364, 366, 368, 370, 372, 374, 376, 378, 380, 382, 384, 386, 388, 390, 392, 394, 396, 398, 400, 402] (by decide +kernel) (by decide +kernel)

/-! RoleLoomModel -/
set_option maxRecDepth 100000
def RX4 : String := "RoleLoomModel"
def TX4 : u_T := fun k => match k with
  | 0 => ("RoleLoomModel", "parts", "I", false)
  | 1 => ("RoleLoomModel", "cellMany", "[I", true)
  | 2 => ("RoleLoomModel", "rowMany", "[I", true)
  | 3 => ("RoleLoomModel", "holderMany", "[I", true)
  | 4 => ("RoleLoomModel", "extendMany", "[I", true)
  | 5 => ("RoleLoomModel", "extended", "[I", true)
  | 6 => ("RoleLoomModel", "wishes", "[Z", true)
  | 7 => ("RoleLoomModel", "wants", "I", false)
  | 8 => ("RoleLoomModel", "wantFirst", "[I", true)
  | 9 => ("RoleLoomModel", "wantSecond", "[I", true)
  | 10 => ("RoleLoomModel", "many", "[I", true)
  | 11 => ("RoleLoomModel", "catches", "[I", true)
  | 12 => ("RoleLoomModel", "whats", "[I", true)
  | 13 => ("RoleLoomModel", "as", "[I", true)
  | 14 => ("RoleLoomModel", "bs", "[I", true)
  | 15 => ("RoleLoomModel", "lastBody", "I", false)
  | 16 => ("RoleLoomModel", "named", "I", false)
  | 17 => ("RoleLoomModel", "names", "[I", true)
  | 18 => ("RoleLoomModel", "excludes", "I", false)
  | 19 => ("RoleLoomModel", "excludePart", "[I", true)
  | 20 => ("RoleLoomModel", "excludeMember", "[I", true)
  | 21 => ("RoleLoomModel", "aliasPart", "[I", true)
  | 22 => ("RoleLoomModel", "aliasMember", "[I", true)
  | 23 => ("RoleLoomModel", "isAlias", "[Z", true)
  | 24 => ("RoleLoomModel", "roles", "I", false)
  | 25 => ("RoleLoomModel", "lineSize", "[I", true)
  | 26 => ("RoleLoomModel", "lines", "[I", true)
  | 27 => ("RoleLoomModel", "placeOf", "[I", true)
  | 28 => ("RoleLoomModel", "chainSize", "[I", true)
  | 29 => ("RoleLoomModel", "chains", "[I", true)
  | 30 => ("RoleLoomModel", "roleAliasMember", "[I", true)
  | 31 => ("RoleLoomModel", "roleAliasAt", "[I", true)
  | 32 => ("RoleLoomModel", "starts", "[I", true)
  | 33 => ("RoleLoomModel", "rings", "[I", true)
  | 34 => ("RoleLoomModel", "ringMany", "I", false)
  | 35 => ("RoleLoomModel", "lackPart", "I", false)
  | 36 => ("RoleLoomModel", "lackMember", "I", false)
  | 37 => ("RoleLoomModel", "isIn", "[Z", true)
  | 38 => ("RoleLoomModel", "isLeft", "[Z", true)
  | 39 => ("RoleLoomModel", "path", "[I", true)
  | 40 => ("RoleLoomModel", "objects", "I", false)
  | 41 => ("RoleLoomModel", "roleOf", "[I", true)
  | 42 => ("RoleLoomModel", "cells", "[J", true)
  | 43 => ("RoleLoomModel", "rowSizes", "[I", true)
  | 44 => ("RoleLoomModel", "rowPlaces", "[J", true)
  | 45 => ("RoleLoomModel", "holders", "[I", true)
  | 46 => ("RoleLoomModel", "sharedCells", "[J", true)
  | 47 => ("RoleLoomModel", "marks", "I", false)
  | 48 => ("RoleLoomModel", "markValues", "[J", true)
  | 49 => ("RoleLoomModel", "told", "J", false)
  | 50 => ("RoleLoomModel", "deep", "I", false)
  | 51 => ("RoleLoomModel", "runBody", "[I", true)
  | 52 => ("RoleLoomModel", "runObject", "[I", true)
  | 53 => ("RoleLoomModel", "runPlace", "[I", true)
  | 54 => ("RoleLoomModel", "runMember", "[I", true)
  | 55 => ("RoleLoomModel", "runChain", "[I", true)
  | 56 => ("RoleLoomModel", "runAct", "[I", true)
  | 57 => ("RoleLoomModel", "runA", "[J", true)
  | 58 => ("RoleLoomModel", "runArgument", "[J", true)
  | 59 => ("RoleLoomModel", "runCaught", "[Z", true)
  | 60 => ("RoleLoomModel", "turns", "I", false)
  | 61 => ("RoleLoomModel", "outcome", "I", false)
  | 62 => ("RoleLoomModel", "answer", "J", false)
  | 63 => ("RoleLoomModel", "result", "J", false)
  | 64 => ("RoleLoomModel", "threwNumber", "I", false)
  | 65 => ("RoleLoomModel", "threwPart", "I", false)
  | 66 => ("RoleLoomModel", "threwAt", "I", false)
  | 67 => ("RoleLoomModel", "threwWith", "J", false)
  | 68 => ("RoleLoomModel", "ranMany", "I", false)
  | 69 => ("RoleLoomModel", "ranPart", "[I", true)
  | 70 => ("RoleLoomModel", "ranUse", "[I", true)
  | 71 => ("RoleLoomModel", "ranMember", "[I", true)
  | _ => ("RoleLoomModel", "ranDeep", "[I", true)
def tyX4 : Nat → FieldType := fun k => match k with
  | 0 => .int
  | 1 => .array .int
  | 2 => .array .int
  | 3 => .array .int
  | 4 => .array .int
  | 5 => .array .int
  | 6 => .array .boolean
  | 7 => .int
  | 8 => .array .int
  | 9 => .array .int
  | 10 => .array .int
  | 11 => .array .int
  | 12 => .array .int
  | 13 => .array .int
  | 14 => .array .int
  | 15 => .int
  | 16 => .int
  | 17 => .array .int
  | 18 => .int
  | 19 => .array .int
  | 20 => .array .int
  | 21 => .array .int
  | 22 => .array .int
  | 23 => .array .boolean
  | 24 => .int
  | 25 => .array .int
  | 26 => .array .int
  | 27 => .array .int
  | 28 => .array .int
  | 29 => .array .int
  | 30 => .array .int
  | 31 => .array .int
  | 32 => .array .int
  | 33 => .array .int
  | 34 => .int
  | 35 => .int
  | 36 => .int
  | 37 => .array .boolean
  | 38 => .array .boolean
  | 39 => .array .int
  | 40 => .int
  | 41 => .array .int
  | 42 => .array .long
  | 43 => .array .int
  | 44 => .array .long
  | 45 => .array .int
  | 46 => .array .long
  | 47 => .int
  | 48 => .array .long
  | 49 => .long
  | 50 => .int
  | 51 => .array .int
  | 52 => .array .int
  | 53 => .array .int
  | 54 => .array .int
  | 55 => .array .int
  | 56 => .array .int
  | 57 => .array .long
  | 58 => .array .long
  | 59 => .array .boolean
  | 60 => .int
  | 61 => .int
  | 62 => .long
  | 63 => .long
  | 64 => .int
  | 65 => .int
  | 66 => .int
  | 67 => .long
  | 68 => .int
  | 69 => .array .int
  | 70 => .array .int
  | 71 => .array .int
  | _ => .array .int
abbrev wsX40 : List Cond := u_ws RX4 TX4 73
set_option maxRecDepth 100000 in
theorem nmX4 : ∀ a, a < 73 → ∀ b, b < 73 → a ≠ b → (TX4 a).2.1 ≠ (TX4 b).2.1 := by decide +kernel
set_option maxRecDepth 100000 in
theorem tyX4_ok : ∀ k, k < 73 → parseFieldDescriptor (TX4 k).2.2.1 = some (tyX4 k) := by decide +kernel
abbrev cX4_init : ByteArray := prog_32_method_1_code
def yX4_init : MethodName := ⟨RX4, "<init>", "()V"⟩
def dkwX4_init_20 : List UInt8 := [27, 16, 247, 79, 132, 1, 1, 167, 255, 238, 177]
abbrev dktX4_init_20 : List UInt8 := dkwX4_init_20 ++ []
def dkwX4_init_19 : List UInt8 := [181, 0, 179, 42, 16, 60, 188, 10, 181, 0, 182, 3, 60, 27, 17, 2, 89, 162, 0, 17, 42, 180, 0, 35]
abbrev dktX4_init_19 : List UInt8 := dkwX4_init_19 ++ dktX4_init_20
def dkwX4_init_18 : List UInt8 := [181, 0, 170, 42, 16, 60, 188, 10, 181, 0, 173, 42, 16, 60, 188, 10, 181, 0, 176, 42, 16, 60, 188, 10]
abbrev dktX4_init_18 : List UInt8 := dkwX4_init_18 ++ dktX4_init_19
def dkwX4_init_17 : List UInt8 := [16, 40, 188, 4, 181, 0, 161, 42, 16, 247, 181, 0, 164, 42, 16, 247, 181, 0, 167, 42, 16, 247]
abbrev dktX4_init_17 : List UInt8 := dkwX4_init_17 ++ dktX4_init_18
def dkwX4_init_16 : List UInt8 := [16, 40, 188, 10, 181, 0, 152, 42, 16, 40, 188, 11, 181, 0, 155, 42, 16, 40, 188, 11, 181, 0, 158, 42]
abbrev dktX4_init_16 : List UInt8 := dkwX4_init_16 ++ dktX4_init_17
def dkwX4_init_15 : List UInt8 := [16, 40, 188, 10, 181, 0, 143, 42, 16, 40, 188, 10, 181, 0, 146, 42, 16, 40, 188, 10, 181, 0, 149, 42]
abbrev dktX4_init_15 : List UInt8 := dkwX4_init_15 ++ dktX4_init_16
def dkwX4_init_14 : List UInt8 := [16, 100, 188, 11, 181, 0, 134, 42, 16, 40, 188, 10, 181, 0, 137, 42, 16, 40, 188, 10, 181, 0, 140, 42]
abbrev dktX4_init_14 : List UInt8 := dkwX4_init_14 ++ dktX4_init_15
def dkwX4_init_13 : List UInt8 := [188, 11, 181, 0, 125, 42, 17, 18, 240, 188, 10, 181, 0, 128, 42, 16, 8, 188, 11, 181, 0, 131, 42]
abbrev dktX4_init_13 : List UInt8 := dkwX4_init_13 ++ dktX4_init_14
def dkwX4_init_12 : List UInt8 := [181, 0, 114, 42, 17, 37, 224, 188, 11, 181, 0, 117, 42, 17, 18, 240, 188, 10, 181, 0, 121, 42, 18, 124]
abbrev dktX4_init_12 : List UInt8 := dkwX4_init_12 ++ dktX4_init_13
def dkwX4_init_11 : List UInt8 := [181, 0, 105, 42, 16, 24, 188, 4, 181, 0, 108, 42, 16, 26, 188, 10, 181, 0, 111, 42, 16, 101, 188, 10]
abbrev dktX4_init_11 : List UInt8 := dkwX4_init_11 ++ dktX4_init_12
def dkwX4_init_10 : List UInt8 := [16, 24, 188, 10, 181, 0, 96, 42, 16, 247, 181, 0, 99, 42, 16, 247, 181, 0, 102, 42, 16, 24, 188, 4]
abbrev dktX4_init_10 : List UInt8 := dkwX4_init_10 ++ dktX4_init_11
def dkwX4_init_9 : List UInt8 := [188, 10, 181, 0, 87, 42, 16, 96, 188, 10, 181, 0, 90, 42, 17, 2, 64, 188, 10, 181, 0, 93, 42]
abbrev dktX4_init_9 : List UInt8 := dkwX4_init_9 ++ dktX4_init_10
def dkwX4_init_8 : List UInt8 := [181, 0, 78, 42, 17, 1, 32, 188, 10, 181, 0, 81, 42, 17, 54, 0, 188, 10, 181, 0, 84, 42, 16, 96]
abbrev dktX4_init_8 : List UInt8 := dkwX4_init_8 ++ dktX4_init_9
def dkwX4_init_7 : List UInt8 := [42, 16, 24, 188, 10, 181, 0, 72, 42, 17, 2, 64, 188, 10, 181, 0, 75, 42, 17, 2, 64, 188, 10]
abbrev dktX4_init_7 : List UInt8 := dkwX4_init_7 ++ dktX4_init_8
def dkwX4_init_6 : List UInt8 := [181, 0, 60, 42, 7, 188, 10, 181, 0, 63, 42, 7, 188, 10, 181, 0, 66, 42, 7, 188, 4, 181, 0, 69]
abbrev dktX4_init_6 : List UInt8 := dkwX4_init_6 ++ dktX4_init_7
def dkwX4_init_5 : List UInt8 := [181, 0, 50, 42, 16, 8, 188, 10, 181, 0, 54, 42, 16, 6, 188, 10, 181, 0, 57, 42, 16, 6, 188, 10]
abbrev dktX4_init_5 : List UInt8 := dkwX4_init_5 ++ dktX4_init_6
def dkwX4_init_4 : List UInt8 := [181, 0, 41, 42, 17, 23, 122, 188, 10, 181, 0, 44, 42, 17, 23, 122, 188, 10, 181, 0, 47, 42, 16, 247]
abbrev dktX4_init_4 : List UInt8 := dkwX4_init_4 ++ dktX4_init_5
def dkwX4_init_3 : List UInt8 := [42, 17, 2, 89, 188, 10, 181, 0, 35, 42, 17, 2, 89, 188, 10, 181, 0, 38, 42, 17, 23, 122, 188, 10]
abbrev dktX4_init_3 : List UInt8 := dkwX4_init_3 ++ dktX4_init_4
def dkwX4_init_2 : List UInt8 := [17, 1, 32, 188, 4, 181, 0, 25, 42, 16, 30, 188, 10, 181, 0, 29, 42, 16, 30, 188, 10, 181, 0, 32]
abbrev dktX4_init_2 : List UInt8 := dkwX4_init_2 ++ dktX4_init_3
def dkwX4_init_1 : List UInt8 := [188, 10, 181, 0, 16, 42, 16, 24, 188, 10, 181, 0, 19, 42, 16, 96, 188, 10, 181, 0, 22, 42]
abbrev dktX4_init_1 : List UInt8 := dkwX4_init_1 ++ dktX4_init_2
def dkwX4_init_0 : List UInt8 := [42, 183, 0, 1, 42, 16, 24, 188, 10, 181, 0, 7, 42, 16, 24, 188, 10, 181, 0, 13, 42, 16, 24]
abbrev dktX4_init_0 : List UInt8 := dkwX4_init_0 ++ dktX4_init_1
theorem dksX4_init_0 : cX4_init.data.toList.drop 0 = dktX4_init_0 := by decide +kernel
theorem dksX4_init_1 : cX4_init.data.toList.drop 23 = dktX4_init_1 := dk_seg dksX4_init_0 23 rfl rfl
theorem dksX4_init_2 : cX4_init.data.toList.drop 45 = dktX4_init_2 := dk_seg dksX4_init_1 22 rfl rfl
theorem dksX4_init_3 : cX4_init.data.toList.drop 69 = dktX4_init_3 := dk_seg dksX4_init_2 24 rfl rfl
theorem dksX4_init_4 : cX4_init.data.toList.drop 93 = dktX4_init_4 := dk_seg dksX4_init_3 24 rfl rfl
theorem dksX4_init_5 : cX4_init.data.toList.drop 117 = dktX4_init_5 := dk_seg dksX4_init_4 24 rfl rfl
theorem dksX4_init_6 : cX4_init.data.toList.drop 141 = dktX4_init_6 := dk_seg dksX4_init_5 24 rfl rfl
theorem dksX4_init_7 : cX4_init.data.toList.drop 165 = dktX4_init_7 := dk_seg dksX4_init_6 24 rfl rfl
theorem dksX4_init_8 : cX4_init.data.toList.drop 188 = dktX4_init_8 := dk_seg dksX4_init_7 23 rfl rfl
theorem dksX4_init_9 : cX4_init.data.toList.drop 212 = dktX4_init_9 := dk_seg dksX4_init_8 24 rfl rfl
theorem dksX4_init_10 : cX4_init.data.toList.drop 235 = dktX4_init_10 := dk_seg dksX4_init_9 23 rfl rfl
theorem dksX4_init_11 : cX4_init.data.toList.drop 259 = dktX4_init_11 := dk_seg dksX4_init_10 24 rfl rfl
theorem dksX4_init_12 : cX4_init.data.toList.drop 283 = dktX4_init_12 := dk_seg dksX4_init_11 24 rfl rfl
theorem dksX4_init_13 : cX4_init.data.toList.drop 307 = dktX4_init_13 := dk_seg dksX4_init_12 24 rfl rfl
theorem dksX4_init_14 : cX4_init.data.toList.drop 330 = dktX4_init_14 := dk_seg dksX4_init_13 23 rfl rfl
theorem dksX4_init_15 : cX4_init.data.toList.drop 354 = dktX4_init_15 := dk_seg dksX4_init_14 24 rfl rfl
theorem dksX4_init_16 : cX4_init.data.toList.drop 378 = dktX4_init_16 := dk_seg dksX4_init_15 24 rfl rfl
theorem dksX4_init_17 : cX4_init.data.toList.drop 402 = dktX4_init_17 := dk_seg dksX4_init_16 24 rfl rfl
theorem dksX4_init_18 : cX4_init.data.toList.drop 424 = dktX4_init_18 := dk_seg dksX4_init_17 22 rfl rfl
theorem dksX4_init_19 : cX4_init.data.toList.drop 448 = dktX4_init_19 := dk_seg dksX4_init_18 24 rfl rfl
theorem dksX4_init_20 : cX4_init.data.toList.drop 472 = dktX4_init_20 := dk_seg dksX4_init_19 24 rfl rfl
theorem dX4_init_0 : decode cX4_init 0 = .ok (.aload_n 0, 1) := dk_42 (dk_at dksX4_init_0 0 rfl rfl)
theorem dX4_init_1 : decode cX4_init 1 = .ok (.invokespecial 1, 3) := dk_183 0 1 (dk_at dksX4_init_0 1 rfl rfl)
theorem dX4_init_4 : decode cX4_init 4 = .ok (.aload_n 0, 1) := dk_42 (dk_at dksX4_init_0 4 rfl rfl)
theorem dX4_init_5 : decode cX4_init 5 = .ok (.bipush 24, 2) := dk_16 24 (dk_at dksX4_init_0 5 rfl rfl)
theorem dX4_init_7 : decode cX4_init 7 = .ok (.newarray .int, 2) := dk_188_10 (dk_at dksX4_init_0 7 rfl rfl)
theorem dX4_init_9 : decode cX4_init 9 = .ok (.putfield 7, 3) := dk_181 0 7 (dk_at dksX4_init_0 9 rfl rfl)
theorem dX4_init_12 : decode cX4_init 12 = .ok (.aload_n 0, 1) := dk_42 (dk_at dksX4_init_0 12 rfl rfl)
theorem dX4_init_13 : decode cX4_init 13 = .ok (.bipush 24, 2) := dk_16 24 (dk_at dksX4_init_0 13 rfl rfl)
theorem dX4_init_15 : decode cX4_init 15 = .ok (.newarray .int, 2) := dk_188_10 (dk_at dksX4_init_0 15 rfl rfl)
theorem dX4_init_17 : decode cX4_init 17 = .ok (.putfield 13, 3) := dk_181 0 13 (dk_at dksX4_init_0 17 rfl rfl)
theorem dX4_init_20 : decode cX4_init 20 = .ok (.aload_n 0, 1) := dk_42 (dk_at dksX4_init_0 20 rfl rfl)
theorem dX4_init_21 : decode cX4_init 21 = .ok (.bipush 24, 2) := dk_16 24 (dk_at dksX4_init_0 21 rfl rfl)
theorem dX4_init_23 : decode cX4_init 23 = .ok (.newarray .int, 2) := dk_188_10 (dk_at dksX4_init_1 0 rfl rfl)
theorem dX4_init_25 : decode cX4_init 25 = .ok (.putfield 16, 3) := dk_181 0 16 (dk_at dksX4_init_1 2 rfl rfl)
theorem dX4_init_28 : decode cX4_init 28 = .ok (.aload_n 0, 1) := dk_42 (dk_at dksX4_init_1 5 rfl rfl)
theorem dX4_init_29 : decode cX4_init 29 = .ok (.bipush 24, 2) := dk_16 24 (dk_at dksX4_init_1 6 rfl rfl)
theorem dX4_init_31 : decode cX4_init 31 = .ok (.newarray .int, 2) := dk_188_10 (dk_at dksX4_init_1 8 rfl rfl)
theorem dX4_init_33 : decode cX4_init 33 = .ok (.putfield 19, 3) := dk_181 0 19 (dk_at dksX4_init_1 10 rfl rfl)
theorem dX4_init_36 : decode cX4_init 36 = .ok (.aload_n 0, 1) := dk_42 (dk_at dksX4_init_1 13 rfl rfl)
theorem dX4_init_37 : decode cX4_init 37 = .ok (.bipush 96, 2) := dk_16 96 (dk_at dksX4_init_1 14 rfl rfl)
theorem dX4_init_39 : decode cX4_init 39 = .ok (.newarray .int, 2) := dk_188_10 (dk_at dksX4_init_1 16 rfl rfl)
theorem dX4_init_41 : decode cX4_init 41 = .ok (.putfield 22, 3) := dk_181 0 22 (dk_at dksX4_init_1 18 rfl rfl)
theorem dX4_init_44 : decode cX4_init 44 = .ok (.aload_n 0, 1) := dk_42 (dk_at dksX4_init_1 21 rfl rfl)
theorem dX4_init_45 : decode cX4_init 45 = .ok (.sipush 288, 3) := dk_17 1 32 (dk_at dksX4_init_2 0 rfl rfl)
theorem dX4_init_48 : decode cX4_init 48 = .ok (.newarray .boolean, 2) := dk_188_4 (dk_at dksX4_init_2 3 rfl rfl)
theorem dX4_init_50 : decode cX4_init 50 = .ok (.putfield 25, 3) := dk_181 0 25 (dk_at dksX4_init_2 5 rfl rfl)
theorem dX4_init_53 : decode cX4_init 53 = .ok (.aload_n 0, 1) := dk_42 (dk_at dksX4_init_2 8 rfl rfl)
theorem dX4_init_54 : decode cX4_init 54 = .ok (.bipush 30, 2) := dk_16 30 (dk_at dksX4_init_2 9 rfl rfl)
theorem dX4_init_56 : decode cX4_init 56 = .ok (.newarray .int, 2) := dk_188_10 (dk_at dksX4_init_2 11 rfl rfl)
theorem dX4_init_58 : decode cX4_init 58 = .ok (.putfield 29, 3) := dk_181 0 29 (dk_at dksX4_init_2 13 rfl rfl)
theorem dX4_init_61 : decode cX4_init 61 = .ok (.aload_n 0, 1) := dk_42 (dk_at dksX4_init_2 16 rfl rfl)
theorem dX4_init_62 : decode cX4_init 62 = .ok (.bipush 30, 2) := dk_16 30 (dk_at dksX4_init_2 17 rfl rfl)
theorem dX4_init_64 : decode cX4_init 64 = .ok (.newarray .int, 2) := dk_188_10 (dk_at dksX4_init_2 19 rfl rfl)
theorem dX4_init_66 : decode cX4_init 66 = .ok (.putfield 32, 3) := dk_181 0 32 (dk_at dksX4_init_2 21 rfl rfl)
theorem dX4_init_69 : decode cX4_init 69 = .ok (.aload_n 0, 1) := dk_42 (dk_at dksX4_init_3 0 rfl rfl)
theorem dX4_init_70 : decode cX4_init 70 = .ok (.sipush 601, 3) := dk_17 2 89 (dk_at dksX4_init_3 1 rfl rfl)
theorem dX4_init_73 : decode cX4_init 73 = .ok (.newarray .int, 2) := dk_188_10 (dk_at dksX4_init_3 4 rfl rfl)
theorem dX4_init_75 : decode cX4_init 75 = .ok (.putfield 35, 3) := dk_181 0 35 (dk_at dksX4_init_3 6 rfl rfl)
theorem dX4_init_78 : decode cX4_init 78 = .ok (.aload_n 0, 1) := dk_42 (dk_at dksX4_init_3 9 rfl rfl)
theorem dX4_init_79 : decode cX4_init 79 = .ok (.sipush 601, 3) := dk_17 2 89 (dk_at dksX4_init_3 10 rfl rfl)
theorem dX4_init_82 : decode cX4_init 82 = .ok (.newarray .int, 2) := dk_188_10 (dk_at dksX4_init_3 13 rfl rfl)
theorem dX4_init_84 : decode cX4_init 84 = .ok (.putfield 38, 3) := dk_181 0 38 (dk_at dksX4_init_3 15 rfl rfl)
theorem dX4_init_87 : decode cX4_init 87 = .ok (.aload_n 0, 1) := dk_42 (dk_at dksX4_init_3 18 rfl rfl)
theorem dX4_init_88 : decode cX4_init 88 = .ok (.sipush 6010, 3) := dk_17 23 122 (dk_at dksX4_init_3 19 rfl rfl)
theorem dX4_init_91 : decode cX4_init 91 = .ok (.newarray .int, 2) := dk_188_10 (dk_at dksX4_init_3 22 rfl rfl)
theorem dX4_init_93 : decode cX4_init 93 = .ok (.putfield 41, 3) := dk_181 0 41 (dk_at dksX4_init_4 0 rfl rfl)
theorem dX4_init_96 : decode cX4_init 96 = .ok (.aload_n 0, 1) := dk_42 (dk_at dksX4_init_4 3 rfl rfl)
theorem dX4_init_97 : decode cX4_init 97 = .ok (.sipush 6010, 3) := dk_17 23 122 (dk_at dksX4_init_4 4 rfl rfl)
theorem dX4_init_100 : decode cX4_init 100 = .ok (.newarray .int, 2) := dk_188_10 (dk_at dksX4_init_4 7 rfl rfl)
theorem dX4_init_102 : decode cX4_init 102 = .ok (.putfield 44, 3) := dk_181 0 44 (dk_at dksX4_init_4 9 rfl rfl)
theorem dX4_init_105 : decode cX4_init 105 = .ok (.aload_n 0, 1) := dk_42 (dk_at dksX4_init_4 12 rfl rfl)
theorem dX4_init_106 : decode cX4_init 106 = .ok (.sipush 6010, 3) := dk_17 23 122 (dk_at dksX4_init_4 13 rfl rfl)
theorem dX4_init_109 : decode cX4_init 109 = .ok (.newarray .int, 2) := dk_188_10 (dk_at dksX4_init_4 16 rfl rfl)
theorem dX4_init_111 : decode cX4_init 111 = .ok (.putfield 47, 3) := dk_181 0 47 (dk_at dksX4_init_4 18 rfl rfl)
theorem dX4_init_114 : decode cX4_init 114 = .ok (.aload_n 0, 1) := dk_42 (dk_at dksX4_init_4 21 rfl rfl)
theorem dX4_init_115 : decode cX4_init 115 = .ok (.bipush (-9), 2) := dk_16 247 (dk_at dksX4_init_4 22 rfl rfl)
theorem dX4_init_117 : decode cX4_init 117 = .ok (.putfield 50, 3) := dk_181 0 50 (dk_at dksX4_init_5 0 rfl rfl)
theorem dX4_init_120 : decode cX4_init 120 = .ok (.aload_n 0, 1) := dk_42 (dk_at dksX4_init_5 3 rfl rfl)
theorem dX4_init_121 : decode cX4_init 121 = .ok (.bipush 8, 2) := dk_16 8 (dk_at dksX4_init_5 4 rfl rfl)
theorem dX4_init_123 : decode cX4_init 123 = .ok (.newarray .int, 2) := dk_188_10 (dk_at dksX4_init_5 6 rfl rfl)
theorem dX4_init_125 : decode cX4_init 125 = .ok (.putfield 54, 3) := dk_181 0 54 (dk_at dksX4_init_5 8 rfl rfl)
theorem dX4_init_128 : decode cX4_init 128 = .ok (.aload_n 0, 1) := dk_42 (dk_at dksX4_init_5 11 rfl rfl)
theorem dX4_init_129 : decode cX4_init 129 = .ok (.bipush 6, 2) := dk_16 6 (dk_at dksX4_init_5 12 rfl rfl)
theorem dX4_init_131 : decode cX4_init 131 = .ok (.newarray .int, 2) := dk_188_10 (dk_at dksX4_init_5 14 rfl rfl)
theorem dX4_init_133 : decode cX4_init 133 = .ok (.putfield 57, 3) := dk_181 0 57 (dk_at dksX4_init_5 16 rfl rfl)
theorem dX4_init_136 : decode cX4_init 136 = .ok (.aload_n 0, 1) := dk_42 (dk_at dksX4_init_5 19 rfl rfl)
theorem dX4_init_137 : decode cX4_init 137 = .ok (.bipush 6, 2) := dk_16 6 (dk_at dksX4_init_5 20 rfl rfl)
theorem dX4_init_139 : decode cX4_init 139 = .ok (.newarray .int, 2) := dk_188_10 (dk_at dksX4_init_5 22 rfl rfl)
theorem dX4_init_141 : decode cX4_init 141 = .ok (.putfield 60, 3) := dk_181 0 60 (dk_at dksX4_init_6 0 rfl rfl)
theorem dX4_init_144 : decode cX4_init 144 = .ok (.aload_n 0, 1) := dk_42 (dk_at dksX4_init_6 3 rfl rfl)
theorem dX4_init_145 : decode cX4_init 145 = .ok (.iconst 4, 1) := dk_7 (dk_at dksX4_init_6 4 rfl rfl)
theorem dX4_init_146 : decode cX4_init 146 = .ok (.newarray .int, 2) := dk_188_10 (dk_at dksX4_init_6 5 rfl rfl)
theorem dX4_init_148 : decode cX4_init 148 = .ok (.putfield 63, 3) := dk_181 0 63 (dk_at dksX4_init_6 7 rfl rfl)
theorem dX4_init_151 : decode cX4_init 151 = .ok (.aload_n 0, 1) := dk_42 (dk_at dksX4_init_6 10 rfl rfl)
theorem dX4_init_152 : decode cX4_init 152 = .ok (.iconst 4, 1) := dk_7 (dk_at dksX4_init_6 11 rfl rfl)
theorem dX4_init_153 : decode cX4_init 153 = .ok (.newarray .int, 2) := dk_188_10 (dk_at dksX4_init_6 12 rfl rfl)
theorem dX4_init_155 : decode cX4_init 155 = .ok (.putfield 66, 3) := dk_181 0 66 (dk_at dksX4_init_6 14 rfl rfl)
theorem dX4_init_158 : decode cX4_init 158 = .ok (.aload_n 0, 1) := dk_42 (dk_at dksX4_init_6 17 rfl rfl)
theorem dX4_init_159 : decode cX4_init 159 = .ok (.iconst 4, 1) := dk_7 (dk_at dksX4_init_6 18 rfl rfl)
theorem dX4_init_160 : decode cX4_init 160 = .ok (.newarray .boolean, 2) := dk_188_4 (dk_at dksX4_init_6 19 rfl rfl)
theorem dX4_init_162 : decode cX4_init 162 = .ok (.putfield 69, 3) := dk_181 0 69 (dk_at dksX4_init_6 21 rfl rfl)
theorem dX4_init_165 : decode cX4_init 165 = .ok (.aload_n 0, 1) := dk_42 (dk_at dksX4_init_7 0 rfl rfl)
theorem dX4_init_166 : decode cX4_init 166 = .ok (.bipush 24, 2) := dk_16 24 (dk_at dksX4_init_7 1 rfl rfl)
theorem dX4_init_168 : decode cX4_init 168 = .ok (.newarray .int, 2) := dk_188_10 (dk_at dksX4_init_7 3 rfl rfl)
theorem dX4_init_170 : decode cX4_init 170 = .ok (.putfield 72, 3) := dk_181 0 72 (dk_at dksX4_init_7 5 rfl rfl)
theorem dX4_init_173 : decode cX4_init 173 = .ok (.aload_n 0, 1) := dk_42 (dk_at dksX4_init_7 8 rfl rfl)
theorem dX4_init_174 : decode cX4_init 174 = .ok (.sipush 576, 3) := dk_17 2 64 (dk_at dksX4_init_7 9 rfl rfl)
theorem dX4_init_177 : decode cX4_init 177 = .ok (.newarray .int, 2) := dk_188_10 (dk_at dksX4_init_7 12 rfl rfl)
theorem dX4_init_179 : decode cX4_init 179 = .ok (.putfield 75, 3) := dk_181 0 75 (dk_at dksX4_init_7 14 rfl rfl)
theorem dX4_init_182 : decode cX4_init 182 = .ok (.aload_n 0, 1) := dk_42 (dk_at dksX4_init_7 17 rfl rfl)
theorem dX4_init_183 : decode cX4_init 183 = .ok (.sipush 576, 3) := dk_17 2 64 (dk_at dksX4_init_7 18 rfl rfl)
theorem dX4_init_186 : decode cX4_init 186 = .ok (.newarray .int, 2) := dk_188_10 (dk_at dksX4_init_7 21 rfl rfl)
theorem dX4_init_188 : decode cX4_init 188 = .ok (.putfield 78, 3) := dk_181 0 78 (dk_at dksX4_init_8 0 rfl rfl)
theorem dX4_init_191 : decode cX4_init 191 = .ok (.aload_n 0, 1) := dk_42 (dk_at dksX4_init_8 3 rfl rfl)
theorem dX4_init_192 : decode cX4_init 192 = .ok (.sipush 288, 3) := dk_17 1 32 (dk_at dksX4_init_8 4 rfl rfl)
theorem dX4_init_195 : decode cX4_init 195 = .ok (.newarray .int, 2) := dk_188_10 (dk_at dksX4_init_8 7 rfl rfl)
theorem dX4_init_197 : decode cX4_init 197 = .ok (.putfield 81, 3) := dk_181 0 81 (dk_at dksX4_init_8 9 rfl rfl)
theorem dX4_init_200 : decode cX4_init 200 = .ok (.aload_n 0, 1) := dk_42 (dk_at dksX4_init_8 12 rfl rfl)
theorem dX4_init_201 : decode cX4_init 201 = .ok (.sipush 13824, 3) := dk_17 54 0 (dk_at dksX4_init_8 13 rfl rfl)
theorem dX4_init_204 : decode cX4_init 204 = .ok (.newarray .int, 2) := dk_188_10 (dk_at dksX4_init_8 16 rfl rfl)
theorem dX4_init_206 : decode cX4_init 206 = .ok (.putfield 84, 3) := dk_181 0 84 (dk_at dksX4_init_8 18 rfl rfl)
theorem dX4_init_209 : decode cX4_init 209 = .ok (.aload_n 0, 1) := dk_42 (dk_at dksX4_init_8 21 rfl rfl)
theorem dX4_init_210 : decode cX4_init 210 = .ok (.bipush 96, 2) := dk_16 96 (dk_at dksX4_init_8 22 rfl rfl)
theorem dX4_init_212 : decode cX4_init 212 = .ok (.newarray .int, 2) := dk_188_10 (dk_at dksX4_init_9 0 rfl rfl)
theorem dX4_init_214 : decode cX4_init 214 = .ok (.putfield 87, 3) := dk_181 0 87 (dk_at dksX4_init_9 2 rfl rfl)
theorem dX4_init_217 : decode cX4_init 217 = .ok (.aload_n 0, 1) := dk_42 (dk_at dksX4_init_9 5 rfl rfl)
theorem dX4_init_218 : decode cX4_init 218 = .ok (.bipush 96, 2) := dk_16 96 (dk_at dksX4_init_9 6 rfl rfl)
theorem dX4_init_220 : decode cX4_init 220 = .ok (.newarray .int, 2) := dk_188_10 (dk_at dksX4_init_9 8 rfl rfl)
theorem dX4_init_222 : decode cX4_init 222 = .ok (.putfield 90, 3) := dk_181 0 90 (dk_at dksX4_init_9 10 rfl rfl)
theorem dX4_init_225 : decode cX4_init 225 = .ok (.aload_n 0, 1) := dk_42 (dk_at dksX4_init_9 13 rfl rfl)
theorem dX4_init_226 : decode cX4_init 226 = .ok (.sipush 576, 3) := dk_17 2 64 (dk_at dksX4_init_9 14 rfl rfl)
theorem dX4_init_229 : decode cX4_init 229 = .ok (.newarray .int, 2) := dk_188_10 (dk_at dksX4_init_9 17 rfl rfl)
theorem dX4_init_231 : decode cX4_init 231 = .ok (.putfield 93, 3) := dk_181 0 93 (dk_at dksX4_init_9 19 rfl rfl)
theorem dX4_init_234 : decode cX4_init 234 = .ok (.aload_n 0, 1) := dk_42 (dk_at dksX4_init_9 22 rfl rfl)
theorem dX4_init_235 : decode cX4_init 235 = .ok (.bipush 24, 2) := dk_16 24 (dk_at dksX4_init_10 0 rfl rfl)
theorem dX4_init_237 : decode cX4_init 237 = .ok (.newarray .int, 2) := dk_188_10 (dk_at dksX4_init_10 2 rfl rfl)
theorem dX4_init_239 : decode cX4_init 239 = .ok (.putfield 96, 3) := dk_181 0 96 (dk_at dksX4_init_10 4 rfl rfl)
theorem dX4_init_242 : decode cX4_init 242 = .ok (.aload_n 0, 1) := dk_42 (dk_at dksX4_init_10 7 rfl rfl)
theorem dX4_init_243 : decode cX4_init 243 = .ok (.bipush (-9), 2) := dk_16 247 (dk_at dksX4_init_10 8 rfl rfl)
theorem dX4_init_245 : decode cX4_init 245 = .ok (.putfield 99, 3) := dk_181 0 99 (dk_at dksX4_init_10 10 rfl rfl)
theorem dX4_init_248 : decode cX4_init 248 = .ok (.aload_n 0, 1) := dk_42 (dk_at dksX4_init_10 13 rfl rfl)
theorem dX4_init_249 : decode cX4_init 249 = .ok (.bipush (-9), 2) := dk_16 247 (dk_at dksX4_init_10 14 rfl rfl)
theorem dX4_init_251 : decode cX4_init 251 = .ok (.putfield 102, 3) := dk_181 0 102 (dk_at dksX4_init_10 16 rfl rfl)
theorem dX4_init_254 : decode cX4_init 254 = .ok (.aload_n 0, 1) := dk_42 (dk_at dksX4_init_10 19 rfl rfl)
theorem dX4_init_255 : decode cX4_init 255 = .ok (.bipush 24, 2) := dk_16 24 (dk_at dksX4_init_10 20 rfl rfl)
theorem dX4_init_257 : decode cX4_init 257 = .ok (.newarray .boolean, 2) := dk_188_4 (dk_at dksX4_init_10 22 rfl rfl)
theorem dX4_init_259 : decode cX4_init 259 = .ok (.putfield 105, 3) := dk_181 0 105 (dk_at dksX4_init_11 0 rfl rfl)
theorem dX4_init_262 : decode cX4_init 262 = .ok (.aload_n 0, 1) := dk_42 (dk_at dksX4_init_11 3 rfl rfl)
theorem dX4_init_263 : decode cX4_init 263 = .ok (.bipush 24, 2) := dk_16 24 (dk_at dksX4_init_11 4 rfl rfl)
theorem dX4_init_265 : decode cX4_init 265 = .ok (.newarray .boolean, 2) := dk_188_4 (dk_at dksX4_init_11 6 rfl rfl)
theorem dX4_init_267 : decode cX4_init 267 = .ok (.putfield 108, 3) := dk_181 0 108 (dk_at dksX4_init_11 8 rfl rfl)
theorem dX4_init_270 : decode cX4_init 270 = .ok (.aload_n 0, 1) := dk_42 (dk_at dksX4_init_11 11 rfl rfl)
theorem dX4_init_271 : decode cX4_init 271 = .ok (.bipush 26, 2) := dk_16 26 (dk_at dksX4_init_11 12 rfl rfl)
theorem dX4_init_273 : decode cX4_init 273 = .ok (.newarray .int, 2) := dk_188_10 (dk_at dksX4_init_11 14 rfl rfl)
theorem dX4_init_275 : decode cX4_init 275 = .ok (.putfield 111, 3) := dk_181 0 111 (dk_at dksX4_init_11 16 rfl rfl)
theorem dX4_init_278 : decode cX4_init 278 = .ok (.aload_n 0, 1) := dk_42 (dk_at dksX4_init_11 19 rfl rfl)
theorem dX4_init_279 : decode cX4_init 279 = .ok (.bipush 101, 2) := dk_16 101 (dk_at dksX4_init_11 20 rfl rfl)
theorem dX4_init_281 : decode cX4_init 281 = .ok (.newarray .int, 2) := dk_188_10 (dk_at dksX4_init_11 22 rfl rfl)
theorem dX4_init_283 : decode cX4_init 283 = .ok (.putfield 114, 3) := dk_181 0 114 (dk_at dksX4_init_12 0 rfl rfl)
theorem dX4_init_286 : decode cX4_init 286 = .ok (.aload_n 0, 1) := dk_42 (dk_at dksX4_init_12 3 rfl rfl)
theorem dX4_init_287 : decode cX4_init 287 = .ok (.sipush 9696, 3) := dk_17 37 224 (dk_at dksX4_init_12 4 rfl rfl)
theorem dX4_init_290 : decode cX4_init 290 = .ok (.newarray .long, 2) := dk_188_11 (dk_at dksX4_init_12 7 rfl rfl)
theorem dX4_init_292 : decode cX4_init 292 = .ok (.putfield 117, 3) := dk_181 0 117 (dk_at dksX4_init_12 9 rfl rfl)
theorem dX4_init_295 : decode cX4_init 295 = .ok (.aload_n 0, 1) := dk_42 (dk_at dksX4_init_12 12 rfl rfl)
theorem dX4_init_296 : decode cX4_init 296 = .ok (.sipush 4848, 3) := dk_17 18 240 (dk_at dksX4_init_12 13 rfl rfl)
theorem dX4_init_299 : decode cX4_init 299 = .ok (.newarray .int, 2) := dk_188_10 (dk_at dksX4_init_12 16 rfl rfl)
theorem dX4_init_301 : decode cX4_init 301 = .ok (.putfield 121, 3) := dk_181 0 121 (dk_at dksX4_init_12 18 rfl rfl)
theorem dX4_init_304 : decode cX4_init 304 = .ok (.aload_n 0, 1) := dk_42 (dk_at dksX4_init_12 21 rfl rfl)
theorem dX4_init_305 : decode cX4_init 305 = .ok (.ldc 124, 2) := dk_18 124 (dk_at dksX4_init_12 22 rfl rfl)
theorem dX4_init_307 : decode cX4_init 307 = .ok (.newarray .long, 2) := dk_188_11 (dk_at dksX4_init_13 0 rfl rfl)
theorem dX4_init_309 : decode cX4_init 309 = .ok (.putfield 125, 3) := dk_181 0 125 (dk_at dksX4_init_13 2 rfl rfl)
theorem dX4_init_312 : decode cX4_init 312 = .ok (.aload_n 0, 1) := dk_42 (dk_at dksX4_init_13 5 rfl rfl)
theorem dX4_init_313 : decode cX4_init 313 = .ok (.sipush 4848, 3) := dk_17 18 240 (dk_at dksX4_init_13 6 rfl rfl)
theorem dX4_init_316 : decode cX4_init 316 = .ok (.newarray .int, 2) := dk_188_10 (dk_at dksX4_init_13 9 rfl rfl)
theorem dX4_init_318 : decode cX4_init 318 = .ok (.putfield 128, 3) := dk_181 0 128 (dk_at dksX4_init_13 11 rfl rfl)
theorem dX4_init_321 : decode cX4_init 321 = .ok (.aload_n 0, 1) := dk_42 (dk_at dksX4_init_13 14 rfl rfl)
theorem dX4_init_322 : decode cX4_init 322 = .ok (.bipush 8, 2) := dk_16 8 (dk_at dksX4_init_13 15 rfl rfl)
theorem dX4_init_324 : decode cX4_init 324 = .ok (.newarray .long, 2) := dk_188_11 (dk_at dksX4_init_13 17 rfl rfl)
theorem dX4_init_326 : decode cX4_init 326 = .ok (.putfield 131, 3) := dk_181 0 131 (dk_at dksX4_init_13 19 rfl rfl)
theorem dX4_init_329 : decode cX4_init 329 = .ok (.aload_n 0, 1) := dk_42 (dk_at dksX4_init_13 22 rfl rfl)
theorem dX4_init_330 : decode cX4_init 330 = .ok (.bipush 100, 2) := dk_16 100 (dk_at dksX4_init_14 0 rfl rfl)
theorem dX4_init_332 : decode cX4_init 332 = .ok (.newarray .long, 2) := dk_188_11 (dk_at dksX4_init_14 2 rfl rfl)
theorem dX4_init_334 : decode cX4_init 334 = .ok (.putfield 134, 3) := dk_181 0 134 (dk_at dksX4_init_14 4 rfl rfl)
theorem dX4_init_337 : decode cX4_init 337 = .ok (.aload_n 0, 1) := dk_42 (dk_at dksX4_init_14 7 rfl rfl)
theorem dX4_init_338 : decode cX4_init 338 = .ok (.bipush 40, 2) := dk_16 40 (dk_at dksX4_init_14 8 rfl rfl)
theorem dX4_init_340 : decode cX4_init 340 = .ok (.newarray .int, 2) := dk_188_10 (dk_at dksX4_init_14 10 rfl rfl)
theorem dX4_init_342 : decode cX4_init 342 = .ok (.putfield 137, 3) := dk_181 0 137 (dk_at dksX4_init_14 12 rfl rfl)
theorem dX4_init_345 : decode cX4_init 345 = .ok (.aload_n 0, 1) := dk_42 (dk_at dksX4_init_14 15 rfl rfl)
theorem dX4_init_346 : decode cX4_init 346 = .ok (.bipush 40, 2) := dk_16 40 (dk_at dksX4_init_14 16 rfl rfl)
theorem dX4_init_348 : decode cX4_init 348 = .ok (.newarray .int, 2) := dk_188_10 (dk_at dksX4_init_14 18 rfl rfl)
theorem dX4_init_350 : decode cX4_init 350 = .ok (.putfield 140, 3) := dk_181 0 140 (dk_at dksX4_init_14 20 rfl rfl)
theorem dX4_init_353 : decode cX4_init 353 = .ok (.aload_n 0, 1) := dk_42 (dk_at dksX4_init_14 23 rfl rfl)
theorem dX4_init_354 : decode cX4_init 354 = .ok (.bipush 40, 2) := dk_16 40 (dk_at dksX4_init_15 0 rfl rfl)
theorem dX4_init_356 : decode cX4_init 356 = .ok (.newarray .int, 2) := dk_188_10 (dk_at dksX4_init_15 2 rfl rfl)
theorem dX4_init_358 : decode cX4_init 358 = .ok (.putfield 143, 3) := dk_181 0 143 (dk_at dksX4_init_15 4 rfl rfl)
theorem dX4_init_361 : decode cX4_init 361 = .ok (.aload_n 0, 1) := dk_42 (dk_at dksX4_init_15 7 rfl rfl)
theorem dX4_init_362 : decode cX4_init 362 = .ok (.bipush 40, 2) := dk_16 40 (dk_at dksX4_init_15 8 rfl rfl)
theorem dX4_init_364 : decode cX4_init 364 = .ok (.newarray .int, 2) := dk_188_10 (dk_at dksX4_init_15 10 rfl rfl)
theorem dX4_init_366 : decode cX4_init 366 = .ok (.putfield 146, 3) := dk_181 0 146 (dk_at dksX4_init_15 12 rfl rfl)
theorem dX4_init_369 : decode cX4_init 369 = .ok (.aload_n 0, 1) := dk_42 (dk_at dksX4_init_15 15 rfl rfl)
theorem dX4_init_370 : decode cX4_init 370 = .ok (.bipush 40, 2) := dk_16 40 (dk_at dksX4_init_15 16 rfl rfl)
theorem dX4_init_372 : decode cX4_init 372 = .ok (.newarray .int, 2) := dk_188_10 (dk_at dksX4_init_15 18 rfl rfl)
theorem dX4_init_374 : decode cX4_init 374 = .ok (.putfield 149, 3) := dk_181 0 149 (dk_at dksX4_init_15 20 rfl rfl)
theorem dX4_init_377 : decode cX4_init 377 = .ok (.aload_n 0, 1) := dk_42 (dk_at dksX4_init_15 23 rfl rfl)
theorem dX4_init_378 : decode cX4_init 378 = .ok (.bipush 40, 2) := dk_16 40 (dk_at dksX4_init_16 0 rfl rfl)
theorem dX4_init_380 : decode cX4_init 380 = .ok (.newarray .int, 2) := dk_188_10 (dk_at dksX4_init_16 2 rfl rfl)
theorem dX4_init_382 : decode cX4_init 382 = .ok (.putfield 152, 3) := dk_181 0 152 (dk_at dksX4_init_16 4 rfl rfl)
theorem dX4_init_385 : decode cX4_init 385 = .ok (.aload_n 0, 1) := dk_42 (dk_at dksX4_init_16 7 rfl rfl)
theorem dX4_init_386 : decode cX4_init 386 = .ok (.bipush 40, 2) := dk_16 40 (dk_at dksX4_init_16 8 rfl rfl)
theorem dX4_init_388 : decode cX4_init 388 = .ok (.newarray .long, 2) := dk_188_11 (dk_at dksX4_init_16 10 rfl rfl)
theorem dX4_init_390 : decode cX4_init 390 = .ok (.putfield 155, 3) := dk_181 0 155 (dk_at dksX4_init_16 12 rfl rfl)
theorem dX4_init_393 : decode cX4_init 393 = .ok (.aload_n 0, 1) := dk_42 (dk_at dksX4_init_16 15 rfl rfl)
theorem dX4_init_394 : decode cX4_init 394 = .ok (.bipush 40, 2) := dk_16 40 (dk_at dksX4_init_16 16 rfl rfl)
theorem dX4_init_396 : decode cX4_init 396 = .ok (.newarray .long, 2) := dk_188_11 (dk_at dksX4_init_16 18 rfl rfl)
theorem dX4_init_398 : decode cX4_init 398 = .ok (.putfield 158, 3) := dk_181 0 158 (dk_at dksX4_init_16 20 rfl rfl)
theorem dX4_init_401 : decode cX4_init 401 = .ok (.aload_n 0, 1) := dk_42 (dk_at dksX4_init_16 23 rfl rfl)
theorem dX4_init_402 : decode cX4_init 402 = .ok (.bipush 40, 2) := dk_16 40 (dk_at dksX4_init_17 0 rfl rfl)
theorem dX4_init_404 : decode cX4_init 404 = .ok (.newarray .boolean, 2) := dk_188_4 (dk_at dksX4_init_17 2 rfl rfl)
theorem dX4_init_406 : decode cX4_init 406 = .ok (.putfield 161, 3) := dk_181 0 161 (dk_at dksX4_init_17 4 rfl rfl)
theorem dX4_init_409 : decode cX4_init 409 = .ok (.aload_n 0, 1) := dk_42 (dk_at dksX4_init_17 7 rfl rfl)
theorem dX4_init_410 : decode cX4_init 410 = .ok (.bipush (-9), 2) := dk_16 247 (dk_at dksX4_init_17 8 rfl rfl)
theorem dX4_init_412 : decode cX4_init 412 = .ok (.putfield 164, 3) := dk_181 0 164 (dk_at dksX4_init_17 10 rfl rfl)
theorem dX4_init_415 : decode cX4_init 415 = .ok (.aload_n 0, 1) := dk_42 (dk_at dksX4_init_17 13 rfl rfl)
theorem dX4_init_416 : decode cX4_init 416 = .ok (.bipush (-9), 2) := dk_16 247 (dk_at dksX4_init_17 14 rfl rfl)
theorem dX4_init_418 : decode cX4_init 418 = .ok (.putfield 167, 3) := dk_181 0 167 (dk_at dksX4_init_17 16 rfl rfl)
theorem dX4_init_421 : decode cX4_init 421 = .ok (.aload_n 0, 1) := dk_42 (dk_at dksX4_init_17 19 rfl rfl)
theorem dX4_init_422 : decode cX4_init 422 = .ok (.bipush (-9), 2) := dk_16 247 (dk_at dksX4_init_17 20 rfl rfl)
theorem dX4_init_424 : decode cX4_init 424 = .ok (.putfield 170, 3) := dk_181 0 170 (dk_at dksX4_init_18 0 rfl rfl)
theorem dX4_init_427 : decode cX4_init 427 = .ok (.aload_n 0, 1) := dk_42 (dk_at dksX4_init_18 3 rfl rfl)
theorem dX4_init_428 : decode cX4_init 428 = .ok (.bipush 60, 2) := dk_16 60 (dk_at dksX4_init_18 4 rfl rfl)
theorem dX4_init_430 : decode cX4_init 430 = .ok (.newarray .int, 2) := dk_188_10 (dk_at dksX4_init_18 6 rfl rfl)
theorem dX4_init_432 : decode cX4_init 432 = .ok (.putfield 173, 3) := dk_181 0 173 (dk_at dksX4_init_18 8 rfl rfl)
theorem dX4_init_435 : decode cX4_init 435 = .ok (.aload_n 0, 1) := dk_42 (dk_at dksX4_init_18 11 rfl rfl)
theorem dX4_init_436 : decode cX4_init 436 = .ok (.bipush 60, 2) := dk_16 60 (dk_at dksX4_init_18 12 rfl rfl)
theorem dX4_init_438 : decode cX4_init 438 = .ok (.newarray .int, 2) := dk_188_10 (dk_at dksX4_init_18 14 rfl rfl)
theorem dX4_init_440 : decode cX4_init 440 = .ok (.putfield 176, 3) := dk_181 0 176 (dk_at dksX4_init_18 16 rfl rfl)
theorem dX4_init_443 : decode cX4_init 443 = .ok (.aload_n 0, 1) := dk_42 (dk_at dksX4_init_18 19 rfl rfl)
theorem dX4_init_444 : decode cX4_init 444 = .ok (.bipush 60, 2) := dk_16 60 (dk_at dksX4_init_18 20 rfl rfl)
theorem dX4_init_446 : decode cX4_init 446 = .ok (.newarray .int, 2) := dk_188_10 (dk_at dksX4_init_18 22 rfl rfl)
theorem dX4_init_448 : decode cX4_init 448 = .ok (.putfield 179, 3) := dk_181 0 179 (dk_at dksX4_init_19 0 rfl rfl)
theorem dX4_init_451 : decode cX4_init 451 = .ok (.aload_n 0, 1) := dk_42 (dk_at dksX4_init_19 3 rfl rfl)
theorem dX4_init_452 : decode cX4_init 452 = .ok (.bipush 60, 2) := dk_16 60 (dk_at dksX4_init_19 4 rfl rfl)
theorem dX4_init_454 : decode cX4_init 454 = .ok (.newarray .int, 2) := dk_188_10 (dk_at dksX4_init_19 6 rfl rfl)
theorem dX4_init_456 : decode cX4_init 456 = .ok (.putfield 182, 3) := dk_181 0 182 (dk_at dksX4_init_19 8 rfl rfl)
theorem dX4_init_459 : decode cX4_init 459 = .ok (.iconst 0, 1) := dk_3 (dk_at dksX4_init_19 11 rfl rfl)
theorem dX4_init_460 : decode cX4_init 460 = .ok (.istore_n 1, 1) := dk_60 (dk_at dksX4_init_19 12 rfl rfl)
theorem dX4_init_461 : decode cX4_init 461 = .ok (.iload_n 1, 1) := dk_27 (dk_at dksX4_init_19 13 rfl rfl)
theorem dX4_init_462 : decode cX4_init 462 = .ok (.sipush 601, 3) := dk_17 2 89 (dk_at dksX4_init_19 14 rfl rfl)
theorem dX4_init_465 : decode cX4_init 465 = .ok (.if_icmp .ge 17, 3) := dk_162 0 17 (dk_at dksX4_init_19 17 rfl rfl)
theorem dX4_init_468 : decode cX4_init 468 = .ok (.aload_n 0, 1) := dk_42 (dk_at dksX4_init_19 20 rfl rfl)
theorem dX4_init_469 : decode cX4_init 469 = .ok (.getfield 35, 3) := dk_180 0 35 (dk_at dksX4_init_19 21 rfl rfl)
theorem dX4_init_472 : decode cX4_init 472 = .ok (.iload_n 1, 1) := dk_27 (dk_at dksX4_init_20 0 rfl rfl)
theorem dX4_init_473 : decode cX4_init 473 = .ok (.bipush (-9), 2) := dk_16 247 (dk_at dksX4_init_20 1 rfl rfl)
theorem dX4_init_475 : decode cX4_init 475 = .ok (.iastore, 1) := dk_79 (dk_at dksX4_init_20 3 rfl rfl)
theorem dX4_init_476 : decode cX4_init 476 = .ok (.iinc 1 1, 3) := dk_132 1 1 (dk_at dksX4_init_20 4 rfl rfl)
theorem dX4_init_479 : decode cX4_init 479 = .ok (.goto (-18), 3) := dk_167 255 238 (dk_at dksX4_init_20 7 rfl rfl)
theorem dX4_init_482 : decode cX4_init 482 = .ok (.return_, 1) := dk_177 (dk_at dksX4_init_20 10 rfl rfl)
abbrev cX4_part : ByteArray := prog_32_method_7_code
def yX4_part : MethodName := ⟨RX4, "part", "(III)I"⟩
def dkwX4_part_3 : List UInt8 := [79, 42, 89, 180, 0, 185, 4, 96, 181, 0, 185, 42, 180, 0, 185, 4, 100, 172]
abbrev dktX4_part_3 : List UInt8 := dkwX4_part_3 ++ []
def dkwX4_part_2 : List UInt8 := [180, 0, 185, 27, 79, 42, 180, 0, 13, 42, 180, 0, 185, 28, 79, 42, 180, 0, 16, 42, 180, 0, 185, 29]
abbrev dktX4_part_2 : List UInt8 := dkwX4_part_2 ++ dktX4_part_3
def dkwX4_part_1 : List UInt8 := [154, 0, 5, 2, 172, 42, 180, 0, 185, 16, 24, 160, 0, 6, 16, 254, 172, 42, 180, 0, 7, 42]
abbrev dktX4_part_1 : List UInt8 := dkwX4_part_1 ++ dktX4_part_2
def dkwX4_part_0 : List UInt8 := [27, 3, 7, 184, 0, 188, 153, 0, 21, 28, 3, 5, 184, 0, 188, 153, 0, 12, 29, 3, 5, 184, 0, 188]
abbrev dktX4_part_0 : List UInt8 := dkwX4_part_0 ++ dktX4_part_1
theorem dksX4_part_0 : cX4_part.data.toList.drop 0 = dktX4_part_0 := by decide +kernel
theorem dksX4_part_1 : cX4_part.data.toList.drop 24 = dktX4_part_1 := dk_seg dksX4_part_0 24 rfl rfl
theorem dksX4_part_2 : cX4_part.data.toList.drop 46 = dktX4_part_2 := dk_seg dksX4_part_1 22 rfl rfl
theorem dksX4_part_3 : cX4_part.data.toList.drop 70 = dktX4_part_3 := dk_seg dksX4_part_2 24 rfl rfl
theorem dX4_part_0 : decode cX4_part 0 = .ok (.iload_n 1, 1) := dk_27 (dk_at dksX4_part_0 0 rfl rfl)
theorem dX4_part_1 : decode cX4_part 1 = .ok (.iconst 0, 1) := dk_3 (dk_at dksX4_part_0 1 rfl rfl)
theorem dX4_part_2 : decode cX4_part 2 = .ok (.iconst 4, 1) := dk_7 (dk_at dksX4_part_0 2 rfl rfl)
theorem dX4_part_3 : decode cX4_part 3 = .ok (.invokestatic 188, 3) := dk_184 0 188 (dk_at dksX4_part_0 3 rfl rfl)
theorem dX4_part_6 : decode cX4_part 6 = .ok (.ifCond .eq 21, 3) := dk_153 0 21 (dk_at dksX4_part_0 6 rfl rfl)
theorem dX4_part_9 : decode cX4_part 9 = .ok (.iload_n 2, 1) := dk_28 (dk_at dksX4_part_0 9 rfl rfl)
theorem dX4_part_10 : decode cX4_part 10 = .ok (.iconst 0, 1) := dk_3 (dk_at dksX4_part_0 10 rfl rfl)
theorem dX4_part_11 : decode cX4_part 11 = .ok (.iconst 2, 1) := dk_5 (dk_at dksX4_part_0 11 rfl rfl)
theorem dX4_part_12 : decode cX4_part 12 = .ok (.invokestatic 188, 3) := dk_184 0 188 (dk_at dksX4_part_0 12 rfl rfl)
theorem dX4_part_15 : decode cX4_part 15 = .ok (.ifCond .eq 12, 3) := dk_153 0 12 (dk_at dksX4_part_0 15 rfl rfl)
theorem dX4_part_18 : decode cX4_part 18 = .ok (.iload_n 3, 1) := dk_29 (dk_at dksX4_part_0 18 rfl rfl)
theorem dX4_part_19 : decode cX4_part 19 = .ok (.iconst 0, 1) := dk_3 (dk_at dksX4_part_0 19 rfl rfl)
theorem dX4_part_20 : decode cX4_part 20 = .ok (.iconst 2, 1) := dk_5 (dk_at dksX4_part_0 20 rfl rfl)
theorem dX4_part_21 : decode cX4_part 21 = .ok (.invokestatic 188, 3) := dk_184 0 188 (dk_at dksX4_part_0 21 rfl rfl)
theorem dX4_part_24 : decode cX4_part 24 = .ok (.ifCond .ne 5, 3) := dk_154 0 5 (dk_at dksX4_part_1 0 rfl rfl)
theorem dX4_part_27 : decode cX4_part 27 = .ok (.iconst (-1), 1) := dk_2 (dk_at dksX4_part_1 3 rfl rfl)
theorem dX4_part_28 : decode cX4_part 28 = .ok (.ireturn, 1) := dk_172 (dk_at dksX4_part_1 4 rfl rfl)
theorem dX4_part_29 : decode cX4_part 29 = .ok (.aload_n 0, 1) := dk_42 (dk_at dksX4_part_1 5 rfl rfl)
theorem dX4_part_30 : decode cX4_part 30 = .ok (.getfield 185, 3) := dk_180 0 185 (dk_at dksX4_part_1 6 rfl rfl)
theorem dX4_part_33 : decode cX4_part 33 = .ok (.bipush 24, 2) := dk_16 24 (dk_at dksX4_part_1 9 rfl rfl)
theorem dX4_part_35 : decode cX4_part 35 = .ok (.if_icmp .ne 6, 3) := dk_160 0 6 (dk_at dksX4_part_1 11 rfl rfl)
theorem dX4_part_38 : decode cX4_part 38 = .ok (.bipush (-2), 2) := dk_16 254 (dk_at dksX4_part_1 14 rfl rfl)
theorem dX4_part_40 : decode cX4_part 40 = .ok (.ireturn, 1) := dk_172 (dk_at dksX4_part_1 16 rfl rfl)
theorem dX4_part_41 : decode cX4_part 41 = .ok (.aload_n 0, 1) := dk_42 (dk_at dksX4_part_1 17 rfl rfl)
theorem dX4_part_42 : decode cX4_part 42 = .ok (.getfield 7, 3) := dk_180 0 7 (dk_at dksX4_part_1 18 rfl rfl)
theorem dX4_part_45 : decode cX4_part 45 = .ok (.aload_n 0, 1) := dk_42 (dk_at dksX4_part_1 21 rfl rfl)
theorem dX4_part_46 : decode cX4_part 46 = .ok (.getfield 185, 3) := dk_180 0 185 (dk_at dksX4_part_2 0 rfl rfl)
theorem dX4_part_49 : decode cX4_part 49 = .ok (.iload_n 1, 1) := dk_27 (dk_at dksX4_part_2 3 rfl rfl)
theorem dX4_part_50 : decode cX4_part 50 = .ok (.iastore, 1) := dk_79 (dk_at dksX4_part_2 4 rfl rfl)
theorem dX4_part_51 : decode cX4_part 51 = .ok (.aload_n 0, 1) := dk_42 (dk_at dksX4_part_2 5 rfl rfl)
theorem dX4_part_52 : decode cX4_part 52 = .ok (.getfield 13, 3) := dk_180 0 13 (dk_at dksX4_part_2 6 rfl rfl)
theorem dX4_part_55 : decode cX4_part 55 = .ok (.aload_n 0, 1) := dk_42 (dk_at dksX4_part_2 9 rfl rfl)
theorem dX4_part_56 : decode cX4_part 56 = .ok (.getfield 185, 3) := dk_180 0 185 (dk_at dksX4_part_2 10 rfl rfl)
theorem dX4_part_59 : decode cX4_part 59 = .ok (.iload_n 2, 1) := dk_28 (dk_at dksX4_part_2 13 rfl rfl)
theorem dX4_part_60 : decode cX4_part 60 = .ok (.iastore, 1) := dk_79 (dk_at dksX4_part_2 14 rfl rfl)
theorem dX4_part_61 : decode cX4_part 61 = .ok (.aload_n 0, 1) := dk_42 (dk_at dksX4_part_2 15 rfl rfl)
theorem dX4_part_62 : decode cX4_part 62 = .ok (.getfield 16, 3) := dk_180 0 16 (dk_at dksX4_part_2 16 rfl rfl)
theorem dX4_part_65 : decode cX4_part 65 = .ok (.aload_n 0, 1) := dk_42 (dk_at dksX4_part_2 19 rfl rfl)
theorem dX4_part_66 : decode cX4_part 66 = .ok (.getfield 185, 3) := dk_180 0 185 (dk_at dksX4_part_2 20 rfl rfl)
theorem dX4_part_69 : decode cX4_part 69 = .ok (.iload_n 3, 1) := dk_29 (dk_at dksX4_part_2 23 rfl rfl)
theorem dX4_part_70 : decode cX4_part 70 = .ok (.iastore, 1) := dk_79 (dk_at dksX4_part_3 0 rfl rfl)
theorem dX4_part_71 : decode cX4_part 71 = .ok (.aload_n 0, 1) := dk_42 (dk_at dksX4_part_3 1 rfl rfl)
theorem dX4_part_72 : decode cX4_part 72 = .ok (.dup, 1) := dk_89 (dk_at dksX4_part_3 2 rfl rfl)
theorem dX4_part_73 : decode cX4_part 73 = .ok (.getfield 185, 3) := dk_180 0 185 (dk_at dksX4_part_3 3 rfl rfl)
theorem dX4_part_76 : decode cX4_part 76 = .ok (.iconst 1, 1) := dk_4 (dk_at dksX4_part_3 6 rfl rfl)
theorem dX4_part_77 : decode cX4_part 77 = .ok (.iadd, 1) := dk_96 (dk_at dksX4_part_3 7 rfl rfl)
theorem dX4_part_78 : decode cX4_part 78 = .ok (.putfield 185, 3) := dk_181 0 185 (dk_at dksX4_part_3 8 rfl rfl)
theorem dX4_part_81 : decode cX4_part 81 = .ok (.aload_n 0, 1) := dk_42 (dk_at dksX4_part_3 11 rfl rfl)
theorem dX4_part_82 : decode cX4_part 82 = .ok (.getfield 185, 3) := dk_180 0 185 (dk_at dksX4_part_3 12 rfl rfl)
theorem dX4_part_85 : decode cX4_part 85 = .ok (.iconst 1, 1) := dk_4 (dk_at dksX4_part_3 15 rfl rfl)
theorem dX4_part_86 : decode cX4_part 86 = .ok (.isub, 1) := dk_100 (dk_at dksX4_part_3 16 rfl rfl)
theorem dX4_part_87 : decode cX4_part 87 = .ok (.ireturn, 1) := dk_172 (dk_at dksX4_part_3 17 rfl rfl)
abbrev cX4_in : ByteArray := prog_32_method_3_code
def yX4_in : MethodName := ⟨RX4, "in", "(III)Z"⟩
def dkwX4_in_0 : List UInt8 := [26, 27, 161, 0, 12, 26, 28, 163, 0, 7, 4, 167, 0, 4, 3, 172]
abbrev dktX4_in_0 : List UInt8 := dkwX4_in_0 ++ []
theorem dksX4_in_0 : cX4_in.data.toList.drop 0 = dktX4_in_0 := by decide +kernel
theorem dX4_in_0 : decode cX4_in 0 = .ok (.iload_n 0, 1) := dk_26 (dk_at dksX4_in_0 0 rfl rfl)
theorem dX4_in_1 : decode cX4_in 1 = .ok (.iload_n 1, 1) := dk_27 (dk_at dksX4_in_0 1 rfl rfl)
theorem dX4_in_2 : decode cX4_in 2 = .ok (.if_icmp .lt 12, 3) := dk_161 0 12 (dk_at dksX4_in_0 2 rfl rfl)
theorem dX4_in_5 : decode cX4_in 5 = .ok (.iload_n 0, 1) := dk_26 (dk_at dksX4_in_0 5 rfl rfl)
theorem dX4_in_6 : decode cX4_in 6 = .ok (.iload_n 2, 1) := dk_28 (dk_at dksX4_in_0 6 rfl rfl)
theorem dX4_in_7 : decode cX4_in 7 = .ok (.if_icmp .gt 7, 3) := dk_163 0 7 (dk_at dksX4_in_0 7 rfl rfl)
theorem dX4_in_10 : decode cX4_in 10 = .ok (.iconst 1, 1) := dk_4 (dk_at dksX4_in_0 10 rfl rfl)
theorem dX4_in_11 : decode cX4_in 11 = .ok (.goto 4, 3) := dk_167 0 4 (dk_at dksX4_in_0 11 rfl rfl)
theorem dX4_in_14 : decode cX4_in 14 = .ok (.iconst 0, 1) := dk_3 (dk_at dksX4_in_0 14 rfl rfl)
theorem dX4_in_15 : decode cX4_in 15 = .ok (.ireturn, 1) := dk_172 (dk_at dksX4_in_0 15 rfl rfl)
abbrev cX4_extend : ByteArray := prog_32_method_9_code
def yX4_extend : MethodName := ⟨RX4, "extend", "(II)I"⟩
def dkwX4_extend_3 : List UInt8 := [79, 42, 180, 0, 19, 27, 92, 46, 4, 96, 79, 42, 180, 0, 19, 27, 46, 172]
abbrev dktX4_extend_3 : List UInt8 := dkwX4_extend_3 ++ []
def dkwX4_extend_2 : List UInt8 := [180, 0, 200, 158, 0, 6, 16, 252, 172, 42, 180, 0, 22, 7, 27, 104, 42, 180, 0, 19, 27, 46, 96, 28]
abbrev dktX4_extend_2 : List UInt8 := dkwX4_extend_2 ++ dktX4_extend_3
def dkwX4_extend_1 : List UInt8 := [182, 0, 196, 153, 0, 5, 2, 172, 42, 180, 0, 19, 27, 46, 7, 160, 0, 6, 16, 254, 172, 42]
abbrev dktX4_extend_1 : List UInt8 := dkwX4_extend_1 ++ dktX4_extend_2
def dkwX4_extend_0 : List UInt8 := [42, 27, 182, 0, 192, 153, 0, 23, 28, 3, 27, 4, 100, 184, 0, 188, 153, 0, 12, 42, 27, 28]
abbrev dktX4_extend_0 : List UInt8 := dkwX4_extend_0 ++ dktX4_extend_1
theorem dksX4_extend_0 : cX4_extend.data.toList.drop 0 = dktX4_extend_0 := by decide +kernel
theorem dksX4_extend_1 : cX4_extend.data.toList.drop 22 = dktX4_extend_1 := dk_seg dksX4_extend_0 22 rfl rfl
theorem dksX4_extend_2 : cX4_extend.data.toList.drop 44 = dktX4_extend_2 := dk_seg dksX4_extend_1 22 rfl rfl
theorem dksX4_extend_3 : cX4_extend.data.toList.drop 68 = dktX4_extend_3 := dk_seg dksX4_extend_2 24 rfl rfl
theorem dX4_extend_0 : decode cX4_extend 0 = .ok (.aload_n 0, 1) := dk_42 (dk_at dksX4_extend_0 0 rfl rfl)
theorem dX4_extend_1 : decode cX4_extend 1 = .ok (.iload_n 1, 1) := dk_27 (dk_at dksX4_extend_0 1 rfl rfl)
theorem dX4_extend_2 : decode cX4_extend 2 = .ok (.invokevirtual 192, 3) := dk_182 0 192 (dk_at dksX4_extend_0 2 rfl rfl)
theorem dX4_extend_5 : decode cX4_extend 5 = .ok (.ifCond .eq 23, 3) := dk_153 0 23 (dk_at dksX4_extend_0 5 rfl rfl)
theorem dX4_extend_8 : decode cX4_extend 8 = .ok (.iload_n 2, 1) := dk_28 (dk_at dksX4_extend_0 8 rfl rfl)
theorem dX4_extend_9 : decode cX4_extend 9 = .ok (.iconst 0, 1) := dk_3 (dk_at dksX4_extend_0 9 rfl rfl)
theorem dX4_extend_10 : decode cX4_extend 10 = .ok (.iload_n 1, 1) := dk_27 (dk_at dksX4_extend_0 10 rfl rfl)
theorem dX4_extend_11 : decode cX4_extend 11 = .ok (.iconst 1, 1) := dk_4 (dk_at dksX4_extend_0 11 rfl rfl)
theorem dX4_extend_12 : decode cX4_extend 12 = .ok (.isub, 1) := dk_100 (dk_at dksX4_extend_0 12 rfl rfl)
theorem dX4_extend_13 : decode cX4_extend 13 = .ok (.invokestatic 188, 3) := dk_184 0 188 (dk_at dksX4_extend_0 13 rfl rfl)
theorem dX4_extend_16 : decode cX4_extend 16 = .ok (.ifCond .eq 12, 3) := dk_153 0 12 (dk_at dksX4_extend_0 16 rfl rfl)
theorem dX4_extend_19 : decode cX4_extend 19 = .ok (.aload_n 0, 1) := dk_42 (dk_at dksX4_extend_0 19 rfl rfl)
theorem dX4_extend_20 : decode cX4_extend 20 = .ok (.iload_n 1, 1) := dk_27 (dk_at dksX4_extend_0 20 rfl rfl)
theorem dX4_extend_21 : decode cX4_extend 21 = .ok (.iload_n 2, 1) := dk_28 (dk_at dksX4_extend_0 21 rfl rfl)
theorem dX4_extend_22 : decode cX4_extend 22 = .ok (.invokevirtual 196, 3) := dk_182 0 196 (dk_at dksX4_extend_1 0 rfl rfl)
theorem dX4_extend_25 : decode cX4_extend 25 = .ok (.ifCond .eq 5, 3) := dk_153 0 5 (dk_at dksX4_extend_1 3 rfl rfl)
theorem dX4_extend_28 : decode cX4_extend 28 = .ok (.iconst (-1), 1) := dk_2 (dk_at dksX4_extend_1 6 rfl rfl)
theorem dX4_extend_29 : decode cX4_extend 29 = .ok (.ireturn, 1) := dk_172 (dk_at dksX4_extend_1 7 rfl rfl)
theorem dX4_extend_30 : decode cX4_extend 30 = .ok (.aload_n 0, 1) := dk_42 (dk_at dksX4_extend_1 8 rfl rfl)
theorem dX4_extend_31 : decode cX4_extend 31 = .ok (.getfield 19, 3) := dk_180 0 19 (dk_at dksX4_extend_1 9 rfl rfl)
theorem dX4_extend_34 : decode cX4_extend 34 = .ok (.iload_n 1, 1) := dk_27 (dk_at dksX4_extend_1 12 rfl rfl)
theorem dX4_extend_35 : decode cX4_extend 35 = .ok (.iaload, 1) := dk_46 (dk_at dksX4_extend_1 13 rfl rfl)
theorem dX4_extend_36 : decode cX4_extend 36 = .ok (.iconst 4, 1) := dk_7 (dk_at dksX4_extend_1 14 rfl rfl)
theorem dX4_extend_37 : decode cX4_extend 37 = .ok (.if_icmp .ne 6, 3) := dk_160 0 6 (dk_at dksX4_extend_1 15 rfl rfl)
theorem dX4_extend_40 : decode cX4_extend 40 = .ok (.bipush (-2), 2) := dk_16 254 (dk_at dksX4_extend_1 18 rfl rfl)
theorem dX4_extend_42 : decode cX4_extend 42 = .ok (.ireturn, 1) := dk_172 (dk_at dksX4_extend_1 20 rfl rfl)
theorem dX4_extend_43 : decode cX4_extend 43 = .ok (.aload_n 0, 1) := dk_42 (dk_at dksX4_extend_1 21 rfl rfl)
theorem dX4_extend_44 : decode cX4_extend 44 = .ok (.getfield 200, 3) := dk_180 0 200 (dk_at dksX4_extend_2 0 rfl rfl)
theorem dX4_extend_47 : decode cX4_extend 47 = .ok (.ifCond .le 6, 3) := dk_158 0 6 (dk_at dksX4_extend_2 3 rfl rfl)
theorem dX4_extend_50 : decode cX4_extend 50 = .ok (.bipush (-4), 2) := dk_16 252 (dk_at dksX4_extend_2 6 rfl rfl)
theorem dX4_extend_52 : decode cX4_extend 52 = .ok (.ireturn, 1) := dk_172 (dk_at dksX4_extend_2 8 rfl rfl)
theorem dX4_extend_53 : decode cX4_extend 53 = .ok (.aload_n 0, 1) := dk_42 (dk_at dksX4_extend_2 9 rfl rfl)
theorem dX4_extend_54 : decode cX4_extend 54 = .ok (.getfield 22, 3) := dk_180 0 22 (dk_at dksX4_extend_2 10 rfl rfl)
theorem dX4_extend_57 : decode cX4_extend 57 = .ok (.iconst 4, 1) := dk_7 (dk_at dksX4_extend_2 13 rfl rfl)
theorem dX4_extend_58 : decode cX4_extend 58 = .ok (.iload_n 1, 1) := dk_27 (dk_at dksX4_extend_2 14 rfl rfl)
theorem dX4_extend_59 : decode cX4_extend 59 = .ok (.imul, 1) := dk_104 (dk_at dksX4_extend_2 15 rfl rfl)
theorem dX4_extend_60 : decode cX4_extend 60 = .ok (.aload_n 0, 1) := dk_42 (dk_at dksX4_extend_2 16 rfl rfl)
theorem dX4_extend_61 : decode cX4_extend 61 = .ok (.getfield 19, 3) := dk_180 0 19 (dk_at dksX4_extend_2 17 rfl rfl)
theorem dX4_extend_64 : decode cX4_extend 64 = .ok (.iload_n 1, 1) := dk_27 (dk_at dksX4_extend_2 20 rfl rfl)
theorem dX4_extend_65 : decode cX4_extend 65 = .ok (.iaload, 1) := dk_46 (dk_at dksX4_extend_2 21 rfl rfl)
theorem dX4_extend_66 : decode cX4_extend 66 = .ok (.iadd, 1) := dk_96 (dk_at dksX4_extend_2 22 rfl rfl)
theorem dX4_extend_67 : decode cX4_extend 67 = .ok (.iload_n 2, 1) := dk_28 (dk_at dksX4_extend_2 23 rfl rfl)
theorem dX4_extend_68 : decode cX4_extend 68 = .ok (.iastore, 1) := dk_79 (dk_at dksX4_extend_3 0 rfl rfl)
theorem dX4_extend_69 : decode cX4_extend 69 = .ok (.aload_n 0, 1) := dk_42 (dk_at dksX4_extend_3 1 rfl rfl)
theorem dX4_extend_70 : decode cX4_extend 70 = .ok (.getfield 19, 3) := dk_180 0 19 (dk_at dksX4_extend_3 2 rfl rfl)
theorem dX4_extend_73 : decode cX4_extend 73 = .ok (.iload_n 1, 1) := dk_27 (dk_at dksX4_extend_3 5 rfl rfl)
theorem dX4_extend_74 : decode cX4_extend 74 = .ok (.dup2, 1) := dk_92 (dk_at dksX4_extend_3 6 rfl rfl)
theorem dX4_extend_75 : decode cX4_extend 75 = .ok (.iaload, 1) := dk_46 (dk_at dksX4_extend_3 7 rfl rfl)
theorem dX4_extend_76 : decode cX4_extend 76 = .ok (.iconst 1, 1) := dk_4 (dk_at dksX4_extend_3 8 rfl rfl)
theorem dX4_extend_77 : decode cX4_extend 77 = .ok (.iadd, 1) := dk_96 (dk_at dksX4_extend_3 9 rfl rfl)
theorem dX4_extend_78 : decode cX4_extend 78 = .ok (.iastore, 1) := dk_79 (dk_at dksX4_extend_3 10 rfl rfl)
theorem dX4_extend_79 : decode cX4_extend 79 = .ok (.aload_n 0, 1) := dk_42 (dk_at dksX4_extend_3 11 rfl rfl)
theorem dX4_extend_80 : decode cX4_extend 80 = .ok (.getfield 19, 3) := dk_180 0 19 (dk_at dksX4_extend_3 12 rfl rfl)
theorem dX4_extend_83 : decode cX4_extend 83 = .ok (.iload_n 1, 1) := dk_27 (dk_at dksX4_extend_3 15 rfl rfl)
theorem dX4_extend_84 : decode cX4_extend 84 = .ok (.iaload, 1) := dk_46 (dk_at dksX4_extend_3 16 rfl rfl)
theorem dX4_extend_85 : decode cX4_extend 85 = .ok (.ireturn, 1) := dk_172 (dk_at dksX4_extend_3 17 rfl rfl)
abbrev cX4_isPart : ByteArray := prog_32_method_4_code
def yX4_isPart : MethodName := ⟨RX4, "isPart", "(I)Z"⟩
def dkwX4_isPart_0 : List UInt8 := [27, 3, 42, 180, 0, 185, 4, 100, 184, 0, 188, 172]
abbrev dktX4_isPart_0 : List UInt8 := dkwX4_isPart_0 ++ []
theorem dksX4_isPart_0 : cX4_isPart.data.toList.drop 0 = dktX4_isPart_0 := by decide +kernel
theorem dX4_isPart_0 : decode cX4_isPart 0 = .ok (.iload_n 1, 1) := dk_27 (dk_at dksX4_isPart_0 0 rfl rfl)
theorem dX4_isPart_1 : decode cX4_isPart 1 = .ok (.iconst 0, 1) := dk_3 (dk_at dksX4_isPart_0 1 rfl rfl)
theorem dX4_isPart_2 : decode cX4_isPart 2 = .ok (.aload_n 0, 1) := dk_42 (dk_at dksX4_isPart_0 2 rfl rfl)
theorem dX4_isPart_3 : decode cX4_isPart 3 = .ok (.getfield 185, 3) := dk_180 0 185 (dk_at dksX4_isPart_0 3 rfl rfl)
theorem dX4_isPart_6 : decode cX4_isPart 6 = .ok (.iconst 1, 1) := dk_4 (dk_at dksX4_isPart_0 6 rfl rfl)
theorem dX4_isPart_7 : decode cX4_isPart 7 = .ok (.isub, 1) := dk_100 (dk_at dksX4_isPart_0 7 rfl rfl)
theorem dX4_isPart_8 : decode cX4_isPart 8 = .ok (.invokestatic 188, 3) := dk_184 0 188 (dk_at dksX4_isPart_0 8 rfl rfl)
theorem dX4_isPart_11 : decode cX4_isPart 11 = .ok (.ireturn, 1) := dk_172 (dk_at dksX4_isPart_0 11 rfl rfl)
abbrev cX4_isExtended : ByteArray := prog_32_method_8_code
def yX4_isExtended : MethodName := ⟨RX4, "isExtended", "(II)Z"⟩
def dkwX4_isExtended_2 : List UInt8 := [172]
abbrev dktX4_isExtended_2 : List UInt8 := dkwX4_isExtended_2 ++ []
def dkwX4_isExtended_1 : List UInt8 := [7, 27, 104, 21, 4, 96, 46, 28, 160, 0, 7, 4, 167, 0, 4, 3, 62, 132, 4, 1, 167, 255, 217, 29]
abbrev dktX4_isExtended_1 : List UInt8 := dkwX4_isExtended_1 ++ dktX4_isExtended_2
def dkwX4_isExtended_0 : List UInt8 := [3, 62, 3, 54, 4, 21, 4, 42, 180, 0, 19, 27, 46, 162, 0, 34, 29, 154, 0, 18, 42, 180, 0, 22]
abbrev dktX4_isExtended_0 : List UInt8 := dkwX4_isExtended_0 ++ dktX4_isExtended_1
theorem dksX4_isExtended_0 : cX4_isExtended.data.toList.drop 0 = dktX4_isExtended_0 := by decide +kernel
theorem dksX4_isExtended_1 : cX4_isExtended.data.toList.drop 24 = dktX4_isExtended_1 := dk_seg dksX4_isExtended_0 24 rfl rfl
theorem dksX4_isExtended_2 : cX4_isExtended.data.toList.drop 48 = dktX4_isExtended_2 := dk_seg dksX4_isExtended_1 24 rfl rfl
theorem dX4_isExtended_0 : decode cX4_isExtended 0 = .ok (.iconst 0, 1) := dk_3 (dk_at dksX4_isExtended_0 0 rfl rfl)
theorem dX4_isExtended_1 : decode cX4_isExtended 1 = .ok (.istore_n 3, 1) := dk_62 (dk_at dksX4_isExtended_0 1 rfl rfl)
theorem dX4_isExtended_2 : decode cX4_isExtended 2 = .ok (.iconst 0, 1) := dk_3 (dk_at dksX4_isExtended_0 2 rfl rfl)
theorem dX4_isExtended_3 : decode cX4_isExtended 3 = .ok (.istore 4, 2) := dk_54 4 (dk_at dksX4_isExtended_0 3 rfl rfl)
theorem dX4_isExtended_5 : decode cX4_isExtended 5 = .ok (.iload 4, 2) := dk_21 4 (dk_at dksX4_isExtended_0 5 rfl rfl)
theorem dX4_isExtended_7 : decode cX4_isExtended 7 = .ok (.aload_n 0, 1) := dk_42 (dk_at dksX4_isExtended_0 7 rfl rfl)
theorem dX4_isExtended_8 : decode cX4_isExtended 8 = .ok (.getfield 19, 3) := dk_180 0 19 (dk_at dksX4_isExtended_0 8 rfl rfl)
theorem dX4_isExtended_11 : decode cX4_isExtended 11 = .ok (.iload_n 1, 1) := dk_27 (dk_at dksX4_isExtended_0 11 rfl rfl)
theorem dX4_isExtended_12 : decode cX4_isExtended 12 = .ok (.iaload, 1) := dk_46 (dk_at dksX4_isExtended_0 12 rfl rfl)
theorem dX4_isExtended_13 : decode cX4_isExtended 13 = .ok (.if_icmp .ge 34, 3) := dk_162 0 34 (dk_at dksX4_isExtended_0 13 rfl rfl)
theorem dX4_isExtended_16 : decode cX4_isExtended 16 = .ok (.iload_n 3, 1) := dk_29 (dk_at dksX4_isExtended_0 16 rfl rfl)
theorem dX4_isExtended_17 : decode cX4_isExtended 17 = .ok (.ifCond .ne 18, 3) := dk_154 0 18 (dk_at dksX4_isExtended_0 17 rfl rfl)
theorem dX4_isExtended_20 : decode cX4_isExtended 20 = .ok (.aload_n 0, 1) := dk_42 (dk_at dksX4_isExtended_0 20 rfl rfl)
theorem dX4_isExtended_21 : decode cX4_isExtended 21 = .ok (.getfield 22, 3) := dk_180 0 22 (dk_at dksX4_isExtended_0 21 rfl rfl)
theorem dX4_isExtended_24 : decode cX4_isExtended 24 = .ok (.iconst 4, 1) := dk_7 (dk_at dksX4_isExtended_1 0 rfl rfl)
theorem dX4_isExtended_25 : decode cX4_isExtended 25 = .ok (.iload_n 1, 1) := dk_27 (dk_at dksX4_isExtended_1 1 rfl rfl)
theorem dX4_isExtended_26 : decode cX4_isExtended 26 = .ok (.imul, 1) := dk_104 (dk_at dksX4_isExtended_1 2 rfl rfl)
theorem dX4_isExtended_27 : decode cX4_isExtended 27 = .ok (.iload 4, 2) := dk_21 4 (dk_at dksX4_isExtended_1 3 rfl rfl)
theorem dX4_isExtended_29 : decode cX4_isExtended 29 = .ok (.iadd, 1) := dk_96 (dk_at dksX4_isExtended_1 5 rfl rfl)
theorem dX4_isExtended_30 : decode cX4_isExtended 30 = .ok (.iaload, 1) := dk_46 (dk_at dksX4_isExtended_1 6 rfl rfl)
theorem dX4_isExtended_31 : decode cX4_isExtended 31 = .ok (.iload_n 2, 1) := dk_28 (dk_at dksX4_isExtended_1 7 rfl rfl)
theorem dX4_isExtended_32 : decode cX4_isExtended 32 = .ok (.if_icmp .ne 7, 3) := dk_160 0 7 (dk_at dksX4_isExtended_1 8 rfl rfl)
theorem dX4_isExtended_35 : decode cX4_isExtended 35 = .ok (.iconst 1, 1) := dk_4 (dk_at dksX4_isExtended_1 11 rfl rfl)
theorem dX4_isExtended_36 : decode cX4_isExtended 36 = .ok (.goto 4, 3) := dk_167 0 4 (dk_at dksX4_isExtended_1 12 rfl rfl)
theorem dX4_isExtended_39 : decode cX4_isExtended 39 = .ok (.iconst 0, 1) := dk_3 (dk_at dksX4_isExtended_1 15 rfl rfl)
theorem dX4_isExtended_40 : decode cX4_isExtended 40 = .ok (.istore_n 3, 1) := dk_62 (dk_at dksX4_isExtended_1 16 rfl rfl)
theorem dX4_isExtended_41 : decode cX4_isExtended 41 = .ok (.iinc 4 1, 3) := dk_132 4 1 (dk_at dksX4_isExtended_1 17 rfl rfl)
theorem dX4_isExtended_44 : decode cX4_isExtended 44 = .ok (.goto (-39), 3) := dk_167 255 217 (dk_at dksX4_isExtended_1 20 rfl rfl)
theorem dX4_isExtended_47 : decode cX4_isExtended 47 = .ok (.iload_n 3, 1) := dk_29 (dk_at dksX4_isExtended_1 23 rfl rfl)
theorem dX4_isExtended_48 : decode cX4_isExtended 48 = .ok (.ireturn, 1) := dk_172 (dk_at dksX4_isExtended_2 0 rfl rfl)
abbrev cX4_want : ByteArray := prog_32_method_10_code
def yX4_want : MethodName := ⟨RX4, "want", "(II)I"⟩
def dkwX4_want_3 : List UInt8 := [4, 96, 181, 0, 203, 42, 180, 0, 203, 172]
abbrev dktX4_want_3 : List UInt8 := dkwX4_want_3 ++ []
def dkwX4_want_2 : List UInt8 := [180, 0, 29, 42, 180, 0, 203, 27, 79, 42, 180, 0, 32, 42, 180, 0, 203, 28, 79, 42, 89, 180, 0, 203]
abbrev dktX4_want_2 : List UInt8 := dkwX4_want_2 ++ dktX4_want_3
def dkwX4_want_1 : List UInt8 := [180, 0, 203, 16, 30, 160, 0, 6, 16, 254, 172, 42, 180, 0, 200, 158, 0, 6, 16, 252, 172, 42]
abbrev dktX4_want_1 : List UInt8 := dkwX4_want_1 ++ dktX4_want_2
def dkwX4_want_0 : List UInt8 := [42, 27, 182, 0, 192, 153, 0, 16, 42, 28, 182, 0, 192, 153, 0, 8, 27, 28, 160, 0, 5, 2, 172, 42]
abbrev dktX4_want_0 : List UInt8 := dkwX4_want_0 ++ dktX4_want_1
theorem dksX4_want_0 : cX4_want.data.toList.drop 0 = dktX4_want_0 := by decide +kernel
theorem dksX4_want_1 : cX4_want.data.toList.drop 24 = dktX4_want_1 := dk_seg dksX4_want_0 24 rfl rfl
theorem dksX4_want_2 : cX4_want.data.toList.drop 46 = dktX4_want_2 := dk_seg dksX4_want_1 22 rfl rfl
theorem dksX4_want_3 : cX4_want.data.toList.drop 70 = dktX4_want_3 := dk_seg dksX4_want_2 24 rfl rfl
theorem dX4_want_0 : decode cX4_want 0 = .ok (.aload_n 0, 1) := dk_42 (dk_at dksX4_want_0 0 rfl rfl)
theorem dX4_want_1 : decode cX4_want 1 = .ok (.iload_n 1, 1) := dk_27 (dk_at dksX4_want_0 1 rfl rfl)
theorem dX4_want_2 : decode cX4_want 2 = .ok (.invokevirtual 192, 3) := dk_182 0 192 (dk_at dksX4_want_0 2 rfl rfl)
theorem dX4_want_5 : decode cX4_want 5 = .ok (.ifCond .eq 16, 3) := dk_153 0 16 (dk_at dksX4_want_0 5 rfl rfl)
theorem dX4_want_8 : decode cX4_want 8 = .ok (.aload_n 0, 1) := dk_42 (dk_at dksX4_want_0 8 rfl rfl)
theorem dX4_want_9 : decode cX4_want 9 = .ok (.iload_n 2, 1) := dk_28 (dk_at dksX4_want_0 9 rfl rfl)
theorem dX4_want_10 : decode cX4_want 10 = .ok (.invokevirtual 192, 3) := dk_182 0 192 (dk_at dksX4_want_0 10 rfl rfl)
theorem dX4_want_13 : decode cX4_want 13 = .ok (.ifCond .eq 8, 3) := dk_153 0 8 (dk_at dksX4_want_0 13 rfl rfl)
theorem dX4_want_16 : decode cX4_want 16 = .ok (.iload_n 1, 1) := dk_27 (dk_at dksX4_want_0 16 rfl rfl)
theorem dX4_want_17 : decode cX4_want 17 = .ok (.iload_n 2, 1) := dk_28 (dk_at dksX4_want_0 17 rfl rfl)
theorem dX4_want_18 : decode cX4_want 18 = .ok (.if_icmp .ne 5, 3) := dk_160 0 5 (dk_at dksX4_want_0 18 rfl rfl)
theorem dX4_want_21 : decode cX4_want 21 = .ok (.iconst (-1), 1) := dk_2 (dk_at dksX4_want_0 21 rfl rfl)
theorem dX4_want_22 : decode cX4_want 22 = .ok (.ireturn, 1) := dk_172 (dk_at dksX4_want_0 22 rfl rfl)
theorem dX4_want_23 : decode cX4_want 23 = .ok (.aload_n 0, 1) := dk_42 (dk_at dksX4_want_0 23 rfl rfl)
theorem dX4_want_24 : decode cX4_want 24 = .ok (.getfield 203, 3) := dk_180 0 203 (dk_at dksX4_want_1 0 rfl rfl)
theorem dX4_want_27 : decode cX4_want 27 = .ok (.bipush 30, 2) := dk_16 30 (dk_at dksX4_want_1 3 rfl rfl)
theorem dX4_want_29 : decode cX4_want 29 = .ok (.if_icmp .ne 6, 3) := dk_160 0 6 (dk_at dksX4_want_1 5 rfl rfl)
theorem dX4_want_32 : decode cX4_want 32 = .ok (.bipush (-2), 2) := dk_16 254 (dk_at dksX4_want_1 8 rfl rfl)
theorem dX4_want_34 : decode cX4_want 34 = .ok (.ireturn, 1) := dk_172 (dk_at dksX4_want_1 10 rfl rfl)
theorem dX4_want_35 : decode cX4_want 35 = .ok (.aload_n 0, 1) := dk_42 (dk_at dksX4_want_1 11 rfl rfl)
theorem dX4_want_36 : decode cX4_want 36 = .ok (.getfield 200, 3) := dk_180 0 200 (dk_at dksX4_want_1 12 rfl rfl)
theorem dX4_want_39 : decode cX4_want 39 = .ok (.ifCond .le 6, 3) := dk_158 0 6 (dk_at dksX4_want_1 15 rfl rfl)
theorem dX4_want_42 : decode cX4_want 42 = .ok (.bipush (-4), 2) := dk_16 252 (dk_at dksX4_want_1 18 rfl rfl)
theorem dX4_want_44 : decode cX4_want 44 = .ok (.ireturn, 1) := dk_172 (dk_at dksX4_want_1 20 rfl rfl)
theorem dX4_want_45 : decode cX4_want 45 = .ok (.aload_n 0, 1) := dk_42 (dk_at dksX4_want_1 21 rfl rfl)
theorem dX4_want_46 : decode cX4_want 46 = .ok (.getfield 29, 3) := dk_180 0 29 (dk_at dksX4_want_2 0 rfl rfl)
theorem dX4_want_49 : decode cX4_want 49 = .ok (.aload_n 0, 1) := dk_42 (dk_at dksX4_want_2 3 rfl rfl)
theorem dX4_want_50 : decode cX4_want 50 = .ok (.getfield 203, 3) := dk_180 0 203 (dk_at dksX4_want_2 4 rfl rfl)
theorem dX4_want_53 : decode cX4_want 53 = .ok (.iload_n 1, 1) := dk_27 (dk_at dksX4_want_2 7 rfl rfl)
theorem dX4_want_54 : decode cX4_want 54 = .ok (.iastore, 1) := dk_79 (dk_at dksX4_want_2 8 rfl rfl)
theorem dX4_want_55 : decode cX4_want 55 = .ok (.aload_n 0, 1) := dk_42 (dk_at dksX4_want_2 9 rfl rfl)
theorem dX4_want_56 : decode cX4_want 56 = .ok (.getfield 32, 3) := dk_180 0 32 (dk_at dksX4_want_2 10 rfl rfl)
theorem dX4_want_59 : decode cX4_want 59 = .ok (.aload_n 0, 1) := dk_42 (dk_at dksX4_want_2 13 rfl rfl)
theorem dX4_want_60 : decode cX4_want 60 = .ok (.getfield 203, 3) := dk_180 0 203 (dk_at dksX4_want_2 14 rfl rfl)
theorem dX4_want_63 : decode cX4_want 63 = .ok (.iload_n 2, 1) := dk_28 (dk_at dksX4_want_2 17 rfl rfl)
theorem dX4_want_64 : decode cX4_want 64 = .ok (.iastore, 1) := dk_79 (dk_at dksX4_want_2 18 rfl rfl)
theorem dX4_want_65 : decode cX4_want 65 = .ok (.aload_n 0, 1) := dk_42 (dk_at dksX4_want_2 19 rfl rfl)
theorem dX4_want_66 : decode cX4_want 66 = .ok (.dup, 1) := dk_89 (dk_at dksX4_want_2 20 rfl rfl)
theorem dX4_want_67 : decode cX4_want 67 = .ok (.getfield 203, 3) := dk_180 0 203 (dk_at dksX4_want_2 21 rfl rfl)
theorem dX4_want_70 : decode cX4_want 70 = .ok (.iconst 1, 1) := dk_4 (dk_at dksX4_want_3 0 rfl rfl)
theorem dX4_want_71 : decode cX4_want 71 = .ok (.iadd, 1) := dk_96 (dk_at dksX4_want_3 1 rfl rfl)
theorem dX4_want_72 : decode cX4_want 72 = .ok (.putfield 203, 3) := dk_181 0 203 (dk_at dksX4_want_3 2 rfl rfl)
theorem dX4_want_75 : decode cX4_want 75 = .ok (.aload_n 0, 1) := dk_42 (dk_at dksX4_want_3 5 rfl rfl)
theorem dX4_want_76 : decode cX4_want 76 = .ok (.getfield 203, 3) := dk_180 0 203 (dk_at dksX4_want_3 6 rfl rfl)
theorem dX4_want_79 : decode cX4_want 79 = .ok (.ireturn, 1) := dk_172 (dk_at dksX4_want_3 9 rfl rfl)
abbrev cX4_body : ByteArray := prog_32_method_11_code
def yX4_body : MethodName := ⟨RX4, "body", "(IIII)I"⟩
def dkwX4_body_3 : List UInt8 := [180, 0, 35, 42, 180, 0, 50, 3, 79, 42, 180, 0, 38, 42, 180, 0, 50, 21, 4, 79, 4, 172]
abbrev dktX4_body_3 : List UInt8 := dkwX4_body_3 ++ []
def dkwX4_body_2 : List UInt8 := [2, 172, 42, 180, 0, 200, 158, 0, 6, 16, 252, 172, 42, 27, 28, 29, 184, 0, 209, 181, 0, 50, 42]
abbrev dktX4_body_2 : List UInt8 := dkwX4_body_2 ++ dktX4_body_3
def dkwX4_body_1 : List UInt8 := [184, 0, 206, 153, 0, 21, 21, 4, 16, 247, 159, 0, 16, 21, 4, 3, 16, 16, 184, 0, 188, 154, 0, 5]
abbrev dktX4_body_1 : List UInt8 := dkwX4_body_1 ++ dktX4_body_2
def dkwX4_body_0 : List UInt8 := [42, 27, 182, 0, 192, 153, 0, 42, 28, 3, 5, 184, 0, 188, 153, 0, 33, 28, 5, 159, 0, 10, 29]
abbrev dktX4_body_0 : List UInt8 := dkwX4_body_0 ++ dktX4_body_1
theorem dksX4_body_0 : cX4_body.data.toList.drop 0 = dktX4_body_0 := by decide +kernel
theorem dksX4_body_1 : cX4_body.data.toList.drop 23 = dktX4_body_1 := dk_seg dksX4_body_0 23 rfl rfl
theorem dksX4_body_2 : cX4_body.data.toList.drop 47 = dktX4_body_2 := dk_seg dksX4_body_1 24 rfl rfl
theorem dksX4_body_3 : cX4_body.data.toList.drop 70 = dktX4_body_3 := dk_seg dksX4_body_2 23 rfl rfl
theorem dX4_body_0 : decode cX4_body 0 = .ok (.aload_n 0, 1) := dk_42 (dk_at dksX4_body_0 0 rfl rfl)
theorem dX4_body_1 : decode cX4_body 1 = .ok (.iload_n 1, 1) := dk_27 (dk_at dksX4_body_0 1 rfl rfl)
theorem dX4_body_2 : decode cX4_body 2 = .ok (.invokevirtual 192, 3) := dk_182 0 192 (dk_at dksX4_body_0 2 rfl rfl)
theorem dX4_body_5 : decode cX4_body 5 = .ok (.ifCond .eq 42, 3) := dk_153 0 42 (dk_at dksX4_body_0 5 rfl rfl)
theorem dX4_body_8 : decode cX4_body 8 = .ok (.iload_n 2, 1) := dk_28 (dk_at dksX4_body_0 8 rfl rfl)
theorem dX4_body_9 : decode cX4_body 9 = .ok (.iconst 0, 1) := dk_3 (dk_at dksX4_body_0 9 rfl rfl)
theorem dX4_body_10 : decode cX4_body 10 = .ok (.iconst 2, 1) := dk_5 (dk_at dksX4_body_0 10 rfl rfl)
theorem dX4_body_11 : decode cX4_body 11 = .ok (.invokestatic 188, 3) := dk_184 0 188 (dk_at dksX4_body_0 11 rfl rfl)
theorem dX4_body_14 : decode cX4_body 14 = .ok (.ifCond .eq 33, 3) := dk_153 0 33 (dk_at dksX4_body_0 14 rfl rfl)
theorem dX4_body_17 : decode cX4_body 17 = .ok (.iload_n 2, 1) := dk_28 (dk_at dksX4_body_0 17 rfl rfl)
theorem dX4_body_18 : decode cX4_body 18 = .ok (.iconst 2, 1) := dk_5 (dk_at dksX4_body_0 18 rfl rfl)
theorem dX4_body_19 : decode cX4_body 19 = .ok (.if_icmp .eq 10, 3) := dk_159 0 10 (dk_at dksX4_body_0 19 rfl rfl)
theorem dX4_body_22 : decode cX4_body 22 = .ok (.iload_n 3, 1) := dk_29 (dk_at dksX4_body_0 22 rfl rfl)
theorem dX4_body_23 : decode cX4_body 23 = .ok (.invokestatic 206, 3) := dk_184 0 206 (dk_at dksX4_body_1 0 rfl rfl)
theorem dX4_body_26 : decode cX4_body 26 = .ok (.ifCond .eq 21, 3) := dk_153 0 21 (dk_at dksX4_body_1 3 rfl rfl)
theorem dX4_body_29 : decode cX4_body 29 = .ok (.iload 4, 2) := dk_21 4 (dk_at dksX4_body_1 6 rfl rfl)
theorem dX4_body_31 : decode cX4_body 31 = .ok (.bipush (-9), 2) := dk_16 247 (dk_at dksX4_body_1 8 rfl rfl)
theorem dX4_body_33 : decode cX4_body 33 = .ok (.if_icmp .eq 16, 3) := dk_159 0 16 (dk_at dksX4_body_1 10 rfl rfl)
theorem dX4_body_36 : decode cX4_body 36 = .ok (.iload 4, 2) := dk_21 4 (dk_at dksX4_body_1 13 rfl rfl)
theorem dX4_body_38 : decode cX4_body 38 = .ok (.iconst 0, 1) := dk_3 (dk_at dksX4_body_1 15 rfl rfl)
theorem dX4_body_39 : decode cX4_body 39 = .ok (.bipush 16, 2) := dk_16 16 (dk_at dksX4_body_1 16 rfl rfl)
theorem dX4_body_41 : decode cX4_body 41 = .ok (.invokestatic 188, 3) := dk_184 0 188 (dk_at dksX4_body_1 18 rfl rfl)
theorem dX4_body_44 : decode cX4_body 44 = .ok (.ifCond .ne 5, 3) := dk_154 0 5 (dk_at dksX4_body_1 21 rfl rfl)
theorem dX4_body_47 : decode cX4_body 47 = .ok (.iconst (-1), 1) := dk_2 (dk_at dksX4_body_2 0 rfl rfl)
theorem dX4_body_48 : decode cX4_body 48 = .ok (.ireturn, 1) := dk_172 (dk_at dksX4_body_2 1 rfl rfl)
theorem dX4_body_49 : decode cX4_body 49 = .ok (.aload_n 0, 1) := dk_42 (dk_at dksX4_body_2 2 rfl rfl)
theorem dX4_body_50 : decode cX4_body 50 = .ok (.getfield 200, 3) := dk_180 0 200 (dk_at dksX4_body_2 3 rfl rfl)
theorem dX4_body_53 : decode cX4_body 53 = .ok (.ifCond .le 6, 3) := dk_158 0 6 (dk_at dksX4_body_2 6 rfl rfl)
theorem dX4_body_56 : decode cX4_body 56 = .ok (.bipush (-4), 2) := dk_16 252 (dk_at dksX4_body_2 9 rfl rfl)
theorem dX4_body_58 : decode cX4_body 58 = .ok (.ireturn, 1) := dk_172 (dk_at dksX4_body_2 11 rfl rfl)
theorem dX4_body_59 : decode cX4_body 59 = .ok (.aload_n 0, 1) := dk_42 (dk_at dksX4_body_2 12 rfl rfl)
theorem dX4_body_60 : decode cX4_body 60 = .ok (.iload_n 1, 1) := dk_27 (dk_at dksX4_body_2 13 rfl rfl)
theorem dX4_body_61 : decode cX4_body 61 = .ok (.iload_n 2, 1) := dk_28 (dk_at dksX4_body_2 14 rfl rfl)
theorem dX4_body_62 : decode cX4_body 62 = .ok (.iload_n 3, 1) := dk_29 (dk_at dksX4_body_2 15 rfl rfl)
theorem dX4_body_63 : decode cX4_body 63 = .ok (.invokestatic 209, 3) := dk_184 0 209 (dk_at dksX4_body_2 16 rfl rfl)
theorem dX4_body_66 : decode cX4_body 66 = .ok (.putfield 50, 3) := dk_181 0 50 (dk_at dksX4_body_2 19 rfl rfl)
theorem dX4_body_69 : decode cX4_body 69 = .ok (.aload_n 0, 1) := dk_42 (dk_at dksX4_body_2 22 rfl rfl)
theorem dX4_body_70 : decode cX4_body 70 = .ok (.getfield 35, 3) := dk_180 0 35 (dk_at dksX4_body_3 0 rfl rfl)
theorem dX4_body_73 : decode cX4_body 73 = .ok (.aload_n 0, 1) := dk_42 (dk_at dksX4_body_3 3 rfl rfl)
theorem dX4_body_74 : decode cX4_body 74 = .ok (.getfield 50, 3) := dk_180 0 50 (dk_at dksX4_body_3 4 rfl rfl)
theorem dX4_body_77 : decode cX4_body 77 = .ok (.iconst 0, 1) := dk_3 (dk_at dksX4_body_3 7 rfl rfl)
theorem dX4_body_78 : decode cX4_body 78 = .ok (.iastore, 1) := dk_79 (dk_at dksX4_body_3 8 rfl rfl)
theorem dX4_body_79 : decode cX4_body 79 = .ok (.aload_n 0, 1) := dk_42 (dk_at dksX4_body_3 9 rfl rfl)
theorem dX4_body_80 : decode cX4_body 80 = .ok (.getfield 38, 3) := dk_180 0 38 (dk_at dksX4_body_3 10 rfl rfl)
theorem dX4_body_83 : decode cX4_body 83 = .ok (.aload_n 0, 1) := dk_42 (dk_at dksX4_body_3 13 rfl rfl)
theorem dX4_body_84 : decode cX4_body 84 = .ok (.getfield 50, 3) := dk_180 0 50 (dk_at dksX4_body_3 14 rfl rfl)
theorem dX4_body_87 : decode cX4_body 87 = .ok (.iload 4, 2) := dk_21 4 (dk_at dksX4_body_3 17 rfl rfl)
theorem dX4_body_89 : decode cX4_body 89 = .ok (.iastore, 1) := dk_79 (dk_at dksX4_body_3 19 rfl rfl)
theorem dX4_body_90 : decode cX4_body 90 = .ok (.iconst 1, 1) := dk_4 (dk_at dksX4_body_3 20 rfl rfl)
theorem dX4_body_91 : decode cX4_body 91 = .ok (.ireturn, 1) := dk_172 (dk_at dksX4_body_3 21 rfl rfl)
abbrev cX4_isMember : ByteArray := prog_32_method_5_code
def yX4_isMember : MethodName := ⟨RX4, "isMember", "(I)Z"⟩
def dkwX4_isMember_0 : List UInt8 := [26, 3, 16, 11, 184, 0, 188, 172]
abbrev dktX4_isMember_0 : List UInt8 := dkwX4_isMember_0 ++ []
theorem dksX4_isMember_0 : cX4_isMember.data.toList.drop 0 = dktX4_isMember_0 := by decide +kernel
theorem dX4_isMember_0 : decode cX4_isMember 0 = .ok (.iload_n 0, 1) := dk_26 (dk_at dksX4_isMember_0 0 rfl rfl)
theorem dX4_isMember_1 : decode cX4_isMember 1 = .ok (.iconst 0, 1) := dk_3 (dk_at dksX4_isMember_0 1 rfl rfl)
theorem dX4_isMember_2 : decode cX4_isMember 2 = .ok (.bipush 11, 2) := dk_16 11 (dk_at dksX4_isMember_0 2 rfl rfl)
theorem dX4_isMember_4 : decode cX4_isMember 4 = .ok (.invokestatic 188, 3) := dk_184 0 188 (dk_at dksX4_isMember_0 4 rfl rfl)
theorem dX4_isMember_7 : decode cX4_isMember 7 = .ok (.ireturn, 1) := dk_172 (dk_at dksX4_isMember_0 7 rfl rfl)
abbrev cX4_bodyOf : ByteArray := prog_32_method_6_code
def yX4_bodyOf : MethodName := ⟨RX4, "bodyOf", "(III)I"⟩
def dkwX4_bodyOf_0 : List UInt8 := [16, 25, 26, 104, 27, 5, 160, 0, 8, 16, 24, 167, 0, 9, 16, 12, 27, 104, 28, 96, 96, 172]
abbrev dktX4_bodyOf_0 : List UInt8 := dkwX4_bodyOf_0 ++ []
theorem dksX4_bodyOf_0 : cX4_bodyOf.data.toList.drop 0 = dktX4_bodyOf_0 := by decide +kernel
theorem dX4_bodyOf_0 : decode cX4_bodyOf 0 = .ok (.bipush 25, 2) := dk_16 25 (dk_at dksX4_bodyOf_0 0 rfl rfl)
theorem dX4_bodyOf_2 : decode cX4_bodyOf 2 = .ok (.iload_n 0, 1) := dk_26 (dk_at dksX4_bodyOf_0 2 rfl rfl)
theorem dX4_bodyOf_3 : decode cX4_bodyOf 3 = .ok (.imul, 1) := dk_104 (dk_at dksX4_bodyOf_0 3 rfl rfl)
theorem dX4_bodyOf_4 : decode cX4_bodyOf 4 = .ok (.iload_n 1, 1) := dk_27 (dk_at dksX4_bodyOf_0 4 rfl rfl)
theorem dX4_bodyOf_5 : decode cX4_bodyOf 5 = .ok (.iconst 2, 1) := dk_5 (dk_at dksX4_bodyOf_0 5 rfl rfl)
theorem dX4_bodyOf_6 : decode cX4_bodyOf 6 = .ok (.if_icmp .ne 8, 3) := dk_160 0 8 (dk_at dksX4_bodyOf_0 6 rfl rfl)
theorem dX4_bodyOf_9 : decode cX4_bodyOf 9 = .ok (.bipush 24, 2) := dk_16 24 (dk_at dksX4_bodyOf_0 9 rfl rfl)
theorem dX4_bodyOf_11 : decode cX4_bodyOf 11 = .ok (.goto 9, 3) := dk_167 0 9 (dk_at dksX4_bodyOf_0 11 rfl rfl)
theorem dX4_bodyOf_14 : decode cX4_bodyOf 14 = .ok (.bipush 12, 2) := dk_16 12 (dk_at dksX4_bodyOf_0 14 rfl rfl)
theorem dX4_bodyOf_16 : decode cX4_bodyOf 16 = .ok (.iload_n 1, 1) := dk_27 (dk_at dksX4_bodyOf_0 16 rfl rfl)
theorem dX4_bodyOf_17 : decode cX4_bodyOf 17 = .ok (.imul, 1) := dk_104 (dk_at dksX4_bodyOf_0 17 rfl rfl)
theorem dX4_bodyOf_18 : decode cX4_bodyOf 18 = .ok (.iload_n 2, 1) := dk_28 (dk_at dksX4_bodyOf_0 18 rfl rfl)
theorem dX4_bodyOf_19 : decode cX4_bodyOf 19 = .ok (.iadd, 1) := dk_96 (dk_at dksX4_bodyOf_0 19 rfl rfl)
theorem dX4_bodyOf_20 : decode cX4_bodyOf 20 = .ok (.iadd, 1) := dk_96 (dk_at dksX4_bodyOf_0 20 rfl rfl)
theorem dX4_bodyOf_21 : decode cX4_bodyOf 21 = .ok (.ireturn, 1) := dk_172 (dk_at dksX4_bodyOf_0 21 rfl rfl)
abbrev cX4_act : ByteArray := prog_32_method_13_code
def yX4_act : MethodName := ⟨RX4, "act", "(III)I"⟩
def dkwX4_act_6 : List UInt8 := [172]
abbrev dktX4_act_6 : List UInt8 := dkwX4_act_6 ++ []
def dkwX4_act_5 : List UInt8 := [29, 79, 42, 180, 0, 35, 42, 180, 0, 50, 92, 46, 4, 96, 79, 42, 180, 0, 35, 42, 180, 0, 50, 46]
abbrev dktX4_act_5 : List UInt8 := dkwX4_act_5 ++ dktX4_act_6
def dkwX4_act_4 : List UInt8 := [54, 4, 42, 180, 0, 41, 21, 4, 27, 79, 42, 180, 0, 44, 21, 4, 28, 79, 42, 180, 0, 47, 21, 4]
abbrev dktX4_act_4 : List UInt8 := dkwX4_act_4 ++ dktX4_act_5
def dkwX4_act_3 : List UInt8 := [158, 0, 6, 16, 252, 172, 16, 10, 42, 180, 0, 50, 104, 42, 180, 0, 35, 42, 180, 0, 50, 46, 96]
abbrev dktX4_act_3 : List UInt8 := dkwX4_act_3 ++ dktX4_act_4
def dkwX4_act_2 : List UInt8 := [42, 180, 0, 50, 46, 16, 10, 160, 0, 6, 16, 254, 172, 42, 180, 0, 50, 155, 0, 10, 42, 180, 0, 200]
abbrev dktX4_act_2 : List UInt8 := dkwX4_act_2 ++ dktX4_act_3
def dkwX4_act_1 : List UInt8 := [16, 25, 108, 28, 29, 182, 0, 213, 154, 0, 5, 2, 172, 42, 180, 0, 50, 155, 0, 20, 42, 180, 0, 35]
abbrev dktX4_act_1 : List UInt8 := dkwX4_act_1 ++ dktX4_act_2
def dkwX4_act_0 : List UInt8 := [27, 3, 16, 19, 184, 0, 188, 153, 0, 27, 42, 180, 0, 50, 155, 0, 22, 42, 27, 42, 180, 0, 50]
abbrev dktX4_act_0 : List UInt8 := dkwX4_act_0 ++ dktX4_act_1
theorem dksX4_act_0 : cX4_act.data.toList.drop 0 = dktX4_act_0 := by decide +kernel
theorem dksX4_act_1 : cX4_act.data.toList.drop 23 = dktX4_act_1 := dk_seg dksX4_act_0 23 rfl rfl
theorem dksX4_act_2 : cX4_act.data.toList.drop 47 = dktX4_act_2 := dk_seg dksX4_act_1 24 rfl rfl
theorem dksX4_act_3 : cX4_act.data.toList.drop 71 = dktX4_act_3 := dk_seg dksX4_act_2 24 rfl rfl
theorem dksX4_act_4 : cX4_act.data.toList.drop 94 = dktX4_act_4 := dk_seg dksX4_act_3 23 rfl rfl
theorem dksX4_act_5 : cX4_act.data.toList.drop 118 = dktX4_act_5 := dk_seg dksX4_act_4 24 rfl rfl
theorem dksX4_act_6 : cX4_act.data.toList.drop 142 = dktX4_act_6 := dk_seg dksX4_act_5 24 rfl rfl
theorem dX4_act_0 : decode cX4_act 0 = .ok (.iload_n 1, 1) := dk_27 (dk_at dksX4_act_0 0 rfl rfl)
theorem dX4_act_1 : decode cX4_act 1 = .ok (.iconst 0, 1) := dk_3 (dk_at dksX4_act_0 1 rfl rfl)
theorem dX4_act_2 : decode cX4_act 2 = .ok (.bipush 19, 2) := dk_16 19 (dk_at dksX4_act_0 2 rfl rfl)
theorem dX4_act_4 : decode cX4_act 4 = .ok (.invokestatic 188, 3) := dk_184 0 188 (dk_at dksX4_act_0 4 rfl rfl)
theorem dX4_act_7 : decode cX4_act 7 = .ok (.ifCond .eq 27, 3) := dk_153 0 27 (dk_at dksX4_act_0 7 rfl rfl)
theorem dX4_act_10 : decode cX4_act 10 = .ok (.aload_n 0, 1) := dk_42 (dk_at dksX4_act_0 10 rfl rfl)
theorem dX4_act_11 : decode cX4_act 11 = .ok (.getfield 50, 3) := dk_180 0 50 (dk_at dksX4_act_0 11 rfl rfl)
theorem dX4_act_14 : decode cX4_act 14 = .ok (.ifCond .lt 22, 3) := dk_155 0 22 (dk_at dksX4_act_0 14 rfl rfl)
theorem dX4_act_17 : decode cX4_act 17 = .ok (.aload_n 0, 1) := dk_42 (dk_at dksX4_act_0 17 rfl rfl)
theorem dX4_act_18 : decode cX4_act 18 = .ok (.iload_n 1, 1) := dk_27 (dk_at dksX4_act_0 18 rfl rfl)
theorem dX4_act_19 : decode cX4_act 19 = .ok (.aload_n 0, 1) := dk_42 (dk_at dksX4_act_0 19 rfl rfl)
theorem dX4_act_20 : decode cX4_act 20 = .ok (.getfield 50, 3) := dk_180 0 50 (dk_at dksX4_act_0 20 rfl rfl)
theorem dX4_act_23 : decode cX4_act 23 = .ok (.bipush 25, 2) := dk_16 25 (dk_at dksX4_act_1 0 rfl rfl)
theorem dX4_act_25 : decode cX4_act 25 = .ok (.idiv, 1) := dk_108 (dk_at dksX4_act_1 2 rfl rfl)
theorem dX4_act_26 : decode cX4_act 26 = .ok (.iload_n 2, 1) := dk_28 (dk_at dksX4_act_1 3 rfl rfl)
theorem dX4_act_27 : decode cX4_act 27 = .ok (.iload_n 3, 1) := dk_29 (dk_at dksX4_act_1 4 rfl rfl)
theorem dX4_act_28 : decode cX4_act 28 = .ok (.invokevirtual 213, 3) := dk_182 0 213 (dk_at dksX4_act_1 5 rfl rfl)
theorem dX4_act_31 : decode cX4_act 31 = .ok (.ifCond .ne 5, 3) := dk_154 0 5 (dk_at dksX4_act_1 8 rfl rfl)
theorem dX4_act_34 : decode cX4_act 34 = .ok (.iconst (-1), 1) := dk_2 (dk_at dksX4_act_1 11 rfl rfl)
theorem dX4_act_35 : decode cX4_act 35 = .ok (.ireturn, 1) := dk_172 (dk_at dksX4_act_1 12 rfl rfl)
theorem dX4_act_36 : decode cX4_act 36 = .ok (.aload_n 0, 1) := dk_42 (dk_at dksX4_act_1 13 rfl rfl)
theorem dX4_act_37 : decode cX4_act 37 = .ok (.getfield 50, 3) := dk_180 0 50 (dk_at dksX4_act_1 14 rfl rfl)
theorem dX4_act_40 : decode cX4_act 40 = .ok (.ifCond .lt 20, 3) := dk_155 0 20 (dk_at dksX4_act_1 17 rfl rfl)
theorem dX4_act_43 : decode cX4_act 43 = .ok (.aload_n 0, 1) := dk_42 (dk_at dksX4_act_1 20 rfl rfl)
theorem dX4_act_44 : decode cX4_act 44 = .ok (.getfield 35, 3) := dk_180 0 35 (dk_at dksX4_act_1 21 rfl rfl)
theorem dX4_act_47 : decode cX4_act 47 = .ok (.aload_n 0, 1) := dk_42 (dk_at dksX4_act_2 0 rfl rfl)
theorem dX4_act_48 : decode cX4_act 48 = .ok (.getfield 50, 3) := dk_180 0 50 (dk_at dksX4_act_2 1 rfl rfl)
theorem dX4_act_51 : decode cX4_act 51 = .ok (.iaload, 1) := dk_46 (dk_at dksX4_act_2 4 rfl rfl)
theorem dX4_act_52 : decode cX4_act 52 = .ok (.bipush 10, 2) := dk_16 10 (dk_at dksX4_act_2 5 rfl rfl)
theorem dX4_act_54 : decode cX4_act 54 = .ok (.if_icmp .ne 6, 3) := dk_160 0 6 (dk_at dksX4_act_2 7 rfl rfl)
theorem dX4_act_57 : decode cX4_act 57 = .ok (.bipush (-2), 2) := dk_16 254 (dk_at dksX4_act_2 10 rfl rfl)
theorem dX4_act_59 : decode cX4_act 59 = .ok (.ireturn, 1) := dk_172 (dk_at dksX4_act_2 12 rfl rfl)
theorem dX4_act_60 : decode cX4_act 60 = .ok (.aload_n 0, 1) := dk_42 (dk_at dksX4_act_2 13 rfl rfl)
theorem dX4_act_61 : decode cX4_act 61 = .ok (.getfield 50, 3) := dk_180 0 50 (dk_at dksX4_act_2 14 rfl rfl)
theorem dX4_act_64 : decode cX4_act 64 = .ok (.ifCond .lt 10, 3) := dk_155 0 10 (dk_at dksX4_act_2 17 rfl rfl)
theorem dX4_act_67 : decode cX4_act 67 = .ok (.aload_n 0, 1) := dk_42 (dk_at dksX4_act_2 20 rfl rfl)
theorem dX4_act_68 : decode cX4_act 68 = .ok (.getfield 200, 3) := dk_180 0 200 (dk_at dksX4_act_2 21 rfl rfl)
theorem dX4_act_71 : decode cX4_act 71 = .ok (.ifCond .le 6, 3) := dk_158 0 6 (dk_at dksX4_act_3 0 rfl rfl)
theorem dX4_act_74 : decode cX4_act 74 = .ok (.bipush (-4), 2) := dk_16 252 (dk_at dksX4_act_3 3 rfl rfl)
theorem dX4_act_76 : decode cX4_act 76 = .ok (.ireturn, 1) := dk_172 (dk_at dksX4_act_3 5 rfl rfl)
theorem dX4_act_77 : decode cX4_act 77 = .ok (.bipush 10, 2) := dk_16 10 (dk_at dksX4_act_3 6 rfl rfl)
theorem dX4_act_79 : decode cX4_act 79 = .ok (.aload_n 0, 1) := dk_42 (dk_at dksX4_act_3 8 rfl rfl)
theorem dX4_act_80 : decode cX4_act 80 = .ok (.getfield 50, 3) := dk_180 0 50 (dk_at dksX4_act_3 9 rfl rfl)
theorem dX4_act_83 : decode cX4_act 83 = .ok (.imul, 1) := dk_104 (dk_at dksX4_act_3 12 rfl rfl)
theorem dX4_act_84 : decode cX4_act 84 = .ok (.aload_n 0, 1) := dk_42 (dk_at dksX4_act_3 13 rfl rfl)
theorem dX4_act_85 : decode cX4_act 85 = .ok (.getfield 35, 3) := dk_180 0 35 (dk_at dksX4_act_3 14 rfl rfl)
theorem dX4_act_88 : decode cX4_act 88 = .ok (.aload_n 0, 1) := dk_42 (dk_at dksX4_act_3 17 rfl rfl)
theorem dX4_act_89 : decode cX4_act 89 = .ok (.getfield 50, 3) := dk_180 0 50 (dk_at dksX4_act_3 18 rfl rfl)
theorem dX4_act_92 : decode cX4_act 92 = .ok (.iaload, 1) := dk_46 (dk_at dksX4_act_3 21 rfl rfl)
theorem dX4_act_93 : decode cX4_act 93 = .ok (.iadd, 1) := dk_96 (dk_at dksX4_act_3 22 rfl rfl)
theorem dX4_act_94 : decode cX4_act 94 = .ok (.istore 4, 2) := dk_54 4 (dk_at dksX4_act_4 0 rfl rfl)
theorem dX4_act_96 : decode cX4_act 96 = .ok (.aload_n 0, 1) := dk_42 (dk_at dksX4_act_4 2 rfl rfl)
theorem dX4_act_97 : decode cX4_act 97 = .ok (.getfield 41, 3) := dk_180 0 41 (dk_at dksX4_act_4 3 rfl rfl)
theorem dX4_act_100 : decode cX4_act 100 = .ok (.iload 4, 2) := dk_21 4 (dk_at dksX4_act_4 6 rfl rfl)
theorem dX4_act_102 : decode cX4_act 102 = .ok (.iload_n 1, 1) := dk_27 (dk_at dksX4_act_4 8 rfl rfl)
theorem dX4_act_103 : decode cX4_act 103 = .ok (.iastore, 1) := dk_79 (dk_at dksX4_act_4 9 rfl rfl)
theorem dX4_act_104 : decode cX4_act 104 = .ok (.aload_n 0, 1) := dk_42 (dk_at dksX4_act_4 10 rfl rfl)
theorem dX4_act_105 : decode cX4_act 105 = .ok (.getfield 44, 3) := dk_180 0 44 (dk_at dksX4_act_4 11 rfl rfl)
theorem dX4_act_108 : decode cX4_act 108 = .ok (.iload 4, 2) := dk_21 4 (dk_at dksX4_act_4 14 rfl rfl)
theorem dX4_act_110 : decode cX4_act 110 = .ok (.iload_n 2, 1) := dk_28 (dk_at dksX4_act_4 16 rfl rfl)
theorem dX4_act_111 : decode cX4_act 111 = .ok (.iastore, 1) := dk_79 (dk_at dksX4_act_4 17 rfl rfl)
theorem dX4_act_112 : decode cX4_act 112 = .ok (.aload_n 0, 1) := dk_42 (dk_at dksX4_act_4 18 rfl rfl)
theorem dX4_act_113 : decode cX4_act 113 = .ok (.getfield 47, 3) := dk_180 0 47 (dk_at dksX4_act_4 19 rfl rfl)
theorem dX4_act_116 : decode cX4_act 116 = .ok (.iload 4, 2) := dk_21 4 (dk_at dksX4_act_4 22 rfl rfl)
theorem dX4_act_118 : decode cX4_act 118 = .ok (.iload_n 3, 1) := dk_29 (dk_at dksX4_act_5 0 rfl rfl)
theorem dX4_act_119 : decode cX4_act 119 = .ok (.iastore, 1) := dk_79 (dk_at dksX4_act_5 1 rfl rfl)
theorem dX4_act_120 : decode cX4_act 120 = .ok (.aload_n 0, 1) := dk_42 (dk_at dksX4_act_5 2 rfl rfl)
theorem dX4_act_121 : decode cX4_act 121 = .ok (.getfield 35, 3) := dk_180 0 35 (dk_at dksX4_act_5 3 rfl rfl)
theorem dX4_act_124 : decode cX4_act 124 = .ok (.aload_n 0, 1) := dk_42 (dk_at dksX4_act_5 6 rfl rfl)
theorem dX4_act_125 : decode cX4_act 125 = .ok (.getfield 50, 3) := dk_180 0 50 (dk_at dksX4_act_5 7 rfl rfl)
theorem dX4_act_128 : decode cX4_act 128 = .ok (.dup2, 1) := dk_92 (dk_at dksX4_act_5 10 rfl rfl)
theorem dX4_act_129 : decode cX4_act 129 = .ok (.iaload, 1) := dk_46 (dk_at dksX4_act_5 11 rfl rfl)
theorem dX4_act_130 : decode cX4_act 130 = .ok (.iconst 1, 1) := dk_4 (dk_at dksX4_act_5 12 rfl rfl)
theorem dX4_act_131 : decode cX4_act 131 = .ok (.iadd, 1) := dk_96 (dk_at dksX4_act_5 13 rfl rfl)
theorem dX4_act_132 : decode cX4_act 132 = .ok (.iastore, 1) := dk_79 (dk_at dksX4_act_5 14 rfl rfl)
theorem dX4_act_133 : decode cX4_act 133 = .ok (.aload_n 0, 1) := dk_42 (dk_at dksX4_act_5 15 rfl rfl)
theorem dX4_act_134 : decode cX4_act 134 = .ok (.getfield 35, 3) := dk_180 0 35 (dk_at dksX4_act_5 16 rfl rfl)
theorem dX4_act_137 : decode cX4_act 137 = .ok (.aload_n 0, 1) := dk_42 (dk_at dksX4_act_5 19 rfl rfl)
theorem dX4_act_138 : decode cX4_act 138 = .ok (.getfield 50, 3) := dk_180 0 50 (dk_at dksX4_act_5 20 rfl rfl)
theorem dX4_act_141 : decode cX4_act 141 = .ok (.iaload, 1) := dk_46 (dk_at dksX4_act_5 23 rfl rfl)
theorem dX4_act_142 : decode cX4_act 142 = .ok (.ireturn, 1) := dk_172 (dk_at dksX4_act_6 0 rfl rfl)
abbrev cX4_isRight : ByteArray := prog_32_method_12_code
def yX4_isRight : MethodName := ⟨RX4, "isRight", "(IIII)Z"⟩
def dkwX4_isRight_9 : List UInt8 := [16, 23, 184, 0, 188, 153, 0, 7, 4, 167, 0, 4, 3, 172, 4, 172]
abbrev dktX4_isRight_9 : List UInt8 := dkwX4_isRight_9 ++ []
def dkwX4_isRight_8 : List UInt8 := [167, 0, 4, 3, 172, 29, 3, 42, 180, 0, 16, 28, 46, 4, 100, 184, 0, 188, 153, 0, 18, 21, 4, 3]
abbrev dktX4_isRight_8 : List UInt8 := dkwX4_isRight_8 ++ dktX4_isRight_9
def dkwX4_isRight_7 : List UInt8 := [180, 0, 16, 28, 46, 4, 100, 184, 0, 188, 153, 0, 15, 21, 4, 184, 0, 206, 153, 0, 7, 4]
abbrev dktX4_isRight_7 : List UInt8 := dkwX4_isRight_7 ++ dktX4_isRight_8
def dkwX4_isRight_6 : List UInt8 := [180, 0, 7, 28, 46, 4, 100, 184, 0, 188, 153, 0, 7, 4, 167, 0, 4, 3, 172, 29, 3, 42]
abbrev dktX4_isRight_6 : List UInt8 := dkwX4_isRight_6 ++ dktX4_isRight_7
def dkwX4_isRight_5 : List UInt8 := [184, 0, 188, 172, 29, 3, 42, 180, 0, 13, 28, 46, 4, 100, 184, 0, 188, 153, 0, 24, 21, 4, 3, 42]
abbrev dktX4_isRight_5 : List UInt8 := dkwX4_isRight_5 ++ dktX4_isRight_6
def dkwX4_isRight_4 : List UInt8 := [16, 10, 184, 0, 188, 172, 29, 3, 16, 9, 184, 0, 188, 172, 29, 3, 42, 180, 0, 13, 28, 46, 4, 100]
abbrev dktX4_isRight_4 : List UInt8 := dkwX4_isRight_4 ++ dktX4_isRight_5
def dkwX4_isRight_3 : List UInt8 := [172, 29, 3, 16, 7, 184, 0, 188, 172, 29, 184, 0, 206, 172, 29, 3, 6, 184, 0, 188, 172, 29, 3]
abbrev dktX4_isRight_3 : List UInt8 := dkwX4_isRight_3 ++ dktX4_isRight_4
def dkwX4_isRight_2 : List UInt8 := [29, 17, 252, 24, 17, 3, 232, 184, 0, 188, 172, 29, 3, 42, 180, 0, 7, 28, 46, 4, 100, 184, 0, 188]
abbrev dktX4_isRight_2 : List UInt8 := dkwX4_isRight_2 ++ dktX4_isRight_3
def dkwX4_isRight_1 : List UInt8 := [170, 0, 0, 0, 0, 1, 16, 0, 0, 0, 0, 0, 0, 0, 19, 0, 0, 0, 95, 0, 0, 1, 16, 0, 0, 0, 95, 0, 0, 0, 95, 0, 0, 0, 106, 0, 0, 0, 106, 0, 0, 0, 106, 0, 0, 0, 120, 0, 0, 0, 120, 0, 0, 1, 16, 0, 0, 0, 128, 0, 0, 0, 133, 0, 0, 0, 140, 0, 0, 0, 148, 0, 0, 1, 16, 0, 0, 0, 156, 0, 0, 0, 170, 0, 0, 0, 170, 0, 0, 0, 209, 0, 0, 0, 239]
abbrev dktX4_isRight_1 : List UInt8 := dkwX4_isRight_1 ++ dktX4_isRight_2
def dkwX4_isRight_0 : List UInt8 := [27]
abbrev dktX4_isRight_0 : List UInt8 := dkwX4_isRight_0 ++ dktX4_isRight_1
theorem dksX4_isRight_0 : cX4_isRight.data.toList.drop 0 = dktX4_isRight_0 := by decide +kernel
theorem dksX4_isRight_1 : cX4_isRight.data.toList.drop 1 = dktX4_isRight_1 := dk_seg dksX4_isRight_0 1 rfl rfl
theorem dksX4_isRight_2 : cX4_isRight.data.toList.drop 96 = dktX4_isRight_2 := dk_seg dksX4_isRight_1 95 rfl rfl
theorem dksX4_isRight_3 : cX4_isRight.data.toList.drop 120 = dktX4_isRight_3 := dk_seg dksX4_isRight_2 24 rfl rfl
theorem dksX4_isRight_4 : cX4_isRight.data.toList.drop 143 = dktX4_isRight_4 := dk_seg dksX4_isRight_3 23 rfl rfl
theorem dksX4_isRight_5 : cX4_isRight.data.toList.drop 167 = dktX4_isRight_5 := dk_seg dksX4_isRight_4 24 rfl rfl
theorem dksX4_isRight_6 : cX4_isRight.data.toList.drop 191 = dktX4_isRight_6 := dk_seg dksX4_isRight_5 24 rfl rfl
theorem dksX4_isRight_7 : cX4_isRight.data.toList.drop 213 = dktX4_isRight_7 := dk_seg dksX4_isRight_6 22 rfl rfl
theorem dksX4_isRight_8 : cX4_isRight.data.toList.drop 235 = dktX4_isRight_8 := dk_seg dksX4_isRight_7 22 rfl rfl
theorem dksX4_isRight_9 : cX4_isRight.data.toList.drop 259 = dktX4_isRight_9 := dk_seg dksX4_isRight_8 24 rfl rfl
theorem dX4_isRight_0 : decode cX4_isRight 0 = .ok (.iload_n 1, 1) := dk_27 (dk_at dksX4_isRight_0 0 rfl rfl)
theorem dX4_isRight_1 : decode cX4_isRight 1 = .ok (.tableswitch 272 0 19 #[95, 272, 95, 95, 106, 106, 106, 120, 120, 272, 128, 133, 140, 148, 272, 156, 170, 170, 209, 239], 95) := by decide +kernel
theorem dX4_isRight_96 : decode cX4_isRight 96 = .ok (.iload_n 3, 1) := dk_29 (dk_at dksX4_isRight_2 0 rfl rfl)
theorem dX4_isRight_97 : decode cX4_isRight 97 = .ok (.sipush (-1000), 3) := dk_17 252 24 (dk_at dksX4_isRight_2 1 rfl rfl)
theorem dX4_isRight_100 : decode cX4_isRight 100 = .ok (.sipush 1000, 3) := dk_17 3 232 (dk_at dksX4_isRight_2 4 rfl rfl)
theorem dX4_isRight_103 : decode cX4_isRight 103 = .ok (.invokestatic 188, 3) := dk_184 0 188 (dk_at dksX4_isRight_2 7 rfl rfl)
theorem dX4_isRight_106 : decode cX4_isRight 106 = .ok (.ireturn, 1) := dk_172 (dk_at dksX4_isRight_2 10 rfl rfl)
theorem dX4_isRight_107 : decode cX4_isRight 107 = .ok (.iload_n 3, 1) := dk_29 (dk_at dksX4_isRight_2 11 rfl rfl)
theorem dX4_isRight_108 : decode cX4_isRight 108 = .ok (.iconst 0, 1) := dk_3 (dk_at dksX4_isRight_2 12 rfl rfl)
theorem dX4_isRight_109 : decode cX4_isRight 109 = .ok (.aload_n 0, 1) := dk_42 (dk_at dksX4_isRight_2 13 rfl rfl)
theorem dX4_isRight_110 : decode cX4_isRight 110 = .ok (.getfield 7, 3) := dk_180 0 7 (dk_at dksX4_isRight_2 14 rfl rfl)
theorem dX4_isRight_113 : decode cX4_isRight 113 = .ok (.iload_n 2, 1) := dk_28 (dk_at dksX4_isRight_2 17 rfl rfl)
theorem dX4_isRight_114 : decode cX4_isRight 114 = .ok (.iaload, 1) := dk_46 (dk_at dksX4_isRight_2 18 rfl rfl)
theorem dX4_isRight_115 : decode cX4_isRight 115 = .ok (.iconst 1, 1) := dk_4 (dk_at dksX4_isRight_2 19 rfl rfl)
theorem dX4_isRight_116 : decode cX4_isRight 116 = .ok (.isub, 1) := dk_100 (dk_at dksX4_isRight_2 20 rfl rfl)
theorem dX4_isRight_117 : decode cX4_isRight 117 = .ok (.invokestatic 188, 3) := dk_184 0 188 (dk_at dksX4_isRight_2 21 rfl rfl)
theorem dX4_isRight_120 : decode cX4_isRight 120 = .ok (.ireturn, 1) := dk_172 (dk_at dksX4_isRight_3 0 rfl rfl)
theorem dX4_isRight_121 : decode cX4_isRight 121 = .ok (.iload_n 3, 1) := dk_29 (dk_at dksX4_isRight_3 1 rfl rfl)
theorem dX4_isRight_122 : decode cX4_isRight 122 = .ok (.iconst 0, 1) := dk_3 (dk_at dksX4_isRight_3 2 rfl rfl)
theorem dX4_isRight_123 : decode cX4_isRight 123 = .ok (.bipush 7, 2) := dk_16 7 (dk_at dksX4_isRight_3 3 rfl rfl)
theorem dX4_isRight_125 : decode cX4_isRight 125 = .ok (.invokestatic 188, 3) := dk_184 0 188 (dk_at dksX4_isRight_3 5 rfl rfl)
theorem dX4_isRight_128 : decode cX4_isRight 128 = .ok (.ireturn, 1) := dk_172 (dk_at dksX4_isRight_3 8 rfl rfl)
theorem dX4_isRight_129 : decode cX4_isRight 129 = .ok (.iload_n 3, 1) := dk_29 (dk_at dksX4_isRight_3 9 rfl rfl)
theorem dX4_isRight_130 : decode cX4_isRight 130 = .ok (.invokestatic 206, 3) := dk_184 0 206 (dk_at dksX4_isRight_3 10 rfl rfl)
theorem dX4_isRight_133 : decode cX4_isRight 133 = .ok (.ireturn, 1) := dk_172 (dk_at dksX4_isRight_3 13 rfl rfl)
theorem dX4_isRight_134 : decode cX4_isRight 134 = .ok (.iload_n 3, 1) := dk_29 (dk_at dksX4_isRight_3 14 rfl rfl)
theorem dX4_isRight_135 : decode cX4_isRight 135 = .ok (.iconst 0, 1) := dk_3 (dk_at dksX4_isRight_3 15 rfl rfl)
theorem dX4_isRight_136 : decode cX4_isRight 136 = .ok (.iconst 3, 1) := dk_6 (dk_at dksX4_isRight_3 16 rfl rfl)
theorem dX4_isRight_137 : decode cX4_isRight 137 = .ok (.invokestatic 188, 3) := dk_184 0 188 (dk_at dksX4_isRight_3 17 rfl rfl)
theorem dX4_isRight_140 : decode cX4_isRight 140 = .ok (.ireturn, 1) := dk_172 (dk_at dksX4_isRight_3 20 rfl rfl)
theorem dX4_isRight_141 : decode cX4_isRight 141 = .ok (.iload_n 3, 1) := dk_29 (dk_at dksX4_isRight_3 21 rfl rfl)
theorem dX4_isRight_142 : decode cX4_isRight 142 = .ok (.iconst 0, 1) := dk_3 (dk_at dksX4_isRight_3 22 rfl rfl)
theorem dX4_isRight_143 : decode cX4_isRight 143 = .ok (.bipush 10, 2) := dk_16 10 (dk_at dksX4_isRight_4 0 rfl rfl)
theorem dX4_isRight_145 : decode cX4_isRight 145 = .ok (.invokestatic 188, 3) := dk_184 0 188 (dk_at dksX4_isRight_4 2 rfl rfl)
theorem dX4_isRight_148 : decode cX4_isRight 148 = .ok (.ireturn, 1) := dk_172 (dk_at dksX4_isRight_4 5 rfl rfl)
theorem dX4_isRight_149 : decode cX4_isRight 149 = .ok (.iload_n 3, 1) := dk_29 (dk_at dksX4_isRight_4 6 rfl rfl)
theorem dX4_isRight_150 : decode cX4_isRight 150 = .ok (.iconst 0, 1) := dk_3 (dk_at dksX4_isRight_4 7 rfl rfl)
theorem dX4_isRight_151 : decode cX4_isRight 151 = .ok (.bipush 9, 2) := dk_16 9 (dk_at dksX4_isRight_4 8 rfl rfl)
theorem dX4_isRight_153 : decode cX4_isRight 153 = .ok (.invokestatic 188, 3) := dk_184 0 188 (dk_at dksX4_isRight_4 10 rfl rfl)
theorem dX4_isRight_156 : decode cX4_isRight 156 = .ok (.ireturn, 1) := dk_172 (dk_at dksX4_isRight_4 13 rfl rfl)
theorem dX4_isRight_157 : decode cX4_isRight 157 = .ok (.iload_n 3, 1) := dk_29 (dk_at dksX4_isRight_4 14 rfl rfl)
theorem dX4_isRight_158 : decode cX4_isRight 158 = .ok (.iconst 0, 1) := dk_3 (dk_at dksX4_isRight_4 15 rfl rfl)
theorem dX4_isRight_159 : decode cX4_isRight 159 = .ok (.aload_n 0, 1) := dk_42 (dk_at dksX4_isRight_4 16 rfl rfl)
theorem dX4_isRight_160 : decode cX4_isRight 160 = .ok (.getfield 13, 3) := dk_180 0 13 (dk_at dksX4_isRight_4 17 rfl rfl)
theorem dX4_isRight_163 : decode cX4_isRight 163 = .ok (.iload_n 2, 1) := dk_28 (dk_at dksX4_isRight_4 20 rfl rfl)
theorem dX4_isRight_164 : decode cX4_isRight 164 = .ok (.iaload, 1) := dk_46 (dk_at dksX4_isRight_4 21 rfl rfl)
theorem dX4_isRight_165 : decode cX4_isRight 165 = .ok (.iconst 1, 1) := dk_4 (dk_at dksX4_isRight_4 22 rfl rfl)
theorem dX4_isRight_166 : decode cX4_isRight 166 = .ok (.isub, 1) := dk_100 (dk_at dksX4_isRight_4 23 rfl rfl)
theorem dX4_isRight_167 : decode cX4_isRight 167 = .ok (.invokestatic 188, 3) := dk_184 0 188 (dk_at dksX4_isRight_5 0 rfl rfl)
theorem dX4_isRight_170 : decode cX4_isRight 170 = .ok (.ireturn, 1) := dk_172 (dk_at dksX4_isRight_5 3 rfl rfl)
theorem dX4_isRight_171 : decode cX4_isRight 171 = .ok (.iload_n 3, 1) := dk_29 (dk_at dksX4_isRight_5 4 rfl rfl)
theorem dX4_isRight_172 : decode cX4_isRight 172 = .ok (.iconst 0, 1) := dk_3 (dk_at dksX4_isRight_5 5 rfl rfl)
theorem dX4_isRight_173 : decode cX4_isRight 173 = .ok (.aload_n 0, 1) := dk_42 (dk_at dksX4_isRight_5 6 rfl rfl)
theorem dX4_isRight_174 : decode cX4_isRight 174 = .ok (.getfield 13, 3) := dk_180 0 13 (dk_at dksX4_isRight_5 7 rfl rfl)
theorem dX4_isRight_177 : decode cX4_isRight 177 = .ok (.iload_n 2, 1) := dk_28 (dk_at dksX4_isRight_5 10 rfl rfl)
theorem dX4_isRight_178 : decode cX4_isRight 178 = .ok (.iaload, 1) := dk_46 (dk_at dksX4_isRight_5 11 rfl rfl)
theorem dX4_isRight_179 : decode cX4_isRight 179 = .ok (.iconst 1, 1) := dk_4 (dk_at dksX4_isRight_5 12 rfl rfl)
theorem dX4_isRight_180 : decode cX4_isRight 180 = .ok (.isub, 1) := dk_100 (dk_at dksX4_isRight_5 13 rfl rfl)
theorem dX4_isRight_181 : decode cX4_isRight 181 = .ok (.invokestatic 188, 3) := dk_184 0 188 (dk_at dksX4_isRight_5 14 rfl rfl)
theorem dX4_isRight_184 : decode cX4_isRight 184 = .ok (.ifCond .eq 24, 3) := dk_153 0 24 (dk_at dksX4_isRight_5 17 rfl rfl)
theorem dX4_isRight_187 : decode cX4_isRight 187 = .ok (.iload 4, 2) := dk_21 4 (dk_at dksX4_isRight_5 20 rfl rfl)
theorem dX4_isRight_189 : decode cX4_isRight 189 = .ok (.iconst 0, 1) := dk_3 (dk_at dksX4_isRight_5 22 rfl rfl)
theorem dX4_isRight_190 : decode cX4_isRight 190 = .ok (.aload_n 0, 1) := dk_42 (dk_at dksX4_isRight_5 23 rfl rfl)
theorem dX4_isRight_191 : decode cX4_isRight 191 = .ok (.getfield 7, 3) := dk_180 0 7 (dk_at dksX4_isRight_6 0 rfl rfl)
theorem dX4_isRight_194 : decode cX4_isRight 194 = .ok (.iload_n 2, 1) := dk_28 (dk_at dksX4_isRight_6 3 rfl rfl)
theorem dX4_isRight_195 : decode cX4_isRight 195 = .ok (.iaload, 1) := dk_46 (dk_at dksX4_isRight_6 4 rfl rfl)
theorem dX4_isRight_196 : decode cX4_isRight 196 = .ok (.iconst 1, 1) := dk_4 (dk_at dksX4_isRight_6 5 rfl rfl)
theorem dX4_isRight_197 : decode cX4_isRight 197 = .ok (.isub, 1) := dk_100 (dk_at dksX4_isRight_6 6 rfl rfl)
theorem dX4_isRight_198 : decode cX4_isRight 198 = .ok (.invokestatic 188, 3) := dk_184 0 188 (dk_at dksX4_isRight_6 7 rfl rfl)
theorem dX4_isRight_201 : decode cX4_isRight 201 = .ok (.ifCond .eq 7, 3) := dk_153 0 7 (dk_at dksX4_isRight_6 10 rfl rfl)
theorem dX4_isRight_204 : decode cX4_isRight 204 = .ok (.iconst 1, 1) := dk_4 (dk_at dksX4_isRight_6 13 rfl rfl)
theorem dX4_isRight_205 : decode cX4_isRight 205 = .ok (.goto 4, 3) := dk_167 0 4 (dk_at dksX4_isRight_6 14 rfl rfl)
theorem dX4_isRight_208 : decode cX4_isRight 208 = .ok (.iconst 0, 1) := dk_3 (dk_at dksX4_isRight_6 17 rfl rfl)
theorem dX4_isRight_209 : decode cX4_isRight 209 = .ok (.ireturn, 1) := dk_172 (dk_at dksX4_isRight_6 18 rfl rfl)
theorem dX4_isRight_210 : decode cX4_isRight 210 = .ok (.iload_n 3, 1) := dk_29 (dk_at dksX4_isRight_6 19 rfl rfl)
theorem dX4_isRight_211 : decode cX4_isRight 211 = .ok (.iconst 0, 1) := dk_3 (dk_at dksX4_isRight_6 20 rfl rfl)
theorem dX4_isRight_212 : decode cX4_isRight 212 = .ok (.aload_n 0, 1) := dk_42 (dk_at dksX4_isRight_6 21 rfl rfl)
theorem dX4_isRight_213 : decode cX4_isRight 213 = .ok (.getfield 16, 3) := dk_180 0 16 (dk_at dksX4_isRight_7 0 rfl rfl)
theorem dX4_isRight_216 : decode cX4_isRight 216 = .ok (.iload_n 2, 1) := dk_28 (dk_at dksX4_isRight_7 3 rfl rfl)
theorem dX4_isRight_217 : decode cX4_isRight 217 = .ok (.iaload, 1) := dk_46 (dk_at dksX4_isRight_7 4 rfl rfl)
theorem dX4_isRight_218 : decode cX4_isRight 218 = .ok (.iconst 1, 1) := dk_4 (dk_at dksX4_isRight_7 5 rfl rfl)
theorem dX4_isRight_219 : decode cX4_isRight 219 = .ok (.isub, 1) := dk_100 (dk_at dksX4_isRight_7 6 rfl rfl)
theorem dX4_isRight_220 : decode cX4_isRight 220 = .ok (.invokestatic 188, 3) := dk_184 0 188 (dk_at dksX4_isRight_7 7 rfl rfl)
theorem dX4_isRight_223 : decode cX4_isRight 223 = .ok (.ifCond .eq 15, 3) := dk_153 0 15 (dk_at dksX4_isRight_7 10 rfl rfl)
theorem dX4_isRight_226 : decode cX4_isRight 226 = .ok (.iload 4, 2) := dk_21 4 (dk_at dksX4_isRight_7 13 rfl rfl)
theorem dX4_isRight_228 : decode cX4_isRight 228 = .ok (.invokestatic 206, 3) := dk_184 0 206 (dk_at dksX4_isRight_7 15 rfl rfl)
theorem dX4_isRight_231 : decode cX4_isRight 231 = .ok (.ifCond .eq 7, 3) := dk_153 0 7 (dk_at dksX4_isRight_7 18 rfl rfl)
theorem dX4_isRight_234 : decode cX4_isRight 234 = .ok (.iconst 1, 1) := dk_4 (dk_at dksX4_isRight_7 21 rfl rfl)
theorem dX4_isRight_235 : decode cX4_isRight 235 = .ok (.goto 4, 3) := dk_167 0 4 (dk_at dksX4_isRight_8 0 rfl rfl)
theorem dX4_isRight_238 : decode cX4_isRight 238 = .ok (.iconst 0, 1) := dk_3 (dk_at dksX4_isRight_8 3 rfl rfl)
theorem dX4_isRight_239 : decode cX4_isRight 239 = .ok (.ireturn, 1) := dk_172 (dk_at dksX4_isRight_8 4 rfl rfl)
theorem dX4_isRight_240 : decode cX4_isRight 240 = .ok (.iload_n 3, 1) := dk_29 (dk_at dksX4_isRight_8 5 rfl rfl)
theorem dX4_isRight_241 : decode cX4_isRight 241 = .ok (.iconst 0, 1) := dk_3 (dk_at dksX4_isRight_8 6 rfl rfl)
theorem dX4_isRight_242 : decode cX4_isRight 242 = .ok (.aload_n 0, 1) := dk_42 (dk_at dksX4_isRight_8 7 rfl rfl)
theorem dX4_isRight_243 : decode cX4_isRight 243 = .ok (.getfield 16, 3) := dk_180 0 16 (dk_at dksX4_isRight_8 8 rfl rfl)
theorem dX4_isRight_246 : decode cX4_isRight 246 = .ok (.iload_n 2, 1) := dk_28 (dk_at dksX4_isRight_8 11 rfl rfl)
theorem dX4_isRight_247 : decode cX4_isRight 247 = .ok (.iaload, 1) := dk_46 (dk_at dksX4_isRight_8 12 rfl rfl)
theorem dX4_isRight_248 : decode cX4_isRight 248 = .ok (.iconst 1, 1) := dk_4 (dk_at dksX4_isRight_8 13 rfl rfl)
theorem dX4_isRight_249 : decode cX4_isRight 249 = .ok (.isub, 1) := dk_100 (dk_at dksX4_isRight_8 14 rfl rfl)
theorem dX4_isRight_250 : decode cX4_isRight 250 = .ok (.invokestatic 188, 3) := dk_184 0 188 (dk_at dksX4_isRight_8 15 rfl rfl)
theorem dX4_isRight_253 : decode cX4_isRight 253 = .ok (.ifCond .eq 18, 3) := dk_153 0 18 (dk_at dksX4_isRight_8 18 rfl rfl)
theorem dX4_isRight_256 : decode cX4_isRight 256 = .ok (.iload 4, 2) := dk_21 4 (dk_at dksX4_isRight_8 21 rfl rfl)
theorem dX4_isRight_258 : decode cX4_isRight 258 = .ok (.iconst 0, 1) := dk_3 (dk_at dksX4_isRight_8 23 rfl rfl)
theorem dX4_isRight_259 : decode cX4_isRight 259 = .ok (.bipush 23, 2) := dk_16 23 (dk_at dksX4_isRight_9 0 rfl rfl)
theorem dX4_isRight_261 : decode cX4_isRight 261 = .ok (.invokestatic 188, 3) := dk_184 0 188 (dk_at dksX4_isRight_9 2 rfl rfl)
theorem dX4_isRight_264 : decode cX4_isRight 264 = .ok (.ifCond .eq 7, 3) := dk_153 0 7 (dk_at dksX4_isRight_9 5 rfl rfl)
theorem dX4_isRight_267 : decode cX4_isRight 267 = .ok (.iconst 1, 1) := dk_4 (dk_at dksX4_isRight_9 8 rfl rfl)
theorem dX4_isRight_268 : decode cX4_isRight 268 = .ok (.goto 4, 3) := dk_167 0 4 (dk_at dksX4_isRight_9 9 rfl rfl)
theorem dX4_isRight_271 : decode cX4_isRight 271 = .ok (.iconst 0, 1) := dk_3 (dk_at dksX4_isRight_9 12 rfl rfl)
theorem dX4_isRight_272 : decode cX4_isRight 272 = .ok (.ireturn, 1) := dk_172 (dk_at dksX4_isRight_9 13 rfl rfl)
theorem dX4_isRight_273 : decode cX4_isRight 273 = .ok (.iconst 1, 1) := dk_4 (dk_at dksX4_isRight_9 14 rfl rfl)
theorem dX4_isRight_274 : decode cX4_isRight 274 = .ok (.ireturn, 1) := dk_172 (dk_at dksX4_isRight_9 15 rfl rfl)
abbrev cX4_wish : ByteArray := prog_32_method_14_code
def yX4_wish : MethodName := ⟨RX4, "wish", "(II)I"⟩
def dkwX4_wish_1 : List UInt8 := [16, 252, 172, 42, 180, 0, 25, 16, 12, 27, 104, 28, 96, 4, 84, 4, 172]
abbrev dktX4_wish_1 : List UInt8 := dkwX4_wish_1 ++ []
def dkwX4_wish_0 : List UInt8 := [42, 27, 182, 0, 192, 153, 0, 10, 28, 184, 0, 206, 154, 0, 5, 2, 172, 42, 180, 0, 200, 158, 0, 6]
abbrev dktX4_wish_0 : List UInt8 := dkwX4_wish_0 ++ dktX4_wish_1
theorem dksX4_wish_0 : cX4_wish.data.toList.drop 0 = dktX4_wish_0 := by decide +kernel
theorem dksX4_wish_1 : cX4_wish.data.toList.drop 24 = dktX4_wish_1 := dk_seg dksX4_wish_0 24 rfl rfl
theorem dX4_wish_0 : decode cX4_wish 0 = .ok (.aload_n 0, 1) := dk_42 (dk_at dksX4_wish_0 0 rfl rfl)
theorem dX4_wish_1 : decode cX4_wish 1 = .ok (.iload_n 1, 1) := dk_27 (dk_at dksX4_wish_0 1 rfl rfl)
theorem dX4_wish_2 : decode cX4_wish 2 = .ok (.invokevirtual 192, 3) := dk_182 0 192 (dk_at dksX4_wish_0 2 rfl rfl)
theorem dX4_wish_5 : decode cX4_wish 5 = .ok (.ifCond .eq 10, 3) := dk_153 0 10 (dk_at dksX4_wish_0 5 rfl rfl)
theorem dX4_wish_8 : decode cX4_wish 8 = .ok (.iload_n 2, 1) := dk_28 (dk_at dksX4_wish_0 8 rfl rfl)
theorem dX4_wish_9 : decode cX4_wish 9 = .ok (.invokestatic 206, 3) := dk_184 0 206 (dk_at dksX4_wish_0 9 rfl rfl)
theorem dX4_wish_12 : decode cX4_wish 12 = .ok (.ifCond .ne 5, 3) := dk_154 0 5 (dk_at dksX4_wish_0 12 rfl rfl)
theorem dX4_wish_15 : decode cX4_wish 15 = .ok (.iconst (-1), 1) := dk_2 (dk_at dksX4_wish_0 15 rfl rfl)
theorem dX4_wish_16 : decode cX4_wish 16 = .ok (.ireturn, 1) := dk_172 (dk_at dksX4_wish_0 16 rfl rfl)
theorem dX4_wish_17 : decode cX4_wish 17 = .ok (.aload_n 0, 1) := dk_42 (dk_at dksX4_wish_0 17 rfl rfl)
theorem dX4_wish_18 : decode cX4_wish 18 = .ok (.getfield 200, 3) := dk_180 0 200 (dk_at dksX4_wish_0 18 rfl rfl)
theorem dX4_wish_21 : decode cX4_wish 21 = .ok (.ifCond .le 6, 3) := dk_158 0 6 (dk_at dksX4_wish_0 21 rfl rfl)
theorem dX4_wish_24 : decode cX4_wish 24 = .ok (.bipush (-4), 2) := dk_16 252 (dk_at dksX4_wish_1 0 rfl rfl)
theorem dX4_wish_26 : decode cX4_wish 26 = .ok (.ireturn, 1) := dk_172 (dk_at dksX4_wish_1 2 rfl rfl)
theorem dX4_wish_27 : decode cX4_wish 27 = .ok (.aload_n 0, 1) := dk_42 (dk_at dksX4_wish_1 3 rfl rfl)
theorem dX4_wish_28 : decode cX4_wish 28 = .ok (.getfield 25, 3) := dk_180 0 25 (dk_at dksX4_wish_1 4 rfl rfl)
theorem dX4_wish_31 : decode cX4_wish 31 = .ok (.bipush 12, 2) := dk_16 12 (dk_at dksX4_wish_1 7 rfl rfl)
theorem dX4_wish_33 : decode cX4_wish 33 = .ok (.iload_n 1, 1) := dk_27 (dk_at dksX4_wish_1 9 rfl rfl)
theorem dX4_wish_34 : decode cX4_wish 34 = .ok (.imul, 1) := dk_104 (dk_at dksX4_wish_1 10 rfl rfl)
theorem dX4_wish_35 : decode cX4_wish 35 = .ok (.iload_n 2, 1) := dk_28 (dk_at dksX4_wish_1 11 rfl rfl)
theorem dX4_wish_36 : decode cX4_wish 36 = .ok (.iadd, 1) := dk_96 (dk_at dksX4_wish_1 12 rfl rfl)
theorem dX4_wish_37 : decode cX4_wish 37 = .ok (.iconst 1, 1) := dk_4 (dk_at dksX4_wish_1 13 rfl rfl)
theorem dX4_wish_38 : decode cX4_wish 38 = .ok (.bastore, 1) := dk_84 (dk_at dksX4_wish_1 14 rfl rfl)
theorem dX4_wish_39 : decode cX4_wish 39 = .ok (.iconst 1, 1) := dk_4 (dk_at dksX4_wish_1 15 rfl rfl)
theorem dX4_wish_40 : decode cX4_wish 40 = .ok (.ireturn, 1) := dk_172 (dk_at dksX4_wish_1 16 rfl rfl)
abbrev cX4_name : ByteArray := prog_32_method_15_code
def yX4_name : MethodName := ⟨RX4, "name", "(I)I"⟩
def dkwX4_name_3 : List UInt8 := [180, 0, 217, 27, 79, 42, 89, 180, 0, 217, 4, 96, 181, 0, 217, 42, 180, 0, 217, 172]
abbrev dktX4_name_3 : List UInt8 := dkwX4_name_3 ++ []
def dkwX4_name_2 : List UInt8 := [153, 0, 5, 2, 172, 42, 180, 0, 217, 16, 8, 160, 0, 6, 16, 254, 172, 42, 180, 0, 54, 42]
abbrev dktX4_name_2 : List UInt8 := dkwX4_name_2 ++ dktX4_name_3
def dkwX4_name_1 : List UInt8 := [160, 0, 7, 4, 167, 0, 4, 3, 61, 132, 3, 1, 167, 255, 225, 42, 27, 182, 0, 192, 153, 0, 7, 28]
abbrev dktX4_name_1 : List UInt8 := dkwX4_name_1 ++ dktX4_name_2
def dkwX4_name_0 : List UInt8 := [3, 61, 3, 62, 29, 42, 180, 0, 217, 162, 0, 29, 28, 154, 0, 13, 42, 180, 0, 54, 29, 46, 27]
abbrev dktX4_name_0 : List UInt8 := dkwX4_name_0 ++ dktX4_name_1
theorem dksX4_name_0 : cX4_name.data.toList.drop 0 = dktX4_name_0 := by decide +kernel
theorem dksX4_name_1 : cX4_name.data.toList.drop 23 = dktX4_name_1 := dk_seg dksX4_name_0 23 rfl rfl
theorem dksX4_name_2 : cX4_name.data.toList.drop 47 = dktX4_name_2 := dk_seg dksX4_name_1 24 rfl rfl
theorem dksX4_name_3 : cX4_name.data.toList.drop 69 = dktX4_name_3 := dk_seg dksX4_name_2 22 rfl rfl
theorem dX4_name_0 : decode cX4_name 0 = .ok (.iconst 0, 1) := dk_3 (dk_at dksX4_name_0 0 rfl rfl)
theorem dX4_name_1 : decode cX4_name 1 = .ok (.istore_n 2, 1) := dk_61 (dk_at dksX4_name_0 1 rfl rfl)
theorem dX4_name_2 : decode cX4_name 2 = .ok (.iconst 0, 1) := dk_3 (dk_at dksX4_name_0 2 rfl rfl)
theorem dX4_name_3 : decode cX4_name 3 = .ok (.istore_n 3, 1) := dk_62 (dk_at dksX4_name_0 3 rfl rfl)
theorem dX4_name_4 : decode cX4_name 4 = .ok (.iload_n 3, 1) := dk_29 (dk_at dksX4_name_0 4 rfl rfl)
theorem dX4_name_5 : decode cX4_name 5 = .ok (.aload_n 0, 1) := dk_42 (dk_at dksX4_name_0 5 rfl rfl)
theorem dX4_name_6 : decode cX4_name 6 = .ok (.getfield 217, 3) := dk_180 0 217 (dk_at dksX4_name_0 6 rfl rfl)
theorem dX4_name_9 : decode cX4_name 9 = .ok (.if_icmp .ge 29, 3) := dk_162 0 29 (dk_at dksX4_name_0 9 rfl rfl)
theorem dX4_name_12 : decode cX4_name 12 = .ok (.iload_n 2, 1) := dk_28 (dk_at dksX4_name_0 12 rfl rfl)
theorem dX4_name_13 : decode cX4_name 13 = .ok (.ifCond .ne 13, 3) := dk_154 0 13 (dk_at dksX4_name_0 13 rfl rfl)
theorem dX4_name_16 : decode cX4_name 16 = .ok (.aload_n 0, 1) := dk_42 (dk_at dksX4_name_0 16 rfl rfl)
theorem dX4_name_17 : decode cX4_name 17 = .ok (.getfield 54, 3) := dk_180 0 54 (dk_at dksX4_name_0 17 rfl rfl)
theorem dX4_name_20 : decode cX4_name 20 = .ok (.iload_n 3, 1) := dk_29 (dk_at dksX4_name_0 20 rfl rfl)
theorem dX4_name_21 : decode cX4_name 21 = .ok (.iaload, 1) := dk_46 (dk_at dksX4_name_0 21 rfl rfl)
theorem dX4_name_22 : decode cX4_name 22 = .ok (.iload_n 1, 1) := dk_27 (dk_at dksX4_name_0 22 rfl rfl)
theorem dX4_name_23 : decode cX4_name 23 = .ok (.if_icmp .ne 7, 3) := dk_160 0 7 (dk_at dksX4_name_1 0 rfl rfl)
theorem dX4_name_26 : decode cX4_name 26 = .ok (.iconst 1, 1) := dk_4 (dk_at dksX4_name_1 3 rfl rfl)
theorem dX4_name_27 : decode cX4_name 27 = .ok (.goto 4, 3) := dk_167 0 4 (dk_at dksX4_name_1 4 rfl rfl)
theorem dX4_name_30 : decode cX4_name 30 = .ok (.iconst 0, 1) := dk_3 (dk_at dksX4_name_1 7 rfl rfl)
theorem dX4_name_31 : decode cX4_name 31 = .ok (.istore_n 2, 1) := dk_61 (dk_at dksX4_name_1 8 rfl rfl)
theorem dX4_name_32 : decode cX4_name 32 = .ok (.iinc 3 1, 3) := dk_132 3 1 (dk_at dksX4_name_1 9 rfl rfl)
theorem dX4_name_35 : decode cX4_name 35 = .ok (.goto (-31), 3) := dk_167 255 225 (dk_at dksX4_name_1 12 rfl rfl)
theorem dX4_name_38 : decode cX4_name 38 = .ok (.aload_n 0, 1) := dk_42 (dk_at dksX4_name_1 15 rfl rfl)
theorem dX4_name_39 : decode cX4_name 39 = .ok (.iload_n 1, 1) := dk_27 (dk_at dksX4_name_1 16 rfl rfl)
theorem dX4_name_40 : decode cX4_name 40 = .ok (.invokevirtual 192, 3) := dk_182 0 192 (dk_at dksX4_name_1 17 rfl rfl)
theorem dX4_name_43 : decode cX4_name 43 = .ok (.ifCond .eq 7, 3) := dk_153 0 7 (dk_at dksX4_name_1 20 rfl rfl)
theorem dX4_name_46 : decode cX4_name 46 = .ok (.iload_n 2, 1) := dk_28 (dk_at dksX4_name_1 23 rfl rfl)
theorem dX4_name_47 : decode cX4_name 47 = .ok (.ifCond .eq 5, 3) := dk_153 0 5 (dk_at dksX4_name_2 0 rfl rfl)
theorem dX4_name_50 : decode cX4_name 50 = .ok (.iconst (-1), 1) := dk_2 (dk_at dksX4_name_2 3 rfl rfl)
theorem dX4_name_51 : decode cX4_name 51 = .ok (.ireturn, 1) := dk_172 (dk_at dksX4_name_2 4 rfl rfl)
theorem dX4_name_52 : decode cX4_name 52 = .ok (.aload_n 0, 1) := dk_42 (dk_at dksX4_name_2 5 rfl rfl)
theorem dX4_name_53 : decode cX4_name 53 = .ok (.getfield 217, 3) := dk_180 0 217 (dk_at dksX4_name_2 6 rfl rfl)
theorem dX4_name_56 : decode cX4_name 56 = .ok (.bipush 8, 2) := dk_16 8 (dk_at dksX4_name_2 9 rfl rfl)
theorem dX4_name_58 : decode cX4_name 58 = .ok (.if_icmp .ne 6, 3) := dk_160 0 6 (dk_at dksX4_name_2 11 rfl rfl)
theorem dX4_name_61 : decode cX4_name 61 = .ok (.bipush (-2), 2) := dk_16 254 (dk_at dksX4_name_2 14 rfl rfl)
theorem dX4_name_63 : decode cX4_name 63 = .ok (.ireturn, 1) := dk_172 (dk_at dksX4_name_2 16 rfl rfl)
theorem dX4_name_64 : decode cX4_name 64 = .ok (.aload_n 0, 1) := dk_42 (dk_at dksX4_name_2 17 rfl rfl)
theorem dX4_name_65 : decode cX4_name 65 = .ok (.getfield 54, 3) := dk_180 0 54 (dk_at dksX4_name_2 18 rfl rfl)
theorem dX4_name_68 : decode cX4_name 68 = .ok (.aload_n 0, 1) := dk_42 (dk_at dksX4_name_2 21 rfl rfl)
theorem dX4_name_69 : decode cX4_name 69 = .ok (.getfield 217, 3) := dk_180 0 217 (dk_at dksX4_name_3 0 rfl rfl)
theorem dX4_name_72 : decode cX4_name 72 = .ok (.iload_n 1, 1) := dk_27 (dk_at dksX4_name_3 3 rfl rfl)
theorem dX4_name_73 : decode cX4_name 73 = .ok (.iastore, 1) := dk_79 (dk_at dksX4_name_3 4 rfl rfl)
theorem dX4_name_74 : decode cX4_name 74 = .ok (.aload_n 0, 1) := dk_42 (dk_at dksX4_name_3 5 rfl rfl)
theorem dX4_name_75 : decode cX4_name 75 = .ok (.dup, 1) := dk_89 (dk_at dksX4_name_3 6 rfl rfl)
theorem dX4_name_76 : decode cX4_name 76 = .ok (.getfield 217, 3) := dk_180 0 217 (dk_at dksX4_name_3 7 rfl rfl)
theorem dX4_name_79 : decode cX4_name 79 = .ok (.iconst 1, 1) := dk_4 (dk_at dksX4_name_3 10 rfl rfl)
theorem dX4_name_80 : decode cX4_name 80 = .ok (.iadd, 1) := dk_96 (dk_at dksX4_name_3 11 rfl rfl)
theorem dX4_name_81 : decode cX4_name 81 = .ok (.putfield 217, 3) := dk_181 0 217 (dk_at dksX4_name_3 12 rfl rfl)
theorem dX4_name_84 : decode cX4_name 84 = .ok (.aload_n 0, 1) := dk_42 (dk_at dksX4_name_3 15 rfl rfl)
theorem dX4_name_85 : decode cX4_name 85 = .ok (.getfield 217, 3) := dk_180 0 217 (dk_at dksX4_name_3 16 rfl rfl)
theorem dX4_name_88 : decode cX4_name 88 = .ok (.ireturn, 1) := dk_172 (dk_at dksX4_name_3 19 rfl rfl)
abbrev cX4_exclude : ByteArray := prog_32_method_16_code
def yX4_exclude : MethodName := ⟨RX4, "exclude", "(II)I"⟩
def dkwX4_exclude_2 : List UInt8 := [28, 79, 42, 89, 180, 0, 220, 4, 96, 181, 0, 220, 42, 180, 0, 220, 172]
abbrev dktX4_exclude_2 : List UInt8 := dkwX4_exclude_2 ++ []
def dkwX4_exclude_1 : List UInt8 := [160, 0, 6, 16, 254, 172, 42, 180, 0, 57, 42, 180, 0, 220, 27, 79, 42, 180, 0, 60, 42, 180, 0, 220]
abbrev dktX4_exclude_1 : List UInt8 := dkwX4_exclude_1 ++ dktX4_exclude_2
def dkwX4_exclude_0 : List UInt8 := [42, 27, 182, 0, 192, 153, 0, 10, 28, 184, 0, 206, 154, 0, 5, 2, 172, 42, 180, 0, 220, 16, 6]
abbrev dktX4_exclude_0 : List UInt8 := dkwX4_exclude_0 ++ dktX4_exclude_1
theorem dksX4_exclude_0 : cX4_exclude.data.toList.drop 0 = dktX4_exclude_0 := by decide +kernel
theorem dksX4_exclude_1 : cX4_exclude.data.toList.drop 23 = dktX4_exclude_1 := dk_seg dksX4_exclude_0 23 rfl rfl
theorem dksX4_exclude_2 : cX4_exclude.data.toList.drop 47 = dktX4_exclude_2 := dk_seg dksX4_exclude_1 24 rfl rfl
theorem dX4_exclude_0 : decode cX4_exclude 0 = .ok (.aload_n 0, 1) := dk_42 (dk_at dksX4_exclude_0 0 rfl rfl)
theorem dX4_exclude_1 : decode cX4_exclude 1 = .ok (.iload_n 1, 1) := dk_27 (dk_at dksX4_exclude_0 1 rfl rfl)
theorem dX4_exclude_2 : decode cX4_exclude 2 = .ok (.invokevirtual 192, 3) := dk_182 0 192 (dk_at dksX4_exclude_0 2 rfl rfl)
theorem dX4_exclude_5 : decode cX4_exclude 5 = .ok (.ifCond .eq 10, 3) := dk_153 0 10 (dk_at dksX4_exclude_0 5 rfl rfl)
theorem dX4_exclude_8 : decode cX4_exclude 8 = .ok (.iload_n 2, 1) := dk_28 (dk_at dksX4_exclude_0 8 rfl rfl)
theorem dX4_exclude_9 : decode cX4_exclude 9 = .ok (.invokestatic 206, 3) := dk_184 0 206 (dk_at dksX4_exclude_0 9 rfl rfl)
theorem dX4_exclude_12 : decode cX4_exclude 12 = .ok (.ifCond .ne 5, 3) := dk_154 0 5 (dk_at dksX4_exclude_0 12 rfl rfl)
theorem dX4_exclude_15 : decode cX4_exclude 15 = .ok (.iconst (-1), 1) := dk_2 (dk_at dksX4_exclude_0 15 rfl rfl)
theorem dX4_exclude_16 : decode cX4_exclude 16 = .ok (.ireturn, 1) := dk_172 (dk_at dksX4_exclude_0 16 rfl rfl)
theorem dX4_exclude_17 : decode cX4_exclude 17 = .ok (.aload_n 0, 1) := dk_42 (dk_at dksX4_exclude_0 17 rfl rfl)
theorem dX4_exclude_18 : decode cX4_exclude 18 = .ok (.getfield 220, 3) := dk_180 0 220 (dk_at dksX4_exclude_0 18 rfl rfl)
theorem dX4_exclude_21 : decode cX4_exclude 21 = .ok (.bipush 6, 2) := dk_16 6 (dk_at dksX4_exclude_0 21 rfl rfl)
theorem dX4_exclude_23 : decode cX4_exclude 23 = .ok (.if_icmp .ne 6, 3) := dk_160 0 6 (dk_at dksX4_exclude_1 0 rfl rfl)
theorem dX4_exclude_26 : decode cX4_exclude 26 = .ok (.bipush (-2), 2) := dk_16 254 (dk_at dksX4_exclude_1 3 rfl rfl)
theorem dX4_exclude_28 : decode cX4_exclude 28 = .ok (.ireturn, 1) := dk_172 (dk_at dksX4_exclude_1 5 rfl rfl)
theorem dX4_exclude_29 : decode cX4_exclude 29 = .ok (.aload_n 0, 1) := dk_42 (dk_at dksX4_exclude_1 6 rfl rfl)
theorem dX4_exclude_30 : decode cX4_exclude 30 = .ok (.getfield 57, 3) := dk_180 0 57 (dk_at dksX4_exclude_1 7 rfl rfl)
theorem dX4_exclude_33 : decode cX4_exclude 33 = .ok (.aload_n 0, 1) := dk_42 (dk_at dksX4_exclude_1 10 rfl rfl)
theorem dX4_exclude_34 : decode cX4_exclude 34 = .ok (.getfield 220, 3) := dk_180 0 220 (dk_at dksX4_exclude_1 11 rfl rfl)
theorem dX4_exclude_37 : decode cX4_exclude 37 = .ok (.iload_n 1, 1) := dk_27 (dk_at dksX4_exclude_1 14 rfl rfl)
theorem dX4_exclude_38 : decode cX4_exclude 38 = .ok (.iastore, 1) := dk_79 (dk_at dksX4_exclude_1 15 rfl rfl)
theorem dX4_exclude_39 : decode cX4_exclude 39 = .ok (.aload_n 0, 1) := dk_42 (dk_at dksX4_exclude_1 16 rfl rfl)
theorem dX4_exclude_40 : decode cX4_exclude 40 = .ok (.getfield 60, 3) := dk_180 0 60 (dk_at dksX4_exclude_1 17 rfl rfl)
theorem dX4_exclude_43 : decode cX4_exclude 43 = .ok (.aload_n 0, 1) := dk_42 (dk_at dksX4_exclude_1 20 rfl rfl)
theorem dX4_exclude_44 : decode cX4_exclude 44 = .ok (.getfield 220, 3) := dk_180 0 220 (dk_at dksX4_exclude_1 21 rfl rfl)
theorem dX4_exclude_47 : decode cX4_exclude 47 = .ok (.iload_n 2, 1) := dk_28 (dk_at dksX4_exclude_2 0 rfl rfl)
theorem dX4_exclude_48 : decode cX4_exclude 48 = .ok (.iastore, 1) := dk_79 (dk_at dksX4_exclude_2 1 rfl rfl)
theorem dX4_exclude_49 : decode cX4_exclude 49 = .ok (.aload_n 0, 1) := dk_42 (dk_at dksX4_exclude_2 2 rfl rfl)
theorem dX4_exclude_50 : decode cX4_exclude 50 = .ok (.dup, 1) := dk_89 (dk_at dksX4_exclude_2 3 rfl rfl)
theorem dX4_exclude_51 : decode cX4_exclude 51 = .ok (.getfield 220, 3) := dk_180 0 220 (dk_at dksX4_exclude_2 4 rfl rfl)
theorem dX4_exclude_54 : decode cX4_exclude 54 = .ok (.iconst 1, 1) := dk_4 (dk_at dksX4_exclude_2 7 rfl rfl)
theorem dX4_exclude_55 : decode cX4_exclude 55 = .ok (.iadd, 1) := dk_96 (dk_at dksX4_exclude_2 8 rfl rfl)
theorem dX4_exclude_56 : decode cX4_exclude 56 = .ok (.putfield 220, 3) := dk_181 0 220 (dk_at dksX4_exclude_2 9 rfl rfl)
theorem dX4_exclude_59 : decode cX4_exclude 59 = .ok (.aload_n 0, 1) := dk_42 (dk_at dksX4_exclude_2 12 rfl rfl)
theorem dX4_exclude_60 : decode cX4_exclude 60 = .ok (.getfield 220, 3) := dk_180 0 220 (dk_at dksX4_exclude_2 13 rfl rfl)
theorem dX4_exclude_63 : decode cX4_exclude 63 = .ok (.ireturn, 1) := dk_172 (dk_at dksX4_exclude_2 16 rfl rfl)
abbrev cX4_alias : ByteArray := prog_32_method_17_code
def yX4_alias : MethodName := ⟨RX4, "alias", "(III)I"⟩
def dkwX4_alias_2 : List UInt8 := [172]
abbrev dktX4_alias_2 : List UInt8 := dkwX4_alias_2 ++ []
def dkwX4_alias_1 : List UInt8 := [2, 172, 42, 180, 0, 69, 27, 4, 84, 42, 180, 0, 63, 27, 28, 79, 42, 180, 0, 66, 27, 29, 79, 4]
abbrev dktX4_alias_1 : List UInt8 := dkwX4_alias_1 ++ dktX4_alias_2
def dkwX4_alias_0 : List UInt8 := [27, 3, 6, 184, 0, 188, 153, 0, 18, 42, 28, 182, 0, 192, 153, 0, 10, 29, 184, 0, 206, 154, 0, 5]
abbrev dktX4_alias_0 : List UInt8 := dkwX4_alias_0 ++ dktX4_alias_1
theorem dksX4_alias_0 : cX4_alias.data.toList.drop 0 = dktX4_alias_0 := by decide +kernel
theorem dksX4_alias_1 : cX4_alias.data.toList.drop 24 = dktX4_alias_1 := dk_seg dksX4_alias_0 24 rfl rfl
theorem dksX4_alias_2 : cX4_alias.data.toList.drop 48 = dktX4_alias_2 := dk_seg dksX4_alias_1 24 rfl rfl
theorem dX4_alias_0 : decode cX4_alias 0 = .ok (.iload_n 1, 1) := dk_27 (dk_at dksX4_alias_0 0 rfl rfl)
theorem dX4_alias_1 : decode cX4_alias 1 = .ok (.iconst 0, 1) := dk_3 (dk_at dksX4_alias_0 1 rfl rfl)
theorem dX4_alias_2 : decode cX4_alias 2 = .ok (.iconst 3, 1) := dk_6 (dk_at dksX4_alias_0 2 rfl rfl)
theorem dX4_alias_3 : decode cX4_alias 3 = .ok (.invokestatic 188, 3) := dk_184 0 188 (dk_at dksX4_alias_0 3 rfl rfl)
theorem dX4_alias_6 : decode cX4_alias 6 = .ok (.ifCond .eq 18, 3) := dk_153 0 18 (dk_at dksX4_alias_0 6 rfl rfl)
theorem dX4_alias_9 : decode cX4_alias 9 = .ok (.aload_n 0, 1) := dk_42 (dk_at dksX4_alias_0 9 rfl rfl)
theorem dX4_alias_10 : decode cX4_alias 10 = .ok (.iload_n 2, 1) := dk_28 (dk_at dksX4_alias_0 10 rfl rfl)
theorem dX4_alias_11 : decode cX4_alias 11 = .ok (.invokevirtual 192, 3) := dk_182 0 192 (dk_at dksX4_alias_0 11 rfl rfl)
theorem dX4_alias_14 : decode cX4_alias 14 = .ok (.ifCond .eq 10, 3) := dk_153 0 10 (dk_at dksX4_alias_0 14 rfl rfl)
theorem dX4_alias_17 : decode cX4_alias 17 = .ok (.iload_n 3, 1) := dk_29 (dk_at dksX4_alias_0 17 rfl rfl)
theorem dX4_alias_18 : decode cX4_alias 18 = .ok (.invokestatic 206, 3) := dk_184 0 206 (dk_at dksX4_alias_0 18 rfl rfl)
theorem dX4_alias_21 : decode cX4_alias 21 = .ok (.ifCond .ne 5, 3) := dk_154 0 5 (dk_at dksX4_alias_0 21 rfl rfl)
theorem dX4_alias_24 : decode cX4_alias 24 = .ok (.iconst (-1), 1) := dk_2 (dk_at dksX4_alias_1 0 rfl rfl)
theorem dX4_alias_25 : decode cX4_alias 25 = .ok (.ireturn, 1) := dk_172 (dk_at dksX4_alias_1 1 rfl rfl)
theorem dX4_alias_26 : decode cX4_alias 26 = .ok (.aload_n 0, 1) := dk_42 (dk_at dksX4_alias_1 2 rfl rfl)
theorem dX4_alias_27 : decode cX4_alias 27 = .ok (.getfield 69, 3) := dk_180 0 69 (dk_at dksX4_alias_1 3 rfl rfl)
theorem dX4_alias_30 : decode cX4_alias 30 = .ok (.iload_n 1, 1) := dk_27 (dk_at dksX4_alias_1 6 rfl rfl)
theorem dX4_alias_31 : decode cX4_alias 31 = .ok (.iconst 1, 1) := dk_4 (dk_at dksX4_alias_1 7 rfl rfl)
theorem dX4_alias_32 : decode cX4_alias 32 = .ok (.bastore, 1) := dk_84 (dk_at dksX4_alias_1 8 rfl rfl)
theorem dX4_alias_33 : decode cX4_alias 33 = .ok (.aload_n 0, 1) := dk_42 (dk_at dksX4_alias_1 9 rfl rfl)
theorem dX4_alias_34 : decode cX4_alias 34 = .ok (.getfield 63, 3) := dk_180 0 63 (dk_at dksX4_alias_1 10 rfl rfl)
theorem dX4_alias_37 : decode cX4_alias 37 = .ok (.iload_n 1, 1) := dk_27 (dk_at dksX4_alias_1 13 rfl rfl)
theorem dX4_alias_38 : decode cX4_alias 38 = .ok (.iload_n 2, 1) := dk_28 (dk_at dksX4_alias_1 14 rfl rfl)
theorem dX4_alias_39 : decode cX4_alias 39 = .ok (.iastore, 1) := dk_79 (dk_at dksX4_alias_1 15 rfl rfl)
theorem dX4_alias_40 : decode cX4_alias 40 = .ok (.aload_n 0, 1) := dk_42 (dk_at dksX4_alias_1 16 rfl rfl)
theorem dX4_alias_41 : decode cX4_alias 41 = .ok (.getfield 66, 3) := dk_180 0 66 (dk_at dksX4_alias_1 17 rfl rfl)
theorem dX4_alias_44 : decode cX4_alias 44 = .ok (.iload_n 1, 1) := dk_27 (dk_at dksX4_alias_1 20 rfl rfl)
theorem dX4_alias_45 : decode cX4_alias 45 = .ok (.iload_n 3, 1) := dk_29 (dk_at dksX4_alias_1 21 rfl rfl)
theorem dX4_alias_46 : decode cX4_alias 46 = .ok (.iastore, 1) := dk_79 (dk_at dksX4_alias_1 22 rfl rfl)
theorem dX4_alias_47 : decode cX4_alias 47 = .ok (.iconst 1, 1) := dk_4 (dk_at dksX4_alias_1 23 rfl rfl)
theorem dX4_alias_48 : decode cX4_alias 48 = .ok (.ireturn, 1) := dk_172 (dk_at dksX4_alias_2 0 rfl rfl)
abbrev cX4_weave : ByteArray := prog_32_method_31_code
def yX4_weave : MethodName := ⟨RX4, "weave", "()I"⟩
def dkwX4_weave_1 : List UInt8 := [180, 0, 69, 28, 3, 84, 132, 2, 1, 167, 255, 241, 27, 172]
abbrev dktX4_weave_1 : List UInt8 := dkwX4_weave_1 ++ []
def dkwX4_weave_0 : List UInt8 := [42, 182, 1, 9, 60, 42, 3, 181, 0, 217, 42, 3, 181, 0, 220, 3, 61, 28, 7, 162, 0, 16, 42]
abbrev dktX4_weave_0 : List UInt8 := dkwX4_weave_0 ++ dktX4_weave_1
theorem dksX4_weave_0 : cX4_weave.data.toList.drop 0 = dktX4_weave_0 := by decide +kernel
theorem dksX4_weave_1 : cX4_weave.data.toList.drop 23 = dktX4_weave_1 := dk_seg dksX4_weave_0 23 rfl rfl
theorem dX4_weave_0 : decode cX4_weave 0 = .ok (.aload_n 0, 1) := dk_42 (dk_at dksX4_weave_0 0 rfl rfl)
theorem dX4_weave_1 : decode cX4_weave 1 = .ok (.invokevirtual 265, 3) := dk_182 1 9 (dk_at dksX4_weave_0 1 rfl rfl)
theorem dX4_weave_4 : decode cX4_weave 4 = .ok (.istore_n 1, 1) := dk_60 (dk_at dksX4_weave_0 4 rfl rfl)
theorem dX4_weave_5 : decode cX4_weave 5 = .ok (.aload_n 0, 1) := dk_42 (dk_at dksX4_weave_0 5 rfl rfl)
theorem dX4_weave_6 : decode cX4_weave 6 = .ok (.iconst 0, 1) := dk_3 (dk_at dksX4_weave_0 6 rfl rfl)
theorem dX4_weave_7 : decode cX4_weave 7 = .ok (.putfield 217, 3) := dk_181 0 217 (dk_at dksX4_weave_0 7 rfl rfl)
theorem dX4_weave_10 : decode cX4_weave 10 = .ok (.aload_n 0, 1) := dk_42 (dk_at dksX4_weave_0 10 rfl rfl)
theorem dX4_weave_11 : decode cX4_weave 11 = .ok (.iconst 0, 1) := dk_3 (dk_at dksX4_weave_0 11 rfl rfl)
theorem dX4_weave_12 : decode cX4_weave 12 = .ok (.putfield 220, 3) := dk_181 0 220 (dk_at dksX4_weave_0 12 rfl rfl)
theorem dX4_weave_15 : decode cX4_weave 15 = .ok (.iconst 0, 1) := dk_3 (dk_at dksX4_weave_0 15 rfl rfl)
theorem dX4_weave_16 : decode cX4_weave 16 = .ok (.istore_n 2, 1) := dk_61 (dk_at dksX4_weave_0 16 rfl rfl)
theorem dX4_weave_17 : decode cX4_weave 17 = .ok (.iload_n 2, 1) := dk_28 (dk_at dksX4_weave_0 17 rfl rfl)
theorem dX4_weave_18 : decode cX4_weave 18 = .ok (.iconst 4, 1) := dk_7 (dk_at dksX4_weave_0 18 rfl rfl)
theorem dX4_weave_19 : decode cX4_weave 19 = .ok (.if_icmp .ge 16, 3) := dk_162 0 16 (dk_at dksX4_weave_0 19 rfl rfl)
theorem dX4_weave_22 : decode cX4_weave 22 = .ok (.aload_n 0, 1) := dk_42 (dk_at dksX4_weave_0 22 rfl rfl)
theorem dX4_weave_23 : decode cX4_weave 23 = .ok (.getfield 69, 3) := dk_180 0 69 (dk_at dksX4_weave_1 0 rfl rfl)
theorem dX4_weave_26 : decode cX4_weave 26 = .ok (.iload_n 2, 1) := dk_28 (dk_at dksX4_weave_1 3 rfl rfl)
theorem dX4_weave_27 : decode cX4_weave 27 = .ok (.iconst 0, 1) := dk_3 (dk_at dksX4_weave_1 4 rfl rfl)
theorem dX4_weave_28 : decode cX4_weave 28 = .ok (.bastore, 1) := dk_84 (dk_at dksX4_weave_1 5 rfl rfl)
theorem dX4_weave_29 : decode cX4_weave 29 = .ok (.iinc 2 1, 3) := dk_132 2 1 (dk_at dksX4_weave_1 6 rfl rfl)
theorem dX4_weave_32 : decode cX4_weave 32 = .ok (.goto (-15), 3) := dk_167 255 241 (dk_at dksX4_weave_1 9 rfl rfl)
theorem dX4_weave_35 : decode cX4_weave 35 = .ok (.iload_n 1, 1) := dk_27 (dk_at dksX4_weave_1 12 rfl rfl)
theorem dX4_weave_36 : decode cX4_weave 36 = .ok (.ireturn, 1) := dk_172 (dk_at dksX4_weave_1 13 rfl rfl)
abbrev cX4_woven : ByteArray := prog_32_method_30_code
def yX4_woven : MethodName := ⟨RX4, "woven", "()I"⟩
def dkwX4_woven_7 : List UInt8 := [167, 255, 197, 42, 89, 180, 0, 200, 4, 96, 181, 0, 200, 42, 180, 0, 200, 4, 100, 172]
abbrev dktX4_woven_7 : List UInt8 := dkwX4_woven_7 ++ []
def dkwX4_woven_6 : List UInt8 := [46, 96, 27, 79, 42, 180, 0, 93, 16, 24, 42, 180, 0, 200, 104, 27, 96, 3, 79, 132, 1, 1]
abbrev dktX4_woven_6 : List UInt8 := dkwX4_woven_6 ++ dktX4_woven_7
def dkwX4_woven_5 : List UInt8 := [42, 180, 0, 78, 16, 24, 42, 180, 0, 200, 104, 42, 180, 0, 75, 16, 24, 42, 180, 0, 200, 104, 27, 96]
abbrev dktX4_woven_5 : List UInt8 := dkwX4_woven_5 ++ dktX4_woven_6
def dkwX4_woven_4 : List UInt8 := [16, 247, 79, 132, 1, 1, 167, 255, 231, 3, 60, 27, 42, 180, 0, 72, 42, 180, 0, 200, 46, 162, 0, 52]
abbrev dktX4_woven_4 : List UInt8 := dkwX4_woven_4 ++ dktX4_woven_5
def dkwX4_woven_3 : List UInt8 := [16, 248, 172, 3, 60, 27, 16, 24, 162, 0, 25, 42, 180, 0, 78, 16, 24, 42, 180, 0, 200, 104, 27, 96]
abbrev dktX4_woven_3 : List UInt8 := dkwX4_woven_3 ++ dktX4_woven_4
def dkwX4_woven_2 : List UInt8 := [180, 0, 200, 27, 182, 1, 2, 132, 1, 1, 167, 255, 238, 42, 42, 180, 0, 200, 182, 1, 6, 153, 0, 6]
abbrev dktX4_woven_2 : List UInt8 := dkwX4_woven_2 ++ dktX4_woven_3
def dkwX4_woven_1 : List UInt8 := [180, 0, 200, 182, 0, 255, 154, 0, 6, 16, 250, 172, 3, 60, 27, 16, 12, 162, 0, 18, 42, 42]
abbrev dktX4_woven_1 : List UInt8 := dkwX4_woven_1 ++ dktX4_woven_2
def dkwX4_woven_0 : List UInt8 := [42, 180, 0, 200, 16, 24, 160, 0, 6, 16, 254, 172, 42, 180, 0, 217, 154, 0, 6, 16, 252, 172, 42, 42]
abbrev dktX4_woven_0 : List UInt8 := dkwX4_woven_0 ++ dktX4_woven_1
theorem dksX4_woven_0 : cX4_woven.data.toList.drop 0 = dktX4_woven_0 := by decide +kernel
theorem dksX4_woven_1 : cX4_woven.data.toList.drop 24 = dktX4_woven_1 := dk_seg dksX4_woven_0 24 rfl rfl
theorem dksX4_woven_2 : cX4_woven.data.toList.drop 46 = dktX4_woven_2 := dk_seg dksX4_woven_1 22 rfl rfl
theorem dksX4_woven_3 : cX4_woven.data.toList.drop 70 = dktX4_woven_3 := dk_seg dksX4_woven_2 24 rfl rfl
theorem dksX4_woven_4 : cX4_woven.data.toList.drop 94 = dktX4_woven_4 := dk_seg dksX4_woven_3 24 rfl rfl
theorem dksX4_woven_5 : cX4_woven.data.toList.drop 118 = dktX4_woven_5 := dk_seg dksX4_woven_4 24 rfl rfl
theorem dksX4_woven_6 : cX4_woven.data.toList.drop 142 = dktX4_woven_6 := dk_seg dksX4_woven_5 24 rfl rfl
theorem dksX4_woven_7 : cX4_woven.data.toList.drop 164 = dktX4_woven_7 := dk_seg dksX4_woven_6 22 rfl rfl
theorem dX4_woven_0 : decode cX4_woven 0 = .ok (.aload_n 0, 1) := dk_42 (dk_at dksX4_woven_0 0 rfl rfl)
theorem dX4_woven_1 : decode cX4_woven 1 = .ok (.getfield 200, 3) := dk_180 0 200 (dk_at dksX4_woven_0 1 rfl rfl)
theorem dX4_woven_4 : decode cX4_woven 4 = .ok (.bipush 24, 2) := dk_16 24 (dk_at dksX4_woven_0 4 rfl rfl)
theorem dX4_woven_6 : decode cX4_woven 6 = .ok (.if_icmp .ne 6, 3) := dk_160 0 6 (dk_at dksX4_woven_0 6 rfl rfl)
theorem dX4_woven_9 : decode cX4_woven 9 = .ok (.bipush (-2), 2) := dk_16 254 (dk_at dksX4_woven_0 9 rfl rfl)
theorem dX4_woven_11 : decode cX4_woven 11 = .ok (.ireturn, 1) := dk_172 (dk_at dksX4_woven_0 11 rfl rfl)
theorem dX4_woven_12 : decode cX4_woven 12 = .ok (.aload_n 0, 1) := dk_42 (dk_at dksX4_woven_0 12 rfl rfl)
theorem dX4_woven_13 : decode cX4_woven 13 = .ok (.getfield 217, 3) := dk_180 0 217 (dk_at dksX4_woven_0 13 rfl rfl)
theorem dX4_woven_16 : decode cX4_woven 16 = .ok (.ifCond .ne 6, 3) := dk_154 0 6 (dk_at dksX4_woven_0 16 rfl rfl)
theorem dX4_woven_19 : decode cX4_woven 19 = .ok (.bipush (-4), 2) := dk_16 252 (dk_at dksX4_woven_0 19 rfl rfl)
theorem dX4_woven_21 : decode cX4_woven 21 = .ok (.ireturn, 1) := dk_172 (dk_at dksX4_woven_0 21 rfl rfl)
theorem dX4_woven_22 : decode cX4_woven 22 = .ok (.aload_n 0, 1) := dk_42 (dk_at dksX4_woven_0 22 rfl rfl)
theorem dX4_woven_23 : decode cX4_woven 23 = .ok (.aload_n 0, 1) := dk_42 (dk_at dksX4_woven_0 23 rfl rfl)
theorem dX4_woven_24 : decode cX4_woven 24 = .ok (.getfield 200, 3) := dk_180 0 200 (dk_at dksX4_woven_1 0 rfl rfl)
theorem dX4_woven_27 : decode cX4_woven 27 = .ok (.invokevirtual 255, 3) := dk_182 0 255 (dk_at dksX4_woven_1 3 rfl rfl)
theorem dX4_woven_30 : decode cX4_woven 30 = .ok (.ifCond .ne 6, 3) := dk_154 0 6 (dk_at dksX4_woven_1 6 rfl rfl)
theorem dX4_woven_33 : decode cX4_woven 33 = .ok (.bipush (-6), 2) := dk_16 250 (dk_at dksX4_woven_1 9 rfl rfl)
theorem dX4_woven_35 : decode cX4_woven 35 = .ok (.ireturn, 1) := dk_172 (dk_at dksX4_woven_1 11 rfl rfl)
theorem dX4_woven_36 : decode cX4_woven 36 = .ok (.iconst 0, 1) := dk_3 (dk_at dksX4_woven_1 12 rfl rfl)
theorem dX4_woven_37 : decode cX4_woven 37 = .ok (.istore_n 1, 1) := dk_60 (dk_at dksX4_woven_1 13 rfl rfl)
theorem dX4_woven_38 : decode cX4_woven 38 = .ok (.iload_n 1, 1) := dk_27 (dk_at dksX4_woven_1 14 rfl rfl)
theorem dX4_woven_39 : decode cX4_woven 39 = .ok (.bipush 12, 2) := dk_16 12 (dk_at dksX4_woven_1 15 rfl rfl)
theorem dX4_woven_41 : decode cX4_woven 41 = .ok (.if_icmp .ge 18, 3) := dk_162 0 18 (dk_at dksX4_woven_1 17 rfl rfl)
theorem dX4_woven_44 : decode cX4_woven 44 = .ok (.aload_n 0, 1) := dk_42 (dk_at dksX4_woven_1 20 rfl rfl)
theorem dX4_woven_45 : decode cX4_woven 45 = .ok (.aload_n 0, 1) := dk_42 (dk_at dksX4_woven_1 21 rfl rfl)
theorem dX4_woven_46 : decode cX4_woven 46 = .ok (.getfield 200, 3) := dk_180 0 200 (dk_at dksX4_woven_2 0 rfl rfl)
theorem dX4_woven_49 : decode cX4_woven 49 = .ok (.iload_n 1, 1) := dk_27 (dk_at dksX4_woven_2 3 rfl rfl)
theorem dX4_woven_50 : decode cX4_woven 50 = .ok (.invokevirtual 258, 3) := dk_182 1 2 (dk_at dksX4_woven_2 4 rfl rfl)
theorem dX4_woven_53 : decode cX4_woven 53 = .ok (.iinc 1 1, 3) := dk_132 1 1 (dk_at dksX4_woven_2 7 rfl rfl)
theorem dX4_woven_56 : decode cX4_woven 56 = .ok (.goto (-18), 3) := dk_167 255 238 (dk_at dksX4_woven_2 10 rfl rfl)
theorem dX4_woven_59 : decode cX4_woven 59 = .ok (.aload_n 0, 1) := dk_42 (dk_at dksX4_woven_2 13 rfl rfl)
theorem dX4_woven_60 : decode cX4_woven 60 = .ok (.aload_n 0, 1) := dk_42 (dk_at dksX4_woven_2 14 rfl rfl)
theorem dX4_woven_61 : decode cX4_woven 61 = .ok (.getfield 200, 3) := dk_180 0 200 (dk_at dksX4_woven_2 15 rfl rfl)
theorem dX4_woven_64 : decode cX4_woven 64 = .ok (.invokevirtual 262, 3) := dk_182 1 6 (dk_at dksX4_woven_2 18 rfl rfl)
theorem dX4_woven_67 : decode cX4_woven 67 = .ok (.ifCond .eq 6, 3) := dk_153 0 6 (dk_at dksX4_woven_2 21 rfl rfl)
theorem dX4_woven_70 : decode cX4_woven 70 = .ok (.bipush (-8), 2) := dk_16 248 (dk_at dksX4_woven_3 0 rfl rfl)
theorem dX4_woven_72 : decode cX4_woven 72 = .ok (.ireturn, 1) := dk_172 (dk_at dksX4_woven_3 2 rfl rfl)
theorem dX4_woven_73 : decode cX4_woven 73 = .ok (.iconst 0, 1) := dk_3 (dk_at dksX4_woven_3 3 rfl rfl)
theorem dX4_woven_74 : decode cX4_woven 74 = .ok (.istore_n 1, 1) := dk_60 (dk_at dksX4_woven_3 4 rfl rfl)
theorem dX4_woven_75 : decode cX4_woven 75 = .ok (.iload_n 1, 1) := dk_27 (dk_at dksX4_woven_3 5 rfl rfl)
theorem dX4_woven_76 : decode cX4_woven 76 = .ok (.bipush 24, 2) := dk_16 24 (dk_at dksX4_woven_3 6 rfl rfl)
theorem dX4_woven_78 : decode cX4_woven 78 = .ok (.if_icmp .ge 25, 3) := dk_162 0 25 (dk_at dksX4_woven_3 8 rfl rfl)
theorem dX4_woven_81 : decode cX4_woven 81 = .ok (.aload_n 0, 1) := dk_42 (dk_at dksX4_woven_3 11 rfl rfl)
theorem dX4_woven_82 : decode cX4_woven 82 = .ok (.getfield 78, 3) := dk_180 0 78 (dk_at dksX4_woven_3 12 rfl rfl)
theorem dX4_woven_85 : decode cX4_woven 85 = .ok (.bipush 24, 2) := dk_16 24 (dk_at dksX4_woven_3 15 rfl rfl)
theorem dX4_woven_87 : decode cX4_woven 87 = .ok (.aload_n 0, 1) := dk_42 (dk_at dksX4_woven_3 17 rfl rfl)
theorem dX4_woven_88 : decode cX4_woven 88 = .ok (.getfield 200, 3) := dk_180 0 200 (dk_at dksX4_woven_3 18 rfl rfl)
theorem dX4_woven_91 : decode cX4_woven 91 = .ok (.imul, 1) := dk_104 (dk_at dksX4_woven_3 21 rfl rfl)
theorem dX4_woven_92 : decode cX4_woven 92 = .ok (.iload_n 1, 1) := dk_27 (dk_at dksX4_woven_3 22 rfl rfl)
theorem dX4_woven_93 : decode cX4_woven 93 = .ok (.iadd, 1) := dk_96 (dk_at dksX4_woven_3 23 rfl rfl)
theorem dX4_woven_94 : decode cX4_woven 94 = .ok (.bipush (-9), 2) := dk_16 247 (dk_at dksX4_woven_4 0 rfl rfl)
theorem dX4_woven_96 : decode cX4_woven 96 = .ok (.iastore, 1) := dk_79 (dk_at dksX4_woven_4 2 rfl rfl)
theorem dX4_woven_97 : decode cX4_woven 97 = .ok (.iinc 1 1, 3) := dk_132 1 1 (dk_at dksX4_woven_4 3 rfl rfl)
theorem dX4_woven_100 : decode cX4_woven 100 = .ok (.goto (-25), 3) := dk_167 255 231 (dk_at dksX4_woven_4 6 rfl rfl)
theorem dX4_woven_103 : decode cX4_woven 103 = .ok (.iconst 0, 1) := dk_3 (dk_at dksX4_woven_4 9 rfl rfl)
theorem dX4_woven_104 : decode cX4_woven 104 = .ok (.istore_n 1, 1) := dk_60 (dk_at dksX4_woven_4 10 rfl rfl)
theorem dX4_woven_105 : decode cX4_woven 105 = .ok (.iload_n 1, 1) := dk_27 (dk_at dksX4_woven_4 11 rfl rfl)
theorem dX4_woven_106 : decode cX4_woven 106 = .ok (.aload_n 0, 1) := dk_42 (dk_at dksX4_woven_4 12 rfl rfl)
theorem dX4_woven_107 : decode cX4_woven 107 = .ok (.getfield 72, 3) := dk_180 0 72 (dk_at dksX4_woven_4 13 rfl rfl)
theorem dX4_woven_110 : decode cX4_woven 110 = .ok (.aload_n 0, 1) := dk_42 (dk_at dksX4_woven_4 16 rfl rfl)
theorem dX4_woven_111 : decode cX4_woven 111 = .ok (.getfield 200, 3) := dk_180 0 200 (dk_at dksX4_woven_4 17 rfl rfl)
theorem dX4_woven_114 : decode cX4_woven 114 = .ok (.iaload, 1) := dk_46 (dk_at dksX4_woven_4 20 rfl rfl)
theorem dX4_woven_115 : decode cX4_woven 115 = .ok (.if_icmp .ge 52, 3) := dk_162 0 52 (dk_at dksX4_woven_4 21 rfl rfl)
theorem dX4_woven_118 : decode cX4_woven 118 = .ok (.aload_n 0, 1) := dk_42 (dk_at dksX4_woven_5 0 rfl rfl)
theorem dX4_woven_119 : decode cX4_woven 119 = .ok (.getfield 78, 3) := dk_180 0 78 (dk_at dksX4_woven_5 1 rfl rfl)
theorem dX4_woven_122 : decode cX4_woven 122 = .ok (.bipush 24, 2) := dk_16 24 (dk_at dksX4_woven_5 4 rfl rfl)
theorem dX4_woven_124 : decode cX4_woven 124 = .ok (.aload_n 0, 1) := dk_42 (dk_at dksX4_woven_5 6 rfl rfl)
theorem dX4_woven_125 : decode cX4_woven 125 = .ok (.getfield 200, 3) := dk_180 0 200 (dk_at dksX4_woven_5 7 rfl rfl)
theorem dX4_woven_128 : decode cX4_woven 128 = .ok (.imul, 1) := dk_104 (dk_at dksX4_woven_5 10 rfl rfl)
theorem dX4_woven_129 : decode cX4_woven 129 = .ok (.aload_n 0, 1) := dk_42 (dk_at dksX4_woven_5 11 rfl rfl)
theorem dX4_woven_130 : decode cX4_woven 130 = .ok (.getfield 75, 3) := dk_180 0 75 (dk_at dksX4_woven_5 12 rfl rfl)
theorem dX4_woven_133 : decode cX4_woven 133 = .ok (.bipush 24, 2) := dk_16 24 (dk_at dksX4_woven_5 15 rfl rfl)
theorem dX4_woven_135 : decode cX4_woven 135 = .ok (.aload_n 0, 1) := dk_42 (dk_at dksX4_woven_5 17 rfl rfl)
theorem dX4_woven_136 : decode cX4_woven 136 = .ok (.getfield 200, 3) := dk_180 0 200 (dk_at dksX4_woven_5 18 rfl rfl)
theorem dX4_woven_139 : decode cX4_woven 139 = .ok (.imul, 1) := dk_104 (dk_at dksX4_woven_5 21 rfl rfl)
theorem dX4_woven_140 : decode cX4_woven 140 = .ok (.iload_n 1, 1) := dk_27 (dk_at dksX4_woven_5 22 rfl rfl)
theorem dX4_woven_141 : decode cX4_woven 141 = .ok (.iadd, 1) := dk_96 (dk_at dksX4_woven_5 23 rfl rfl)
theorem dX4_woven_142 : decode cX4_woven 142 = .ok (.iaload, 1) := dk_46 (dk_at dksX4_woven_6 0 rfl rfl)
theorem dX4_woven_143 : decode cX4_woven 143 = .ok (.iadd, 1) := dk_96 (dk_at dksX4_woven_6 1 rfl rfl)
theorem dX4_woven_144 : decode cX4_woven 144 = .ok (.iload_n 1, 1) := dk_27 (dk_at dksX4_woven_6 2 rfl rfl)
theorem dX4_woven_145 : decode cX4_woven 145 = .ok (.iastore, 1) := dk_79 (dk_at dksX4_woven_6 3 rfl rfl)
theorem dX4_woven_146 : decode cX4_woven 146 = .ok (.aload_n 0, 1) := dk_42 (dk_at dksX4_woven_6 4 rfl rfl)
theorem dX4_woven_147 : decode cX4_woven 147 = .ok (.getfield 93, 3) := dk_180 0 93 (dk_at dksX4_woven_6 5 rfl rfl)
theorem dX4_woven_150 : decode cX4_woven 150 = .ok (.bipush 24, 2) := dk_16 24 (dk_at dksX4_woven_6 8 rfl rfl)
theorem dX4_woven_152 : decode cX4_woven 152 = .ok (.aload_n 0, 1) := dk_42 (dk_at dksX4_woven_6 10 rfl rfl)
theorem dX4_woven_153 : decode cX4_woven 153 = .ok (.getfield 200, 3) := dk_180 0 200 (dk_at dksX4_woven_6 11 rfl rfl)
theorem dX4_woven_156 : decode cX4_woven 156 = .ok (.imul, 1) := dk_104 (dk_at dksX4_woven_6 14 rfl rfl)
theorem dX4_woven_157 : decode cX4_woven 157 = .ok (.iload_n 1, 1) := dk_27 (dk_at dksX4_woven_6 15 rfl rfl)
theorem dX4_woven_158 : decode cX4_woven 158 = .ok (.iadd, 1) := dk_96 (dk_at dksX4_woven_6 16 rfl rfl)
theorem dX4_woven_159 : decode cX4_woven 159 = .ok (.iconst 0, 1) := dk_3 (dk_at dksX4_woven_6 17 rfl rfl)
theorem dX4_woven_160 : decode cX4_woven 160 = .ok (.iastore, 1) := dk_79 (dk_at dksX4_woven_6 18 rfl rfl)
theorem dX4_woven_161 : decode cX4_woven 161 = .ok (.iinc 1 1, 3) := dk_132 1 1 (dk_at dksX4_woven_6 19 rfl rfl)
theorem dX4_woven_164 : decode cX4_woven 164 = .ok (.goto (-59), 3) := dk_167 255 197 (dk_at dksX4_woven_7 0 rfl rfl)
theorem dX4_woven_167 : decode cX4_woven 167 = .ok (.aload_n 0, 1) := dk_42 (dk_at dksX4_woven_7 3 rfl rfl)
theorem dX4_woven_168 : decode cX4_woven 168 = .ok (.dup, 1) := dk_89 (dk_at dksX4_woven_7 4 rfl rfl)
theorem dX4_woven_169 : decode cX4_woven 169 = .ok (.getfield 200, 3) := dk_180 0 200 (dk_at dksX4_woven_7 5 rfl rfl)
theorem dX4_woven_172 : decode cX4_woven 172 = .ok (.iconst 1, 1) := dk_4 (dk_at dksX4_woven_7 8 rfl rfl)
theorem dX4_woven_173 : decode cX4_woven 173 = .ok (.iadd, 1) := dk_96 (dk_at dksX4_woven_7 9 rfl rfl)
theorem dX4_woven_174 : decode cX4_woven 174 = .ok (.putfield 200, 3) := dk_181 0 200 (dk_at dksX4_woven_7 10 rfl rfl)
theorem dX4_woven_177 : decode cX4_woven 177 = .ok (.aload_n 0, 1) := dk_42 (dk_at dksX4_woven_7 13 rfl rfl)
theorem dX4_woven_178 : decode cX4_woven 178 = .ok (.getfield 200, 3) := dk_180 0 200 (dk_at dksX4_woven_7 14 rfl rfl)
theorem dX4_woven_181 : decode cX4_woven 181 = .ok (.iconst 1, 1) := dk_4 (dk_at dksX4_woven_7 17 rfl rfl)
theorem dX4_woven_182 : decode cX4_woven 182 = .ok (.isub, 1) := dk_100 (dk_at dksX4_woven_7 18 rfl rfl)
theorem dX4_woven_183 : decode cX4_woven 183 = .ok (.ireturn, 1) := dk_172 (dk_at dksX4_woven_7 19 rfl rfl)
abbrev cX4_lay : ByteArray := prog_32_method_22_code
def yX4_lay : MethodName := ⟨RX4, "lay", "(I)Z"⟩
def dkwX4_lay_5 : List UInt8 := [3, 172, 132, 3, 1, 167, 255, 229, 4, 172]
abbrev dktX4_lay_5 : List UInt8 := dkwX4_lay_5 ++ []
def dkwX4_lay_4 : List UInt8 := [3, 62, 29, 42, 180, 0, 185, 162, 0, 25, 42, 180, 0, 108, 29, 51, 153, 0, 10, 42, 29, 182, 0, 236]
abbrev dktX4_lay_4 : List UInt8 := dkwX4_lay_4 ++ dktX4_lay_5
def dkwX4_lay_3 : List UInt8 := [27, 92, 46, 4, 96, 79, 42, 180, 0, 108, 29, 3, 84, 4, 61, 132, 3, 1, 167, 255, 188, 167, 255, 177]
abbrev dktX4_lay_3 : List UInt8 := dkwX4_lay_3 ++ dktX4_lay_4
def dkwX4_lay_2 : List UInt8 := [156, 0, 39, 42, 180, 0, 75, 16, 24, 27, 104, 42, 180, 0, 72, 27, 46, 96, 29, 79, 42, 180, 0, 72]
abbrev dktX4_lay_2 : List UInt8 := dkwX4_lay_2 ++ dktX4_lay_3
def dkwX4_lay_1 : List UInt8 := [180, 0, 185, 162, 0, 66, 28, 154, 0, 62, 42, 180, 0, 108, 29, 51, 153, 0, 47, 42, 29, 182, 0, 232]
abbrev dktX4_lay_1 : List UInt8 := dkwX4_lay_1 ++ dktX4_lay_2
def dkwX4_lay_0 : List UInt8 := [42, 182, 0, 229, 42, 180, 0, 72, 27, 3, 79, 4, 61, 28, 153, 0, 81, 3, 61, 3, 62, 29, 42]
abbrev dktX4_lay_0 : List UInt8 := dkwX4_lay_0 ++ dktX4_lay_1
theorem dksX4_lay_0 : cX4_lay.data.toList.drop 0 = dktX4_lay_0 := by decide +kernel
theorem dksX4_lay_1 : cX4_lay.data.toList.drop 23 = dktX4_lay_1 := dk_seg dksX4_lay_0 23 rfl rfl
theorem dksX4_lay_2 : cX4_lay.data.toList.drop 47 = dktX4_lay_2 := dk_seg dksX4_lay_1 24 rfl rfl
theorem dksX4_lay_3 : cX4_lay.data.toList.drop 71 = dktX4_lay_3 := dk_seg dksX4_lay_2 24 rfl rfl
theorem dksX4_lay_4 : cX4_lay.data.toList.drop 95 = dktX4_lay_4 := dk_seg dksX4_lay_3 24 rfl rfl
theorem dksX4_lay_5 : cX4_lay.data.toList.drop 119 = dktX4_lay_5 := dk_seg dksX4_lay_4 24 rfl rfl
theorem dX4_lay_0 : decode cX4_lay 0 = .ok (.aload_n 0, 1) := dk_42 (dk_at dksX4_lay_0 0 rfl rfl)
theorem dX4_lay_1 : decode cX4_lay 1 = .ok (.invokevirtual 229, 3) := dk_182 0 229 (dk_at dksX4_lay_0 1 rfl rfl)
theorem dX4_lay_4 : decode cX4_lay 4 = .ok (.aload_n 0, 1) := dk_42 (dk_at dksX4_lay_0 4 rfl rfl)
theorem dX4_lay_5 : decode cX4_lay 5 = .ok (.getfield 72, 3) := dk_180 0 72 (dk_at dksX4_lay_0 5 rfl rfl)
theorem dX4_lay_8 : decode cX4_lay 8 = .ok (.iload_n 1, 1) := dk_27 (dk_at dksX4_lay_0 8 rfl rfl)
theorem dX4_lay_9 : decode cX4_lay 9 = .ok (.iconst 0, 1) := dk_3 (dk_at dksX4_lay_0 9 rfl rfl)
theorem dX4_lay_10 : decode cX4_lay 10 = .ok (.iastore, 1) := dk_79 (dk_at dksX4_lay_0 10 rfl rfl)
theorem dX4_lay_11 : decode cX4_lay 11 = .ok (.iconst 1, 1) := dk_4 (dk_at dksX4_lay_0 11 rfl rfl)
theorem dX4_lay_12 : decode cX4_lay 12 = .ok (.istore_n 2, 1) := dk_61 (dk_at dksX4_lay_0 12 rfl rfl)
theorem dX4_lay_13 : decode cX4_lay 13 = .ok (.iload_n 2, 1) := dk_28 (dk_at dksX4_lay_0 13 rfl rfl)
theorem dX4_lay_14 : decode cX4_lay 14 = .ok (.ifCond .eq 81, 3) := dk_153 0 81 (dk_at dksX4_lay_0 14 rfl rfl)
theorem dX4_lay_17 : decode cX4_lay 17 = .ok (.iconst 0, 1) := dk_3 (dk_at dksX4_lay_0 17 rfl rfl)
theorem dX4_lay_18 : decode cX4_lay 18 = .ok (.istore_n 2, 1) := dk_61 (dk_at dksX4_lay_0 18 rfl rfl)
theorem dX4_lay_19 : decode cX4_lay 19 = .ok (.iconst 0, 1) := dk_3 (dk_at dksX4_lay_0 19 rfl rfl)
theorem dX4_lay_20 : decode cX4_lay 20 = .ok (.istore_n 3, 1) := dk_62 (dk_at dksX4_lay_0 20 rfl rfl)
theorem dX4_lay_21 : decode cX4_lay 21 = .ok (.iload_n 3, 1) := dk_29 (dk_at dksX4_lay_0 21 rfl rfl)
theorem dX4_lay_22 : decode cX4_lay 22 = .ok (.aload_n 0, 1) := dk_42 (dk_at dksX4_lay_0 22 rfl rfl)
theorem dX4_lay_23 : decode cX4_lay 23 = .ok (.getfield 185, 3) := dk_180 0 185 (dk_at dksX4_lay_1 0 rfl rfl)
theorem dX4_lay_26 : decode cX4_lay 26 = .ok (.if_icmp .ge 66, 3) := dk_162 0 66 (dk_at dksX4_lay_1 3 rfl rfl)
theorem dX4_lay_29 : decode cX4_lay 29 = .ok (.iload_n 2, 1) := dk_28 (dk_at dksX4_lay_1 6 rfl rfl)
theorem dX4_lay_30 : decode cX4_lay 30 = .ok (.ifCond .ne 62, 3) := dk_154 0 62 (dk_at dksX4_lay_1 7 rfl rfl)
theorem dX4_lay_33 : decode cX4_lay 33 = .ok (.aload_n 0, 1) := dk_42 (dk_at dksX4_lay_1 10 rfl rfl)
theorem dX4_lay_34 : decode cX4_lay 34 = .ok (.getfield 108, 3) := dk_180 0 108 (dk_at dksX4_lay_1 11 rfl rfl)
theorem dX4_lay_37 : decode cX4_lay 37 = .ok (.iload_n 3, 1) := dk_29 (dk_at dksX4_lay_1 14 rfl rfl)
theorem dX4_lay_38 : decode cX4_lay 38 = .ok (.baload, 1) := dk_51 (dk_at dksX4_lay_1 15 rfl rfl)
theorem dX4_lay_39 : decode cX4_lay 39 = .ok (.ifCond .eq 47, 3) := dk_153 0 47 (dk_at dksX4_lay_1 16 rfl rfl)
theorem dX4_lay_42 : decode cX4_lay 42 = .ok (.aload_n 0, 1) := dk_42 (dk_at dksX4_lay_1 19 rfl rfl)
theorem dX4_lay_43 : decode cX4_lay 43 = .ok (.iload_n 3, 1) := dk_29 (dk_at dksX4_lay_1 20 rfl rfl)
theorem dX4_lay_44 : decode cX4_lay 44 = .ok (.invokevirtual 232, 3) := dk_182 0 232 (dk_at dksX4_lay_1 21 rfl rfl)
theorem dX4_lay_47 : decode cX4_lay 47 = .ok (.ifCond .ge 39, 3) := dk_156 0 39 (dk_at dksX4_lay_2 0 rfl rfl)
theorem dX4_lay_50 : decode cX4_lay 50 = .ok (.aload_n 0, 1) := dk_42 (dk_at dksX4_lay_2 3 rfl rfl)
theorem dX4_lay_51 : decode cX4_lay 51 = .ok (.getfield 75, 3) := dk_180 0 75 (dk_at dksX4_lay_2 4 rfl rfl)
theorem dX4_lay_54 : decode cX4_lay 54 = .ok (.bipush 24, 2) := dk_16 24 (dk_at dksX4_lay_2 7 rfl rfl)
theorem dX4_lay_56 : decode cX4_lay 56 = .ok (.iload_n 1, 1) := dk_27 (dk_at dksX4_lay_2 9 rfl rfl)
theorem dX4_lay_57 : decode cX4_lay 57 = .ok (.imul, 1) := dk_104 (dk_at dksX4_lay_2 10 rfl rfl)
theorem dX4_lay_58 : decode cX4_lay 58 = .ok (.aload_n 0, 1) := dk_42 (dk_at dksX4_lay_2 11 rfl rfl)
theorem dX4_lay_59 : decode cX4_lay 59 = .ok (.getfield 72, 3) := dk_180 0 72 (dk_at dksX4_lay_2 12 rfl rfl)
theorem dX4_lay_62 : decode cX4_lay 62 = .ok (.iload_n 1, 1) := dk_27 (dk_at dksX4_lay_2 15 rfl rfl)
theorem dX4_lay_63 : decode cX4_lay 63 = .ok (.iaload, 1) := dk_46 (dk_at dksX4_lay_2 16 rfl rfl)
theorem dX4_lay_64 : decode cX4_lay 64 = .ok (.iadd, 1) := dk_96 (dk_at dksX4_lay_2 17 rfl rfl)
theorem dX4_lay_65 : decode cX4_lay 65 = .ok (.iload_n 3, 1) := dk_29 (dk_at dksX4_lay_2 18 rfl rfl)
theorem dX4_lay_66 : decode cX4_lay 66 = .ok (.iastore, 1) := dk_79 (dk_at dksX4_lay_2 19 rfl rfl)
theorem dX4_lay_67 : decode cX4_lay 67 = .ok (.aload_n 0, 1) := dk_42 (dk_at dksX4_lay_2 20 rfl rfl)
theorem dX4_lay_68 : decode cX4_lay 68 = .ok (.getfield 72, 3) := dk_180 0 72 (dk_at dksX4_lay_2 21 rfl rfl)
theorem dX4_lay_71 : decode cX4_lay 71 = .ok (.iload_n 1, 1) := dk_27 (dk_at dksX4_lay_3 0 rfl rfl)
theorem dX4_lay_72 : decode cX4_lay 72 = .ok (.dup2, 1) := dk_92 (dk_at dksX4_lay_3 1 rfl rfl)
theorem dX4_lay_73 : decode cX4_lay 73 = .ok (.iaload, 1) := dk_46 (dk_at dksX4_lay_3 2 rfl rfl)
theorem dX4_lay_74 : decode cX4_lay 74 = .ok (.iconst 1, 1) := dk_4 (dk_at dksX4_lay_3 3 rfl rfl)
theorem dX4_lay_75 : decode cX4_lay 75 = .ok (.iadd, 1) := dk_96 (dk_at dksX4_lay_3 4 rfl rfl)
theorem dX4_lay_76 : decode cX4_lay 76 = .ok (.iastore, 1) := dk_79 (dk_at dksX4_lay_3 5 rfl rfl)
theorem dX4_lay_77 : decode cX4_lay 77 = .ok (.aload_n 0, 1) := dk_42 (dk_at dksX4_lay_3 6 rfl rfl)
theorem dX4_lay_78 : decode cX4_lay 78 = .ok (.getfield 108, 3) := dk_180 0 108 (dk_at dksX4_lay_3 7 rfl rfl)
theorem dX4_lay_81 : decode cX4_lay 81 = .ok (.iload_n 3, 1) := dk_29 (dk_at dksX4_lay_3 10 rfl rfl)
theorem dX4_lay_82 : decode cX4_lay 82 = .ok (.iconst 0, 1) := dk_3 (dk_at dksX4_lay_3 11 rfl rfl)
theorem dX4_lay_83 : decode cX4_lay 83 = .ok (.bastore, 1) := dk_84 (dk_at dksX4_lay_3 12 rfl rfl)
theorem dX4_lay_84 : decode cX4_lay 84 = .ok (.iconst 1, 1) := dk_4 (dk_at dksX4_lay_3 13 rfl rfl)
theorem dX4_lay_85 : decode cX4_lay 85 = .ok (.istore_n 2, 1) := dk_61 (dk_at dksX4_lay_3 14 rfl rfl)
theorem dX4_lay_86 : decode cX4_lay 86 = .ok (.iinc 3 1, 3) := dk_132 3 1 (dk_at dksX4_lay_3 15 rfl rfl)
theorem dX4_lay_89 : decode cX4_lay 89 = .ok (.goto (-68), 3) := dk_167 255 188 (dk_at dksX4_lay_3 18 rfl rfl)
theorem dX4_lay_92 : decode cX4_lay 92 = .ok (.goto (-79), 3) := dk_167 255 177 (dk_at dksX4_lay_3 21 rfl rfl)
theorem dX4_lay_95 : decode cX4_lay 95 = .ok (.iconst 0, 1) := dk_3 (dk_at dksX4_lay_4 0 rfl rfl)
theorem dX4_lay_96 : decode cX4_lay 96 = .ok (.istore_n 3, 1) := dk_62 (dk_at dksX4_lay_4 1 rfl rfl)
theorem dX4_lay_97 : decode cX4_lay 97 = .ok (.iload_n 3, 1) := dk_29 (dk_at dksX4_lay_4 2 rfl rfl)
theorem dX4_lay_98 : decode cX4_lay 98 = .ok (.aload_n 0, 1) := dk_42 (dk_at dksX4_lay_4 3 rfl rfl)
theorem dX4_lay_99 : decode cX4_lay 99 = .ok (.getfield 185, 3) := dk_180 0 185 (dk_at dksX4_lay_4 4 rfl rfl)
theorem dX4_lay_102 : decode cX4_lay 102 = .ok (.if_icmp .ge 25, 3) := dk_162 0 25 (dk_at dksX4_lay_4 7 rfl rfl)
theorem dX4_lay_105 : decode cX4_lay 105 = .ok (.aload_n 0, 1) := dk_42 (dk_at dksX4_lay_4 10 rfl rfl)
theorem dX4_lay_106 : decode cX4_lay 106 = .ok (.getfield 108, 3) := dk_180 0 108 (dk_at dksX4_lay_4 11 rfl rfl)
theorem dX4_lay_109 : decode cX4_lay 109 = .ok (.iload_n 3, 1) := dk_29 (dk_at dksX4_lay_4 14 rfl rfl)
theorem dX4_lay_110 : decode cX4_lay 110 = .ok (.baload, 1) := dk_51 (dk_at dksX4_lay_4 15 rfl rfl)
theorem dX4_lay_111 : decode cX4_lay 111 = .ok (.ifCond .eq 10, 3) := dk_153 0 10 (dk_at dksX4_lay_4 16 rfl rfl)
theorem dX4_lay_114 : decode cX4_lay 114 = .ok (.aload_n 0, 1) := dk_42 (dk_at dksX4_lay_4 19 rfl rfl)
theorem dX4_lay_115 : decode cX4_lay 115 = .ok (.iload_n 3, 1) := dk_29 (dk_at dksX4_lay_4 20 rfl rfl)
theorem dX4_lay_116 : decode cX4_lay 116 = .ok (.invokevirtual 236, 3) := dk_182 0 236 (dk_at dksX4_lay_4 21 rfl rfl)
theorem dX4_lay_119 : decode cX4_lay 119 = .ok (.iconst 0, 1) := dk_3 (dk_at dksX4_lay_5 0 rfl rfl)
theorem dX4_lay_120 : decode cX4_lay 120 = .ok (.ireturn, 1) := dk_172 (dk_at dksX4_lay_5 1 rfl rfl)
theorem dX4_lay_121 : decode cX4_lay 121 = .ok (.iinc 3 1, 3) := dk_132 3 1 (dk_at dksX4_lay_5 2 rfl rfl)
theorem dX4_lay_124 : decode cX4_lay 124 = .ok (.goto (-27), 3) := dk_167 255 229 (dk_at dksX4_lay_5 5 rfl rfl)
theorem dX4_lay_127 : decode cX4_lay 127 = .ok (.iconst 1, 1) := dk_4 (dk_at dksX4_lay_5 8 rfl rfl)
theorem dX4_lay_128 : decode cX4_lay 128 = .ok (.ireturn, 1) := dk_172 (dk_at dksX4_lay_5 9 rfl rfl)
abbrev cX4_close : ByteArray := prog_32_method_21_code
def yX4_close : MethodName := ⟨RX4, "close", "()V"⟩
def dkwX4_close_5 : List UInt8 := [42, 180, 0, 108, 27, 42, 180, 0, 105, 27, 51, 84, 132, 1, 1, 167, 255, 235, 177]
abbrev dktX4_close_5 : List UInt8 := dkwX4_close_5 ++ []
def dkwX4_close_4 : List UInt8 := [96, 46, 4, 84, 132, 2, 1, 167, 255, 218, 132, 1, 255, 167, 255, 206, 3, 60, 27, 16, 24, 162, 0, 21]
abbrev dktX4_close_4 : List UInt8 := dkwX4_close_4 ++ dktX4_close_5
def dkwX4_close_3 : List UInt8 := [162, 0, 34, 42, 180, 0, 105, 27, 51, 153, 0, 25, 42, 180, 0, 105, 42, 180, 0, 22, 7, 27, 104, 28]
abbrev dktX4_close_3 : List UInt8 := dkwX4_close_3 ++ dktX4_close_4
def dkwX4_close_2 : List UInt8 := [167, 255, 233, 42, 180, 0, 185, 4, 100, 60, 27, 155, 0, 52, 3, 61, 28, 42, 180, 0, 19, 27, 46]
abbrev dktX4_close_2 : List UInt8 := dkwX4_close_2 ++ dktX4_close_3
def dkwX4_close_1 : List UInt8 := [42, 180, 0, 217, 162, 0, 21, 42, 180, 0, 105, 42, 180, 0, 54, 27, 46, 4, 84, 132, 1, 1]
abbrev dktX4_close_1 : List UInt8 := dkwX4_close_1 ++ dktX4_close_2
def dkwX4_close_0 : List UInt8 := [3, 60, 27, 16, 24, 162, 0, 16, 42, 180, 0, 105, 27, 3, 84, 132, 1, 1, 167, 255, 240, 3, 60, 27]
abbrev dktX4_close_0 : List UInt8 := dkwX4_close_0 ++ dktX4_close_1
theorem dksX4_close_0 : cX4_close.data.toList.drop 0 = dktX4_close_0 := by decide +kernel
theorem dksX4_close_1 : cX4_close.data.toList.drop 24 = dktX4_close_1 := dk_seg dksX4_close_0 24 rfl rfl
theorem dksX4_close_2 : cX4_close.data.toList.drop 46 = dktX4_close_2 := dk_seg dksX4_close_1 22 rfl rfl
theorem dksX4_close_3 : cX4_close.data.toList.drop 69 = dktX4_close_3 := dk_seg dksX4_close_2 23 rfl rfl
theorem dksX4_close_4 : cX4_close.data.toList.drop 93 = dktX4_close_4 := dk_seg dksX4_close_3 24 rfl rfl
theorem dksX4_close_5 : cX4_close.data.toList.drop 117 = dktX4_close_5 := dk_seg dksX4_close_4 24 rfl rfl
theorem dX4_close_0 : decode cX4_close 0 = .ok (.iconst 0, 1) := dk_3 (dk_at dksX4_close_0 0 rfl rfl)
theorem dX4_close_1 : decode cX4_close 1 = .ok (.istore_n 1, 1) := dk_60 (dk_at dksX4_close_0 1 rfl rfl)
theorem dX4_close_2 : decode cX4_close 2 = .ok (.iload_n 1, 1) := dk_27 (dk_at dksX4_close_0 2 rfl rfl)
theorem dX4_close_3 : decode cX4_close 3 = .ok (.bipush 24, 2) := dk_16 24 (dk_at dksX4_close_0 3 rfl rfl)
theorem dX4_close_5 : decode cX4_close 5 = .ok (.if_icmp .ge 16, 3) := dk_162 0 16 (dk_at dksX4_close_0 5 rfl rfl)
theorem dX4_close_8 : decode cX4_close 8 = .ok (.aload_n 0, 1) := dk_42 (dk_at dksX4_close_0 8 rfl rfl)
theorem dX4_close_9 : decode cX4_close 9 = .ok (.getfield 105, 3) := dk_180 0 105 (dk_at dksX4_close_0 9 rfl rfl)
theorem dX4_close_12 : decode cX4_close 12 = .ok (.iload_n 1, 1) := dk_27 (dk_at dksX4_close_0 12 rfl rfl)
theorem dX4_close_13 : decode cX4_close 13 = .ok (.iconst 0, 1) := dk_3 (dk_at dksX4_close_0 13 rfl rfl)
theorem dX4_close_14 : decode cX4_close 14 = .ok (.bastore, 1) := dk_84 (dk_at dksX4_close_0 14 rfl rfl)
theorem dX4_close_15 : decode cX4_close 15 = .ok (.iinc 1 1, 3) := dk_132 1 1 (dk_at dksX4_close_0 15 rfl rfl)
theorem dX4_close_18 : decode cX4_close 18 = .ok (.goto (-16), 3) := dk_167 255 240 (dk_at dksX4_close_0 18 rfl rfl)
theorem dX4_close_21 : decode cX4_close 21 = .ok (.iconst 0, 1) := dk_3 (dk_at dksX4_close_0 21 rfl rfl)
theorem dX4_close_22 : decode cX4_close 22 = .ok (.istore_n 1, 1) := dk_60 (dk_at dksX4_close_0 22 rfl rfl)
theorem dX4_close_23 : decode cX4_close 23 = .ok (.iload_n 1, 1) := dk_27 (dk_at dksX4_close_0 23 rfl rfl)
theorem dX4_close_24 : decode cX4_close 24 = .ok (.aload_n 0, 1) := dk_42 (dk_at dksX4_close_1 0 rfl rfl)
theorem dX4_close_25 : decode cX4_close 25 = .ok (.getfield 217, 3) := dk_180 0 217 (dk_at dksX4_close_1 1 rfl rfl)
theorem dX4_close_28 : decode cX4_close 28 = .ok (.if_icmp .ge 21, 3) := dk_162 0 21 (dk_at dksX4_close_1 4 rfl rfl)
theorem dX4_close_31 : decode cX4_close 31 = .ok (.aload_n 0, 1) := dk_42 (dk_at dksX4_close_1 7 rfl rfl)
theorem dX4_close_32 : decode cX4_close 32 = .ok (.getfield 105, 3) := dk_180 0 105 (dk_at dksX4_close_1 8 rfl rfl)
theorem dX4_close_35 : decode cX4_close 35 = .ok (.aload_n 0, 1) := dk_42 (dk_at dksX4_close_1 11 rfl rfl)
theorem dX4_close_36 : decode cX4_close 36 = .ok (.getfield 54, 3) := dk_180 0 54 (dk_at dksX4_close_1 12 rfl rfl)
theorem dX4_close_39 : decode cX4_close 39 = .ok (.iload_n 1, 1) := dk_27 (dk_at dksX4_close_1 15 rfl rfl)
theorem dX4_close_40 : decode cX4_close 40 = .ok (.iaload, 1) := dk_46 (dk_at dksX4_close_1 16 rfl rfl)
theorem dX4_close_41 : decode cX4_close 41 = .ok (.iconst 1, 1) := dk_4 (dk_at dksX4_close_1 17 rfl rfl)
theorem dX4_close_42 : decode cX4_close 42 = .ok (.bastore, 1) := dk_84 (dk_at dksX4_close_1 18 rfl rfl)
theorem dX4_close_43 : decode cX4_close 43 = .ok (.iinc 1 1, 3) := dk_132 1 1 (dk_at dksX4_close_1 19 rfl rfl)
theorem dX4_close_46 : decode cX4_close 46 = .ok (.goto (-23), 3) := dk_167 255 233 (dk_at dksX4_close_2 0 rfl rfl)
theorem dX4_close_49 : decode cX4_close 49 = .ok (.aload_n 0, 1) := dk_42 (dk_at dksX4_close_2 3 rfl rfl)
theorem dX4_close_50 : decode cX4_close 50 = .ok (.getfield 185, 3) := dk_180 0 185 (dk_at dksX4_close_2 4 rfl rfl)
theorem dX4_close_53 : decode cX4_close 53 = .ok (.iconst 1, 1) := dk_4 (dk_at dksX4_close_2 7 rfl rfl)
theorem dX4_close_54 : decode cX4_close 54 = .ok (.isub, 1) := dk_100 (dk_at dksX4_close_2 8 rfl rfl)
theorem dX4_close_55 : decode cX4_close 55 = .ok (.istore_n 1, 1) := dk_60 (dk_at dksX4_close_2 9 rfl rfl)
theorem dX4_close_56 : decode cX4_close 56 = .ok (.iload_n 1, 1) := dk_27 (dk_at dksX4_close_2 10 rfl rfl)
theorem dX4_close_57 : decode cX4_close 57 = .ok (.ifCond .lt 52, 3) := dk_155 0 52 (dk_at dksX4_close_2 11 rfl rfl)
theorem dX4_close_60 : decode cX4_close 60 = .ok (.iconst 0, 1) := dk_3 (dk_at dksX4_close_2 14 rfl rfl)
theorem dX4_close_61 : decode cX4_close 61 = .ok (.istore_n 2, 1) := dk_61 (dk_at dksX4_close_2 15 rfl rfl)
theorem dX4_close_62 : decode cX4_close 62 = .ok (.iload_n 2, 1) := dk_28 (dk_at dksX4_close_2 16 rfl rfl)
theorem dX4_close_63 : decode cX4_close 63 = .ok (.aload_n 0, 1) := dk_42 (dk_at dksX4_close_2 17 rfl rfl)
theorem dX4_close_64 : decode cX4_close 64 = .ok (.getfield 19, 3) := dk_180 0 19 (dk_at dksX4_close_2 18 rfl rfl)
theorem dX4_close_67 : decode cX4_close 67 = .ok (.iload_n 1, 1) := dk_27 (dk_at dksX4_close_2 21 rfl rfl)
theorem dX4_close_68 : decode cX4_close 68 = .ok (.iaload, 1) := dk_46 (dk_at dksX4_close_2 22 rfl rfl)
theorem dX4_close_69 : decode cX4_close 69 = .ok (.if_icmp .ge 34, 3) := dk_162 0 34 (dk_at dksX4_close_3 0 rfl rfl)
theorem dX4_close_72 : decode cX4_close 72 = .ok (.aload_n 0, 1) := dk_42 (dk_at dksX4_close_3 3 rfl rfl)
theorem dX4_close_73 : decode cX4_close 73 = .ok (.getfield 105, 3) := dk_180 0 105 (dk_at dksX4_close_3 4 rfl rfl)
theorem dX4_close_76 : decode cX4_close 76 = .ok (.iload_n 1, 1) := dk_27 (dk_at dksX4_close_3 7 rfl rfl)
theorem dX4_close_77 : decode cX4_close 77 = .ok (.baload, 1) := dk_51 (dk_at dksX4_close_3 8 rfl rfl)
theorem dX4_close_78 : decode cX4_close 78 = .ok (.ifCond .eq 25, 3) := dk_153 0 25 (dk_at dksX4_close_3 9 rfl rfl)
theorem dX4_close_81 : decode cX4_close 81 = .ok (.aload_n 0, 1) := dk_42 (dk_at dksX4_close_3 12 rfl rfl)
theorem dX4_close_82 : decode cX4_close 82 = .ok (.getfield 105, 3) := dk_180 0 105 (dk_at dksX4_close_3 13 rfl rfl)
theorem dX4_close_85 : decode cX4_close 85 = .ok (.aload_n 0, 1) := dk_42 (dk_at dksX4_close_3 16 rfl rfl)
theorem dX4_close_86 : decode cX4_close 86 = .ok (.getfield 22, 3) := dk_180 0 22 (dk_at dksX4_close_3 17 rfl rfl)
theorem dX4_close_89 : decode cX4_close 89 = .ok (.iconst 4, 1) := dk_7 (dk_at dksX4_close_3 20 rfl rfl)
theorem dX4_close_90 : decode cX4_close 90 = .ok (.iload_n 1, 1) := dk_27 (dk_at dksX4_close_3 21 rfl rfl)
theorem dX4_close_91 : decode cX4_close 91 = .ok (.imul, 1) := dk_104 (dk_at dksX4_close_3 22 rfl rfl)
theorem dX4_close_92 : decode cX4_close 92 = .ok (.iload_n 2, 1) := dk_28 (dk_at dksX4_close_3 23 rfl rfl)
theorem dX4_close_93 : decode cX4_close 93 = .ok (.iadd, 1) := dk_96 (dk_at dksX4_close_4 0 rfl rfl)
theorem dX4_close_94 : decode cX4_close 94 = .ok (.iaload, 1) := dk_46 (dk_at dksX4_close_4 1 rfl rfl)
theorem dX4_close_95 : decode cX4_close 95 = .ok (.iconst 1, 1) := dk_4 (dk_at dksX4_close_4 2 rfl rfl)
theorem dX4_close_96 : decode cX4_close 96 = .ok (.bastore, 1) := dk_84 (dk_at dksX4_close_4 3 rfl rfl)
theorem dX4_close_97 : decode cX4_close 97 = .ok (.iinc 2 1, 3) := dk_132 2 1 (dk_at dksX4_close_4 4 rfl rfl)
theorem dX4_close_100 : decode cX4_close 100 = .ok (.goto (-38), 3) := dk_167 255 218 (dk_at dksX4_close_4 7 rfl rfl)
theorem dX4_close_103 : decode cX4_close 103 = .ok (.iinc 1 (-1), 3) := dk_132 1 255 (dk_at dksX4_close_4 10 rfl rfl)
theorem dX4_close_106 : decode cX4_close 106 = .ok (.goto (-50), 3) := dk_167 255 206 (dk_at dksX4_close_4 13 rfl rfl)
theorem dX4_close_109 : decode cX4_close 109 = .ok (.iconst 0, 1) := dk_3 (dk_at dksX4_close_4 16 rfl rfl)
theorem dX4_close_110 : decode cX4_close 110 = .ok (.istore_n 1, 1) := dk_60 (dk_at dksX4_close_4 17 rfl rfl)
theorem dX4_close_111 : decode cX4_close 111 = .ok (.iload_n 1, 1) := dk_27 (dk_at dksX4_close_4 18 rfl rfl)
theorem dX4_close_112 : decode cX4_close 112 = .ok (.bipush 24, 2) := dk_16 24 (dk_at dksX4_close_4 19 rfl rfl)
theorem dX4_close_114 : decode cX4_close 114 = .ok (.if_icmp .ge 21, 3) := dk_162 0 21 (dk_at dksX4_close_4 21 rfl rfl)
theorem dX4_close_117 : decode cX4_close 117 = .ok (.aload_n 0, 1) := dk_42 (dk_at dksX4_close_5 0 rfl rfl)
theorem dX4_close_118 : decode cX4_close 118 = .ok (.getfield 108, 3) := dk_180 0 108 (dk_at dksX4_close_5 1 rfl rfl)
theorem dX4_close_121 : decode cX4_close 121 = .ok (.iload_n 1, 1) := dk_27 (dk_at dksX4_close_5 4 rfl rfl)
theorem dX4_close_122 : decode cX4_close 122 = .ok (.aload_n 0, 1) := dk_42 (dk_at dksX4_close_5 5 rfl rfl)
theorem dX4_close_123 : decode cX4_close 123 = .ok (.getfield 105, 3) := dk_180 0 105 (dk_at dksX4_close_5 6 rfl rfl)
theorem dX4_close_126 : decode cX4_close 126 = .ok (.iload_n 1, 1) := dk_27 (dk_at dksX4_close_5 9 rfl rfl)
theorem dX4_close_127 : decode cX4_close 127 = .ok (.baload, 1) := dk_51 (dk_at dksX4_close_5 10 rfl rfl)
theorem dX4_close_128 : decode cX4_close 128 = .ok (.bastore, 1) := dk_84 (dk_at dksX4_close_5 11 rfl rfl)
theorem dX4_close_129 : decode cX4_close 129 = .ok (.iinc 1 1, 3) := dk_132 1 1 (dk_at dksX4_close_5 12 rfl rfl)
theorem dX4_close_132 : decode cX4_close 132 = .ok (.goto (-21), 3) := dk_167 255 235 (dk_at dksX4_close_5 15 rfl rfl)
theorem dX4_close_135 : decode cX4_close 135 = .ok (.return_, 1) := dk_177 (dk_at dksX4_close_5 18 rfl rfl)
abbrev cX4_leastAhead : ByteArray := prog_32_method_20_code
def yX4_leastAhead : MethodName := ⟨RX4, "leastAhead", "(I)I"⟩
def dkwX4_leastAhead_1 : List UInt8 := [42, 28, 27, 182, 0, 226, 153, 0, 5, 28, 172, 132, 2, 1, 167, 255, 220, 16, 247, 172]
abbrev dktX4_leastAhead_1 : List UInt8 := dkwX4_leastAhead_1 ++ []
def dkwX4_leastAhead_0 : List UInt8 := [3, 61, 28, 42, 180, 0, 185, 162, 0, 34, 42, 180, 0, 108, 28, 51, 153, 0, 19, 28, 27, 159, 0, 14]
abbrev dktX4_leastAhead_0 : List UInt8 := dkwX4_leastAhead_0 ++ dktX4_leastAhead_1
theorem dksX4_leastAhead_0 : cX4_leastAhead.data.toList.drop 0 = dktX4_leastAhead_0 := by decide +kernel
theorem dksX4_leastAhead_1 : cX4_leastAhead.data.toList.drop 24 = dktX4_leastAhead_1 := dk_seg dksX4_leastAhead_0 24 rfl rfl
theorem dX4_leastAhead_0 : decode cX4_leastAhead 0 = .ok (.iconst 0, 1) := dk_3 (dk_at dksX4_leastAhead_0 0 rfl rfl)
theorem dX4_leastAhead_1 : decode cX4_leastAhead 1 = .ok (.istore_n 2, 1) := dk_61 (dk_at dksX4_leastAhead_0 1 rfl rfl)
theorem dX4_leastAhead_2 : decode cX4_leastAhead 2 = .ok (.iload_n 2, 1) := dk_28 (dk_at dksX4_leastAhead_0 2 rfl rfl)
theorem dX4_leastAhead_3 : decode cX4_leastAhead 3 = .ok (.aload_n 0, 1) := dk_42 (dk_at dksX4_leastAhead_0 3 rfl rfl)
theorem dX4_leastAhead_4 : decode cX4_leastAhead 4 = .ok (.getfield 185, 3) := dk_180 0 185 (dk_at dksX4_leastAhead_0 4 rfl rfl)
theorem dX4_leastAhead_7 : decode cX4_leastAhead 7 = .ok (.if_icmp .ge 34, 3) := dk_162 0 34 (dk_at dksX4_leastAhead_0 7 rfl rfl)
theorem dX4_leastAhead_10 : decode cX4_leastAhead 10 = .ok (.aload_n 0, 1) := dk_42 (dk_at dksX4_leastAhead_0 10 rfl rfl)
theorem dX4_leastAhead_11 : decode cX4_leastAhead 11 = .ok (.getfield 108, 3) := dk_180 0 108 (dk_at dksX4_leastAhead_0 11 rfl rfl)
theorem dX4_leastAhead_14 : decode cX4_leastAhead 14 = .ok (.iload_n 2, 1) := dk_28 (dk_at dksX4_leastAhead_0 14 rfl rfl)
theorem dX4_leastAhead_15 : decode cX4_leastAhead 15 = .ok (.baload, 1) := dk_51 (dk_at dksX4_leastAhead_0 15 rfl rfl)
theorem dX4_leastAhead_16 : decode cX4_leastAhead 16 = .ok (.ifCond .eq 19, 3) := dk_153 0 19 (dk_at dksX4_leastAhead_0 16 rfl rfl)
theorem dX4_leastAhead_19 : decode cX4_leastAhead 19 = .ok (.iload_n 2, 1) := dk_28 (dk_at dksX4_leastAhead_0 19 rfl rfl)
theorem dX4_leastAhead_20 : decode cX4_leastAhead 20 = .ok (.iload_n 1, 1) := dk_27 (dk_at dksX4_leastAhead_0 20 rfl rfl)
theorem dX4_leastAhead_21 : decode cX4_leastAhead 21 = .ok (.if_icmp .eq 14, 3) := dk_159 0 14 (dk_at dksX4_leastAhead_0 21 rfl rfl)
theorem dX4_leastAhead_24 : decode cX4_leastAhead 24 = .ok (.aload_n 0, 1) := dk_42 (dk_at dksX4_leastAhead_1 0 rfl rfl)
theorem dX4_leastAhead_25 : decode cX4_leastAhead 25 = .ok (.iload_n 2, 1) := dk_28 (dk_at dksX4_leastAhead_1 1 rfl rfl)
theorem dX4_leastAhead_26 : decode cX4_leastAhead 26 = .ok (.iload_n 1, 1) := dk_27 (dk_at dksX4_leastAhead_1 2 rfl rfl)
theorem dX4_leastAhead_27 : decode cX4_leastAhead 27 = .ok (.invokevirtual 226, 3) := dk_182 0 226 (dk_at dksX4_leastAhead_1 3 rfl rfl)
theorem dX4_leastAhead_30 : decode cX4_leastAhead 30 = .ok (.ifCond .eq 5, 3) := dk_153 0 5 (dk_at dksX4_leastAhead_1 6 rfl rfl)
theorem dX4_leastAhead_33 : decode cX4_leastAhead 33 = .ok (.iload_n 2, 1) := dk_28 (dk_at dksX4_leastAhead_1 9 rfl rfl)
theorem dX4_leastAhead_34 : decode cX4_leastAhead 34 = .ok (.ireturn, 1) := dk_172 (dk_at dksX4_leastAhead_1 10 rfl rfl)
theorem dX4_leastAhead_35 : decode cX4_leastAhead 35 = .ok (.iinc 2 1, 3) := dk_132 2 1 (dk_at dksX4_leastAhead_1 11 rfl rfl)
theorem dX4_leastAhead_38 : decode cX4_leastAhead 38 = .ok (.goto (-36), 3) := dk_167 255 220 (dk_at dksX4_leastAhead_1 14 rfl rfl)
theorem dX4_leastAhead_41 : decode cX4_leastAhead 41 = .ok (.bipush (-9), 2) := dk_16 247 (dk_at dksX4_leastAhead_1 17 rfl rfl)
theorem dX4_leastAhead_43 : decode cX4_leastAhead 43 = .ok (.ireturn, 1) := dk_172 (dk_at dksX4_leastAhead_1 19 rfl rfl)
abbrev cX4_isAhead : ByteArray := prog_32_method_19_code
def yX4_isAhead : MethodName := ⟨RX4, "isAhead", "(II)Z"⟩
def dkwX4_isAhead_8 : List UInt8 := [160, 0, 7, 4, 167, 0, 4, 3, 62, 132, 6, 1, 167, 255, 212, 29, 172]
abbrev dktX4_isAhead_8 : List UInt8 := dkwX4_isAhead_8 ++ []
def dkwX4_isAhead_7 : List UInt8 := [154, 0, 25, 42, 180, 0, 29, 21, 6, 46, 27, 160, 0, 18, 42, 180, 0, 32, 21, 6, 46, 28]
abbrev dktX4_isAhead_7 : List UInt8 := dkwX4_isAhead_7 ++ dktX4_isAhead_8
def dkwX4_isAhead_6 : List UInt8 := [162, 0, 7, 4, 167, 0, 4, 3, 62, 3, 54, 6, 21, 6, 42, 180, 0, 203, 162, 0, 41, 29]
abbrev dktX4_isAhead_6 : List UInt8 := dkwX4_isAhead_6 ++ dktX4_isAhead_7
def dkwX4_isAhead_5 : List UInt8 := [132, 6, 1, 167, 255, 204, 29, 154, 0, 20, 21, 4, 155, 0, 19, 21, 5, 155, 0, 14, 21, 4, 21, 5]
abbrev dktX4_isAhead_5 : List UInt8 := dkwX4_isAhead_5 ++ dktX4_isAhead_6
def dkwX4_isAhead_4 : List UInt8 := [54, 4, 42, 180, 0, 54, 21, 6, 46, 28, 160, 0, 8, 21, 6, 167, 0, 5, 21, 5, 54, 5]
abbrev dktX4_isAhead_4 : List UInt8 := dkwX4_isAhead_4 ++ dktX4_isAhead_5
def dkwX4_isAhead_3 : List UInt8 := [180, 0, 217, 162, 0, 49, 42, 180, 0, 54, 21, 6, 46, 27, 160, 0, 8, 21, 6, 167, 0, 5, 21, 4]
abbrev dktX4_isAhead_3 : List UInt8 := dkwX4_isAhead_3 ++ dktX4_isAhead_4
def dkwX4_isAhead_2 : List UInt8 := [3, 62, 132, 4, 1, 167, 255, 213, 16, 247, 54, 4, 16, 247, 54, 5, 3, 54, 6, 21, 6, 42]
abbrev dktX4_isAhead_2 : List UInt8 := dkwX4_isAhead_2 ++ dktX4_isAhead_3
def dkwX4_isAhead_1 : List UInt8 := [180, 0, 105, 21, 4, 51, 153, 0, 18, 42, 21, 4, 27, 28, 182, 0, 223, 153, 0, 7, 4, 167, 0, 4]
abbrev dktX4_isAhead_1 : List UInt8 := dkwX4_isAhead_1 ++ dktX4_isAhead_2
def dkwX4_isAhead_0 : List UInt8 := [42, 28, 27, 182, 0, 196, 62, 3, 54, 4, 21, 4, 42, 180, 0, 185, 162, 0, 40, 29, 154, 0, 24, 42]
abbrev dktX4_isAhead_0 : List UInt8 := dkwX4_isAhead_0 ++ dktX4_isAhead_1
theorem dksX4_isAhead_0 : cX4_isAhead.data.toList.drop 0 = dktX4_isAhead_0 := by decide +kernel
theorem dksX4_isAhead_1 : cX4_isAhead.data.toList.drop 24 = dktX4_isAhead_1 := dk_seg dksX4_isAhead_0 24 rfl rfl
theorem dksX4_isAhead_2 : cX4_isAhead.data.toList.drop 48 = dktX4_isAhead_2 := dk_seg dksX4_isAhead_1 24 rfl rfl
theorem dksX4_isAhead_3 : cX4_isAhead.data.toList.drop 70 = dktX4_isAhead_3 := dk_seg dksX4_isAhead_2 22 rfl rfl
theorem dksX4_isAhead_4 : cX4_isAhead.data.toList.drop 94 = dktX4_isAhead_4 := dk_seg dksX4_isAhead_3 24 rfl rfl
theorem dksX4_isAhead_5 : cX4_isAhead.data.toList.drop 116 = dktX4_isAhead_5 := dk_seg dksX4_isAhead_4 22 rfl rfl
theorem dksX4_isAhead_6 : cX4_isAhead.data.toList.drop 140 = dktX4_isAhead_6 := dk_seg dksX4_isAhead_5 24 rfl rfl
theorem dksX4_isAhead_7 : cX4_isAhead.data.toList.drop 162 = dktX4_isAhead_7 := dk_seg dksX4_isAhead_6 22 rfl rfl
theorem dksX4_isAhead_8 : cX4_isAhead.data.toList.drop 184 = dktX4_isAhead_8 := dk_seg dksX4_isAhead_7 22 rfl rfl
theorem dX4_isAhead_0 : decode cX4_isAhead 0 = .ok (.aload_n 0, 1) := dk_42 (dk_at dksX4_isAhead_0 0 rfl rfl)
theorem dX4_isAhead_1 : decode cX4_isAhead 1 = .ok (.iload_n 2, 1) := dk_28 (dk_at dksX4_isAhead_0 1 rfl rfl)
theorem dX4_isAhead_2 : decode cX4_isAhead 2 = .ok (.iload_n 1, 1) := dk_27 (dk_at dksX4_isAhead_0 2 rfl rfl)
theorem dX4_isAhead_3 : decode cX4_isAhead 3 = .ok (.invokevirtual 196, 3) := dk_182 0 196 (dk_at dksX4_isAhead_0 3 rfl rfl)
theorem dX4_isAhead_6 : decode cX4_isAhead 6 = .ok (.istore_n 3, 1) := dk_62 (dk_at dksX4_isAhead_0 6 rfl rfl)
theorem dX4_isAhead_7 : decode cX4_isAhead 7 = .ok (.iconst 0, 1) := dk_3 (dk_at dksX4_isAhead_0 7 rfl rfl)
theorem dX4_isAhead_8 : decode cX4_isAhead 8 = .ok (.istore 4, 2) := dk_54 4 (dk_at dksX4_isAhead_0 8 rfl rfl)
theorem dX4_isAhead_10 : decode cX4_isAhead 10 = .ok (.iload 4, 2) := dk_21 4 (dk_at dksX4_isAhead_0 10 rfl rfl)
theorem dX4_isAhead_12 : decode cX4_isAhead 12 = .ok (.aload_n 0, 1) := dk_42 (dk_at dksX4_isAhead_0 12 rfl rfl)
theorem dX4_isAhead_13 : decode cX4_isAhead 13 = .ok (.getfield 185, 3) := dk_180 0 185 (dk_at dksX4_isAhead_0 13 rfl rfl)
theorem dX4_isAhead_16 : decode cX4_isAhead 16 = .ok (.if_icmp .ge 40, 3) := dk_162 0 40 (dk_at dksX4_isAhead_0 16 rfl rfl)
theorem dX4_isAhead_19 : decode cX4_isAhead 19 = .ok (.iload_n 3, 1) := dk_29 (dk_at dksX4_isAhead_0 19 rfl rfl)
theorem dX4_isAhead_20 : decode cX4_isAhead 20 = .ok (.ifCond .ne 24, 3) := dk_154 0 24 (dk_at dksX4_isAhead_0 20 rfl rfl)
theorem dX4_isAhead_23 : decode cX4_isAhead 23 = .ok (.aload_n 0, 1) := dk_42 (dk_at dksX4_isAhead_0 23 rfl rfl)
theorem dX4_isAhead_24 : decode cX4_isAhead 24 = .ok (.getfield 105, 3) := dk_180 0 105 (dk_at dksX4_isAhead_1 0 rfl rfl)
theorem dX4_isAhead_27 : decode cX4_isAhead 27 = .ok (.iload 4, 2) := dk_21 4 (dk_at dksX4_isAhead_1 3 rfl rfl)
theorem dX4_isAhead_29 : decode cX4_isAhead 29 = .ok (.baload, 1) := dk_51 (dk_at dksX4_isAhead_1 5 rfl rfl)
theorem dX4_isAhead_30 : decode cX4_isAhead 30 = .ok (.ifCond .eq 18, 3) := dk_153 0 18 (dk_at dksX4_isAhead_1 6 rfl rfl)
theorem dX4_isAhead_33 : decode cX4_isAhead 33 = .ok (.aload_n 0, 1) := dk_42 (dk_at dksX4_isAhead_1 9 rfl rfl)
theorem dX4_isAhead_34 : decode cX4_isAhead 34 = .ok (.iload 4, 2) := dk_21 4 (dk_at dksX4_isAhead_1 10 rfl rfl)
theorem dX4_isAhead_36 : decode cX4_isAhead 36 = .ok (.iload_n 1, 1) := dk_27 (dk_at dksX4_isAhead_1 12 rfl rfl)
theorem dX4_isAhead_37 : decode cX4_isAhead 37 = .ok (.iload_n 2, 1) := dk_28 (dk_at dksX4_isAhead_1 13 rfl rfl)
theorem dX4_isAhead_38 : decode cX4_isAhead 38 = .ok (.invokevirtual 223, 3) := dk_182 0 223 (dk_at dksX4_isAhead_1 14 rfl rfl)
theorem dX4_isAhead_41 : decode cX4_isAhead 41 = .ok (.ifCond .eq 7, 3) := dk_153 0 7 (dk_at dksX4_isAhead_1 17 rfl rfl)
theorem dX4_isAhead_44 : decode cX4_isAhead 44 = .ok (.iconst 1, 1) := dk_4 (dk_at dksX4_isAhead_1 20 rfl rfl)
theorem dX4_isAhead_45 : decode cX4_isAhead 45 = .ok (.goto 4, 3) := dk_167 0 4 (dk_at dksX4_isAhead_1 21 rfl rfl)
theorem dX4_isAhead_48 : decode cX4_isAhead 48 = .ok (.iconst 0, 1) := dk_3 (dk_at dksX4_isAhead_2 0 rfl rfl)
theorem dX4_isAhead_49 : decode cX4_isAhead 49 = .ok (.istore_n 3, 1) := dk_62 (dk_at dksX4_isAhead_2 1 rfl rfl)
theorem dX4_isAhead_50 : decode cX4_isAhead 50 = .ok (.iinc 4 1, 3) := dk_132 4 1 (dk_at dksX4_isAhead_2 2 rfl rfl)
theorem dX4_isAhead_53 : decode cX4_isAhead 53 = .ok (.goto (-43), 3) := dk_167 255 213 (dk_at dksX4_isAhead_2 5 rfl rfl)
theorem dX4_isAhead_56 : decode cX4_isAhead 56 = .ok (.bipush (-9), 2) := dk_16 247 (dk_at dksX4_isAhead_2 8 rfl rfl)
theorem dX4_isAhead_58 : decode cX4_isAhead 58 = .ok (.istore 4, 2) := dk_54 4 (dk_at dksX4_isAhead_2 10 rfl rfl)
theorem dX4_isAhead_60 : decode cX4_isAhead 60 = .ok (.bipush (-9), 2) := dk_16 247 (dk_at dksX4_isAhead_2 12 rfl rfl)
theorem dX4_isAhead_62 : decode cX4_isAhead 62 = .ok (.istore 5, 2) := dk_54 5 (dk_at dksX4_isAhead_2 14 rfl rfl)
theorem dX4_isAhead_64 : decode cX4_isAhead 64 = .ok (.iconst 0, 1) := dk_3 (dk_at dksX4_isAhead_2 16 rfl rfl)
theorem dX4_isAhead_65 : decode cX4_isAhead 65 = .ok (.istore 6, 2) := dk_54 6 (dk_at dksX4_isAhead_2 17 rfl rfl)
theorem dX4_isAhead_67 : decode cX4_isAhead 67 = .ok (.iload 6, 2) := dk_21 6 (dk_at dksX4_isAhead_2 19 rfl rfl)
theorem dX4_isAhead_69 : decode cX4_isAhead 69 = .ok (.aload_n 0, 1) := dk_42 (dk_at dksX4_isAhead_2 21 rfl rfl)
theorem dX4_isAhead_70 : decode cX4_isAhead 70 = .ok (.getfield 217, 3) := dk_180 0 217 (dk_at dksX4_isAhead_3 0 rfl rfl)
theorem dX4_isAhead_73 : decode cX4_isAhead 73 = .ok (.if_icmp .ge 49, 3) := dk_162 0 49 (dk_at dksX4_isAhead_3 3 rfl rfl)
theorem dX4_isAhead_76 : decode cX4_isAhead 76 = .ok (.aload_n 0, 1) := dk_42 (dk_at dksX4_isAhead_3 6 rfl rfl)
theorem dX4_isAhead_77 : decode cX4_isAhead 77 = .ok (.getfield 54, 3) := dk_180 0 54 (dk_at dksX4_isAhead_3 7 rfl rfl)
theorem dX4_isAhead_80 : decode cX4_isAhead 80 = .ok (.iload 6, 2) := dk_21 6 (dk_at dksX4_isAhead_3 10 rfl rfl)
theorem dX4_isAhead_82 : decode cX4_isAhead 82 = .ok (.iaload, 1) := dk_46 (dk_at dksX4_isAhead_3 12 rfl rfl)
theorem dX4_isAhead_83 : decode cX4_isAhead 83 = .ok (.iload_n 1, 1) := dk_27 (dk_at dksX4_isAhead_3 13 rfl rfl)
theorem dX4_isAhead_84 : decode cX4_isAhead 84 = .ok (.if_icmp .ne 8, 3) := dk_160 0 8 (dk_at dksX4_isAhead_3 14 rfl rfl)
theorem dX4_isAhead_87 : decode cX4_isAhead 87 = .ok (.iload 6, 2) := dk_21 6 (dk_at dksX4_isAhead_3 17 rfl rfl)
theorem dX4_isAhead_89 : decode cX4_isAhead 89 = .ok (.goto 5, 3) := dk_167 0 5 (dk_at dksX4_isAhead_3 19 rfl rfl)
theorem dX4_isAhead_92 : decode cX4_isAhead 92 = .ok (.iload 4, 2) := dk_21 4 (dk_at dksX4_isAhead_3 22 rfl rfl)
theorem dX4_isAhead_94 : decode cX4_isAhead 94 = .ok (.istore 4, 2) := dk_54 4 (dk_at dksX4_isAhead_4 0 rfl rfl)
theorem dX4_isAhead_96 : decode cX4_isAhead 96 = .ok (.aload_n 0, 1) := dk_42 (dk_at dksX4_isAhead_4 2 rfl rfl)
theorem dX4_isAhead_97 : decode cX4_isAhead 97 = .ok (.getfield 54, 3) := dk_180 0 54 (dk_at dksX4_isAhead_4 3 rfl rfl)
theorem dX4_isAhead_100 : decode cX4_isAhead 100 = .ok (.iload 6, 2) := dk_21 6 (dk_at dksX4_isAhead_4 6 rfl rfl)
theorem dX4_isAhead_102 : decode cX4_isAhead 102 = .ok (.iaload, 1) := dk_46 (dk_at dksX4_isAhead_4 8 rfl rfl)
theorem dX4_isAhead_103 : decode cX4_isAhead 103 = .ok (.iload_n 2, 1) := dk_28 (dk_at dksX4_isAhead_4 9 rfl rfl)
theorem dX4_isAhead_104 : decode cX4_isAhead 104 = .ok (.if_icmp .ne 8, 3) := dk_160 0 8 (dk_at dksX4_isAhead_4 10 rfl rfl)
theorem dX4_isAhead_107 : decode cX4_isAhead 107 = .ok (.iload 6, 2) := dk_21 6 (dk_at dksX4_isAhead_4 13 rfl rfl)
theorem dX4_isAhead_109 : decode cX4_isAhead 109 = .ok (.goto 5, 3) := dk_167 0 5 (dk_at dksX4_isAhead_4 15 rfl rfl)
theorem dX4_isAhead_112 : decode cX4_isAhead 112 = .ok (.iload 5, 2) := dk_21 5 (dk_at dksX4_isAhead_4 18 rfl rfl)
theorem dX4_isAhead_114 : decode cX4_isAhead 114 = .ok (.istore 5, 2) := dk_54 5 (dk_at dksX4_isAhead_4 20 rfl rfl)
theorem dX4_isAhead_116 : decode cX4_isAhead 116 = .ok (.iinc 6 1, 3) := dk_132 6 1 (dk_at dksX4_isAhead_5 0 rfl rfl)
theorem dX4_isAhead_119 : decode cX4_isAhead 119 = .ok (.goto (-52), 3) := dk_167 255 204 (dk_at dksX4_isAhead_5 3 rfl rfl)
theorem dX4_isAhead_122 : decode cX4_isAhead 122 = .ok (.iload_n 3, 1) := dk_29 (dk_at dksX4_isAhead_5 6 rfl rfl)
theorem dX4_isAhead_123 : decode cX4_isAhead 123 = .ok (.ifCond .ne 20, 3) := dk_154 0 20 (dk_at dksX4_isAhead_5 7 rfl rfl)
theorem dX4_isAhead_126 : decode cX4_isAhead 126 = .ok (.iload 4, 2) := dk_21 4 (dk_at dksX4_isAhead_5 10 rfl rfl)
theorem dX4_isAhead_128 : decode cX4_isAhead 128 = .ok (.ifCond .lt 19, 3) := dk_155 0 19 (dk_at dksX4_isAhead_5 12 rfl rfl)
theorem dX4_isAhead_131 : decode cX4_isAhead 131 = .ok (.iload 5, 2) := dk_21 5 (dk_at dksX4_isAhead_5 15 rfl rfl)
theorem dX4_isAhead_133 : decode cX4_isAhead 133 = .ok (.ifCond .lt 14, 3) := dk_155 0 14 (dk_at dksX4_isAhead_5 17 rfl rfl)
theorem dX4_isAhead_136 : decode cX4_isAhead 136 = .ok (.iload 4, 2) := dk_21 4 (dk_at dksX4_isAhead_5 20 rfl rfl)
theorem dX4_isAhead_138 : decode cX4_isAhead 138 = .ok (.iload 5, 2) := dk_21 5 (dk_at dksX4_isAhead_5 22 rfl rfl)
theorem dX4_isAhead_140 : decode cX4_isAhead 140 = .ok (.if_icmp .ge 7, 3) := dk_162 0 7 (dk_at dksX4_isAhead_6 0 rfl rfl)
theorem dX4_isAhead_143 : decode cX4_isAhead 143 = .ok (.iconst 1, 1) := dk_4 (dk_at dksX4_isAhead_6 3 rfl rfl)
theorem dX4_isAhead_144 : decode cX4_isAhead 144 = .ok (.goto 4, 3) := dk_167 0 4 (dk_at dksX4_isAhead_6 4 rfl rfl)
theorem dX4_isAhead_147 : decode cX4_isAhead 147 = .ok (.iconst 0, 1) := dk_3 (dk_at dksX4_isAhead_6 7 rfl rfl)
theorem dX4_isAhead_148 : decode cX4_isAhead 148 = .ok (.istore_n 3, 1) := dk_62 (dk_at dksX4_isAhead_6 8 rfl rfl)
theorem dX4_isAhead_149 : decode cX4_isAhead 149 = .ok (.iconst 0, 1) := dk_3 (dk_at dksX4_isAhead_6 9 rfl rfl)
theorem dX4_isAhead_150 : decode cX4_isAhead 150 = .ok (.istore 6, 2) := dk_54 6 (dk_at dksX4_isAhead_6 10 rfl rfl)
theorem dX4_isAhead_152 : decode cX4_isAhead 152 = .ok (.iload 6, 2) := dk_21 6 (dk_at dksX4_isAhead_6 12 rfl rfl)
theorem dX4_isAhead_154 : decode cX4_isAhead 154 = .ok (.aload_n 0, 1) := dk_42 (dk_at dksX4_isAhead_6 14 rfl rfl)
theorem dX4_isAhead_155 : decode cX4_isAhead 155 = .ok (.getfield 203, 3) := dk_180 0 203 (dk_at dksX4_isAhead_6 15 rfl rfl)
theorem dX4_isAhead_158 : decode cX4_isAhead 158 = .ok (.if_icmp .ge 41, 3) := dk_162 0 41 (dk_at dksX4_isAhead_6 18 rfl rfl)
theorem dX4_isAhead_161 : decode cX4_isAhead 161 = .ok (.iload_n 3, 1) := dk_29 (dk_at dksX4_isAhead_6 21 rfl rfl)
theorem dX4_isAhead_162 : decode cX4_isAhead 162 = .ok (.ifCond .ne 25, 3) := dk_154 0 25 (dk_at dksX4_isAhead_7 0 rfl rfl)
theorem dX4_isAhead_165 : decode cX4_isAhead 165 = .ok (.aload_n 0, 1) := dk_42 (dk_at dksX4_isAhead_7 3 rfl rfl)
theorem dX4_isAhead_166 : decode cX4_isAhead 166 = .ok (.getfield 29, 3) := dk_180 0 29 (dk_at dksX4_isAhead_7 4 rfl rfl)
theorem dX4_isAhead_169 : decode cX4_isAhead 169 = .ok (.iload 6, 2) := dk_21 6 (dk_at dksX4_isAhead_7 7 rfl rfl)
theorem dX4_isAhead_171 : decode cX4_isAhead 171 = .ok (.iaload, 1) := dk_46 (dk_at dksX4_isAhead_7 9 rfl rfl)
theorem dX4_isAhead_172 : decode cX4_isAhead 172 = .ok (.iload_n 1, 1) := dk_27 (dk_at dksX4_isAhead_7 10 rfl rfl)
theorem dX4_isAhead_173 : decode cX4_isAhead 173 = .ok (.if_icmp .ne 18, 3) := dk_160 0 18 (dk_at dksX4_isAhead_7 11 rfl rfl)
theorem dX4_isAhead_176 : decode cX4_isAhead 176 = .ok (.aload_n 0, 1) := dk_42 (dk_at dksX4_isAhead_7 14 rfl rfl)
theorem dX4_isAhead_177 : decode cX4_isAhead 177 = .ok (.getfield 32, 3) := dk_180 0 32 (dk_at dksX4_isAhead_7 15 rfl rfl)
theorem dX4_isAhead_180 : decode cX4_isAhead 180 = .ok (.iload 6, 2) := dk_21 6 (dk_at dksX4_isAhead_7 18 rfl rfl)
theorem dX4_isAhead_182 : decode cX4_isAhead 182 = .ok (.iaload, 1) := dk_46 (dk_at dksX4_isAhead_7 20 rfl rfl)
theorem dX4_isAhead_183 : decode cX4_isAhead 183 = .ok (.iload_n 2, 1) := dk_28 (dk_at dksX4_isAhead_7 21 rfl rfl)
theorem dX4_isAhead_184 : decode cX4_isAhead 184 = .ok (.if_icmp .ne 7, 3) := dk_160 0 7 (dk_at dksX4_isAhead_8 0 rfl rfl)
theorem dX4_isAhead_187 : decode cX4_isAhead 187 = .ok (.iconst 1, 1) := dk_4 (dk_at dksX4_isAhead_8 3 rfl rfl)
theorem dX4_isAhead_188 : decode cX4_isAhead 188 = .ok (.goto 4, 3) := dk_167 0 4 (dk_at dksX4_isAhead_8 4 rfl rfl)
theorem dX4_isAhead_191 : decode cX4_isAhead 191 = .ok (.iconst 0, 1) := dk_3 (dk_at dksX4_isAhead_8 7 rfl rfl)
theorem dX4_isAhead_192 : decode cX4_isAhead 192 = .ok (.istore_n 3, 1) := dk_62 (dk_at dksX4_isAhead_8 8 rfl rfl)
theorem dX4_isAhead_193 : decode cX4_isAhead 193 = .ok (.iinc 6 1, 3) := dk_132 6 1 (dk_at dksX4_isAhead_8 9 rfl rfl)
theorem dX4_isAhead_196 : decode cX4_isAhead 196 = .ok (.goto (-44), 3) := dk_167 255 212 (dk_at dksX4_isAhead_8 12 rfl rfl)
theorem dX4_isAhead_199 : decode cX4_isAhead 199 = .ok (.iload_n 3, 1) := dk_29 (dk_at dksX4_isAhead_8 15 rfl rfl)
theorem dX4_isAhead_200 : decode cX4_isAhead 200 = .ok (.ireturn, 1) := dk_172 (dk_at dksX4_isAhead_8 16 rfl rfl)
abbrev cX4_isToldBy : ByteArray := prog_32_method_18_code
def yX4_isToldBy : MethodName := ⟨RX4, "isToldBy", "(III)Z"⟩
def dkwX4_isToldBy_4 : List UInt8 := [167, 0, 4, 3, 172]
abbrev dktX4_isToldBy_4 : List UInt8 := dkwX4_isToldBy_4 ++ []
def dkwX4_isToldBy_3 : List UInt8 := [132, 6, 1, 167, 255, 194, 21, 4, 155, 0, 19, 21, 5, 155, 0, 14, 21, 4, 21, 5, 162, 0, 7, 4]
abbrev dktX4_isToldBy_3 : List UInt8 := dkwX4_isToldBy_3 ++ dktX4_isToldBy_4
def dkwX4_isToldBy_2 : List UInt8 := [180, 0, 22, 7, 27, 104, 21, 6, 96, 46, 29, 160, 0, 8, 21, 6, 167, 0, 5, 21, 5, 54, 5]
abbrev dktX4_isToldBy_2 : List UInt8 := dkwX4_isToldBy_2 ++ dktX4_isToldBy_3
def dkwX4_isToldBy_1 : List UInt8 := [180, 0, 22, 7, 27, 104, 21, 6, 96, 46, 28, 160, 0, 8, 21, 6, 167, 0, 5, 21, 4, 54, 4, 42]
abbrev dktX4_isToldBy_1 : List UInt8 := dkwX4_isToldBy_1 ++ dktX4_isToldBy_2
def dkwX4_isToldBy_0 : List UInt8 := [16, 247, 54, 4, 16, 247, 54, 5, 3, 54, 6, 21, 6, 42, 180, 0, 19, 27, 46, 162, 0, 57, 42]
abbrev dktX4_isToldBy_0 : List UInt8 := dkwX4_isToldBy_0 ++ dktX4_isToldBy_1
theorem dksX4_isToldBy_0 : cX4_isToldBy.data.toList.drop 0 = dktX4_isToldBy_0 := by decide +kernel
theorem dksX4_isToldBy_1 : cX4_isToldBy.data.toList.drop 23 = dktX4_isToldBy_1 := dk_seg dksX4_isToldBy_0 23 rfl rfl
theorem dksX4_isToldBy_2 : cX4_isToldBy.data.toList.drop 47 = dktX4_isToldBy_2 := dk_seg dksX4_isToldBy_1 24 rfl rfl
theorem dksX4_isToldBy_3 : cX4_isToldBy.data.toList.drop 70 = dktX4_isToldBy_3 := dk_seg dksX4_isToldBy_2 23 rfl rfl
theorem dksX4_isToldBy_4 : cX4_isToldBy.data.toList.drop 94 = dktX4_isToldBy_4 := dk_seg dksX4_isToldBy_3 24 rfl rfl
theorem dX4_isToldBy_0 : decode cX4_isToldBy 0 = .ok (.bipush (-9), 2) := dk_16 247 (dk_at dksX4_isToldBy_0 0 rfl rfl)
theorem dX4_isToldBy_2 : decode cX4_isToldBy 2 = .ok (.istore 4, 2) := dk_54 4 (dk_at dksX4_isToldBy_0 2 rfl rfl)
theorem dX4_isToldBy_4 : decode cX4_isToldBy 4 = .ok (.bipush (-9), 2) := dk_16 247 (dk_at dksX4_isToldBy_0 4 rfl rfl)
theorem dX4_isToldBy_6 : decode cX4_isToldBy 6 = .ok (.istore 5, 2) := dk_54 5 (dk_at dksX4_isToldBy_0 6 rfl rfl)
theorem dX4_isToldBy_8 : decode cX4_isToldBy 8 = .ok (.iconst 0, 1) := dk_3 (dk_at dksX4_isToldBy_0 8 rfl rfl)
theorem dX4_isToldBy_9 : decode cX4_isToldBy 9 = .ok (.istore 6, 2) := dk_54 6 (dk_at dksX4_isToldBy_0 9 rfl rfl)
theorem dX4_isToldBy_11 : decode cX4_isToldBy 11 = .ok (.iload 6, 2) := dk_21 6 (dk_at dksX4_isToldBy_0 11 rfl rfl)
theorem dX4_isToldBy_13 : decode cX4_isToldBy 13 = .ok (.aload_n 0, 1) := dk_42 (dk_at dksX4_isToldBy_0 13 rfl rfl)
theorem dX4_isToldBy_14 : decode cX4_isToldBy 14 = .ok (.getfield 19, 3) := dk_180 0 19 (dk_at dksX4_isToldBy_0 14 rfl rfl)
theorem dX4_isToldBy_17 : decode cX4_isToldBy 17 = .ok (.iload_n 1, 1) := dk_27 (dk_at dksX4_isToldBy_0 17 rfl rfl)
theorem dX4_isToldBy_18 : decode cX4_isToldBy 18 = .ok (.iaload, 1) := dk_46 (dk_at dksX4_isToldBy_0 18 rfl rfl)
theorem dX4_isToldBy_19 : decode cX4_isToldBy 19 = .ok (.if_icmp .ge 57, 3) := dk_162 0 57 (dk_at dksX4_isToldBy_0 19 rfl rfl)
theorem dX4_isToldBy_22 : decode cX4_isToldBy 22 = .ok (.aload_n 0, 1) := dk_42 (dk_at dksX4_isToldBy_0 22 rfl rfl)
theorem dX4_isToldBy_23 : decode cX4_isToldBy 23 = .ok (.getfield 22, 3) := dk_180 0 22 (dk_at dksX4_isToldBy_1 0 rfl rfl)
theorem dX4_isToldBy_26 : decode cX4_isToldBy 26 = .ok (.iconst 4, 1) := dk_7 (dk_at dksX4_isToldBy_1 3 rfl rfl)
theorem dX4_isToldBy_27 : decode cX4_isToldBy 27 = .ok (.iload_n 1, 1) := dk_27 (dk_at dksX4_isToldBy_1 4 rfl rfl)
theorem dX4_isToldBy_28 : decode cX4_isToldBy 28 = .ok (.imul, 1) := dk_104 (dk_at dksX4_isToldBy_1 5 rfl rfl)
theorem dX4_isToldBy_29 : decode cX4_isToldBy 29 = .ok (.iload 6, 2) := dk_21 6 (dk_at dksX4_isToldBy_1 6 rfl rfl)
theorem dX4_isToldBy_31 : decode cX4_isToldBy 31 = .ok (.iadd, 1) := dk_96 (dk_at dksX4_isToldBy_1 8 rfl rfl)
theorem dX4_isToldBy_32 : decode cX4_isToldBy 32 = .ok (.iaload, 1) := dk_46 (dk_at dksX4_isToldBy_1 9 rfl rfl)
theorem dX4_isToldBy_33 : decode cX4_isToldBy 33 = .ok (.iload_n 2, 1) := dk_28 (dk_at dksX4_isToldBy_1 10 rfl rfl)
theorem dX4_isToldBy_34 : decode cX4_isToldBy 34 = .ok (.if_icmp .ne 8, 3) := dk_160 0 8 (dk_at dksX4_isToldBy_1 11 rfl rfl)
theorem dX4_isToldBy_37 : decode cX4_isToldBy 37 = .ok (.iload 6, 2) := dk_21 6 (dk_at dksX4_isToldBy_1 14 rfl rfl)
theorem dX4_isToldBy_39 : decode cX4_isToldBy 39 = .ok (.goto 5, 3) := dk_167 0 5 (dk_at dksX4_isToldBy_1 16 rfl rfl)
theorem dX4_isToldBy_42 : decode cX4_isToldBy 42 = .ok (.iload 4, 2) := dk_21 4 (dk_at dksX4_isToldBy_1 19 rfl rfl)
theorem dX4_isToldBy_44 : decode cX4_isToldBy 44 = .ok (.istore 4, 2) := dk_54 4 (dk_at dksX4_isToldBy_1 21 rfl rfl)
theorem dX4_isToldBy_46 : decode cX4_isToldBy 46 = .ok (.aload_n 0, 1) := dk_42 (dk_at dksX4_isToldBy_1 23 rfl rfl)
theorem dX4_isToldBy_47 : decode cX4_isToldBy 47 = .ok (.getfield 22, 3) := dk_180 0 22 (dk_at dksX4_isToldBy_2 0 rfl rfl)
theorem dX4_isToldBy_50 : decode cX4_isToldBy 50 = .ok (.iconst 4, 1) := dk_7 (dk_at dksX4_isToldBy_2 3 rfl rfl)
theorem dX4_isToldBy_51 : decode cX4_isToldBy 51 = .ok (.iload_n 1, 1) := dk_27 (dk_at dksX4_isToldBy_2 4 rfl rfl)
theorem dX4_isToldBy_52 : decode cX4_isToldBy 52 = .ok (.imul, 1) := dk_104 (dk_at dksX4_isToldBy_2 5 rfl rfl)
theorem dX4_isToldBy_53 : decode cX4_isToldBy 53 = .ok (.iload 6, 2) := dk_21 6 (dk_at dksX4_isToldBy_2 6 rfl rfl)
theorem dX4_isToldBy_55 : decode cX4_isToldBy 55 = .ok (.iadd, 1) := dk_96 (dk_at dksX4_isToldBy_2 8 rfl rfl)
theorem dX4_isToldBy_56 : decode cX4_isToldBy 56 = .ok (.iaload, 1) := dk_46 (dk_at dksX4_isToldBy_2 9 rfl rfl)
theorem dX4_isToldBy_57 : decode cX4_isToldBy 57 = .ok (.iload_n 3, 1) := dk_29 (dk_at dksX4_isToldBy_2 10 rfl rfl)
theorem dX4_isToldBy_58 : decode cX4_isToldBy 58 = .ok (.if_icmp .ne 8, 3) := dk_160 0 8 (dk_at dksX4_isToldBy_2 11 rfl rfl)
theorem dX4_isToldBy_61 : decode cX4_isToldBy 61 = .ok (.iload 6, 2) := dk_21 6 (dk_at dksX4_isToldBy_2 14 rfl rfl)
theorem dX4_isToldBy_63 : decode cX4_isToldBy 63 = .ok (.goto 5, 3) := dk_167 0 5 (dk_at dksX4_isToldBy_2 16 rfl rfl)
theorem dX4_isToldBy_66 : decode cX4_isToldBy 66 = .ok (.iload 5, 2) := dk_21 5 (dk_at dksX4_isToldBy_2 19 rfl rfl)
theorem dX4_isToldBy_68 : decode cX4_isToldBy 68 = .ok (.istore 5, 2) := dk_54 5 (dk_at dksX4_isToldBy_2 21 rfl rfl)
theorem dX4_isToldBy_70 : decode cX4_isToldBy 70 = .ok (.iinc 6 1, 3) := dk_132 6 1 (dk_at dksX4_isToldBy_3 0 rfl rfl)
theorem dX4_isToldBy_73 : decode cX4_isToldBy 73 = .ok (.goto (-62), 3) := dk_167 255 194 (dk_at dksX4_isToldBy_3 3 rfl rfl)
theorem dX4_isToldBy_76 : decode cX4_isToldBy 76 = .ok (.iload 4, 2) := dk_21 4 (dk_at dksX4_isToldBy_3 6 rfl rfl)
theorem dX4_isToldBy_78 : decode cX4_isToldBy 78 = .ok (.ifCond .lt 19, 3) := dk_155 0 19 (dk_at dksX4_isToldBy_3 8 rfl rfl)
theorem dX4_isToldBy_81 : decode cX4_isToldBy 81 = .ok (.iload 5, 2) := dk_21 5 (dk_at dksX4_isToldBy_3 11 rfl rfl)
theorem dX4_isToldBy_83 : decode cX4_isToldBy 83 = .ok (.ifCond .lt 14, 3) := dk_155 0 14 (dk_at dksX4_isToldBy_3 13 rfl rfl)
theorem dX4_isToldBy_86 : decode cX4_isToldBy 86 = .ok (.iload 4, 2) := dk_21 4 (dk_at dksX4_isToldBy_3 16 rfl rfl)
theorem dX4_isToldBy_88 : decode cX4_isToldBy 88 = .ok (.iload 5, 2) := dk_21 5 (dk_at dksX4_isToldBy_3 18 rfl rfl)
theorem dX4_isToldBy_90 : decode cX4_isToldBy 90 = .ok (.if_icmp .ge 7, 3) := dk_162 0 7 (dk_at dksX4_isToldBy_3 20 rfl rfl)
theorem dX4_isToldBy_93 : decode cX4_isToldBy 93 = .ok (.iconst 1, 1) := dk_4 (dk_at dksX4_isToldBy_3 23 rfl rfl)
theorem dX4_isToldBy_94 : decode cX4_isToldBy 94 = .ok (.goto 4, 3) := dk_167 0 4 (dk_at dksX4_isToldBy_4 0 rfl rfl)
theorem dX4_isToldBy_97 : decode cX4_isToldBy 97 = .ok (.iconst 0, 1) := dk_3 (dk_at dksX4_isToldBy_4 3 rfl rfl)
theorem dX4_isToldBy_98 : decode cX4_isToldBy 98 = .ok (.ireturn, 1) := dk_172 (dk_at dksX4_isToldBy_4 4 rfl rfl)
abbrev cX4_tellRing : ByteArray := prog_32_method_23_code
def yX4_tellRing : MethodName := ⟨RX4, "tellRing", "(I)V"⟩
def dkwX4_tellRing_5 : List UInt8 := [167, 255, 221, 177]
abbrev dktX4_tellRing_5 : List UInt8 := dkwX4_tellRing_5 ++ []
def dkwX4_tellRing_4 : List UInt8 := [180, 0, 240, 42, 180, 0, 111, 21, 5, 46, 79, 42, 89, 180, 0, 240, 4, 96, 181, 0, 240, 132, 5, 1]
abbrev dktX4_tellRing_4 : List UInt8 := dkwX4_tellRing_4 ++ dktX4_tellRing_5
def dkwX4_tellRing_3 : List UInt8 := [167, 255, 195, 42, 3, 181, 0, 240, 21, 4, 54, 5, 21, 5, 28, 162, 0, 35, 42, 180, 0, 96, 42]
abbrev dktX4_tellRing_3 : List UInt8 := dkwX4_tellRing_3 ++ dktX4_tellRing_4
def dkwX4_tellRing_2 : List UInt8 := [21, 5, 46, 29, 160, 0, 8, 21, 5, 167, 0, 5, 21, 4, 54, 4, 132, 5, 1, 167, 255, 222]
abbrev dktX4_tellRing_2 : List UInt8 := dkwX4_tellRing_2 ++ dktX4_tellRing_3
def dkwX4_tellRing_1 : List UInt8 := [29, 182, 0, 232, 62, 3, 54, 5, 21, 5, 28, 162, 0, 34, 21, 4, 156, 0, 29, 42, 180, 0, 111]
abbrev dktX4_tellRing_1 : List UInt8 := dkwX4_tellRing_1 ++ dktX4_tellRing_2
def dkwX4_tellRing_0 : List UInt8 := [3, 61, 27, 62, 16, 247, 54, 4, 21, 4, 156, 0, 62, 42, 180, 0, 111, 28, 29, 79, 132, 2, 1, 42]
abbrev dktX4_tellRing_0 : List UInt8 := dkwX4_tellRing_0 ++ dktX4_tellRing_1
theorem dksX4_tellRing_0 : cX4_tellRing.data.toList.drop 0 = dktX4_tellRing_0 := by decide +kernel
theorem dksX4_tellRing_1 : cX4_tellRing.data.toList.drop 24 = dktX4_tellRing_1 := dk_seg dksX4_tellRing_0 24 rfl rfl
theorem dksX4_tellRing_2 : cX4_tellRing.data.toList.drop 47 = dktX4_tellRing_2 := dk_seg dksX4_tellRing_1 23 rfl rfl
theorem dksX4_tellRing_3 : cX4_tellRing.data.toList.drop 69 = dktX4_tellRing_3 := dk_seg dksX4_tellRing_2 22 rfl rfl
theorem dksX4_tellRing_4 : cX4_tellRing.data.toList.drop 92 = dktX4_tellRing_4 := dk_seg dksX4_tellRing_3 23 rfl rfl
theorem dksX4_tellRing_5 : cX4_tellRing.data.toList.drop 116 = dktX4_tellRing_5 := dk_seg dksX4_tellRing_4 24 rfl rfl
theorem dX4_tellRing_0 : decode cX4_tellRing 0 = .ok (.iconst 0, 1) := dk_3 (dk_at dksX4_tellRing_0 0 rfl rfl)
theorem dX4_tellRing_1 : decode cX4_tellRing 1 = .ok (.istore_n 2, 1) := dk_61 (dk_at dksX4_tellRing_0 1 rfl rfl)
theorem dX4_tellRing_2 : decode cX4_tellRing 2 = .ok (.iload_n 1, 1) := dk_27 (dk_at dksX4_tellRing_0 2 rfl rfl)
theorem dX4_tellRing_3 : decode cX4_tellRing 3 = .ok (.istore_n 3, 1) := dk_62 (dk_at dksX4_tellRing_0 3 rfl rfl)
theorem dX4_tellRing_4 : decode cX4_tellRing 4 = .ok (.bipush (-9), 2) := dk_16 247 (dk_at dksX4_tellRing_0 4 rfl rfl)
theorem dX4_tellRing_6 : decode cX4_tellRing 6 = .ok (.istore 4, 2) := dk_54 4 (dk_at dksX4_tellRing_0 6 rfl rfl)
theorem dX4_tellRing_8 : decode cX4_tellRing 8 = .ok (.iload 4, 2) := dk_21 4 (dk_at dksX4_tellRing_0 8 rfl rfl)
theorem dX4_tellRing_10 : decode cX4_tellRing 10 = .ok (.ifCond .ge 62, 3) := dk_156 0 62 (dk_at dksX4_tellRing_0 10 rfl rfl)
theorem dX4_tellRing_13 : decode cX4_tellRing 13 = .ok (.aload_n 0, 1) := dk_42 (dk_at dksX4_tellRing_0 13 rfl rfl)
theorem dX4_tellRing_14 : decode cX4_tellRing 14 = .ok (.getfield 111, 3) := dk_180 0 111 (dk_at dksX4_tellRing_0 14 rfl rfl)
theorem dX4_tellRing_17 : decode cX4_tellRing 17 = .ok (.iload_n 2, 1) := dk_28 (dk_at dksX4_tellRing_0 17 rfl rfl)
theorem dX4_tellRing_18 : decode cX4_tellRing 18 = .ok (.iload_n 3, 1) := dk_29 (dk_at dksX4_tellRing_0 18 rfl rfl)
theorem dX4_tellRing_19 : decode cX4_tellRing 19 = .ok (.iastore, 1) := dk_79 (dk_at dksX4_tellRing_0 19 rfl rfl)
theorem dX4_tellRing_20 : decode cX4_tellRing 20 = .ok (.iinc 2 1, 3) := dk_132 2 1 (dk_at dksX4_tellRing_0 20 rfl rfl)
theorem dX4_tellRing_23 : decode cX4_tellRing 23 = .ok (.aload_n 0, 1) := dk_42 (dk_at dksX4_tellRing_0 23 rfl rfl)
theorem dX4_tellRing_24 : decode cX4_tellRing 24 = .ok (.iload_n 3, 1) := dk_29 (dk_at dksX4_tellRing_1 0 rfl rfl)
theorem dX4_tellRing_25 : decode cX4_tellRing 25 = .ok (.invokevirtual 232, 3) := dk_182 0 232 (dk_at dksX4_tellRing_1 1 rfl rfl)
theorem dX4_tellRing_28 : decode cX4_tellRing 28 = .ok (.istore_n 3, 1) := dk_62 (dk_at dksX4_tellRing_1 4 rfl rfl)
theorem dX4_tellRing_29 : decode cX4_tellRing 29 = .ok (.iconst 0, 1) := dk_3 (dk_at dksX4_tellRing_1 5 rfl rfl)
theorem dX4_tellRing_30 : decode cX4_tellRing 30 = .ok (.istore 5, 2) := dk_54 5 (dk_at dksX4_tellRing_1 6 rfl rfl)
theorem dX4_tellRing_32 : decode cX4_tellRing 32 = .ok (.iload 5, 2) := dk_21 5 (dk_at dksX4_tellRing_1 8 rfl rfl)
theorem dX4_tellRing_34 : decode cX4_tellRing 34 = .ok (.iload_n 2, 1) := dk_28 (dk_at dksX4_tellRing_1 10 rfl rfl)
theorem dX4_tellRing_35 : decode cX4_tellRing 35 = .ok (.if_icmp .ge 34, 3) := dk_162 0 34 (dk_at dksX4_tellRing_1 11 rfl rfl)
theorem dX4_tellRing_38 : decode cX4_tellRing 38 = .ok (.iload 4, 2) := dk_21 4 (dk_at dksX4_tellRing_1 14 rfl rfl)
theorem dX4_tellRing_40 : decode cX4_tellRing 40 = .ok (.ifCond .ge 29, 3) := dk_156 0 29 (dk_at dksX4_tellRing_1 16 rfl rfl)
theorem dX4_tellRing_43 : decode cX4_tellRing 43 = .ok (.aload_n 0, 1) := dk_42 (dk_at dksX4_tellRing_1 19 rfl rfl)
theorem dX4_tellRing_44 : decode cX4_tellRing 44 = .ok (.getfield 111, 3) := dk_180 0 111 (dk_at dksX4_tellRing_1 20 rfl rfl)
theorem dX4_tellRing_47 : decode cX4_tellRing 47 = .ok (.iload 5, 2) := dk_21 5 (dk_at dksX4_tellRing_2 0 rfl rfl)
theorem dX4_tellRing_49 : decode cX4_tellRing 49 = .ok (.iaload, 1) := dk_46 (dk_at dksX4_tellRing_2 2 rfl rfl)
theorem dX4_tellRing_50 : decode cX4_tellRing 50 = .ok (.iload_n 3, 1) := dk_29 (dk_at dksX4_tellRing_2 3 rfl rfl)
theorem dX4_tellRing_51 : decode cX4_tellRing 51 = .ok (.if_icmp .ne 8, 3) := dk_160 0 8 (dk_at dksX4_tellRing_2 4 rfl rfl)
theorem dX4_tellRing_54 : decode cX4_tellRing 54 = .ok (.iload 5, 2) := dk_21 5 (dk_at dksX4_tellRing_2 7 rfl rfl)
theorem dX4_tellRing_56 : decode cX4_tellRing 56 = .ok (.goto 5, 3) := dk_167 0 5 (dk_at dksX4_tellRing_2 9 rfl rfl)
theorem dX4_tellRing_59 : decode cX4_tellRing 59 = .ok (.iload 4, 2) := dk_21 4 (dk_at dksX4_tellRing_2 12 rfl rfl)
theorem dX4_tellRing_61 : decode cX4_tellRing 61 = .ok (.istore 4, 2) := dk_54 4 (dk_at dksX4_tellRing_2 14 rfl rfl)
theorem dX4_tellRing_63 : decode cX4_tellRing 63 = .ok (.iinc 5 1, 3) := dk_132 5 1 (dk_at dksX4_tellRing_2 16 rfl rfl)
theorem dX4_tellRing_66 : decode cX4_tellRing 66 = .ok (.goto (-34), 3) := dk_167 255 222 (dk_at dksX4_tellRing_2 19 rfl rfl)
theorem dX4_tellRing_69 : decode cX4_tellRing 69 = .ok (.goto (-61), 3) := dk_167 255 195 (dk_at dksX4_tellRing_3 0 rfl rfl)
theorem dX4_tellRing_72 : decode cX4_tellRing 72 = .ok (.aload_n 0, 1) := dk_42 (dk_at dksX4_tellRing_3 3 rfl rfl)
theorem dX4_tellRing_73 : decode cX4_tellRing 73 = .ok (.iconst 0, 1) := dk_3 (dk_at dksX4_tellRing_3 4 rfl rfl)
theorem dX4_tellRing_74 : decode cX4_tellRing 74 = .ok (.putfield 240, 3) := dk_181 0 240 (dk_at dksX4_tellRing_3 5 rfl rfl)
theorem dX4_tellRing_77 : decode cX4_tellRing 77 = .ok (.iload 4, 2) := dk_21 4 (dk_at dksX4_tellRing_3 8 rfl rfl)
theorem dX4_tellRing_79 : decode cX4_tellRing 79 = .ok (.istore 5, 2) := dk_54 5 (dk_at dksX4_tellRing_3 10 rfl rfl)
theorem dX4_tellRing_81 : decode cX4_tellRing 81 = .ok (.iload 5, 2) := dk_21 5 (dk_at dksX4_tellRing_3 12 rfl rfl)
theorem dX4_tellRing_83 : decode cX4_tellRing 83 = .ok (.iload_n 2, 1) := dk_28 (dk_at dksX4_tellRing_3 14 rfl rfl)
theorem dX4_tellRing_84 : decode cX4_tellRing 84 = .ok (.if_icmp .ge 35, 3) := dk_162 0 35 (dk_at dksX4_tellRing_3 15 rfl rfl)
theorem dX4_tellRing_87 : decode cX4_tellRing 87 = .ok (.aload_n 0, 1) := dk_42 (dk_at dksX4_tellRing_3 18 rfl rfl)
theorem dX4_tellRing_88 : decode cX4_tellRing 88 = .ok (.getfield 96, 3) := dk_180 0 96 (dk_at dksX4_tellRing_3 19 rfl rfl)
theorem dX4_tellRing_91 : decode cX4_tellRing 91 = .ok (.aload_n 0, 1) := dk_42 (dk_at dksX4_tellRing_3 22 rfl rfl)
theorem dX4_tellRing_92 : decode cX4_tellRing 92 = .ok (.getfield 240, 3) := dk_180 0 240 (dk_at dksX4_tellRing_4 0 rfl rfl)
theorem dX4_tellRing_95 : decode cX4_tellRing 95 = .ok (.aload_n 0, 1) := dk_42 (dk_at dksX4_tellRing_4 3 rfl rfl)
theorem dX4_tellRing_96 : decode cX4_tellRing 96 = .ok (.getfield 111, 3) := dk_180 0 111 (dk_at dksX4_tellRing_4 4 rfl rfl)
theorem dX4_tellRing_99 : decode cX4_tellRing 99 = .ok (.iload 5, 2) := dk_21 5 (dk_at dksX4_tellRing_4 7 rfl rfl)
theorem dX4_tellRing_101 : decode cX4_tellRing 101 = .ok (.iaload, 1) := dk_46 (dk_at dksX4_tellRing_4 9 rfl rfl)
theorem dX4_tellRing_102 : decode cX4_tellRing 102 = .ok (.iastore, 1) := dk_79 (dk_at dksX4_tellRing_4 10 rfl rfl)
theorem dX4_tellRing_103 : decode cX4_tellRing 103 = .ok (.aload_n 0, 1) := dk_42 (dk_at dksX4_tellRing_4 11 rfl rfl)
theorem dX4_tellRing_104 : decode cX4_tellRing 104 = .ok (.dup, 1) := dk_89 (dk_at dksX4_tellRing_4 12 rfl rfl)
theorem dX4_tellRing_105 : decode cX4_tellRing 105 = .ok (.getfield 240, 3) := dk_180 0 240 (dk_at dksX4_tellRing_4 13 rfl rfl)
theorem dX4_tellRing_108 : decode cX4_tellRing 108 = .ok (.iconst 1, 1) := dk_4 (dk_at dksX4_tellRing_4 16 rfl rfl)
theorem dX4_tellRing_109 : decode cX4_tellRing 109 = .ok (.iadd, 1) := dk_96 (dk_at dksX4_tellRing_4 17 rfl rfl)
theorem dX4_tellRing_110 : decode cX4_tellRing 110 = .ok (.putfield 240, 3) := dk_181 0 240 (dk_at dksX4_tellRing_4 18 rfl rfl)
theorem dX4_tellRing_113 : decode cX4_tellRing 113 = .ok (.iinc 5 1, 3) := dk_132 5 1 (dk_at dksX4_tellRing_4 21 rfl rfl)
theorem dX4_tellRing_116 : decode cX4_tellRing 116 = .ok (.goto (-35), 3) := dk_167 255 221 (dk_at dksX4_tellRing_5 0 rfl rfl)
theorem dX4_tellRing_119 : decode cX4_tellRing 119 = .ok (.return_, 1) := dk_177 (dk_at dksX4_tellRing_5 3 rfl rfl)
abbrev cX4_chain : ByteArray := prog_32_method_25_code
def yX4_chain : MethodName := ⟨RX4, "chain", "(II)V"⟩
def dkwX4_chain_6 : List UInt8 := [46, 4, 96, 79, 132, 4, 1, 167, 255, 124, 177]
abbrev dktX4_chain_6 : List UInt8 := dkwX4_chain_6 ++ []
def dkwX4_chain_5 : List UInt8 := [42, 180, 0, 84, 16, 48, 29, 104, 42, 180, 0, 81, 29, 46, 96, 21, 7, 79, 42, 180, 0, 81, 29, 92]
abbrev dktX4_chain_5 : List UInt8 := dkwX4_chain_5 ++ dktX4_chain_6
def dkwX4_chain_4 : List UInt8 := [96, 21, 6, 79, 42, 180, 0, 81, 29, 92, 46, 4, 96, 79, 42, 180, 0, 35, 21, 7, 46, 155, 0, 31]
abbrev dktX4_chain_4 : List UInt8 := dkwX4_chain_4 ++ dktX4_chain_5
def dkwX4_chain_3 : List UInt8 := [42, 21, 5, 28, 182, 0, 243, 154, 0, 31, 42, 180, 0, 84, 16, 48, 29, 104, 42, 180, 0, 81, 29, 46]
abbrev dktX4_chain_3 : List UInt8 := dkwX4_chain_3 ++ dktX4_chain_4
def dkwX4_chain_2 : List UInt8 := [184, 0, 209, 54, 6, 21, 5, 4, 28, 184, 0, 209, 54, 7, 42, 180, 0, 35, 21, 6, 46, 155, 0, 41]
abbrev dktX4_chain_2 : List UInt8 := dkwX4_chain_2 ++ dktX4_chain_3
def dkwX4_chain_1 : List UInt8 := [46, 162, 0, 127, 42, 180, 0, 75, 16, 24, 27, 104, 21, 4, 96, 46, 54, 5, 21, 5, 3, 28]
abbrev dktX4_chain_1 : List UInt8 := dkwX4_chain_1 ++ dktX4_chain_2
def dkwX4_chain_0 : List UInt8 := [16, 12, 27, 104, 28, 96, 62, 42, 180, 0, 81, 29, 3, 79, 3, 54, 4, 21, 4, 42, 180, 0, 72, 27]
abbrev dktX4_chain_0 : List UInt8 := dkwX4_chain_0 ++ dktX4_chain_1
theorem dksX4_chain_0 : cX4_chain.data.toList.drop 0 = dktX4_chain_0 := by decide +kernel
theorem dksX4_chain_1 : cX4_chain.data.toList.drop 24 = dktX4_chain_1 := dk_seg dksX4_chain_0 24 rfl rfl
theorem dksX4_chain_2 : cX4_chain.data.toList.drop 46 = dktX4_chain_2 := dk_seg dksX4_chain_1 22 rfl rfl
theorem dksX4_chain_3 : cX4_chain.data.toList.drop 70 = dktX4_chain_3 := dk_seg dksX4_chain_2 24 rfl rfl
theorem dksX4_chain_4 : cX4_chain.data.toList.drop 94 = dktX4_chain_4 := dk_seg dksX4_chain_3 24 rfl rfl
theorem dksX4_chain_5 : cX4_chain.data.toList.drop 118 = dktX4_chain_5 := dk_seg dksX4_chain_4 24 rfl rfl
theorem dksX4_chain_6 : cX4_chain.data.toList.drop 142 = dktX4_chain_6 := dk_seg dksX4_chain_5 24 rfl rfl
theorem dX4_chain_0 : decode cX4_chain 0 = .ok (.bipush 12, 2) := dk_16 12 (dk_at dksX4_chain_0 0 rfl rfl)
theorem dX4_chain_2 : decode cX4_chain 2 = .ok (.iload_n 1, 1) := dk_27 (dk_at dksX4_chain_0 2 rfl rfl)
theorem dX4_chain_3 : decode cX4_chain 3 = .ok (.imul, 1) := dk_104 (dk_at dksX4_chain_0 3 rfl rfl)
theorem dX4_chain_4 : decode cX4_chain 4 = .ok (.iload_n 2, 1) := dk_28 (dk_at dksX4_chain_0 4 rfl rfl)
theorem dX4_chain_5 : decode cX4_chain 5 = .ok (.iadd, 1) := dk_96 (dk_at dksX4_chain_0 5 rfl rfl)
theorem dX4_chain_6 : decode cX4_chain 6 = .ok (.istore_n 3, 1) := dk_62 (dk_at dksX4_chain_0 6 rfl rfl)
theorem dX4_chain_7 : decode cX4_chain 7 = .ok (.aload_n 0, 1) := dk_42 (dk_at dksX4_chain_0 7 rfl rfl)
theorem dX4_chain_8 : decode cX4_chain 8 = .ok (.getfield 81, 3) := dk_180 0 81 (dk_at dksX4_chain_0 8 rfl rfl)
theorem dX4_chain_11 : decode cX4_chain 11 = .ok (.iload_n 3, 1) := dk_29 (dk_at dksX4_chain_0 11 rfl rfl)
theorem dX4_chain_12 : decode cX4_chain 12 = .ok (.iconst 0, 1) := dk_3 (dk_at dksX4_chain_0 12 rfl rfl)
theorem dX4_chain_13 : decode cX4_chain 13 = .ok (.iastore, 1) := dk_79 (dk_at dksX4_chain_0 13 rfl rfl)
theorem dX4_chain_14 : decode cX4_chain 14 = .ok (.iconst 0, 1) := dk_3 (dk_at dksX4_chain_0 14 rfl rfl)
theorem dX4_chain_15 : decode cX4_chain 15 = .ok (.istore 4, 2) := dk_54 4 (dk_at dksX4_chain_0 15 rfl rfl)
theorem dX4_chain_17 : decode cX4_chain 17 = .ok (.iload 4, 2) := dk_21 4 (dk_at dksX4_chain_0 17 rfl rfl)
theorem dX4_chain_19 : decode cX4_chain 19 = .ok (.aload_n 0, 1) := dk_42 (dk_at dksX4_chain_0 19 rfl rfl)
theorem dX4_chain_20 : decode cX4_chain 20 = .ok (.getfield 72, 3) := dk_180 0 72 (dk_at dksX4_chain_0 20 rfl rfl)
theorem dX4_chain_23 : decode cX4_chain 23 = .ok (.iload_n 1, 1) := dk_27 (dk_at dksX4_chain_0 23 rfl rfl)
theorem dX4_chain_24 : decode cX4_chain 24 = .ok (.iaload, 1) := dk_46 (dk_at dksX4_chain_1 0 rfl rfl)
theorem dX4_chain_25 : decode cX4_chain 25 = .ok (.if_icmp .ge 127, 3) := dk_162 0 127 (dk_at dksX4_chain_1 1 rfl rfl)
theorem dX4_chain_28 : decode cX4_chain 28 = .ok (.aload_n 0, 1) := dk_42 (dk_at dksX4_chain_1 4 rfl rfl)
theorem dX4_chain_29 : decode cX4_chain 29 = .ok (.getfield 75, 3) := dk_180 0 75 (dk_at dksX4_chain_1 5 rfl rfl)
theorem dX4_chain_32 : decode cX4_chain 32 = .ok (.bipush 24, 2) := dk_16 24 (dk_at dksX4_chain_1 8 rfl rfl)
theorem dX4_chain_34 : decode cX4_chain 34 = .ok (.iload_n 1, 1) := dk_27 (dk_at dksX4_chain_1 10 rfl rfl)
theorem dX4_chain_35 : decode cX4_chain 35 = .ok (.imul, 1) := dk_104 (dk_at dksX4_chain_1 11 rfl rfl)
theorem dX4_chain_36 : decode cX4_chain 36 = .ok (.iload 4, 2) := dk_21 4 (dk_at dksX4_chain_1 12 rfl rfl)
theorem dX4_chain_38 : decode cX4_chain 38 = .ok (.iadd, 1) := dk_96 (dk_at dksX4_chain_1 14 rfl rfl)
theorem dX4_chain_39 : decode cX4_chain 39 = .ok (.iaload, 1) := dk_46 (dk_at dksX4_chain_1 15 rfl rfl)
theorem dX4_chain_40 : decode cX4_chain 40 = .ok (.istore 5, 2) := dk_54 5 (dk_at dksX4_chain_1 16 rfl rfl)
theorem dX4_chain_42 : decode cX4_chain 42 = .ok (.iload 5, 2) := dk_21 5 (dk_at dksX4_chain_1 18 rfl rfl)
theorem dX4_chain_44 : decode cX4_chain 44 = .ok (.iconst 0, 1) := dk_3 (dk_at dksX4_chain_1 20 rfl rfl)
theorem dX4_chain_45 : decode cX4_chain 45 = .ok (.iload_n 2, 1) := dk_28 (dk_at dksX4_chain_1 21 rfl rfl)
theorem dX4_chain_46 : decode cX4_chain 46 = .ok (.invokestatic 209, 3) := dk_184 0 209 (dk_at dksX4_chain_2 0 rfl rfl)
theorem dX4_chain_49 : decode cX4_chain 49 = .ok (.istore 6, 2) := dk_54 6 (dk_at dksX4_chain_2 3 rfl rfl)
theorem dX4_chain_51 : decode cX4_chain 51 = .ok (.iload 5, 2) := dk_21 5 (dk_at dksX4_chain_2 5 rfl rfl)
theorem dX4_chain_53 : decode cX4_chain 53 = .ok (.iconst 1, 1) := dk_4 (dk_at dksX4_chain_2 7 rfl rfl)
theorem dX4_chain_54 : decode cX4_chain 54 = .ok (.iload_n 2, 1) := dk_28 (dk_at dksX4_chain_2 8 rfl rfl)
theorem dX4_chain_55 : decode cX4_chain 55 = .ok (.invokestatic 209, 3) := dk_184 0 209 (dk_at dksX4_chain_2 9 rfl rfl)
theorem dX4_chain_58 : decode cX4_chain 58 = .ok (.istore 7, 2) := dk_54 7 (dk_at dksX4_chain_2 12 rfl rfl)
theorem dX4_chain_60 : decode cX4_chain 60 = .ok (.aload_n 0, 1) := dk_42 (dk_at dksX4_chain_2 14 rfl rfl)
theorem dX4_chain_61 : decode cX4_chain 61 = .ok (.getfield 35, 3) := dk_180 0 35 (dk_at dksX4_chain_2 15 rfl rfl)
theorem dX4_chain_64 : decode cX4_chain 64 = .ok (.iload 6, 2) := dk_21 6 (dk_at dksX4_chain_2 18 rfl rfl)
theorem dX4_chain_66 : decode cX4_chain 66 = .ok (.iaload, 1) := dk_46 (dk_at dksX4_chain_2 20 rfl rfl)
theorem dX4_chain_67 : decode cX4_chain 67 = .ok (.ifCond .lt 41, 3) := dk_155 0 41 (dk_at dksX4_chain_2 21 rfl rfl)
theorem dX4_chain_70 : decode cX4_chain 70 = .ok (.aload_n 0, 1) := dk_42 (dk_at dksX4_chain_3 0 rfl rfl)
theorem dX4_chain_71 : decode cX4_chain 71 = .ok (.iload 5, 2) := dk_21 5 (dk_at dksX4_chain_3 1 rfl rfl)
theorem dX4_chain_73 : decode cX4_chain 73 = .ok (.iload_n 2, 1) := dk_28 (dk_at dksX4_chain_3 3 rfl rfl)
theorem dX4_chain_74 : decode cX4_chain 74 = .ok (.invokevirtual 243, 3) := dk_182 0 243 (dk_at dksX4_chain_3 4 rfl rfl)
theorem dX4_chain_77 : decode cX4_chain 77 = .ok (.ifCond .ne 31, 3) := dk_154 0 31 (dk_at dksX4_chain_3 7 rfl rfl)
theorem dX4_chain_80 : decode cX4_chain 80 = .ok (.aload_n 0, 1) := dk_42 (dk_at dksX4_chain_3 10 rfl rfl)
theorem dX4_chain_81 : decode cX4_chain 81 = .ok (.getfield 84, 3) := dk_180 0 84 (dk_at dksX4_chain_3 11 rfl rfl)
theorem dX4_chain_84 : decode cX4_chain 84 = .ok (.bipush 48, 2) := dk_16 48 (dk_at dksX4_chain_3 14 rfl rfl)
theorem dX4_chain_86 : decode cX4_chain 86 = .ok (.iload_n 3, 1) := dk_29 (dk_at dksX4_chain_3 16 rfl rfl)
theorem dX4_chain_87 : decode cX4_chain 87 = .ok (.imul, 1) := dk_104 (dk_at dksX4_chain_3 17 rfl rfl)
theorem dX4_chain_88 : decode cX4_chain 88 = .ok (.aload_n 0, 1) := dk_42 (dk_at dksX4_chain_3 18 rfl rfl)
theorem dX4_chain_89 : decode cX4_chain 89 = .ok (.getfield 81, 3) := dk_180 0 81 (dk_at dksX4_chain_3 19 rfl rfl)
theorem dX4_chain_92 : decode cX4_chain 92 = .ok (.iload_n 3, 1) := dk_29 (dk_at dksX4_chain_3 22 rfl rfl)
theorem dX4_chain_93 : decode cX4_chain 93 = .ok (.iaload, 1) := dk_46 (dk_at dksX4_chain_3 23 rfl rfl)
theorem dX4_chain_94 : decode cX4_chain 94 = .ok (.iadd, 1) := dk_96 (dk_at dksX4_chain_4 0 rfl rfl)
theorem dX4_chain_95 : decode cX4_chain 95 = .ok (.iload 6, 2) := dk_21 6 (dk_at dksX4_chain_4 1 rfl rfl)
theorem dX4_chain_97 : decode cX4_chain 97 = .ok (.iastore, 1) := dk_79 (dk_at dksX4_chain_4 3 rfl rfl)
theorem dX4_chain_98 : decode cX4_chain 98 = .ok (.aload_n 0, 1) := dk_42 (dk_at dksX4_chain_4 4 rfl rfl)
theorem dX4_chain_99 : decode cX4_chain 99 = .ok (.getfield 81, 3) := dk_180 0 81 (dk_at dksX4_chain_4 5 rfl rfl)
theorem dX4_chain_102 : decode cX4_chain 102 = .ok (.iload_n 3, 1) := dk_29 (dk_at dksX4_chain_4 8 rfl rfl)
theorem dX4_chain_103 : decode cX4_chain 103 = .ok (.dup2, 1) := dk_92 (dk_at dksX4_chain_4 9 rfl rfl)
theorem dX4_chain_104 : decode cX4_chain 104 = .ok (.iaload, 1) := dk_46 (dk_at dksX4_chain_4 10 rfl rfl)
theorem dX4_chain_105 : decode cX4_chain 105 = .ok (.iconst 1, 1) := dk_4 (dk_at dksX4_chain_4 11 rfl rfl)
theorem dX4_chain_106 : decode cX4_chain 106 = .ok (.iadd, 1) := dk_96 (dk_at dksX4_chain_4 12 rfl rfl)
theorem dX4_chain_107 : decode cX4_chain 107 = .ok (.iastore, 1) := dk_79 (dk_at dksX4_chain_4 13 rfl rfl)
theorem dX4_chain_108 : decode cX4_chain 108 = .ok (.aload_n 0, 1) := dk_42 (dk_at dksX4_chain_4 14 rfl rfl)
theorem dX4_chain_109 : decode cX4_chain 109 = .ok (.getfield 35, 3) := dk_180 0 35 (dk_at dksX4_chain_4 15 rfl rfl)
theorem dX4_chain_112 : decode cX4_chain 112 = .ok (.iload 7, 2) := dk_21 7 (dk_at dksX4_chain_4 18 rfl rfl)
theorem dX4_chain_114 : decode cX4_chain 114 = .ok (.iaload, 1) := dk_46 (dk_at dksX4_chain_4 20 rfl rfl)
theorem dX4_chain_115 : decode cX4_chain 115 = .ok (.ifCond .lt 31, 3) := dk_155 0 31 (dk_at dksX4_chain_4 21 rfl rfl)
theorem dX4_chain_118 : decode cX4_chain 118 = .ok (.aload_n 0, 1) := dk_42 (dk_at dksX4_chain_5 0 rfl rfl)
theorem dX4_chain_119 : decode cX4_chain 119 = .ok (.getfield 84, 3) := dk_180 0 84 (dk_at dksX4_chain_5 1 rfl rfl)
theorem dX4_chain_122 : decode cX4_chain 122 = .ok (.bipush 48, 2) := dk_16 48 (dk_at dksX4_chain_5 4 rfl rfl)
theorem dX4_chain_124 : decode cX4_chain 124 = .ok (.iload_n 3, 1) := dk_29 (dk_at dksX4_chain_5 6 rfl rfl)
theorem dX4_chain_125 : decode cX4_chain 125 = .ok (.imul, 1) := dk_104 (dk_at dksX4_chain_5 7 rfl rfl)
theorem dX4_chain_126 : decode cX4_chain 126 = .ok (.aload_n 0, 1) := dk_42 (dk_at dksX4_chain_5 8 rfl rfl)
theorem dX4_chain_127 : decode cX4_chain 127 = .ok (.getfield 81, 3) := dk_180 0 81 (dk_at dksX4_chain_5 9 rfl rfl)
theorem dX4_chain_130 : decode cX4_chain 130 = .ok (.iload_n 3, 1) := dk_29 (dk_at dksX4_chain_5 12 rfl rfl)
theorem dX4_chain_131 : decode cX4_chain 131 = .ok (.iaload, 1) := dk_46 (dk_at dksX4_chain_5 13 rfl rfl)
theorem dX4_chain_132 : decode cX4_chain 132 = .ok (.iadd, 1) := dk_96 (dk_at dksX4_chain_5 14 rfl rfl)
theorem dX4_chain_133 : decode cX4_chain 133 = .ok (.iload 7, 2) := dk_21 7 (dk_at dksX4_chain_5 15 rfl rfl)
theorem dX4_chain_135 : decode cX4_chain 135 = .ok (.iastore, 1) := dk_79 (dk_at dksX4_chain_5 17 rfl rfl)
theorem dX4_chain_136 : decode cX4_chain 136 = .ok (.aload_n 0, 1) := dk_42 (dk_at dksX4_chain_5 18 rfl rfl)
theorem dX4_chain_137 : decode cX4_chain 137 = .ok (.getfield 81, 3) := dk_180 0 81 (dk_at dksX4_chain_5 19 rfl rfl)
theorem dX4_chain_140 : decode cX4_chain 140 = .ok (.iload_n 3, 1) := dk_29 (dk_at dksX4_chain_5 22 rfl rfl)
theorem dX4_chain_141 : decode cX4_chain 141 = .ok (.dup2, 1) := dk_92 (dk_at dksX4_chain_5 23 rfl rfl)
theorem dX4_chain_142 : decode cX4_chain 142 = .ok (.iaload, 1) := dk_46 (dk_at dksX4_chain_6 0 rfl rfl)
theorem dX4_chain_143 : decode cX4_chain 143 = .ok (.iconst 1, 1) := dk_4 (dk_at dksX4_chain_6 1 rfl rfl)
theorem dX4_chain_144 : decode cX4_chain 144 = .ok (.iadd, 1) := dk_96 (dk_at dksX4_chain_6 2 rfl rfl)
theorem dX4_chain_145 : decode cX4_chain 145 = .ok (.iastore, 1) := dk_79 (dk_at dksX4_chain_6 3 rfl rfl)
theorem dX4_chain_146 : decode cX4_chain 146 = .ok (.iinc 4 1, 3) := dk_132 4 1 (dk_at dksX4_chain_6 4 rfl rfl)
theorem dX4_chain_149 : decode cX4_chain 149 = .ok (.goto (-132), 3) := dk_167 255 124 (dk_at dksX4_chain_6 7 rfl rfl)
theorem dX4_chain_152 : decode cX4_chain 152 = .ok (.return_, 1) := dk_177 (dk_at dksX4_chain_6 10 rfl rfl)
abbrev cX4_isExcluded : ByteArray := prog_32_method_24_code
def yX4_isExcluded : MethodName := ⟨RX4, "isExcluded", "(II)Z"⟩
def dkwX4_isExcluded_2 : List UInt8 := [132, 4, 1, 167, 255, 212, 29, 172]
abbrev dktX4_isExcluded_2 : List UInt8 := dkwX4_isExcluded_2 ++ []
def dkwX4_isExcluded_1 : List UInt8 := [46, 27, 160, 0, 18, 42, 180, 0, 60, 21, 4, 46, 28, 160, 0, 7, 4, 167, 0, 4, 3, 62]
abbrev dktX4_isExcluded_1 : List UInt8 := dkwX4_isExcluded_1 ++ dktX4_isExcluded_2
def dkwX4_isExcluded_0 : List UInt8 := [3, 62, 3, 54, 4, 21, 4, 42, 180, 0, 220, 162, 0, 41, 29, 154, 0, 25, 42, 180, 0, 57, 21, 4]
abbrev dktX4_isExcluded_0 : List UInt8 := dkwX4_isExcluded_0 ++ dktX4_isExcluded_1
theorem dksX4_isExcluded_0 : cX4_isExcluded.data.toList.drop 0 = dktX4_isExcluded_0 := by decide +kernel
theorem dksX4_isExcluded_1 : cX4_isExcluded.data.toList.drop 24 = dktX4_isExcluded_1 := dk_seg dksX4_isExcluded_0 24 rfl rfl
theorem dksX4_isExcluded_2 : cX4_isExcluded.data.toList.drop 46 = dktX4_isExcluded_2 := dk_seg dksX4_isExcluded_1 22 rfl rfl
theorem dX4_isExcluded_0 : decode cX4_isExcluded 0 = .ok (.iconst 0, 1) := dk_3 (dk_at dksX4_isExcluded_0 0 rfl rfl)
theorem dX4_isExcluded_1 : decode cX4_isExcluded 1 = .ok (.istore_n 3, 1) := dk_62 (dk_at dksX4_isExcluded_0 1 rfl rfl)
theorem dX4_isExcluded_2 : decode cX4_isExcluded 2 = .ok (.iconst 0, 1) := dk_3 (dk_at dksX4_isExcluded_0 2 rfl rfl)
theorem dX4_isExcluded_3 : decode cX4_isExcluded 3 = .ok (.istore 4, 2) := dk_54 4 (dk_at dksX4_isExcluded_0 3 rfl rfl)
theorem dX4_isExcluded_5 : decode cX4_isExcluded 5 = .ok (.iload 4, 2) := dk_21 4 (dk_at dksX4_isExcluded_0 5 rfl rfl)
theorem dX4_isExcluded_7 : decode cX4_isExcluded 7 = .ok (.aload_n 0, 1) := dk_42 (dk_at dksX4_isExcluded_0 7 rfl rfl)
theorem dX4_isExcluded_8 : decode cX4_isExcluded 8 = .ok (.getfield 220, 3) := dk_180 0 220 (dk_at dksX4_isExcluded_0 8 rfl rfl)
theorem dX4_isExcluded_11 : decode cX4_isExcluded 11 = .ok (.if_icmp .ge 41, 3) := dk_162 0 41 (dk_at dksX4_isExcluded_0 11 rfl rfl)
theorem dX4_isExcluded_14 : decode cX4_isExcluded 14 = .ok (.iload_n 3, 1) := dk_29 (dk_at dksX4_isExcluded_0 14 rfl rfl)
theorem dX4_isExcluded_15 : decode cX4_isExcluded 15 = .ok (.ifCond .ne 25, 3) := dk_154 0 25 (dk_at dksX4_isExcluded_0 15 rfl rfl)
theorem dX4_isExcluded_18 : decode cX4_isExcluded 18 = .ok (.aload_n 0, 1) := dk_42 (dk_at dksX4_isExcluded_0 18 rfl rfl)
theorem dX4_isExcluded_19 : decode cX4_isExcluded 19 = .ok (.getfield 57, 3) := dk_180 0 57 (dk_at dksX4_isExcluded_0 19 rfl rfl)
theorem dX4_isExcluded_22 : decode cX4_isExcluded 22 = .ok (.iload 4, 2) := dk_21 4 (dk_at dksX4_isExcluded_0 22 rfl rfl)
theorem dX4_isExcluded_24 : decode cX4_isExcluded 24 = .ok (.iaload, 1) := dk_46 (dk_at dksX4_isExcluded_1 0 rfl rfl)
theorem dX4_isExcluded_25 : decode cX4_isExcluded 25 = .ok (.iload_n 1, 1) := dk_27 (dk_at dksX4_isExcluded_1 1 rfl rfl)
theorem dX4_isExcluded_26 : decode cX4_isExcluded 26 = .ok (.if_icmp .ne 18, 3) := dk_160 0 18 (dk_at dksX4_isExcluded_1 2 rfl rfl)
theorem dX4_isExcluded_29 : decode cX4_isExcluded 29 = .ok (.aload_n 0, 1) := dk_42 (dk_at dksX4_isExcluded_1 5 rfl rfl)
theorem dX4_isExcluded_30 : decode cX4_isExcluded 30 = .ok (.getfield 60, 3) := dk_180 0 60 (dk_at dksX4_isExcluded_1 6 rfl rfl)
theorem dX4_isExcluded_33 : decode cX4_isExcluded 33 = .ok (.iload 4, 2) := dk_21 4 (dk_at dksX4_isExcluded_1 9 rfl rfl)
theorem dX4_isExcluded_35 : decode cX4_isExcluded 35 = .ok (.iaload, 1) := dk_46 (dk_at dksX4_isExcluded_1 11 rfl rfl)
theorem dX4_isExcluded_36 : decode cX4_isExcluded 36 = .ok (.iload_n 2, 1) := dk_28 (dk_at dksX4_isExcluded_1 12 rfl rfl)
theorem dX4_isExcluded_37 : decode cX4_isExcluded 37 = .ok (.if_icmp .ne 7, 3) := dk_160 0 7 (dk_at dksX4_isExcluded_1 13 rfl rfl)
theorem dX4_isExcluded_40 : decode cX4_isExcluded 40 = .ok (.iconst 1, 1) := dk_4 (dk_at dksX4_isExcluded_1 16 rfl rfl)
theorem dX4_isExcluded_41 : decode cX4_isExcluded 41 = .ok (.goto 4, 3) := dk_167 0 4 (dk_at dksX4_isExcluded_1 17 rfl rfl)
theorem dX4_isExcluded_44 : decode cX4_isExcluded 44 = .ok (.iconst 0, 1) := dk_3 (dk_at dksX4_isExcluded_1 20 rfl rfl)
theorem dX4_isExcluded_45 : decode cX4_isExcluded 45 = .ok (.istore_n 3, 1) := dk_62 (dk_at dksX4_isExcluded_1 21 rfl rfl)
theorem dX4_isExcluded_46 : decode cX4_isExcluded 46 = .ok (.iinc 4 1, 3) := dk_132 4 1 (dk_at dksX4_isExcluded_2 0 rfl rfl)
theorem dX4_isExcluded_49 : decode cX4_isExcluded 49 = .ok (.goto (-44), 3) := dk_167 255 212 (dk_at dksX4_isExcluded_2 3 rfl rfl)
theorem dX4_isExcluded_52 : decode cX4_isExcluded 52 = .ok (.iload_n 3, 1) := dk_29 (dk_at dksX4_isExcluded_2 6 rfl rfl)
theorem dX4_isExcluded_53 : decode cX4_isExcluded 53 = .ok (.ireturn, 1) := dk_172 (dk_at dksX4_isExcluded_2 7 rfl rfl)
abbrev cX4_lacksAny : ByteArray := prog_32_method_29_code
def yX4_lacksAny : MethodName := ⟨RX4, "lacksAny", "(I)Z"⟩
def dkwX4_lacksAny_8 : List UInt8 := [167, 255, 156, 3, 172]
abbrev dktX4_lacksAny_8 : List UInt8 := dkwX4_lacksAny_8 ++ []
def dkwX4_lacksAny_7 : List UInt8 := [28, 96, 42, 180, 0, 66, 28, 46, 79, 42, 180, 0, 90, 7, 27, 104, 28, 96, 29, 79, 132, 2, 1]
abbrev dktX4_lacksAny_7 : List UInt8 := dkwX4_lacksAny_7 ++ dktX4_lacksAny_8
def dkwX4_lacksAny_6 : List UInt8 := [28, 46, 181, 0, 99, 42, 42, 180, 0, 66, 28, 46, 181, 0, 102, 4, 172, 42, 180, 0, 87, 7, 27, 104]
abbrev dktX4_lacksAny_6 : List UInt8 := dkwX4_lacksAny_6 ++ dktX4_lacksAny_7
def dkwX4_lacksAny_5 : List UInt8 := [180, 0, 63, 28, 46, 42, 180, 0, 66, 28, 46, 182, 0, 252, 62, 29, 156, 0, 25, 42, 42, 180, 0, 63]
abbrev dktX4_lacksAny_5 : List UInt8 := dkwX4_lacksAny_5 ++ dktX4_lacksAny_6
def dkwX4_lacksAny_4 : List UInt8 := [180, 0, 87, 7, 27, 104, 28, 96, 16, 247, 79, 42, 180, 0, 69, 28, 51, 153, 0, 74, 42, 27, 42]
abbrev dktX4_lacksAny_4 : List UInt8 := dkwX4_lacksAny_4 ++ dktX4_lacksAny_5
def dkwX4_lacksAny_3 : List UInt8 := [4, 172, 132, 4, 1, 167, 255, 208, 132, 2, 1, 167, 255, 177, 3, 61, 28, 7, 162, 0, 101, 42]
abbrev dktX4_lacksAny_3 : List UInt8 := dkwX4_lacksAny_3 ++ dktX4_lacksAny_4
def dkwX4_lacksAny_2 : List UInt8 := [153, 0, 26, 42, 27, 21, 4, 182, 0, 249, 154, 0, 16, 42, 29, 181, 0, 99, 42, 21, 4, 181, 0, 102]
abbrev dktX4_lacksAny_2 : List UInt8 := dkwX4_lacksAny_2 ++ dktX4_lacksAny_3
def dkwX4_lacksAny_1 : List UInt8 := [3, 54, 4, 21, 4, 16, 12, 162, 0, 47, 42, 180, 0, 25, 16, 12, 29, 104, 21, 4, 96, 51]
abbrev dktX4_lacksAny_1 : List UInt8 := dkwX4_lacksAny_1 ++ dktX4_lacksAny_2
def dkwX4_lacksAny_0 : List UInt8 := [3, 61, 28, 42, 180, 0, 72, 27, 46, 162, 0, 75, 42, 180, 0, 75, 16, 24, 27, 104, 28, 96, 46, 62]
abbrev dktX4_lacksAny_0 : List UInt8 := dkwX4_lacksAny_0 ++ dktX4_lacksAny_1
theorem dksX4_lacksAny_0 : cX4_lacksAny.data.toList.drop 0 = dktX4_lacksAny_0 := by decide +kernel
theorem dksX4_lacksAny_1 : cX4_lacksAny.data.toList.drop 24 = dktX4_lacksAny_1 := dk_seg dksX4_lacksAny_0 24 rfl rfl
theorem dksX4_lacksAny_2 : cX4_lacksAny.data.toList.drop 46 = dktX4_lacksAny_2 := dk_seg dksX4_lacksAny_1 22 rfl rfl
theorem dksX4_lacksAny_3 : cX4_lacksAny.data.toList.drop 70 = dktX4_lacksAny_3 := dk_seg dksX4_lacksAny_2 24 rfl rfl
theorem dksX4_lacksAny_4 : cX4_lacksAny.data.toList.drop 92 = dktX4_lacksAny_4 := dk_seg dksX4_lacksAny_3 22 rfl rfl
theorem dksX4_lacksAny_5 : cX4_lacksAny.data.toList.drop 115 = dktX4_lacksAny_5 := dk_seg dksX4_lacksAny_4 23 rfl rfl
theorem dksX4_lacksAny_6 : cX4_lacksAny.data.toList.drop 139 = dktX4_lacksAny_6 := dk_seg dksX4_lacksAny_5 24 rfl rfl
theorem dksX4_lacksAny_7 : cX4_lacksAny.data.toList.drop 163 = dktX4_lacksAny_7 := dk_seg dksX4_lacksAny_6 24 rfl rfl
theorem dksX4_lacksAny_8 : cX4_lacksAny.data.toList.drop 186 = dktX4_lacksAny_8 := dk_seg dksX4_lacksAny_7 23 rfl rfl
theorem dX4_lacksAny_0 : decode cX4_lacksAny 0 = .ok (.iconst 0, 1) := dk_3 (dk_at dksX4_lacksAny_0 0 rfl rfl)
theorem dX4_lacksAny_1 : decode cX4_lacksAny 1 = .ok (.istore_n 2, 1) := dk_61 (dk_at dksX4_lacksAny_0 1 rfl rfl)
theorem dX4_lacksAny_2 : decode cX4_lacksAny 2 = .ok (.iload_n 2, 1) := dk_28 (dk_at dksX4_lacksAny_0 2 rfl rfl)
theorem dX4_lacksAny_3 : decode cX4_lacksAny 3 = .ok (.aload_n 0, 1) := dk_42 (dk_at dksX4_lacksAny_0 3 rfl rfl)
theorem dX4_lacksAny_4 : decode cX4_lacksAny 4 = .ok (.getfield 72, 3) := dk_180 0 72 (dk_at dksX4_lacksAny_0 4 rfl rfl)
theorem dX4_lacksAny_7 : decode cX4_lacksAny 7 = .ok (.iload_n 1, 1) := dk_27 (dk_at dksX4_lacksAny_0 7 rfl rfl)
theorem dX4_lacksAny_8 : decode cX4_lacksAny 8 = .ok (.iaload, 1) := dk_46 (dk_at dksX4_lacksAny_0 8 rfl rfl)
theorem dX4_lacksAny_9 : decode cX4_lacksAny 9 = .ok (.if_icmp .ge 75, 3) := dk_162 0 75 (dk_at dksX4_lacksAny_0 9 rfl rfl)
theorem dX4_lacksAny_12 : decode cX4_lacksAny 12 = .ok (.aload_n 0, 1) := dk_42 (dk_at dksX4_lacksAny_0 12 rfl rfl)
theorem dX4_lacksAny_13 : decode cX4_lacksAny 13 = .ok (.getfield 75, 3) := dk_180 0 75 (dk_at dksX4_lacksAny_0 13 rfl rfl)
theorem dX4_lacksAny_16 : decode cX4_lacksAny 16 = .ok (.bipush 24, 2) := dk_16 24 (dk_at dksX4_lacksAny_0 16 rfl rfl)
theorem dX4_lacksAny_18 : decode cX4_lacksAny 18 = .ok (.iload_n 1, 1) := dk_27 (dk_at dksX4_lacksAny_0 18 rfl rfl)
theorem dX4_lacksAny_19 : decode cX4_lacksAny 19 = .ok (.imul, 1) := dk_104 (dk_at dksX4_lacksAny_0 19 rfl rfl)
theorem dX4_lacksAny_20 : decode cX4_lacksAny 20 = .ok (.iload_n 2, 1) := dk_28 (dk_at dksX4_lacksAny_0 20 rfl rfl)
theorem dX4_lacksAny_21 : decode cX4_lacksAny 21 = .ok (.iadd, 1) := dk_96 (dk_at dksX4_lacksAny_0 21 rfl rfl)
theorem dX4_lacksAny_22 : decode cX4_lacksAny 22 = .ok (.iaload, 1) := dk_46 (dk_at dksX4_lacksAny_0 22 rfl rfl)
theorem dX4_lacksAny_23 : decode cX4_lacksAny 23 = .ok (.istore_n 3, 1) := dk_62 (dk_at dksX4_lacksAny_0 23 rfl rfl)
theorem dX4_lacksAny_24 : decode cX4_lacksAny 24 = .ok (.iconst 0, 1) := dk_3 (dk_at dksX4_lacksAny_1 0 rfl rfl)
theorem dX4_lacksAny_25 : decode cX4_lacksAny 25 = .ok (.istore 4, 2) := dk_54 4 (dk_at dksX4_lacksAny_1 1 rfl rfl)
theorem dX4_lacksAny_27 : decode cX4_lacksAny 27 = .ok (.iload 4, 2) := dk_21 4 (dk_at dksX4_lacksAny_1 3 rfl rfl)
theorem dX4_lacksAny_29 : decode cX4_lacksAny 29 = .ok (.bipush 12, 2) := dk_16 12 (dk_at dksX4_lacksAny_1 5 rfl rfl)
theorem dX4_lacksAny_31 : decode cX4_lacksAny 31 = .ok (.if_icmp .ge 47, 3) := dk_162 0 47 (dk_at dksX4_lacksAny_1 7 rfl rfl)
theorem dX4_lacksAny_34 : decode cX4_lacksAny 34 = .ok (.aload_n 0, 1) := dk_42 (dk_at dksX4_lacksAny_1 10 rfl rfl)
theorem dX4_lacksAny_35 : decode cX4_lacksAny 35 = .ok (.getfield 25, 3) := dk_180 0 25 (dk_at dksX4_lacksAny_1 11 rfl rfl)
theorem dX4_lacksAny_38 : decode cX4_lacksAny 38 = .ok (.bipush 12, 2) := dk_16 12 (dk_at dksX4_lacksAny_1 14 rfl rfl)
theorem dX4_lacksAny_40 : decode cX4_lacksAny 40 = .ok (.iload_n 3, 1) := dk_29 (dk_at dksX4_lacksAny_1 16 rfl rfl)
theorem dX4_lacksAny_41 : decode cX4_lacksAny 41 = .ok (.imul, 1) := dk_104 (dk_at dksX4_lacksAny_1 17 rfl rfl)
theorem dX4_lacksAny_42 : decode cX4_lacksAny 42 = .ok (.iload 4, 2) := dk_21 4 (dk_at dksX4_lacksAny_1 18 rfl rfl)
theorem dX4_lacksAny_44 : decode cX4_lacksAny 44 = .ok (.iadd, 1) := dk_96 (dk_at dksX4_lacksAny_1 20 rfl rfl)
theorem dX4_lacksAny_45 : decode cX4_lacksAny 45 = .ok (.baload, 1) := dk_51 (dk_at dksX4_lacksAny_1 21 rfl rfl)
theorem dX4_lacksAny_46 : decode cX4_lacksAny 46 = .ok (.ifCond .eq 26, 3) := dk_153 0 26 (dk_at dksX4_lacksAny_2 0 rfl rfl)
theorem dX4_lacksAny_49 : decode cX4_lacksAny 49 = .ok (.aload_n 0, 1) := dk_42 (dk_at dksX4_lacksAny_2 3 rfl rfl)
theorem dX4_lacksAny_50 : decode cX4_lacksAny 50 = .ok (.iload_n 1, 1) := dk_27 (dk_at dksX4_lacksAny_2 4 rfl rfl)
theorem dX4_lacksAny_51 : decode cX4_lacksAny 51 = .ok (.iload 4, 2) := dk_21 4 (dk_at dksX4_lacksAny_2 5 rfl rfl)
theorem dX4_lacksAny_53 : decode cX4_lacksAny 53 = .ok (.invokevirtual 249, 3) := dk_182 0 249 (dk_at dksX4_lacksAny_2 7 rfl rfl)
theorem dX4_lacksAny_56 : decode cX4_lacksAny 56 = .ok (.ifCond .ne 16, 3) := dk_154 0 16 (dk_at dksX4_lacksAny_2 10 rfl rfl)
theorem dX4_lacksAny_59 : decode cX4_lacksAny 59 = .ok (.aload_n 0, 1) := dk_42 (dk_at dksX4_lacksAny_2 13 rfl rfl)
theorem dX4_lacksAny_60 : decode cX4_lacksAny 60 = .ok (.iload_n 3, 1) := dk_29 (dk_at dksX4_lacksAny_2 14 rfl rfl)
theorem dX4_lacksAny_61 : decode cX4_lacksAny 61 = .ok (.putfield 99, 3) := dk_181 0 99 (dk_at dksX4_lacksAny_2 15 rfl rfl)
theorem dX4_lacksAny_64 : decode cX4_lacksAny 64 = .ok (.aload_n 0, 1) := dk_42 (dk_at dksX4_lacksAny_2 18 rfl rfl)
theorem dX4_lacksAny_65 : decode cX4_lacksAny 65 = .ok (.iload 4, 2) := dk_21 4 (dk_at dksX4_lacksAny_2 19 rfl rfl)
theorem dX4_lacksAny_67 : decode cX4_lacksAny 67 = .ok (.putfield 102, 3) := dk_181 0 102 (dk_at dksX4_lacksAny_2 21 rfl rfl)
theorem dX4_lacksAny_70 : decode cX4_lacksAny 70 = .ok (.iconst 1, 1) := dk_4 (dk_at dksX4_lacksAny_3 0 rfl rfl)
theorem dX4_lacksAny_71 : decode cX4_lacksAny 71 = .ok (.ireturn, 1) := dk_172 (dk_at dksX4_lacksAny_3 1 rfl rfl)
theorem dX4_lacksAny_72 : decode cX4_lacksAny 72 = .ok (.iinc 4 1, 3) := dk_132 4 1 (dk_at dksX4_lacksAny_3 2 rfl rfl)
theorem dX4_lacksAny_75 : decode cX4_lacksAny 75 = .ok (.goto (-48), 3) := dk_167 255 208 (dk_at dksX4_lacksAny_3 5 rfl rfl)
theorem dX4_lacksAny_78 : decode cX4_lacksAny 78 = .ok (.iinc 2 1, 3) := dk_132 2 1 (dk_at dksX4_lacksAny_3 8 rfl rfl)
theorem dX4_lacksAny_81 : decode cX4_lacksAny 81 = .ok (.goto (-79), 3) := dk_167 255 177 (dk_at dksX4_lacksAny_3 11 rfl rfl)
theorem dX4_lacksAny_84 : decode cX4_lacksAny 84 = .ok (.iconst 0, 1) := dk_3 (dk_at dksX4_lacksAny_3 14 rfl rfl)
theorem dX4_lacksAny_85 : decode cX4_lacksAny 85 = .ok (.istore_n 2, 1) := dk_61 (dk_at dksX4_lacksAny_3 15 rfl rfl)
theorem dX4_lacksAny_86 : decode cX4_lacksAny 86 = .ok (.iload_n 2, 1) := dk_28 (dk_at dksX4_lacksAny_3 16 rfl rfl)
theorem dX4_lacksAny_87 : decode cX4_lacksAny 87 = .ok (.iconst 4, 1) := dk_7 (dk_at dksX4_lacksAny_3 17 rfl rfl)
theorem dX4_lacksAny_88 : decode cX4_lacksAny 88 = .ok (.if_icmp .ge 101, 3) := dk_162 0 101 (dk_at dksX4_lacksAny_3 18 rfl rfl)
theorem dX4_lacksAny_91 : decode cX4_lacksAny 91 = .ok (.aload_n 0, 1) := dk_42 (dk_at dksX4_lacksAny_3 21 rfl rfl)
theorem dX4_lacksAny_92 : decode cX4_lacksAny 92 = .ok (.getfield 87, 3) := dk_180 0 87 (dk_at dksX4_lacksAny_4 0 rfl rfl)
theorem dX4_lacksAny_95 : decode cX4_lacksAny 95 = .ok (.iconst 4, 1) := dk_7 (dk_at dksX4_lacksAny_4 3 rfl rfl)
theorem dX4_lacksAny_96 : decode cX4_lacksAny 96 = .ok (.iload_n 1, 1) := dk_27 (dk_at dksX4_lacksAny_4 4 rfl rfl)
theorem dX4_lacksAny_97 : decode cX4_lacksAny 97 = .ok (.imul, 1) := dk_104 (dk_at dksX4_lacksAny_4 5 rfl rfl)
theorem dX4_lacksAny_98 : decode cX4_lacksAny 98 = .ok (.iload_n 2, 1) := dk_28 (dk_at dksX4_lacksAny_4 6 rfl rfl)
theorem dX4_lacksAny_99 : decode cX4_lacksAny 99 = .ok (.iadd, 1) := dk_96 (dk_at dksX4_lacksAny_4 7 rfl rfl)
theorem dX4_lacksAny_100 : decode cX4_lacksAny 100 = .ok (.bipush (-9), 2) := dk_16 247 (dk_at dksX4_lacksAny_4 8 rfl rfl)
theorem dX4_lacksAny_102 : decode cX4_lacksAny 102 = .ok (.iastore, 1) := dk_79 (dk_at dksX4_lacksAny_4 10 rfl rfl)
theorem dX4_lacksAny_103 : decode cX4_lacksAny 103 = .ok (.aload_n 0, 1) := dk_42 (dk_at dksX4_lacksAny_4 11 rfl rfl)
theorem dX4_lacksAny_104 : decode cX4_lacksAny 104 = .ok (.getfield 69, 3) := dk_180 0 69 (dk_at dksX4_lacksAny_4 12 rfl rfl)
theorem dX4_lacksAny_107 : decode cX4_lacksAny 107 = .ok (.iload_n 2, 1) := dk_28 (dk_at dksX4_lacksAny_4 15 rfl rfl)
theorem dX4_lacksAny_108 : decode cX4_lacksAny 108 = .ok (.baload, 1) := dk_51 (dk_at dksX4_lacksAny_4 16 rfl rfl)
theorem dX4_lacksAny_109 : decode cX4_lacksAny 109 = .ok (.ifCond .eq 74, 3) := dk_153 0 74 (dk_at dksX4_lacksAny_4 17 rfl rfl)
theorem dX4_lacksAny_112 : decode cX4_lacksAny 112 = .ok (.aload_n 0, 1) := dk_42 (dk_at dksX4_lacksAny_4 20 rfl rfl)
theorem dX4_lacksAny_113 : decode cX4_lacksAny 113 = .ok (.iload_n 1, 1) := dk_27 (dk_at dksX4_lacksAny_4 21 rfl rfl)
theorem dX4_lacksAny_114 : decode cX4_lacksAny 114 = .ok (.aload_n 0, 1) := dk_42 (dk_at dksX4_lacksAny_4 22 rfl rfl)
theorem dX4_lacksAny_115 : decode cX4_lacksAny 115 = .ok (.getfield 63, 3) := dk_180 0 63 (dk_at dksX4_lacksAny_5 0 rfl rfl)
theorem dX4_lacksAny_118 : decode cX4_lacksAny 118 = .ok (.iload_n 2, 1) := dk_28 (dk_at dksX4_lacksAny_5 3 rfl rfl)
theorem dX4_lacksAny_119 : decode cX4_lacksAny 119 = .ok (.iaload, 1) := dk_46 (dk_at dksX4_lacksAny_5 4 rfl rfl)
theorem dX4_lacksAny_120 : decode cX4_lacksAny 120 = .ok (.aload_n 0, 1) := dk_42 (dk_at dksX4_lacksAny_5 5 rfl rfl)
theorem dX4_lacksAny_121 : decode cX4_lacksAny 121 = .ok (.getfield 66, 3) := dk_180 0 66 (dk_at dksX4_lacksAny_5 6 rfl rfl)
theorem dX4_lacksAny_124 : decode cX4_lacksAny 124 = .ok (.iload_n 2, 1) := dk_28 (dk_at dksX4_lacksAny_5 9 rfl rfl)
theorem dX4_lacksAny_125 : decode cX4_lacksAny 125 = .ok (.iaload, 1) := dk_46 (dk_at dksX4_lacksAny_5 10 rfl rfl)
theorem dX4_lacksAny_126 : decode cX4_lacksAny 126 = .ok (.invokevirtual 252, 3) := dk_182 0 252 (dk_at dksX4_lacksAny_5 11 rfl rfl)
theorem dX4_lacksAny_129 : decode cX4_lacksAny 129 = .ok (.istore_n 3, 1) := dk_62 (dk_at dksX4_lacksAny_5 14 rfl rfl)
theorem dX4_lacksAny_130 : decode cX4_lacksAny 130 = .ok (.iload_n 3, 1) := dk_29 (dk_at dksX4_lacksAny_5 15 rfl rfl)
theorem dX4_lacksAny_131 : decode cX4_lacksAny 131 = .ok (.ifCond .ge 25, 3) := dk_156 0 25 (dk_at dksX4_lacksAny_5 16 rfl rfl)
theorem dX4_lacksAny_134 : decode cX4_lacksAny 134 = .ok (.aload_n 0, 1) := dk_42 (dk_at dksX4_lacksAny_5 19 rfl rfl)
theorem dX4_lacksAny_135 : decode cX4_lacksAny 135 = .ok (.aload_n 0, 1) := dk_42 (dk_at dksX4_lacksAny_5 20 rfl rfl)
theorem dX4_lacksAny_136 : decode cX4_lacksAny 136 = .ok (.getfield 63, 3) := dk_180 0 63 (dk_at dksX4_lacksAny_5 21 rfl rfl)
theorem dX4_lacksAny_139 : decode cX4_lacksAny 139 = .ok (.iload_n 2, 1) := dk_28 (dk_at dksX4_lacksAny_6 0 rfl rfl)
theorem dX4_lacksAny_140 : decode cX4_lacksAny 140 = .ok (.iaload, 1) := dk_46 (dk_at dksX4_lacksAny_6 1 rfl rfl)
theorem dX4_lacksAny_141 : decode cX4_lacksAny 141 = .ok (.putfield 99, 3) := dk_181 0 99 (dk_at dksX4_lacksAny_6 2 rfl rfl)
theorem dX4_lacksAny_144 : decode cX4_lacksAny 144 = .ok (.aload_n 0, 1) := dk_42 (dk_at dksX4_lacksAny_6 5 rfl rfl)
theorem dX4_lacksAny_145 : decode cX4_lacksAny 145 = .ok (.aload_n 0, 1) := dk_42 (dk_at dksX4_lacksAny_6 6 rfl rfl)
theorem dX4_lacksAny_146 : decode cX4_lacksAny 146 = .ok (.getfield 66, 3) := dk_180 0 66 (dk_at dksX4_lacksAny_6 7 rfl rfl)
theorem dX4_lacksAny_149 : decode cX4_lacksAny 149 = .ok (.iload_n 2, 1) := dk_28 (dk_at dksX4_lacksAny_6 10 rfl rfl)
theorem dX4_lacksAny_150 : decode cX4_lacksAny 150 = .ok (.iaload, 1) := dk_46 (dk_at dksX4_lacksAny_6 11 rfl rfl)
theorem dX4_lacksAny_151 : decode cX4_lacksAny 151 = .ok (.putfield 102, 3) := dk_181 0 102 (dk_at dksX4_lacksAny_6 12 rfl rfl)
theorem dX4_lacksAny_154 : decode cX4_lacksAny 154 = .ok (.iconst 1, 1) := dk_4 (dk_at dksX4_lacksAny_6 15 rfl rfl)
theorem dX4_lacksAny_155 : decode cX4_lacksAny 155 = .ok (.ireturn, 1) := dk_172 (dk_at dksX4_lacksAny_6 16 rfl rfl)
theorem dX4_lacksAny_156 : decode cX4_lacksAny 156 = .ok (.aload_n 0, 1) := dk_42 (dk_at dksX4_lacksAny_6 17 rfl rfl)
theorem dX4_lacksAny_157 : decode cX4_lacksAny 157 = .ok (.getfield 87, 3) := dk_180 0 87 (dk_at dksX4_lacksAny_6 18 rfl rfl)
theorem dX4_lacksAny_160 : decode cX4_lacksAny 160 = .ok (.iconst 4, 1) := dk_7 (dk_at dksX4_lacksAny_6 21 rfl rfl)
theorem dX4_lacksAny_161 : decode cX4_lacksAny 161 = .ok (.iload_n 1, 1) := dk_27 (dk_at dksX4_lacksAny_6 22 rfl rfl)
theorem dX4_lacksAny_162 : decode cX4_lacksAny 162 = .ok (.imul, 1) := dk_104 (dk_at dksX4_lacksAny_6 23 rfl rfl)
theorem dX4_lacksAny_163 : decode cX4_lacksAny 163 = .ok (.iload_n 2, 1) := dk_28 (dk_at dksX4_lacksAny_7 0 rfl rfl)
theorem dX4_lacksAny_164 : decode cX4_lacksAny 164 = .ok (.iadd, 1) := dk_96 (dk_at dksX4_lacksAny_7 1 rfl rfl)
theorem dX4_lacksAny_165 : decode cX4_lacksAny 165 = .ok (.aload_n 0, 1) := dk_42 (dk_at dksX4_lacksAny_7 2 rfl rfl)
theorem dX4_lacksAny_166 : decode cX4_lacksAny 166 = .ok (.getfield 66, 3) := dk_180 0 66 (dk_at dksX4_lacksAny_7 3 rfl rfl)
theorem dX4_lacksAny_169 : decode cX4_lacksAny 169 = .ok (.iload_n 2, 1) := dk_28 (dk_at dksX4_lacksAny_7 6 rfl rfl)
theorem dX4_lacksAny_170 : decode cX4_lacksAny 170 = .ok (.iaload, 1) := dk_46 (dk_at dksX4_lacksAny_7 7 rfl rfl)
theorem dX4_lacksAny_171 : decode cX4_lacksAny 171 = .ok (.iastore, 1) := dk_79 (dk_at dksX4_lacksAny_7 8 rfl rfl)
theorem dX4_lacksAny_172 : decode cX4_lacksAny 172 = .ok (.aload_n 0, 1) := dk_42 (dk_at dksX4_lacksAny_7 9 rfl rfl)
theorem dX4_lacksAny_173 : decode cX4_lacksAny 173 = .ok (.getfield 90, 3) := dk_180 0 90 (dk_at dksX4_lacksAny_7 10 rfl rfl)
theorem dX4_lacksAny_176 : decode cX4_lacksAny 176 = .ok (.iconst 4, 1) := dk_7 (dk_at dksX4_lacksAny_7 13 rfl rfl)
theorem dX4_lacksAny_177 : decode cX4_lacksAny 177 = .ok (.iload_n 1, 1) := dk_27 (dk_at dksX4_lacksAny_7 14 rfl rfl)
theorem dX4_lacksAny_178 : decode cX4_lacksAny 178 = .ok (.imul, 1) := dk_104 (dk_at dksX4_lacksAny_7 15 rfl rfl)
theorem dX4_lacksAny_179 : decode cX4_lacksAny 179 = .ok (.iload_n 2, 1) := dk_28 (dk_at dksX4_lacksAny_7 16 rfl rfl)
theorem dX4_lacksAny_180 : decode cX4_lacksAny 180 = .ok (.iadd, 1) := dk_96 (dk_at dksX4_lacksAny_7 17 rfl rfl)
theorem dX4_lacksAny_181 : decode cX4_lacksAny 181 = .ok (.iload_n 3, 1) := dk_29 (dk_at dksX4_lacksAny_7 18 rfl rfl)
theorem dX4_lacksAny_182 : decode cX4_lacksAny 182 = .ok (.iastore, 1) := dk_79 (dk_at dksX4_lacksAny_7 19 rfl rfl)
theorem dX4_lacksAny_183 : decode cX4_lacksAny 183 = .ok (.iinc 2 1, 3) := dk_132 2 1 (dk_at dksX4_lacksAny_7 20 rfl rfl)
theorem dX4_lacksAny_186 : decode cX4_lacksAny 186 = .ok (.goto (-100), 3) := dk_167 255 156 (dk_at dksX4_lacksAny_8 0 rfl rfl)
theorem dX4_lacksAny_189 : decode cX4_lacksAny 189 = .ok (.iconst 0, 1) := dk_3 (dk_at dksX4_lacksAny_8 3 rfl rfl)
theorem dX4_lacksAny_190 : decode cX4_lacksAny 190 = .ok (.ireturn, 1) := dk_172 (dk_at dksX4_lacksAny_8 4 rfl rfl)
abbrev cX4_hasGiven : ByteArray := prog_32_method_27_code
def yX4_hasGiven : MethodName := ⟨RX4, "hasGiven", "(II)Z"⟩
def dkwX4_hasGiven_2 : List UInt8 := [153, 0, 7, 4, 167, 0, 4, 3, 62, 132, 5, 1, 167, 255, 212, 29, 172]
abbrev dktX4_hasGiven_2 : List UInt8 := dkwX4_hasGiven_2 ++ []
def dkwX4_hasGiven_1 : List UInt8 := [162, 0, 38, 29, 154, 0, 22, 42, 180, 0, 84, 16, 48, 21, 4, 104, 21, 5, 96, 46, 184, 0, 246]
abbrev dktX4_hasGiven_1 : List UInt8 := dkwX4_hasGiven_1 ++ dktX4_hasGiven_2
def dkwX4_hasGiven_0 : List UInt8 := [3, 62, 16, 12, 27, 104, 28, 96, 54, 4, 3, 54, 5, 21, 5, 42, 180, 0, 81, 21, 4, 46]
abbrev dktX4_hasGiven_0 : List UInt8 := dkwX4_hasGiven_0 ++ dktX4_hasGiven_1
theorem dksX4_hasGiven_0 : cX4_hasGiven.data.toList.drop 0 = dktX4_hasGiven_0 := by decide +kernel
theorem dksX4_hasGiven_1 : cX4_hasGiven.data.toList.drop 22 = dktX4_hasGiven_1 := dk_seg dksX4_hasGiven_0 22 rfl rfl
theorem dksX4_hasGiven_2 : cX4_hasGiven.data.toList.drop 45 = dktX4_hasGiven_2 := dk_seg dksX4_hasGiven_1 23 rfl rfl
theorem dX4_hasGiven_0 : decode cX4_hasGiven 0 = .ok (.iconst 0, 1) := dk_3 (dk_at dksX4_hasGiven_0 0 rfl rfl)
theorem dX4_hasGiven_1 : decode cX4_hasGiven 1 = .ok (.istore_n 3, 1) := dk_62 (dk_at dksX4_hasGiven_0 1 rfl rfl)
theorem dX4_hasGiven_2 : decode cX4_hasGiven 2 = .ok (.bipush 12, 2) := dk_16 12 (dk_at dksX4_hasGiven_0 2 rfl rfl)
theorem dX4_hasGiven_4 : decode cX4_hasGiven 4 = .ok (.iload_n 1, 1) := dk_27 (dk_at dksX4_hasGiven_0 4 rfl rfl)
theorem dX4_hasGiven_5 : decode cX4_hasGiven 5 = .ok (.imul, 1) := dk_104 (dk_at dksX4_hasGiven_0 5 rfl rfl)
theorem dX4_hasGiven_6 : decode cX4_hasGiven 6 = .ok (.iload_n 2, 1) := dk_28 (dk_at dksX4_hasGiven_0 6 rfl rfl)
theorem dX4_hasGiven_7 : decode cX4_hasGiven 7 = .ok (.iadd, 1) := dk_96 (dk_at dksX4_hasGiven_0 7 rfl rfl)
theorem dX4_hasGiven_8 : decode cX4_hasGiven 8 = .ok (.istore 4, 2) := dk_54 4 (dk_at dksX4_hasGiven_0 8 rfl rfl)
theorem dX4_hasGiven_10 : decode cX4_hasGiven 10 = .ok (.iconst 0, 1) := dk_3 (dk_at dksX4_hasGiven_0 10 rfl rfl)
theorem dX4_hasGiven_11 : decode cX4_hasGiven 11 = .ok (.istore 5, 2) := dk_54 5 (dk_at dksX4_hasGiven_0 11 rfl rfl)
theorem dX4_hasGiven_13 : decode cX4_hasGiven 13 = .ok (.iload 5, 2) := dk_21 5 (dk_at dksX4_hasGiven_0 13 rfl rfl)
theorem dX4_hasGiven_15 : decode cX4_hasGiven 15 = .ok (.aload_n 0, 1) := dk_42 (dk_at dksX4_hasGiven_0 15 rfl rfl)
theorem dX4_hasGiven_16 : decode cX4_hasGiven 16 = .ok (.getfield 81, 3) := dk_180 0 81 (dk_at dksX4_hasGiven_0 16 rfl rfl)
theorem dX4_hasGiven_19 : decode cX4_hasGiven 19 = .ok (.iload 4, 2) := dk_21 4 (dk_at dksX4_hasGiven_0 19 rfl rfl)
theorem dX4_hasGiven_21 : decode cX4_hasGiven 21 = .ok (.iaload, 1) := dk_46 (dk_at dksX4_hasGiven_0 21 rfl rfl)
theorem dX4_hasGiven_22 : decode cX4_hasGiven 22 = .ok (.if_icmp .ge 38, 3) := dk_162 0 38 (dk_at dksX4_hasGiven_1 0 rfl rfl)
theorem dX4_hasGiven_25 : decode cX4_hasGiven 25 = .ok (.iload_n 3, 1) := dk_29 (dk_at dksX4_hasGiven_1 3 rfl rfl)
theorem dX4_hasGiven_26 : decode cX4_hasGiven 26 = .ok (.ifCond .ne 22, 3) := dk_154 0 22 (dk_at dksX4_hasGiven_1 4 rfl rfl)
theorem dX4_hasGiven_29 : decode cX4_hasGiven 29 = .ok (.aload_n 0, 1) := dk_42 (dk_at dksX4_hasGiven_1 7 rfl rfl)
theorem dX4_hasGiven_30 : decode cX4_hasGiven 30 = .ok (.getfield 84, 3) := dk_180 0 84 (dk_at dksX4_hasGiven_1 8 rfl rfl)
theorem dX4_hasGiven_33 : decode cX4_hasGiven 33 = .ok (.bipush 48, 2) := dk_16 48 (dk_at dksX4_hasGiven_1 11 rfl rfl)
theorem dX4_hasGiven_35 : decode cX4_hasGiven 35 = .ok (.iload 4, 2) := dk_21 4 (dk_at dksX4_hasGiven_1 13 rfl rfl)
theorem dX4_hasGiven_37 : decode cX4_hasGiven 37 = .ok (.imul, 1) := dk_104 (dk_at dksX4_hasGiven_1 15 rfl rfl)
theorem dX4_hasGiven_38 : decode cX4_hasGiven 38 = .ok (.iload 5, 2) := dk_21 5 (dk_at dksX4_hasGiven_1 16 rfl rfl)
theorem dX4_hasGiven_40 : decode cX4_hasGiven 40 = .ok (.iadd, 1) := dk_96 (dk_at dksX4_hasGiven_1 18 rfl rfl)
theorem dX4_hasGiven_41 : decode cX4_hasGiven 41 = .ok (.iaload, 1) := dk_46 (dk_at dksX4_hasGiven_1 19 rfl rfl)
theorem dX4_hasGiven_42 : decode cX4_hasGiven 42 = .ok (.invokestatic 246, 3) := dk_184 0 246 (dk_at dksX4_hasGiven_1 20 rfl rfl)
theorem dX4_hasGiven_45 : decode cX4_hasGiven 45 = .ok (.ifCond .eq 7, 3) := dk_153 0 7 (dk_at dksX4_hasGiven_2 0 rfl rfl)
theorem dX4_hasGiven_48 : decode cX4_hasGiven 48 = .ok (.iconst 1, 1) := dk_4 (dk_at dksX4_hasGiven_2 3 rfl rfl)
theorem dX4_hasGiven_49 : decode cX4_hasGiven 49 = .ok (.goto 4, 3) := dk_167 0 4 (dk_at dksX4_hasGiven_2 4 rfl rfl)
theorem dX4_hasGiven_52 : decode cX4_hasGiven 52 = .ok (.iconst 0, 1) := dk_3 (dk_at dksX4_hasGiven_2 7 rfl rfl)
theorem dX4_hasGiven_53 : decode cX4_hasGiven 53 = .ok (.istore_n 3, 1) := dk_62 (dk_at dksX4_hasGiven_2 8 rfl rfl)
theorem dX4_hasGiven_54 : decode cX4_hasGiven 54 = .ok (.iinc 5 1, 3) := dk_132 5 1 (dk_at dksX4_hasGiven_2 9 rfl rfl)
theorem dX4_hasGiven_57 : decode cX4_hasGiven 57 = .ok (.goto (-44), 3) := dk_167 255 212 (dk_at dksX4_hasGiven_2 12 rfl rfl)
theorem dX4_hasGiven_60 : decode cX4_hasGiven 60 = .ok (.iload_n 3, 1) := dk_29 (dk_at dksX4_hasGiven_2 15 rfl rfl)
theorem dX4_hasGiven_61 : decode cX4_hasGiven 61 = .ok (.ireturn, 1) := dk_172 (dk_at dksX4_hasGiven_2 16 rfl rfl)
abbrev cX4_isGiven : ByteArray := prog_32_method_26_code
def yX4_isGiven : MethodName := ⟨RX4, "isGiven", "(I)Z"⟩
def dkwX4_isGiven_0 : List UInt8 := [26, 16, 25, 112, 16, 12, 162, 0, 7, 4, 167, 0, 4, 3, 172]
abbrev dktX4_isGiven_0 : List UInt8 := dkwX4_isGiven_0 ++ []
theorem dksX4_isGiven_0 : cX4_isGiven.data.toList.drop 0 = dktX4_isGiven_0 := by decide +kernel
theorem dX4_isGiven_0 : decode cX4_isGiven 0 = .ok (.iload_n 0, 1) := dk_26 (dk_at dksX4_isGiven_0 0 rfl rfl)
theorem dX4_isGiven_1 : decode cX4_isGiven 1 = .ok (.bipush 25, 2) := dk_16 25 (dk_at dksX4_isGiven_0 1 rfl rfl)
theorem dX4_isGiven_3 : decode cX4_isGiven 3 = .ok (.irem, 1) := dk_112 (dk_at dksX4_isGiven_0 3 rfl rfl)
theorem dX4_isGiven_4 : decode cX4_isGiven 4 = .ok (.bipush 12, 2) := dk_16 12 (dk_at dksX4_isGiven_0 4 rfl rfl)
theorem dX4_isGiven_6 : decode cX4_isGiven 6 = .ok (.if_icmp .ge 7, 3) := dk_162 0 7 (dk_at dksX4_isGiven_0 6 rfl rfl)
theorem dX4_isGiven_9 : decode cX4_isGiven 9 = .ok (.iconst 1, 1) := dk_4 (dk_at dksX4_isGiven_0 9 rfl rfl)
theorem dX4_isGiven_10 : decode cX4_isGiven 10 = .ok (.goto 4, 3) := dk_167 0 4 (dk_at dksX4_isGiven_0 10 rfl rfl)
theorem dX4_isGiven_13 : decode cX4_isGiven 13 = .ok (.iconst 0, 1) := dk_3 (dk_at dksX4_isGiven_0 13 rfl rfl)
theorem dX4_isGiven_14 : decode cX4_isGiven 14 = .ok (.ireturn, 1) := dk_172 (dk_at dksX4_isGiven_0 14 rfl rfl)
abbrev cX4_chainPlace : ByteArray := prog_32_method_28_code
def yX4_chainPlace : MethodName := ⟨RX4, "chainPlace", "(III)I"⟩
def dkwX4_chainPlace_2 : List UInt8 := [132, 5, 1, 167, 255, 216, 16, 247, 172]
abbrev dktX4_chainPlace_2 : List UInt8 := dkwX4_chainPlace_2 ++ []
def dkwX4_chainPlace_1 : List UInt8 := [180, 0, 84, 16, 48, 21, 4, 104, 21, 5, 96, 46, 28, 3, 29, 184, 0, 209, 160, 0, 6, 21, 5, 172]
abbrev dktX4_chainPlace_1 : List UInt8 := dkwX4_chainPlace_1 ++ dktX4_chainPlace_2
def dkwX4_chainPlace_0 : List UInt8 := [16, 12, 27, 104, 29, 96, 54, 4, 3, 54, 5, 21, 5, 42, 180, 0, 81, 21, 4, 46, 162, 0, 34, 42]
abbrev dktX4_chainPlace_0 : List UInt8 := dkwX4_chainPlace_0 ++ dktX4_chainPlace_1
theorem dksX4_chainPlace_0 : cX4_chainPlace.data.toList.drop 0 = dktX4_chainPlace_0 := by decide +kernel
theorem dksX4_chainPlace_1 : cX4_chainPlace.data.toList.drop 24 = dktX4_chainPlace_1 := dk_seg dksX4_chainPlace_0 24 rfl rfl
theorem dksX4_chainPlace_2 : cX4_chainPlace.data.toList.drop 48 = dktX4_chainPlace_2 := dk_seg dksX4_chainPlace_1 24 rfl rfl
theorem dX4_chainPlace_0 : decode cX4_chainPlace 0 = .ok (.bipush 12, 2) := dk_16 12 (dk_at dksX4_chainPlace_0 0 rfl rfl)
theorem dX4_chainPlace_2 : decode cX4_chainPlace 2 = .ok (.iload_n 1, 1) := dk_27 (dk_at dksX4_chainPlace_0 2 rfl rfl)
theorem dX4_chainPlace_3 : decode cX4_chainPlace 3 = .ok (.imul, 1) := dk_104 (dk_at dksX4_chainPlace_0 3 rfl rfl)
theorem dX4_chainPlace_4 : decode cX4_chainPlace 4 = .ok (.iload_n 3, 1) := dk_29 (dk_at dksX4_chainPlace_0 4 rfl rfl)
theorem dX4_chainPlace_5 : decode cX4_chainPlace 5 = .ok (.iadd, 1) := dk_96 (dk_at dksX4_chainPlace_0 5 rfl rfl)
theorem dX4_chainPlace_6 : decode cX4_chainPlace 6 = .ok (.istore 4, 2) := dk_54 4 (dk_at dksX4_chainPlace_0 6 rfl rfl)
theorem dX4_chainPlace_8 : decode cX4_chainPlace 8 = .ok (.iconst 0, 1) := dk_3 (dk_at dksX4_chainPlace_0 8 rfl rfl)
theorem dX4_chainPlace_9 : decode cX4_chainPlace 9 = .ok (.istore 5, 2) := dk_54 5 (dk_at dksX4_chainPlace_0 9 rfl rfl)
theorem dX4_chainPlace_11 : decode cX4_chainPlace 11 = .ok (.iload 5, 2) := dk_21 5 (dk_at dksX4_chainPlace_0 11 rfl rfl)
theorem dX4_chainPlace_13 : decode cX4_chainPlace 13 = .ok (.aload_n 0, 1) := dk_42 (dk_at dksX4_chainPlace_0 13 rfl rfl)
theorem dX4_chainPlace_14 : decode cX4_chainPlace 14 = .ok (.getfield 81, 3) := dk_180 0 81 (dk_at dksX4_chainPlace_0 14 rfl rfl)
theorem dX4_chainPlace_17 : decode cX4_chainPlace 17 = .ok (.iload 4, 2) := dk_21 4 (dk_at dksX4_chainPlace_0 17 rfl rfl)
theorem dX4_chainPlace_19 : decode cX4_chainPlace 19 = .ok (.iaload, 1) := dk_46 (dk_at dksX4_chainPlace_0 19 rfl rfl)
theorem dX4_chainPlace_20 : decode cX4_chainPlace 20 = .ok (.if_icmp .ge 34, 3) := dk_162 0 34 (dk_at dksX4_chainPlace_0 20 rfl rfl)
theorem dX4_chainPlace_23 : decode cX4_chainPlace 23 = .ok (.aload_n 0, 1) := dk_42 (dk_at dksX4_chainPlace_0 23 rfl rfl)
theorem dX4_chainPlace_24 : decode cX4_chainPlace 24 = .ok (.getfield 84, 3) := dk_180 0 84 (dk_at dksX4_chainPlace_1 0 rfl rfl)
theorem dX4_chainPlace_27 : decode cX4_chainPlace 27 = .ok (.bipush 48, 2) := dk_16 48 (dk_at dksX4_chainPlace_1 3 rfl rfl)
theorem dX4_chainPlace_29 : decode cX4_chainPlace 29 = .ok (.iload 4, 2) := dk_21 4 (dk_at dksX4_chainPlace_1 5 rfl rfl)
theorem dX4_chainPlace_31 : decode cX4_chainPlace 31 = .ok (.imul, 1) := dk_104 (dk_at dksX4_chainPlace_1 7 rfl rfl)
theorem dX4_chainPlace_32 : decode cX4_chainPlace 32 = .ok (.iload 5, 2) := dk_21 5 (dk_at dksX4_chainPlace_1 8 rfl rfl)
theorem dX4_chainPlace_34 : decode cX4_chainPlace 34 = .ok (.iadd, 1) := dk_96 (dk_at dksX4_chainPlace_1 10 rfl rfl)
theorem dX4_chainPlace_35 : decode cX4_chainPlace 35 = .ok (.iaload, 1) := dk_46 (dk_at dksX4_chainPlace_1 11 rfl rfl)
theorem dX4_chainPlace_36 : decode cX4_chainPlace 36 = .ok (.iload_n 2, 1) := dk_28 (dk_at dksX4_chainPlace_1 12 rfl rfl)
theorem dX4_chainPlace_37 : decode cX4_chainPlace 37 = .ok (.iconst 0, 1) := dk_3 (dk_at dksX4_chainPlace_1 13 rfl rfl)
theorem dX4_chainPlace_38 : decode cX4_chainPlace 38 = .ok (.iload_n 3, 1) := dk_29 (dk_at dksX4_chainPlace_1 14 rfl rfl)
theorem dX4_chainPlace_39 : decode cX4_chainPlace 39 = .ok (.invokestatic 209, 3) := dk_184 0 209 (dk_at dksX4_chainPlace_1 15 rfl rfl)
theorem dX4_chainPlace_42 : decode cX4_chainPlace 42 = .ok (.if_icmp .ne 6, 3) := dk_160 0 6 (dk_at dksX4_chainPlace_1 18 rfl rfl)
theorem dX4_chainPlace_45 : decode cX4_chainPlace 45 = .ok (.iload 5, 2) := dk_21 5 (dk_at dksX4_chainPlace_1 21 rfl rfl)
theorem dX4_chainPlace_47 : decode cX4_chainPlace 47 = .ok (.ireturn, 1) := dk_172 (dk_at dksX4_chainPlace_1 23 rfl rfl)
theorem dX4_chainPlace_48 : decode cX4_chainPlace 48 = .ok (.iinc 5 1, 3) := dk_132 5 1 (dk_at dksX4_chainPlace_2 0 rfl rfl)
theorem dX4_chainPlace_51 : decode cX4_chainPlace 51 = .ok (.goto (-40), 3) := dk_167 255 216 (dk_at dksX4_chainPlace_2 3 rfl rfl)
theorem dX4_chainPlace_54 : decode cX4_chainPlace 54 = .ok (.bipush (-9), 2) := dk_16 247 (dk_at dksX4_chainPlace_2 6 rfl rfl)
theorem dX4_chainPlace_56 : decode cX4_chainPlace 56 = .ok (.ireturn, 1) := dk_172 (dk_at dksX4_chainPlace_2 8 rfl rfl)
abbrev cX4_ring : ByteArray := prog_32_method_32_code
def yX4_ring : MethodName := ⟨RX4, "ring", "(I)I"⟩
def dkwX4_ring_1 : List UInt8 := [16, 247, 172]
abbrev dktX4_ring_1 : List UInt8 := dkwX4_ring_1 ++ []
def dkwX4_ring_0 : List UInt8 := [27, 3, 42, 180, 0, 240, 4, 100, 184, 0, 188, 153, 0, 12, 42, 180, 0, 96, 27, 46, 167, 0, 5]
abbrev dktX4_ring_0 : List UInt8 := dkwX4_ring_0 ++ dktX4_ring_1
theorem dksX4_ring_0 : cX4_ring.data.toList.drop 0 = dktX4_ring_0 := by decide +kernel
theorem dksX4_ring_1 : cX4_ring.data.toList.drop 23 = dktX4_ring_1 := dk_seg dksX4_ring_0 23 rfl rfl
theorem dX4_ring_0 : decode cX4_ring 0 = .ok (.iload_n 1, 1) := dk_27 (dk_at dksX4_ring_0 0 rfl rfl)
theorem dX4_ring_1 : decode cX4_ring 1 = .ok (.iconst 0, 1) := dk_3 (dk_at dksX4_ring_0 1 rfl rfl)
theorem dX4_ring_2 : decode cX4_ring 2 = .ok (.aload_n 0, 1) := dk_42 (dk_at dksX4_ring_0 2 rfl rfl)
theorem dX4_ring_3 : decode cX4_ring 3 = .ok (.getfield 240, 3) := dk_180 0 240 (dk_at dksX4_ring_0 3 rfl rfl)
theorem dX4_ring_6 : decode cX4_ring 6 = .ok (.iconst 1, 1) := dk_4 (dk_at dksX4_ring_0 6 rfl rfl)
theorem dX4_ring_7 : decode cX4_ring 7 = .ok (.isub, 1) := dk_100 (dk_at dksX4_ring_0 7 rfl rfl)
theorem dX4_ring_8 : decode cX4_ring 8 = .ok (.invokestatic 188, 3) := dk_184 0 188 (dk_at dksX4_ring_0 8 rfl rfl)
theorem dX4_ring_11 : decode cX4_ring 11 = .ok (.ifCond .eq 12, 3) := dk_153 0 12 (dk_at dksX4_ring_0 11 rfl rfl)
theorem dX4_ring_14 : decode cX4_ring 14 = .ok (.aload_n 0, 1) := dk_42 (dk_at dksX4_ring_0 14 rfl rfl)
theorem dX4_ring_15 : decode cX4_ring 15 = .ok (.getfield 96, 3) := dk_180 0 96 (dk_at dksX4_ring_0 15 rfl rfl)
theorem dX4_ring_18 : decode cX4_ring 18 = .ok (.iload_n 1, 1) := dk_27 (dk_at dksX4_ring_0 18 rfl rfl)
theorem dX4_ring_19 : decode cX4_ring 19 = .ok (.iaload, 1) := dk_46 (dk_at dksX4_ring_0 19 rfl rfl)
theorem dX4_ring_20 : decode cX4_ring 20 = .ok (.goto 5, 3) := dk_167 0 5 (dk_at dksX4_ring_0 20 rfl rfl)
theorem dX4_ring_23 : decode cX4_ring 23 = .ok (.bipush (-9), 2) := dk_16 247 (dk_at dksX4_ring_1 0 rfl rfl)
theorem dX4_ring_25 : decode cX4_ring 25 = .ok (.ireturn, 1) := dk_172 (dk_at dksX4_ring_1 2 rfl rfl)
abbrev cX4_lacks : ByteArray := prog_32_method_33_code
def yX4_lacks : MethodName := ⟨RX4, "lacks", "(I)I"⟩
def dkwX4_lacks_1 : List UInt8 := [172]
abbrev dktX4_lacks_1 : List UInt8 := dkwX4_lacks_1 ++ []
def dkwX4_lacks_0 : List UInt8 := [27, 154, 0, 10, 42, 180, 0, 99, 167, 0, 16, 27, 4, 160, 0, 10, 42, 180, 0, 102, 167, 0, 4, 2]
abbrev dktX4_lacks_0 : List UInt8 := dkwX4_lacks_0 ++ dktX4_lacks_1
theorem dksX4_lacks_0 : cX4_lacks.data.toList.drop 0 = dktX4_lacks_0 := by decide +kernel
theorem dksX4_lacks_1 : cX4_lacks.data.toList.drop 24 = dktX4_lacks_1 := dk_seg dksX4_lacks_0 24 rfl rfl
theorem dX4_lacks_0 : decode cX4_lacks 0 = .ok (.iload_n 1, 1) := dk_27 (dk_at dksX4_lacks_0 0 rfl rfl)
theorem dX4_lacks_1 : decode cX4_lacks 1 = .ok (.ifCond .ne 10, 3) := dk_154 0 10 (dk_at dksX4_lacks_0 1 rfl rfl)
theorem dX4_lacks_4 : decode cX4_lacks 4 = .ok (.aload_n 0, 1) := dk_42 (dk_at dksX4_lacks_0 4 rfl rfl)
theorem dX4_lacks_5 : decode cX4_lacks 5 = .ok (.getfield 99, 3) := dk_180 0 99 (dk_at dksX4_lacks_0 5 rfl rfl)
theorem dX4_lacks_8 : decode cX4_lacks 8 = .ok (.goto 16, 3) := dk_167 0 16 (dk_at dksX4_lacks_0 8 rfl rfl)
theorem dX4_lacks_11 : decode cX4_lacks 11 = .ok (.iload_n 1, 1) := dk_27 (dk_at dksX4_lacks_0 11 rfl rfl)
theorem dX4_lacks_12 : decode cX4_lacks 12 = .ok (.iconst 1, 1) := dk_4 (dk_at dksX4_lacks_0 12 rfl rfl)
theorem dX4_lacks_13 : decode cX4_lacks 13 = .ok (.if_icmp .ne 10, 3) := dk_160 0 10 (dk_at dksX4_lacks_0 13 rfl rfl)
theorem dX4_lacks_16 : decode cX4_lacks 16 = .ok (.aload_n 0, 1) := dk_42 (dk_at dksX4_lacks_0 16 rfl rfl)
theorem dX4_lacks_17 : decode cX4_lacks 17 = .ok (.getfield 102, 3) := dk_180 0 102 (dk_at dksX4_lacks_0 17 rfl rfl)
theorem dX4_lacks_20 : decode cX4_lacks 20 = .ok (.goto 4, 3) := dk_167 0 4 (dk_at dksX4_lacks_0 20 rfl rfl)
theorem dX4_lacks_23 : decode cX4_lacks 23 = .ok (.iconst (-1), 1) := dk_2 (dk_at dksX4_lacks_0 23 rfl rfl)
theorem dX4_lacks_24 : decode cX4_lacks 24 = .ok (.ireturn, 1) := dk_172 (dk_at dksX4_lacks_1 0 rfl rfl)
abbrev cX4_line : ByteArray := prog_32_method_35_code
def yX4_line : MethodName := ⟨RX4, "line", "(II)I"⟩
def dkwX4_line_1 : List UInt8 := [184, 0, 188, 153, 0, 17, 42, 180, 0, 75, 16, 24, 27, 104, 28, 96, 46, 167, 0, 5, 16, 247, 172]
abbrev dktX4_line_1 : List UInt8 := dkwX4_line_1 ++ []
def dkwX4_line_0 : List UInt8 := [42, 27, 182, 1, 13, 154, 0, 7, 2, 167, 0, 35, 28, 3, 42, 180, 0, 72, 27, 46, 4, 100]
abbrev dktX4_line_0 : List UInt8 := dkwX4_line_0 ++ dktX4_line_1
theorem dksX4_line_0 : cX4_line.data.toList.drop 0 = dktX4_line_0 := by decide +kernel
theorem dksX4_line_1 : cX4_line.data.toList.drop 22 = dktX4_line_1 := dk_seg dksX4_line_0 22 rfl rfl
theorem dX4_line_0 : decode cX4_line 0 = .ok (.aload_n 0, 1) := dk_42 (dk_at dksX4_line_0 0 rfl rfl)
theorem dX4_line_1 : decode cX4_line 1 = .ok (.iload_n 1, 1) := dk_27 (dk_at dksX4_line_0 1 rfl rfl)
theorem dX4_line_2 : decode cX4_line 2 = .ok (.invokevirtual 269, 3) := dk_182 1 13 (dk_at dksX4_line_0 2 rfl rfl)
theorem dX4_line_5 : decode cX4_line 5 = .ok (.ifCond .ne 7, 3) := dk_154 0 7 (dk_at dksX4_line_0 5 rfl rfl)
theorem dX4_line_8 : decode cX4_line 8 = .ok (.iconst (-1), 1) := dk_2 (dk_at dksX4_line_0 8 rfl rfl)
theorem dX4_line_9 : decode cX4_line 9 = .ok (.goto 35, 3) := dk_167 0 35 (dk_at dksX4_line_0 9 rfl rfl)
theorem dX4_line_12 : decode cX4_line 12 = .ok (.iload_n 2, 1) := dk_28 (dk_at dksX4_line_0 12 rfl rfl)
theorem dX4_line_13 : decode cX4_line 13 = .ok (.iconst 0, 1) := dk_3 (dk_at dksX4_line_0 13 rfl rfl)
theorem dX4_line_14 : decode cX4_line 14 = .ok (.aload_n 0, 1) := dk_42 (dk_at dksX4_line_0 14 rfl rfl)
theorem dX4_line_15 : decode cX4_line 15 = .ok (.getfield 72, 3) := dk_180 0 72 (dk_at dksX4_line_0 15 rfl rfl)
theorem dX4_line_18 : decode cX4_line 18 = .ok (.iload_n 1, 1) := dk_27 (dk_at dksX4_line_0 18 rfl rfl)
theorem dX4_line_19 : decode cX4_line 19 = .ok (.iaload, 1) := dk_46 (dk_at dksX4_line_0 19 rfl rfl)
theorem dX4_line_20 : decode cX4_line 20 = .ok (.iconst 1, 1) := dk_4 (dk_at dksX4_line_0 20 rfl rfl)
theorem dX4_line_21 : decode cX4_line 21 = .ok (.isub, 1) := dk_100 (dk_at dksX4_line_0 21 rfl rfl)
theorem dX4_line_22 : decode cX4_line 22 = .ok (.invokestatic 188, 3) := dk_184 0 188 (dk_at dksX4_line_1 0 rfl rfl)
theorem dX4_line_25 : decode cX4_line 25 = .ok (.ifCond .eq 17, 3) := dk_153 0 17 (dk_at dksX4_line_1 3 rfl rfl)
theorem dX4_line_28 : decode cX4_line 28 = .ok (.aload_n 0, 1) := dk_42 (dk_at dksX4_line_1 6 rfl rfl)
theorem dX4_line_29 : decode cX4_line 29 = .ok (.getfield 75, 3) := dk_180 0 75 (dk_at dksX4_line_1 7 rfl rfl)
theorem dX4_line_32 : decode cX4_line 32 = .ok (.bipush 24, 2) := dk_16 24 (dk_at dksX4_line_1 10 rfl rfl)
theorem dX4_line_34 : decode cX4_line 34 = .ok (.iload_n 1, 1) := dk_27 (dk_at dksX4_line_1 12 rfl rfl)
theorem dX4_line_35 : decode cX4_line 35 = .ok (.imul, 1) := dk_104 (dk_at dksX4_line_1 13 rfl rfl)
theorem dX4_line_36 : decode cX4_line 36 = .ok (.iload_n 2, 1) := dk_28 (dk_at dksX4_line_1 14 rfl rfl)
theorem dX4_line_37 : decode cX4_line 37 = .ok (.iadd, 1) := dk_96 (dk_at dksX4_line_1 15 rfl rfl)
theorem dX4_line_38 : decode cX4_line 38 = .ok (.iaload, 1) := dk_46 (dk_at dksX4_line_1 16 rfl rfl)
theorem dX4_line_39 : decode cX4_line 39 = .ok (.goto 5, 3) := dk_167 0 5 (dk_at dksX4_line_1 17 rfl rfl)
theorem dX4_line_42 : decode cX4_line 42 = .ok (.bipush (-9), 2) := dk_16 247 (dk_at dksX4_line_1 20 rfl rfl)
theorem dX4_line_44 : decode cX4_line 44 = .ok (.ireturn, 1) := dk_172 (dk_at dksX4_line_1 22 rfl rfl)
abbrev cX4_isRole : ByteArray := prog_32_method_34_code
def yX4_isRole : MethodName := ⟨RX4, "isRole", "(I)Z"⟩
def dkwX4_isRole_0 : List UInt8 := [27, 3, 42, 180, 0, 200, 4, 100, 184, 0, 188, 172]
abbrev dktX4_isRole_0 : List UInt8 := dkwX4_isRole_0 ++ []
theorem dksX4_isRole_0 : cX4_isRole.data.toList.drop 0 = dktX4_isRole_0 := by decide +kernel
theorem dX4_isRole_0 : decode cX4_isRole 0 = .ok (.iload_n 1, 1) := dk_27 (dk_at dksX4_isRole_0 0 rfl rfl)
theorem dX4_isRole_1 : decode cX4_isRole 1 = .ok (.iconst 0, 1) := dk_3 (dk_at dksX4_isRole_0 1 rfl rfl)
theorem dX4_isRole_2 : decode cX4_isRole 2 = .ok (.aload_n 0, 1) := dk_42 (dk_at dksX4_isRole_0 2 rfl rfl)
theorem dX4_isRole_3 : decode cX4_isRole 3 = .ok (.getfield 200, 3) := dk_180 0 200 (dk_at dksX4_isRole_0 3 rfl rfl)
theorem dX4_isRole_6 : decode cX4_isRole 6 = .ok (.iconst 1, 1) := dk_4 (dk_at dksX4_isRole_0 6 rfl rfl)
theorem dX4_isRole_7 : decode cX4_isRole 7 = .ok (.isub, 1) := dk_100 (dk_at dksX4_isRole_0 7 rfl rfl)
theorem dX4_isRole_8 : decode cX4_isRole 8 = .ok (.invokestatic 188, 3) := dk_184 0 188 (dk_at dksX4_isRole_0 8 rfl rfl)
theorem dX4_isRole_11 : decode cX4_isRole 11 = .ok (.ireturn, 1) := dk_172 (dk_at dksX4_isRole_0 11 rfl rfl)
abbrev cX4_chain_2 : ByteArray := prog_32_method_36_code
def yX4_chain_2 : MethodName := ⟨RX4, "chain", "(III)I"⟩
def dkwX4_chain_2_3 : List UInt8 := [184, 0, 246, 153, 0, 7, 3, 167, 0, 4, 4, 96, 172]
abbrev dktX4_chain_2_3 : List UInt8 := dkwX4_chain_2_3 ++ []
def dkwX4_chain_2_2 : List UInt8 := [180, 0, 84, 16, 48, 21, 4, 104, 29, 96, 46, 54, 5, 5, 21, 5, 16, 25, 108, 104, 21, 5]
abbrev dktX4_chain_2_2 : List UInt8 := dkwX4_chain_2_2 ++ dktX4_chain_2_3
def dkwX4_chain_2_1 : List UInt8 := [54, 4, 29, 3, 42, 180, 0, 81, 21, 4, 46, 4, 100, 184, 0, 188, 154, 0, 6, 16, 247, 172, 42]
abbrev dktX4_chain_2_1 : List UInt8 := dkwX4_chain_2_1 ++ dktX4_chain_2_2
def dkwX4_chain_2_0 : List UInt8 := [42, 27, 182, 1, 13, 153, 0, 10, 28, 184, 0, 206, 154, 0, 5, 2, 172, 16, 12, 27, 104, 28, 96]
abbrev dktX4_chain_2_0 : List UInt8 := dkwX4_chain_2_0 ++ dktX4_chain_2_1
theorem dksX4_chain_2_0 : cX4_chain_2.data.toList.drop 0 = dktX4_chain_2_0 := by decide +kernel
theorem dksX4_chain_2_1 : cX4_chain_2.data.toList.drop 23 = dktX4_chain_2_1 := dk_seg dksX4_chain_2_0 23 rfl rfl
theorem dksX4_chain_2_2 : cX4_chain_2.data.toList.drop 46 = dktX4_chain_2_2 := dk_seg dksX4_chain_2_1 23 rfl rfl
theorem dksX4_chain_2_3 : cX4_chain_2.data.toList.drop 68 = dktX4_chain_2_3 := dk_seg dksX4_chain_2_2 22 rfl rfl
theorem dX4_chain_2_0 : decode cX4_chain_2 0 = .ok (.aload_n 0, 1) := dk_42 (dk_at dksX4_chain_2_0 0 rfl rfl)
theorem dX4_chain_2_1 : decode cX4_chain_2 1 = .ok (.iload_n 1, 1) := dk_27 (dk_at dksX4_chain_2_0 1 rfl rfl)
theorem dX4_chain_2_2 : decode cX4_chain_2 2 = .ok (.invokevirtual 269, 3) := dk_182 1 13 (dk_at dksX4_chain_2_0 2 rfl rfl)
theorem dX4_chain_2_5 : decode cX4_chain_2 5 = .ok (.ifCond .eq 10, 3) := dk_153 0 10 (dk_at dksX4_chain_2_0 5 rfl rfl)
theorem dX4_chain_2_8 : decode cX4_chain_2 8 = .ok (.iload_n 2, 1) := dk_28 (dk_at dksX4_chain_2_0 8 rfl rfl)
theorem dX4_chain_2_9 : decode cX4_chain_2 9 = .ok (.invokestatic 206, 3) := dk_184 0 206 (dk_at dksX4_chain_2_0 9 rfl rfl)
theorem dX4_chain_2_12 : decode cX4_chain_2 12 = .ok (.ifCond .ne 5, 3) := dk_154 0 5 (dk_at dksX4_chain_2_0 12 rfl rfl)
theorem dX4_chain_2_15 : decode cX4_chain_2 15 = .ok (.iconst (-1), 1) := dk_2 (dk_at dksX4_chain_2_0 15 rfl rfl)
theorem dX4_chain_2_16 : decode cX4_chain_2 16 = .ok (.ireturn, 1) := dk_172 (dk_at dksX4_chain_2_0 16 rfl rfl)
theorem dX4_chain_2_17 : decode cX4_chain_2 17 = .ok (.bipush 12, 2) := dk_16 12 (dk_at dksX4_chain_2_0 17 rfl rfl)
theorem dX4_chain_2_19 : decode cX4_chain_2 19 = .ok (.iload_n 1, 1) := dk_27 (dk_at dksX4_chain_2_0 19 rfl rfl)
theorem dX4_chain_2_20 : decode cX4_chain_2 20 = .ok (.imul, 1) := dk_104 (dk_at dksX4_chain_2_0 20 rfl rfl)
theorem dX4_chain_2_21 : decode cX4_chain_2 21 = .ok (.iload_n 2, 1) := dk_28 (dk_at dksX4_chain_2_0 21 rfl rfl)
theorem dX4_chain_2_22 : decode cX4_chain_2 22 = .ok (.iadd, 1) := dk_96 (dk_at dksX4_chain_2_0 22 rfl rfl)
theorem dX4_chain_2_23 : decode cX4_chain_2 23 = .ok (.istore 4, 2) := dk_54 4 (dk_at dksX4_chain_2_1 0 rfl rfl)
theorem dX4_chain_2_25 : decode cX4_chain_2 25 = .ok (.iload_n 3, 1) := dk_29 (dk_at dksX4_chain_2_1 2 rfl rfl)
theorem dX4_chain_2_26 : decode cX4_chain_2 26 = .ok (.iconst 0, 1) := dk_3 (dk_at dksX4_chain_2_1 3 rfl rfl)
theorem dX4_chain_2_27 : decode cX4_chain_2 27 = .ok (.aload_n 0, 1) := dk_42 (dk_at dksX4_chain_2_1 4 rfl rfl)
theorem dX4_chain_2_28 : decode cX4_chain_2 28 = .ok (.getfield 81, 3) := dk_180 0 81 (dk_at dksX4_chain_2_1 5 rfl rfl)
theorem dX4_chain_2_31 : decode cX4_chain_2 31 = .ok (.iload 4, 2) := dk_21 4 (dk_at dksX4_chain_2_1 8 rfl rfl)
theorem dX4_chain_2_33 : decode cX4_chain_2 33 = .ok (.iaload, 1) := dk_46 (dk_at dksX4_chain_2_1 10 rfl rfl)
theorem dX4_chain_2_34 : decode cX4_chain_2 34 = .ok (.iconst 1, 1) := dk_4 (dk_at dksX4_chain_2_1 11 rfl rfl)
theorem dX4_chain_2_35 : decode cX4_chain_2 35 = .ok (.isub, 1) := dk_100 (dk_at dksX4_chain_2_1 12 rfl rfl)
theorem dX4_chain_2_36 : decode cX4_chain_2 36 = .ok (.invokestatic 188, 3) := dk_184 0 188 (dk_at dksX4_chain_2_1 13 rfl rfl)
theorem dX4_chain_2_39 : decode cX4_chain_2 39 = .ok (.ifCond .ne 6, 3) := dk_154 0 6 (dk_at dksX4_chain_2_1 16 rfl rfl)
theorem dX4_chain_2_42 : decode cX4_chain_2 42 = .ok (.bipush (-9), 2) := dk_16 247 (dk_at dksX4_chain_2_1 19 rfl rfl)
theorem dX4_chain_2_44 : decode cX4_chain_2 44 = .ok (.ireturn, 1) := dk_172 (dk_at dksX4_chain_2_1 21 rfl rfl)
theorem dX4_chain_2_45 : decode cX4_chain_2 45 = .ok (.aload_n 0, 1) := dk_42 (dk_at dksX4_chain_2_1 22 rfl rfl)
theorem dX4_chain_2_46 : decode cX4_chain_2 46 = .ok (.getfield 84, 3) := dk_180 0 84 (dk_at dksX4_chain_2_2 0 rfl rfl)
theorem dX4_chain_2_49 : decode cX4_chain_2 49 = .ok (.bipush 48, 2) := dk_16 48 (dk_at dksX4_chain_2_2 3 rfl rfl)
theorem dX4_chain_2_51 : decode cX4_chain_2 51 = .ok (.iload 4, 2) := dk_21 4 (dk_at dksX4_chain_2_2 5 rfl rfl)
theorem dX4_chain_2_53 : decode cX4_chain_2 53 = .ok (.imul, 1) := dk_104 (dk_at dksX4_chain_2_2 7 rfl rfl)
theorem dX4_chain_2_54 : decode cX4_chain_2 54 = .ok (.iload_n 3, 1) := dk_29 (dk_at dksX4_chain_2_2 8 rfl rfl)
theorem dX4_chain_2_55 : decode cX4_chain_2 55 = .ok (.iadd, 1) := dk_96 (dk_at dksX4_chain_2_2 9 rfl rfl)
theorem dX4_chain_2_56 : decode cX4_chain_2 56 = .ok (.iaload, 1) := dk_46 (dk_at dksX4_chain_2_2 10 rfl rfl)
theorem dX4_chain_2_57 : decode cX4_chain_2 57 = .ok (.istore 5, 2) := dk_54 5 (dk_at dksX4_chain_2_2 11 rfl rfl)
theorem dX4_chain_2_59 : decode cX4_chain_2 59 = .ok (.iconst 2, 1) := dk_5 (dk_at dksX4_chain_2_2 13 rfl rfl)
theorem dX4_chain_2_60 : decode cX4_chain_2 60 = .ok (.iload 5, 2) := dk_21 5 (dk_at dksX4_chain_2_2 14 rfl rfl)
theorem dX4_chain_2_62 : decode cX4_chain_2 62 = .ok (.bipush 25, 2) := dk_16 25 (dk_at dksX4_chain_2_2 16 rfl rfl)
theorem dX4_chain_2_64 : decode cX4_chain_2 64 = .ok (.idiv, 1) := dk_108 (dk_at dksX4_chain_2_2 18 rfl rfl)
theorem dX4_chain_2_65 : decode cX4_chain_2 65 = .ok (.imul, 1) := dk_104 (dk_at dksX4_chain_2_2 19 rfl rfl)
theorem dX4_chain_2_66 : decode cX4_chain_2 66 = .ok (.iload 5, 2) := dk_21 5 (dk_at dksX4_chain_2_2 20 rfl rfl)
theorem dX4_chain_2_68 : decode cX4_chain_2 68 = .ok (.invokestatic 246, 3) := dk_184 0 246 (dk_at dksX4_chain_2_3 0 rfl rfl)
theorem dX4_chain_2_71 : decode cX4_chain_2 71 = .ok (.ifCond .eq 7, 3) := dk_153 0 7 (dk_at dksX4_chain_2_3 3 rfl rfl)
theorem dX4_chain_2_74 : decode cX4_chain_2 74 = .ok (.iconst 0, 1) := dk_3 (dk_at dksX4_chain_2_3 6 rfl rfl)
theorem dX4_chain_2_75 : decode cX4_chain_2 75 = .ok (.goto 4, 3) := dk_167 0 4 (dk_at dksX4_chain_2_3 7 rfl rfl)
theorem dX4_chain_2_78 : decode cX4_chain_2 78 = .ok (.iconst 1, 1) := dk_4 (dk_at dksX4_chain_2_3 10 rfl rfl)
theorem dX4_chain_2_79 : decode cX4_chain_2 79 = .ok (.iadd, 1) := dk_96 (dk_at dksX4_chain_2_3 11 rfl rfl)
theorem dX4_chain_2_80 : decode cX4_chain_2 80 = .ok (.ireturn, 1) := dk_172 (dk_at dksX4_chain_2_3 12 rfl rfl)
abbrev cX4_under : ByteArray := prog_32_method_39_code
def yX4_under : MethodName := ⟨RX4, "under", "(II)I"⟩
def dkwX4_under_1 : List UInt8 := [182, 1, 19, 153, 0, 7, 4, 167, 0, 4, 3, 172]
abbrev dktX4_under_1 : List UInt8 := dkwX4_under_1 ++ []
def dkwX4_under_0 : List UInt8 := [42, 27, 182, 1, 13, 153, 0, 11, 42, 28, 182, 1, 13, 154, 0, 7, 2, 167, 0, 17, 42, 27, 28]
abbrev dktX4_under_0 : List UInt8 := dkwX4_under_0 ++ dktX4_under_1
theorem dksX4_under_0 : cX4_under.data.toList.drop 0 = dktX4_under_0 := by decide +kernel
theorem dksX4_under_1 : cX4_under.data.toList.drop 23 = dktX4_under_1 := dk_seg dksX4_under_0 23 rfl rfl
theorem dX4_under_0 : decode cX4_under 0 = .ok (.aload_n 0, 1) := dk_42 (dk_at dksX4_under_0 0 rfl rfl)
theorem dX4_under_1 : decode cX4_under 1 = .ok (.iload_n 1, 1) := dk_27 (dk_at dksX4_under_0 1 rfl rfl)
theorem dX4_under_2 : decode cX4_under 2 = .ok (.invokevirtual 269, 3) := dk_182 1 13 (dk_at dksX4_under_0 2 rfl rfl)
theorem dX4_under_5 : decode cX4_under 5 = .ok (.ifCond .eq 11, 3) := dk_153 0 11 (dk_at dksX4_under_0 5 rfl rfl)
theorem dX4_under_8 : decode cX4_under 8 = .ok (.aload_n 0, 1) := dk_42 (dk_at dksX4_under_0 8 rfl rfl)
theorem dX4_under_9 : decode cX4_under 9 = .ok (.iload_n 2, 1) := dk_28 (dk_at dksX4_under_0 9 rfl rfl)
theorem dX4_under_10 : decode cX4_under 10 = .ok (.invokevirtual 269, 3) := dk_182 1 13 (dk_at dksX4_under_0 10 rfl rfl)
theorem dX4_under_13 : decode cX4_under 13 = .ok (.ifCond .ne 7, 3) := dk_154 0 7 (dk_at dksX4_under_0 13 rfl rfl)
theorem dX4_under_16 : decode cX4_under 16 = .ok (.iconst (-1), 1) := dk_2 (dk_at dksX4_under_0 16 rfl rfl)
theorem dX4_under_17 : decode cX4_under 17 = .ok (.goto 17, 3) := dk_167 0 17 (dk_at dksX4_under_0 17 rfl rfl)
theorem dX4_under_20 : decode cX4_under 20 = .ok (.aload_n 0, 1) := dk_42 (dk_at dksX4_under_0 20 rfl rfl)
theorem dX4_under_21 : decode cX4_under 21 = .ok (.iload_n 1, 1) := dk_27 (dk_at dksX4_under_0 21 rfl rfl)
theorem dX4_under_22 : decode cX4_under 22 = .ok (.iload_n 2, 1) := dk_28 (dk_at dksX4_under_0 22 rfl rfl)
theorem dX4_under_23 : decode cX4_under 23 = .ok (.invokevirtual 275, 3) := dk_182 1 19 (dk_at dksX4_under_1 0 rfl rfl)
theorem dX4_under_26 : decode cX4_under 26 = .ok (.ifCond .eq 7, 3) := dk_153 0 7 (dk_at dksX4_under_1 3 rfl rfl)
theorem dX4_under_29 : decode cX4_under 29 = .ok (.iconst 1, 1) := dk_4 (dk_at dksX4_under_1 6 rfl rfl)
theorem dX4_under_30 : decode cX4_under 30 = .ok (.goto 4, 3) := dk_167 0 4 (dk_at dksX4_under_1 7 rfl rfl)
theorem dX4_under_33 : decode cX4_under 33 = .ok (.iconst 0, 1) := dk_3 (dk_at dksX4_under_1 10 rfl rfl)
theorem dX4_under_34 : decode cX4_under 34 = .ok (.ireturn, 1) := dk_172 (dk_at dksX4_under_1 11 rfl rfl)
abbrev cX4_isUnder : ByteArray := prog_32_method_38_code
def yX4_isUnder : MethodName := ⟨RX4, "isUnder", "(II)Z"⟩
def dkwX4_isUnder_0 : List UInt8 := [42, 27, 28, 42, 180, 0, 72, 28, 46, 182, 1, 16, 172]
abbrev dktX4_isUnder_0 : List UInt8 := dkwX4_isUnder_0 ++ []
theorem dksX4_isUnder_0 : cX4_isUnder.data.toList.drop 0 = dktX4_isUnder_0 := by decide +kernel
theorem dX4_isUnder_0 : decode cX4_isUnder 0 = .ok (.aload_n 0, 1) := dk_42 (dk_at dksX4_isUnder_0 0 rfl rfl)
theorem dX4_isUnder_1 : decode cX4_isUnder 1 = .ok (.iload_n 1, 1) := dk_27 (dk_at dksX4_isUnder_0 1 rfl rfl)
theorem dX4_isUnder_2 : decode cX4_isUnder 2 = .ok (.iload_n 2, 1) := dk_28 (dk_at dksX4_isUnder_0 2 rfl rfl)
theorem dX4_isUnder_3 : decode cX4_isUnder 3 = .ok (.aload_n 0, 1) := dk_42 (dk_at dksX4_isUnder_0 3 rfl rfl)
theorem dX4_isUnder_4 : decode cX4_isUnder 4 = .ok (.getfield 72, 3) := dk_180 0 72 (dk_at dksX4_isUnder_0 4 rfl rfl)
theorem dX4_isUnder_7 : decode cX4_isUnder 7 = .ok (.iload_n 2, 1) := dk_28 (dk_at dksX4_isUnder_0 7 rfl rfl)
theorem dX4_isUnder_8 : decode cX4_isUnder 8 = .ok (.iaload, 1) := dk_46 (dk_at dksX4_isUnder_0 8 rfl rfl)
theorem dX4_isUnder_9 : decode cX4_isUnder 9 = .ok (.invokevirtual 272, 3) := dk_182 1 16 (dk_at dksX4_isUnder_0 9 rfl rfl)
theorem dX4_isUnder_12 : decode cX4_isUnder 12 = .ok (.ireturn, 1) := dk_172 (dk_at dksX4_isUnder_0 12 rfl rfl)
abbrev cX4_areAlike : ByteArray := prog_32_method_37_code
def yX4_areAlike : MethodName := ⟨RX4, "areAlike", "(III)Z"⟩
def dkwX4_areAlike_3 : List UInt8 := [3, 54, 4, 132, 5, 1, 167, 255, 208, 21, 4, 172]
abbrev dktX4_areAlike_3 : List UInt8 := dkwX4_areAlike_3 ++ []
def dkwX4_areAlike_2 : List UInt8 := [104, 21, 5, 96, 46, 42, 180, 0, 75, 16, 24, 28, 104, 21, 5, 96, 46, 160, 0, 7, 4, 167, 0, 4]
abbrev dktX4_areAlike_2 : List UInt8 := dkwX4_areAlike_2 ++ dktX4_areAlike_3
def dkwX4_areAlike_1 : List UInt8 := [3, 54, 4, 3, 54, 5, 21, 5, 29, 162, 0, 48, 21, 4, 153, 0, 43, 42, 180, 0, 75, 16, 24, 27]
abbrev dktX4_areAlike_1 : List UInt8 := dkwX4_areAlike_1 ++ dktX4_areAlike_2
def dkwX4_areAlike_0 : List UInt8 := [42, 180, 0, 72, 27, 46, 29, 161, 0, 17, 42, 180, 0, 72, 28, 46, 29, 161, 0, 7, 4, 167, 0, 4]
abbrev dktX4_areAlike_0 : List UInt8 := dkwX4_areAlike_0 ++ dktX4_areAlike_1
theorem dksX4_areAlike_0 : cX4_areAlike.data.toList.drop 0 = dktX4_areAlike_0 := by decide +kernel
theorem dksX4_areAlike_1 : cX4_areAlike.data.toList.drop 24 = dktX4_areAlike_1 := dk_seg dksX4_areAlike_0 24 rfl rfl
theorem dksX4_areAlike_2 : cX4_areAlike.data.toList.drop 48 = dktX4_areAlike_2 := dk_seg dksX4_areAlike_1 24 rfl rfl
theorem dksX4_areAlike_3 : cX4_areAlike.data.toList.drop 72 = dktX4_areAlike_3 := dk_seg dksX4_areAlike_2 24 rfl rfl
theorem dX4_areAlike_0 : decode cX4_areAlike 0 = .ok (.aload_n 0, 1) := dk_42 (dk_at dksX4_areAlike_0 0 rfl rfl)
theorem dX4_areAlike_1 : decode cX4_areAlike 1 = .ok (.getfield 72, 3) := dk_180 0 72 (dk_at dksX4_areAlike_0 1 rfl rfl)
theorem dX4_areAlike_4 : decode cX4_areAlike 4 = .ok (.iload_n 1, 1) := dk_27 (dk_at dksX4_areAlike_0 4 rfl rfl)
theorem dX4_areAlike_5 : decode cX4_areAlike 5 = .ok (.iaload, 1) := dk_46 (dk_at dksX4_areAlike_0 5 rfl rfl)
theorem dX4_areAlike_6 : decode cX4_areAlike 6 = .ok (.iload_n 3, 1) := dk_29 (dk_at dksX4_areAlike_0 6 rfl rfl)
theorem dX4_areAlike_7 : decode cX4_areAlike 7 = .ok (.if_icmp .lt 17, 3) := dk_161 0 17 (dk_at dksX4_areAlike_0 7 rfl rfl)
theorem dX4_areAlike_10 : decode cX4_areAlike 10 = .ok (.aload_n 0, 1) := dk_42 (dk_at dksX4_areAlike_0 10 rfl rfl)
theorem dX4_areAlike_11 : decode cX4_areAlike 11 = .ok (.getfield 72, 3) := dk_180 0 72 (dk_at dksX4_areAlike_0 11 rfl rfl)
theorem dX4_areAlike_14 : decode cX4_areAlike 14 = .ok (.iload_n 2, 1) := dk_28 (dk_at dksX4_areAlike_0 14 rfl rfl)
theorem dX4_areAlike_15 : decode cX4_areAlike 15 = .ok (.iaload, 1) := dk_46 (dk_at dksX4_areAlike_0 15 rfl rfl)
theorem dX4_areAlike_16 : decode cX4_areAlike 16 = .ok (.iload_n 3, 1) := dk_29 (dk_at dksX4_areAlike_0 16 rfl rfl)
theorem dX4_areAlike_17 : decode cX4_areAlike 17 = .ok (.if_icmp .lt 7, 3) := dk_161 0 7 (dk_at dksX4_areAlike_0 17 rfl rfl)
theorem dX4_areAlike_20 : decode cX4_areAlike 20 = .ok (.iconst 1, 1) := dk_4 (dk_at dksX4_areAlike_0 20 rfl rfl)
theorem dX4_areAlike_21 : decode cX4_areAlike 21 = .ok (.goto 4, 3) := dk_167 0 4 (dk_at dksX4_areAlike_0 21 rfl rfl)
theorem dX4_areAlike_24 : decode cX4_areAlike 24 = .ok (.iconst 0, 1) := dk_3 (dk_at dksX4_areAlike_1 0 rfl rfl)
theorem dX4_areAlike_25 : decode cX4_areAlike 25 = .ok (.istore 4, 2) := dk_54 4 (dk_at dksX4_areAlike_1 1 rfl rfl)
theorem dX4_areAlike_27 : decode cX4_areAlike 27 = .ok (.iconst 0, 1) := dk_3 (dk_at dksX4_areAlike_1 3 rfl rfl)
theorem dX4_areAlike_28 : decode cX4_areAlike 28 = .ok (.istore 5, 2) := dk_54 5 (dk_at dksX4_areAlike_1 4 rfl rfl)
theorem dX4_areAlike_30 : decode cX4_areAlike 30 = .ok (.iload 5, 2) := dk_21 5 (dk_at dksX4_areAlike_1 6 rfl rfl)
theorem dX4_areAlike_32 : decode cX4_areAlike 32 = .ok (.iload_n 3, 1) := dk_29 (dk_at dksX4_areAlike_1 8 rfl rfl)
theorem dX4_areAlike_33 : decode cX4_areAlike 33 = .ok (.if_icmp .ge 48, 3) := dk_162 0 48 (dk_at dksX4_areAlike_1 9 rfl rfl)
theorem dX4_areAlike_36 : decode cX4_areAlike 36 = .ok (.iload 4, 2) := dk_21 4 (dk_at dksX4_areAlike_1 12 rfl rfl)
theorem dX4_areAlike_38 : decode cX4_areAlike 38 = .ok (.ifCond .eq 43, 3) := dk_153 0 43 (dk_at dksX4_areAlike_1 14 rfl rfl)
theorem dX4_areAlike_41 : decode cX4_areAlike 41 = .ok (.aload_n 0, 1) := dk_42 (dk_at dksX4_areAlike_1 17 rfl rfl)
theorem dX4_areAlike_42 : decode cX4_areAlike 42 = .ok (.getfield 75, 3) := dk_180 0 75 (dk_at dksX4_areAlike_1 18 rfl rfl)
theorem dX4_areAlike_45 : decode cX4_areAlike 45 = .ok (.bipush 24, 2) := dk_16 24 (dk_at dksX4_areAlike_1 21 rfl rfl)
theorem dX4_areAlike_47 : decode cX4_areAlike 47 = .ok (.iload_n 1, 1) := dk_27 (dk_at dksX4_areAlike_1 23 rfl rfl)
theorem dX4_areAlike_48 : decode cX4_areAlike 48 = .ok (.imul, 1) := dk_104 (dk_at dksX4_areAlike_2 0 rfl rfl)
theorem dX4_areAlike_49 : decode cX4_areAlike 49 = .ok (.iload 5, 2) := dk_21 5 (dk_at dksX4_areAlike_2 1 rfl rfl)
theorem dX4_areAlike_51 : decode cX4_areAlike 51 = .ok (.iadd, 1) := dk_96 (dk_at dksX4_areAlike_2 3 rfl rfl)
theorem dX4_areAlike_52 : decode cX4_areAlike 52 = .ok (.iaload, 1) := dk_46 (dk_at dksX4_areAlike_2 4 rfl rfl)
theorem dX4_areAlike_53 : decode cX4_areAlike 53 = .ok (.aload_n 0, 1) := dk_42 (dk_at dksX4_areAlike_2 5 rfl rfl)
theorem dX4_areAlike_54 : decode cX4_areAlike 54 = .ok (.getfield 75, 3) := dk_180 0 75 (dk_at dksX4_areAlike_2 6 rfl rfl)
theorem dX4_areAlike_57 : decode cX4_areAlike 57 = .ok (.bipush 24, 2) := dk_16 24 (dk_at dksX4_areAlike_2 9 rfl rfl)
theorem dX4_areAlike_59 : decode cX4_areAlike 59 = .ok (.iload_n 2, 1) := dk_28 (dk_at dksX4_areAlike_2 11 rfl rfl)
theorem dX4_areAlike_60 : decode cX4_areAlike 60 = .ok (.imul, 1) := dk_104 (dk_at dksX4_areAlike_2 12 rfl rfl)
theorem dX4_areAlike_61 : decode cX4_areAlike 61 = .ok (.iload 5, 2) := dk_21 5 (dk_at dksX4_areAlike_2 13 rfl rfl)
theorem dX4_areAlike_63 : decode cX4_areAlike 63 = .ok (.iadd, 1) := dk_96 (dk_at dksX4_areAlike_2 15 rfl rfl)
theorem dX4_areAlike_64 : decode cX4_areAlike 64 = .ok (.iaload, 1) := dk_46 (dk_at dksX4_areAlike_2 16 rfl rfl)
theorem dX4_areAlike_65 : decode cX4_areAlike 65 = .ok (.if_icmp .ne 7, 3) := dk_160 0 7 (dk_at dksX4_areAlike_2 17 rfl rfl)
theorem dX4_areAlike_68 : decode cX4_areAlike 68 = .ok (.iconst 1, 1) := dk_4 (dk_at dksX4_areAlike_2 20 rfl rfl)
theorem dX4_areAlike_69 : decode cX4_areAlike 69 = .ok (.goto 4, 3) := dk_167 0 4 (dk_at dksX4_areAlike_2 21 rfl rfl)
theorem dX4_areAlike_72 : decode cX4_areAlike 72 = .ok (.iconst 0, 1) := dk_3 (dk_at dksX4_areAlike_3 0 rfl rfl)
theorem dX4_areAlike_73 : decode cX4_areAlike 73 = .ok (.istore 4, 2) := dk_54 4 (dk_at dksX4_areAlike_3 1 rfl rfl)
theorem dX4_areAlike_75 : decode cX4_areAlike 75 = .ok (.iinc 5 1, 3) := dk_132 5 1 (dk_at dksX4_areAlike_3 3 rfl rfl)
theorem dX4_areAlike_78 : decode cX4_areAlike 78 = .ok (.goto (-48), 3) := dk_167 255 208 (dk_at dksX4_areAlike_3 6 rfl rfl)
theorem dX4_areAlike_81 : decode cX4_areAlike 81 = .ok (.iload 4, 2) := dk_21 4 (dk_at dksX4_areAlike_3 9 rfl rfl)
theorem dX4_areAlike_83 : decode cX4_areAlike 83 = .ok (.ireturn, 1) := dk_172 (dk_at dksX4_areAlike_3 11 rfl rfl)
abbrev cX4_step : ByteArray := prog_32_method_41_code
def yX4_step : MethodName := ⟨RX4, "step", "(II)I"⟩
def dkwX4_step_1 : List UInt8 := [184, 0, 188, 153, 0, 12, 42, 27, 28, 182, 1, 22, 167, 0, 5, 16, 247, 172]
abbrev dktX4_step_1 : List UInt8 := dkwX4_step_1 ++ []
def dkwX4_step_0 : List UInt8 := [42, 27, 182, 1, 13, 154, 0, 7, 2, 167, 0, 30, 28, 3, 42, 180, 0, 72, 27, 46, 4, 100]
abbrev dktX4_step_0 : List UInt8 := dkwX4_step_0 ++ dktX4_step_1
theorem dksX4_step_0 : cX4_step.data.toList.drop 0 = dktX4_step_0 := by decide +kernel
theorem dksX4_step_1 : cX4_step.data.toList.drop 22 = dktX4_step_1 := dk_seg dksX4_step_0 22 rfl rfl
theorem dX4_step_0 : decode cX4_step 0 = .ok (.aload_n 0, 1) := dk_42 (dk_at dksX4_step_0 0 rfl rfl)
theorem dX4_step_1 : decode cX4_step 1 = .ok (.iload_n 1, 1) := dk_27 (dk_at dksX4_step_0 1 rfl rfl)
theorem dX4_step_2 : decode cX4_step 2 = .ok (.invokevirtual 269, 3) := dk_182 1 13 (dk_at dksX4_step_0 2 rfl rfl)
theorem dX4_step_5 : decode cX4_step 5 = .ok (.ifCond .ne 7, 3) := dk_154 0 7 (dk_at dksX4_step_0 5 rfl rfl)
theorem dX4_step_8 : decode cX4_step 8 = .ok (.iconst (-1), 1) := dk_2 (dk_at dksX4_step_0 8 rfl rfl)
theorem dX4_step_9 : decode cX4_step 9 = .ok (.goto 30, 3) := dk_167 0 30 (dk_at dksX4_step_0 9 rfl rfl)
theorem dX4_step_12 : decode cX4_step 12 = .ok (.iload_n 2, 1) := dk_28 (dk_at dksX4_step_0 12 rfl rfl)
theorem dX4_step_13 : decode cX4_step 13 = .ok (.iconst 0, 1) := dk_3 (dk_at dksX4_step_0 13 rfl rfl)
theorem dX4_step_14 : decode cX4_step 14 = .ok (.aload_n 0, 1) := dk_42 (dk_at dksX4_step_0 14 rfl rfl)
theorem dX4_step_15 : decode cX4_step 15 = .ok (.getfield 72, 3) := dk_180 0 72 (dk_at dksX4_step_0 15 rfl rfl)
theorem dX4_step_18 : decode cX4_step 18 = .ok (.iload_n 1, 1) := dk_27 (dk_at dksX4_step_0 18 rfl rfl)
theorem dX4_step_19 : decode cX4_step 19 = .ok (.iaload, 1) := dk_46 (dk_at dksX4_step_0 19 rfl rfl)
theorem dX4_step_20 : decode cX4_step 20 = .ok (.iconst 1, 1) := dk_4 (dk_at dksX4_step_0 20 rfl rfl)
theorem dX4_step_21 : decode cX4_step 21 = .ok (.isub, 1) := dk_100 (dk_at dksX4_step_0 21 rfl rfl)
theorem dX4_step_22 : decode cX4_step 22 = .ok (.invokestatic 188, 3) := dk_184 0 188 (dk_at dksX4_step_1 0 rfl rfl)
theorem dX4_step_25 : decode cX4_step 25 = .ok (.ifCond .eq 12, 3) := dk_153 0 12 (dk_at dksX4_step_1 3 rfl rfl)
theorem dX4_step_28 : decode cX4_step 28 = .ok (.aload_n 0, 1) := dk_42 (dk_at dksX4_step_1 6 rfl rfl)
theorem dX4_step_29 : decode cX4_step 29 = .ok (.iload_n 1, 1) := dk_27 (dk_at dksX4_step_1 7 rfl rfl)
theorem dX4_step_30 : decode cX4_step 30 = .ok (.iload_n 2, 1) := dk_28 (dk_at dksX4_step_1 8 rfl rfl)
theorem dX4_step_31 : decode cX4_step 31 = .ok (.invokevirtual 278, 3) := dk_182 1 22 (dk_at dksX4_step_1 9 rfl rfl)
theorem dX4_step_34 : decode cX4_step 34 = .ok (.goto 5, 3) := dk_167 0 5 (dk_at dksX4_step_1 12 rfl rfl)
theorem dX4_step_37 : decode cX4_step 37 = .ok (.bipush (-9), 2) := dk_16 247 (dk_at dksX4_step_1 15 rfl rfl)
theorem dX4_step_39 : decode cX4_step 39 = .ok (.ireturn, 1) := dk_172 (dk_at dksX4_step_1 17 rfl rfl)
abbrev cX4_stepOf : ByteArray := prog_32_method_40_code
def yX4_stepOf : MethodName := ⟨RX4, "stepOf", "(II)I"⟩
def dkwX4_stepOf_0 : List UInt8 := [3, 62, 42, 27, 29, 28, 4, 96, 182, 1, 16, 154, 0, 9, 132, 3, 1, 167, 255, 241, 29, 172]
abbrev dktX4_stepOf_0 : List UInt8 := dkwX4_stepOf_0 ++ []
theorem dksX4_stepOf_0 : cX4_stepOf.data.toList.drop 0 = dktX4_stepOf_0 := by decide +kernel
theorem dX4_stepOf_0 : decode cX4_stepOf 0 = .ok (.iconst 0, 1) := dk_3 (dk_at dksX4_stepOf_0 0 rfl rfl)
theorem dX4_stepOf_1 : decode cX4_stepOf 1 = .ok (.istore_n 3, 1) := dk_62 (dk_at dksX4_stepOf_0 1 rfl rfl)
theorem dX4_stepOf_2 : decode cX4_stepOf 2 = .ok (.aload_n 0, 1) := dk_42 (dk_at dksX4_stepOf_0 2 rfl rfl)
theorem dX4_stepOf_3 : decode cX4_stepOf 3 = .ok (.iload_n 1, 1) := dk_27 (dk_at dksX4_stepOf_0 3 rfl rfl)
theorem dX4_stepOf_4 : decode cX4_stepOf 4 = .ok (.iload_n 3, 1) := dk_29 (dk_at dksX4_stepOf_0 4 rfl rfl)
theorem dX4_stepOf_5 : decode cX4_stepOf 5 = .ok (.iload_n 2, 1) := dk_28 (dk_at dksX4_stepOf_0 5 rfl rfl)
theorem dX4_stepOf_6 : decode cX4_stepOf 6 = .ok (.iconst 1, 1) := dk_4 (dk_at dksX4_stepOf_0 6 rfl rfl)
theorem dX4_stepOf_7 : decode cX4_stepOf 7 = .ok (.iadd, 1) := dk_96 (dk_at dksX4_stepOf_0 7 rfl rfl)
theorem dX4_stepOf_8 : decode cX4_stepOf 8 = .ok (.invokevirtual 272, 3) := dk_182 1 16 (dk_at dksX4_stepOf_0 8 rfl rfl)
theorem dX4_stepOf_11 : decode cX4_stepOf 11 = .ok (.ifCond .ne 9, 3) := dk_154 0 9 (dk_at dksX4_stepOf_0 11 rfl rfl)
theorem dX4_stepOf_14 : decode cX4_stepOf 14 = .ok (.iinc 3 1, 3) := dk_132 3 1 (dk_at dksX4_stepOf_0 14 rfl rfl)
theorem dX4_stepOf_17 : decode cX4_stepOf 17 = .ok (.goto (-15), 3) := dk_167 255 241 (dk_at dksX4_stepOf_0 17 rfl rfl)
theorem dX4_stepOf_20 : decode cX4_stepOf 20 = .ok (.iload_n 3, 1) := dk_29 (dk_at dksX4_stepOf_0 20 rfl rfl)
theorem dX4_stepOf_21 : decode cX4_stepOf 21 = .ok (.ireturn, 1) := dk_172 (dk_at dksX4_stepOf_0 21 rfl rfl)
abbrev cX4_started : ByteArray := prog_32_method_43_code
def yX4_started : MethodName := ⟨RX4, "started", "(II)I"⟩
def dkwX4_started_1 : List UInt8 := [184, 0, 188, 153, 0, 12, 42, 27, 28, 182, 1, 26, 167, 0, 5, 16, 247, 172]
abbrev dktX4_started_1 : List UInt8 := dkwX4_started_1 ++ []
def dkwX4_started_0 : List UInt8 := [42, 27, 182, 1, 13, 154, 0, 7, 2, 167, 0, 30, 28, 3, 42, 180, 0, 72, 27, 46, 4, 100]
abbrev dktX4_started_0 : List UInt8 := dkwX4_started_0 ++ dktX4_started_1
theorem dksX4_started_0 : cX4_started.data.toList.drop 0 = dktX4_started_0 := by decide +kernel
theorem dksX4_started_1 : cX4_started.data.toList.drop 22 = dktX4_started_1 := dk_seg dksX4_started_0 22 rfl rfl
theorem dX4_started_0 : decode cX4_started 0 = .ok (.aload_n 0, 1) := dk_42 (dk_at dksX4_started_0 0 rfl rfl)
theorem dX4_started_1 : decode cX4_started 1 = .ok (.iload_n 1, 1) := dk_27 (dk_at dksX4_started_0 1 rfl rfl)
theorem dX4_started_2 : decode cX4_started 2 = .ok (.invokevirtual 269, 3) := dk_182 1 13 (dk_at dksX4_started_0 2 rfl rfl)
theorem dX4_started_5 : decode cX4_started 5 = .ok (.ifCond .ne 7, 3) := dk_154 0 7 (dk_at dksX4_started_0 5 rfl rfl)
theorem dX4_started_8 : decode cX4_started 8 = .ok (.iconst (-1), 1) := dk_2 (dk_at dksX4_started_0 8 rfl rfl)
theorem dX4_started_9 : decode cX4_started 9 = .ok (.goto 30, 3) := dk_167 0 30 (dk_at dksX4_started_0 9 rfl rfl)
theorem dX4_started_12 : decode cX4_started 12 = .ok (.iload_n 2, 1) := dk_28 (dk_at dksX4_started_0 12 rfl rfl)
theorem dX4_started_13 : decode cX4_started 13 = .ok (.iconst 0, 1) := dk_3 (dk_at dksX4_started_0 13 rfl rfl)
theorem dX4_started_14 : decode cX4_started 14 = .ok (.aload_n 0, 1) := dk_42 (dk_at dksX4_started_0 14 rfl rfl)
theorem dX4_started_15 : decode cX4_started 15 = .ok (.getfield 72, 3) := dk_180 0 72 (dk_at dksX4_started_0 15 rfl rfl)
theorem dX4_started_18 : decode cX4_started 18 = .ok (.iload_n 1, 1) := dk_27 (dk_at dksX4_started_0 18 rfl rfl)
theorem dX4_started_19 : decode cX4_started 19 = .ok (.iaload, 1) := dk_46 (dk_at dksX4_started_0 19 rfl rfl)
theorem dX4_started_20 : decode cX4_started 20 = .ok (.iconst 1, 1) := dk_4 (dk_at dksX4_started_0 20 rfl rfl)
theorem dX4_started_21 : decode cX4_started 21 = .ok (.isub, 1) := dk_100 (dk_at dksX4_started_0 21 rfl rfl)
theorem dX4_started_22 : decode cX4_started 22 = .ok (.invokestatic 188, 3) := dk_184 0 188 (dk_at dksX4_started_1 0 rfl rfl)
theorem dX4_started_25 : decode cX4_started 25 = .ok (.ifCond .eq 12, 3) := dk_153 0 12 (dk_at dksX4_started_1 3 rfl rfl)
theorem dX4_started_28 : decode cX4_started 28 = .ok (.aload_n 0, 1) := dk_42 (dk_at dksX4_started_1 6 rfl rfl)
theorem dX4_started_29 : decode cX4_started 29 = .ok (.iload_n 1, 1) := dk_27 (dk_at dksX4_started_1 7 rfl rfl)
theorem dX4_started_30 : decode cX4_started 30 = .ok (.iload_n 2, 1) := dk_28 (dk_at dksX4_started_1 8 rfl rfl)
theorem dX4_started_31 : decode cX4_started 31 = .ok (.invokevirtual 282, 3) := dk_182 1 26 (dk_at dksX4_started_1 9 rfl rfl)
theorem dX4_started_34 : decode cX4_started 34 = .ok (.goto 5, 3) := dk_167 0 5 (dk_at dksX4_started_1 12 rfl rfl)
theorem dX4_started_37 : decode cX4_started 37 = .ok (.bipush (-9), 2) := dk_16 247 (dk_at dksX4_started_1 15 rfl rfl)
theorem dX4_started_39 : decode cX4_started 39 = .ok (.ireturn, 1) := dk_172 (dk_at dksX4_started_1 17 rfl rfl)
abbrev cX4_startedAt : ByteArray := prog_32_method_42_code
def yX4_startedAt : MethodName := ⟨RX4, "startedAt", "(II)I"⟩
def dkwX4_startedAt_0 : List UInt8 := [42, 180, 0, 93, 16, 24, 42, 27, 28, 182, 1, 22, 104, 28, 96, 46, 172]
abbrev dktX4_startedAt_0 : List UInt8 := dkwX4_startedAt_0 ++ []
theorem dksX4_startedAt_0 : cX4_startedAt.data.toList.drop 0 = dktX4_startedAt_0 := by decide +kernel
theorem dX4_startedAt_0 : decode cX4_startedAt 0 = .ok (.aload_n 0, 1) := dk_42 (dk_at dksX4_startedAt_0 0 rfl rfl)
theorem dX4_startedAt_1 : decode cX4_startedAt 1 = .ok (.getfield 93, 3) := dk_180 0 93 (dk_at dksX4_startedAt_0 1 rfl rfl)
theorem dX4_startedAt_4 : decode cX4_startedAt 4 = .ok (.bipush 24, 2) := dk_16 24 (dk_at dksX4_startedAt_0 4 rfl rfl)
theorem dX4_startedAt_6 : decode cX4_startedAt 6 = .ok (.aload_n 0, 1) := dk_42 (dk_at dksX4_startedAt_0 6 rfl rfl)
theorem dX4_startedAt_7 : decode cX4_startedAt 7 = .ok (.iload_n 1, 1) := dk_27 (dk_at dksX4_startedAt_0 7 rfl rfl)
theorem dX4_startedAt_8 : decode cX4_startedAt 8 = .ok (.iload_n 2, 1) := dk_28 (dk_at dksX4_startedAt_0 8 rfl rfl)
theorem dX4_startedAt_9 : decode cX4_startedAt 9 = .ok (.invokevirtual 278, 3) := dk_182 1 22 (dk_at dksX4_startedAt_0 9 rfl rfl)
theorem dX4_startedAt_12 : decode cX4_startedAt 12 = .ok (.imul, 1) := dk_104 (dk_at dksX4_startedAt_0 12 rfl rfl)
theorem dX4_startedAt_13 : decode cX4_startedAt 13 = .ok (.iload_n 2, 1) := dk_28 (dk_at dksX4_startedAt_0 13 rfl rfl)
theorem dX4_startedAt_14 : decode cX4_startedAt 14 = .ok (.iadd, 1) := dk_96 (dk_at dksX4_startedAt_0 14 rfl rfl)
theorem dX4_startedAt_15 : decode cX4_startedAt 15 = .ok (.iaload, 1) := dk_46 (dk_at dksX4_startedAt_0 15 rfl rfl)
theorem dX4_startedAt_16 : decode cX4_startedAt 16 = .ok (.ireturn, 1) := dk_172 (dk_at dksX4_startedAt_0 16 rfl rfl)
abbrev cX4_object : ByteArray := prog_32_method_63_code
def yX4_object : MethodName := ⟨RX4, "object", "(I)I"⟩
def dkwX4_object_3 : List UInt8 := [132, 3, 1, 167, 255, 234, 42, 89, 180, 1, 110, 4, 96, 181, 1, 110, 42, 180, 1, 110, 4, 100, 172]
abbrev dktX4_object_3 : List UInt8 := dkwX4_object_3 ++ []
def dkwX4_object_2 : List UInt8 := [79, 3, 62, 29, 42, 180, 0, 72, 27, 46, 162, 0, 18, 42, 42, 180, 1, 110, 29, 182, 1, 104]
abbrev dktX4_object_2 : List UInt8 := dkwX4_object_2 ++ dktX4_object_3
def dkwX4_object_1 : List UInt8 := [182, 1, 113, 42, 27, 182, 1, 116, 61, 28, 156, 0, 5, 28, 172, 42, 180, 0, 114, 42, 180, 1, 110, 27]
abbrev dktX4_object_1 : List UInt8 := dkwX4_object_1 ++ dktX4_object_2
def dkwX4_object_0 : List UInt8 := [42, 27, 182, 1, 13, 154, 0, 5, 2, 172, 42, 180, 1, 110, 16, 100, 160, 0, 6, 16, 254, 172, 42]
abbrev dktX4_object_0 : List UInt8 := dkwX4_object_0 ++ dktX4_object_1
theorem dksX4_object_0 : cX4_object.data.toList.drop 0 = dktX4_object_0 := by decide +kernel
theorem dksX4_object_1 : cX4_object.data.toList.drop 23 = dktX4_object_1 := dk_seg dksX4_object_0 23 rfl rfl
theorem dksX4_object_2 : cX4_object.data.toList.drop 47 = dktX4_object_2 := dk_seg dksX4_object_1 24 rfl rfl
theorem dksX4_object_3 : cX4_object.data.toList.drop 69 = dktX4_object_3 := dk_seg dksX4_object_2 22 rfl rfl
theorem dX4_object_0 : decode cX4_object 0 = .ok (.aload_n 0, 1) := dk_42 (dk_at dksX4_object_0 0 rfl rfl)
theorem dX4_object_1 : decode cX4_object 1 = .ok (.iload_n 1, 1) := dk_27 (dk_at dksX4_object_0 1 rfl rfl)
theorem dX4_object_2 : decode cX4_object 2 = .ok (.invokevirtual 269, 3) := dk_182 1 13 (dk_at dksX4_object_0 2 rfl rfl)
theorem dX4_object_5 : decode cX4_object 5 = .ok (.ifCond .ne 5, 3) := dk_154 0 5 (dk_at dksX4_object_0 5 rfl rfl)
theorem dX4_object_8 : decode cX4_object 8 = .ok (.iconst (-1), 1) := dk_2 (dk_at dksX4_object_0 8 rfl rfl)
theorem dX4_object_9 : decode cX4_object 9 = .ok (.ireturn, 1) := dk_172 (dk_at dksX4_object_0 9 rfl rfl)
theorem dX4_object_10 : decode cX4_object 10 = .ok (.aload_n 0, 1) := dk_42 (dk_at dksX4_object_0 10 rfl rfl)
theorem dX4_object_11 : decode cX4_object 11 = .ok (.getfield 366, 3) := dk_180 1 110 (dk_at dksX4_object_0 11 rfl rfl)
theorem dX4_object_14 : decode cX4_object 14 = .ok (.bipush 100, 2) := dk_16 100 (dk_at dksX4_object_0 14 rfl rfl)
theorem dX4_object_16 : decode cX4_object 16 = .ok (.if_icmp .ne 6, 3) := dk_160 0 6 (dk_at dksX4_object_0 16 rfl rfl)
theorem dX4_object_19 : decode cX4_object 19 = .ok (.bipush (-2), 2) := dk_16 254 (dk_at dksX4_object_0 19 rfl rfl)
theorem dX4_object_21 : decode cX4_object 21 = .ok (.ireturn, 1) := dk_172 (dk_at dksX4_object_0 21 rfl rfl)
theorem dX4_object_22 : decode cX4_object 22 = .ok (.aload_n 0, 1) := dk_42 (dk_at dksX4_object_0 22 rfl rfl)
theorem dX4_object_23 : decode cX4_object 23 = .ok (.invokevirtual 369, 3) := dk_182 1 113 (dk_at dksX4_object_1 0 rfl rfl)
theorem dX4_object_26 : decode cX4_object 26 = .ok (.aload_n 0, 1) := dk_42 (dk_at dksX4_object_1 3 rfl rfl)
theorem dX4_object_27 : decode cX4_object 27 = .ok (.iload_n 1, 1) := dk_27 (dk_at dksX4_object_1 4 rfl rfl)
theorem dX4_object_28 : decode cX4_object 28 = .ok (.invokevirtual 372, 3) := dk_182 1 116 (dk_at dksX4_object_1 5 rfl rfl)
theorem dX4_object_31 : decode cX4_object 31 = .ok (.istore_n 2, 1) := dk_61 (dk_at dksX4_object_1 8 rfl rfl)
theorem dX4_object_32 : decode cX4_object 32 = .ok (.iload_n 2, 1) := dk_28 (dk_at dksX4_object_1 9 rfl rfl)
theorem dX4_object_33 : decode cX4_object 33 = .ok (.ifCond .ge 5, 3) := dk_156 0 5 (dk_at dksX4_object_1 10 rfl rfl)
theorem dX4_object_36 : decode cX4_object 36 = .ok (.iload_n 2, 1) := dk_28 (dk_at dksX4_object_1 13 rfl rfl)
theorem dX4_object_37 : decode cX4_object 37 = .ok (.ireturn, 1) := dk_172 (dk_at dksX4_object_1 14 rfl rfl)
theorem dX4_object_38 : decode cX4_object 38 = .ok (.aload_n 0, 1) := dk_42 (dk_at dksX4_object_1 15 rfl rfl)
theorem dX4_object_39 : decode cX4_object 39 = .ok (.getfield 114, 3) := dk_180 0 114 (dk_at dksX4_object_1 16 rfl rfl)
theorem dX4_object_42 : decode cX4_object 42 = .ok (.aload_n 0, 1) := dk_42 (dk_at dksX4_object_1 19 rfl rfl)
theorem dX4_object_43 : decode cX4_object 43 = .ok (.getfield 366, 3) := dk_180 1 110 (dk_at dksX4_object_1 20 rfl rfl)
theorem dX4_object_46 : decode cX4_object 46 = .ok (.iload_n 1, 1) := dk_27 (dk_at dksX4_object_1 23 rfl rfl)
theorem dX4_object_47 : decode cX4_object 47 = .ok (.iastore, 1) := dk_79 (dk_at dksX4_object_2 0 rfl rfl)
theorem dX4_object_48 : decode cX4_object 48 = .ok (.iconst 0, 1) := dk_3 (dk_at dksX4_object_2 1 rfl rfl)
theorem dX4_object_49 : decode cX4_object 49 = .ok (.istore_n 3, 1) := dk_62 (dk_at dksX4_object_2 2 rfl rfl)
theorem dX4_object_50 : decode cX4_object 50 = .ok (.iload_n 3, 1) := dk_29 (dk_at dksX4_object_2 3 rfl rfl)
theorem dX4_object_51 : decode cX4_object 51 = .ok (.aload_n 0, 1) := dk_42 (dk_at dksX4_object_2 4 rfl rfl)
theorem dX4_object_52 : decode cX4_object 52 = .ok (.getfield 72, 3) := dk_180 0 72 (dk_at dksX4_object_2 5 rfl rfl)
theorem dX4_object_55 : decode cX4_object 55 = .ok (.iload_n 1, 1) := dk_27 (dk_at dksX4_object_2 8 rfl rfl)
theorem dX4_object_56 : decode cX4_object 56 = .ok (.iaload, 1) := dk_46 (dk_at dksX4_object_2 9 rfl rfl)
theorem dX4_object_57 : decode cX4_object 57 = .ok (.if_icmp .ge 18, 3) := dk_162 0 18 (dk_at dksX4_object_2 10 rfl rfl)
theorem dX4_object_60 : decode cX4_object 60 = .ok (.aload_n 0, 1) := dk_42 (dk_at dksX4_object_2 13 rfl rfl)
theorem dX4_object_61 : decode cX4_object 61 = .ok (.aload_n 0, 1) := dk_42 (dk_at dksX4_object_2 14 rfl rfl)
theorem dX4_object_62 : decode cX4_object 62 = .ok (.getfield 366, 3) := dk_180 1 110 (dk_at dksX4_object_2 15 rfl rfl)
theorem dX4_object_65 : decode cX4_object 65 = .ok (.iload_n 3, 1) := dk_29 (dk_at dksX4_object_2 18 rfl rfl)
theorem dX4_object_66 : decode cX4_object 66 = .ok (.invokevirtual 360, 3) := dk_182 1 104 (dk_at dksX4_object_2 19 rfl rfl)
theorem dX4_object_69 : decode cX4_object 69 = .ok (.iinc 3 1, 3) := dk_132 3 1 (dk_at dksX4_object_3 0 rfl rfl)
theorem dX4_object_72 : decode cX4_object 72 = .ok (.goto (-22), 3) := dk_167 255 234 (dk_at dksX4_object_3 3 rfl rfl)
theorem dX4_object_75 : decode cX4_object 75 = .ok (.aload_n 0, 1) := dk_42 (dk_at dksX4_object_3 6 rfl rfl)
theorem dX4_object_76 : decode cX4_object 76 = .ok (.dup, 1) := dk_89 (dk_at dksX4_object_3 7 rfl rfl)
theorem dX4_object_77 : decode cX4_object 77 = .ok (.getfield 366, 3) := dk_180 1 110 (dk_at dksX4_object_3 8 rfl rfl)
theorem dX4_object_80 : decode cX4_object 80 = .ok (.iconst 1, 1) := dk_4 (dk_at dksX4_object_3 11 rfl rfl)
theorem dX4_object_81 : decode cX4_object 81 = .ok (.iadd, 1) := dk_96 (dk_at dksX4_object_3 12 rfl rfl)
theorem dX4_object_82 : decode cX4_object 82 = .ok (.putfield 366, 3) := dk_181 1 110 (dk_at dksX4_object_3 13 rfl rfl)
theorem dX4_object_85 : decode cX4_object 85 = .ok (.aload_n 0, 1) := dk_42 (dk_at dksX4_object_3 16 rfl rfl)
theorem dX4_object_86 : decode cX4_object 86 = .ok (.getfield 366, 3) := dk_180 1 110 (dk_at dksX4_object_3 17 rfl rfl)
theorem dX4_object_89 : decode cX4_object 89 = .ok (.iconst 1, 1) := dk_4 (dk_at dksX4_object_3 20 rfl rfl)
theorem dX4_object_90 : decode cX4_object 90 = .ok (.isub, 1) := dk_100 (dk_at dksX4_object_3 21 rfl rfl)
theorem dX4_object_91 : decode cX4_object 91 = .ok (.ireturn, 1) := dk_172 (dk_at dksX4_object_3 22 rfl rfl)
abbrev cX4_begins : ByteArray := prog_32_method_45_code
def yX4_begins : MethodName := ⟨RX4, "begins", "()V"⟩
def dkwX4_begins_0 : List UInt8 := [42, 3, 181, 1, 29, 42, 3, 181, 1, 32, 42, 3, 181, 1, 35, 42, 182, 1, 38, 177]
abbrev dktX4_begins_0 : List UInt8 := dkwX4_begins_0 ++ []
theorem dksX4_begins_0 : cX4_begins.data.toList.drop 0 = dktX4_begins_0 := by decide +kernel
theorem dX4_begins_0 : decode cX4_begins 0 = .ok (.aload_n 0, 1) := dk_42 (dk_at dksX4_begins_0 0 rfl rfl)
theorem dX4_begins_1 : decode cX4_begins 1 = .ok (.iconst 0, 1) := dk_3 (dk_at dksX4_begins_0 1 rfl rfl)
theorem dX4_begins_2 : decode cX4_begins 2 = .ok (.putfield 285, 3) := dk_181 1 29 (dk_at dksX4_begins_0 2 rfl rfl)
theorem dX4_begins_5 : decode cX4_begins 5 = .ok (.aload_n 0, 1) := dk_42 (dk_at dksX4_begins_0 5 rfl rfl)
theorem dX4_begins_6 : decode cX4_begins 6 = .ok (.iconst 0, 1) := dk_3 (dk_at dksX4_begins_0 6 rfl rfl)
theorem dX4_begins_7 : decode cX4_begins 7 = .ok (.putfield 288, 3) := dk_181 1 32 (dk_at dksX4_begins_0 7 rfl rfl)
theorem dX4_begins_10 : decode cX4_begins 10 = .ok (.aload_n 0, 1) := dk_42 (dk_at dksX4_begins_0 10 rfl rfl)
theorem dX4_begins_11 : decode cX4_begins 11 = .ok (.iconst 0, 1) := dk_3 (dk_at dksX4_begins_0 11 rfl rfl)
theorem dX4_begins_12 : decode cX4_begins 12 = .ok (.putfield 291, 3) := dk_181 1 35 (dk_at dksX4_begins_0 12 rfl rfl)
theorem dX4_begins_15 : decode cX4_begins 15 = .ok (.aload_n 0, 1) := dk_42 (dk_at dksX4_begins_0 15 rfl rfl)
theorem dX4_begins_16 : decode cX4_begins 16 = .ok (.invokevirtual 294, 3) := dk_182 1 38 (dk_at dksX4_begins_0 16 rfl rfl)
theorem dX4_begins_19 : decode cX4_begins 19 = .ok (.return_, 1) := dk_177 (dk_at dksX4_begins_0 19 rfl rfl)
abbrev cX4_noThrow : ByteArray := prog_32_method_46_code
def yX4_noThrow : MethodName := ⟨RX4, "noThrow", "()V"⟩
def dkwX4_noThrow_0 : List UInt8 := [42, 16, 247, 181, 0, 164, 42, 16, 247, 181, 0, 167, 42, 16, 247, 181, 0, 170, 42, 9, 181, 1, 41, 177]
abbrev dktX4_noThrow_0 : List UInt8 := dkwX4_noThrow_0 ++ []
theorem dksX4_noThrow_0 : cX4_noThrow.data.toList.drop 0 = dktX4_noThrow_0 := by decide +kernel
theorem dX4_noThrow_0 : decode cX4_noThrow 0 = .ok (.aload_n 0, 1) := dk_42 (dk_at dksX4_noThrow_0 0 rfl rfl)
theorem dX4_noThrow_1 : decode cX4_noThrow 1 = .ok (.bipush (-9), 2) := dk_16 247 (dk_at dksX4_noThrow_0 1 rfl rfl)
theorem dX4_noThrow_3 : decode cX4_noThrow 3 = .ok (.putfield 164, 3) := dk_181 0 164 (dk_at dksX4_noThrow_0 3 rfl rfl)
theorem dX4_noThrow_6 : decode cX4_noThrow 6 = .ok (.aload_n 0, 1) := dk_42 (dk_at dksX4_noThrow_0 6 rfl rfl)
theorem dX4_noThrow_7 : decode cX4_noThrow 7 = .ok (.bipush (-9), 2) := dk_16 247 (dk_at dksX4_noThrow_0 7 rfl rfl)
theorem dX4_noThrow_9 : decode cX4_noThrow 9 = .ok (.putfield 167, 3) := dk_181 0 167 (dk_at dksX4_noThrow_0 9 rfl rfl)
theorem dX4_noThrow_12 : decode cX4_noThrow 12 = .ok (.aload_n 0, 1) := dk_42 (dk_at dksX4_noThrow_0 12 rfl rfl)
theorem dX4_noThrow_13 : decode cX4_noThrow 13 = .ok (.bipush (-9), 2) := dk_16 247 (dk_at dksX4_noThrow_0 13 rfl rfl)
theorem dX4_noThrow_15 : decode cX4_noThrow 15 = .ok (.putfield 170, 3) := dk_181 0 170 (dk_at dksX4_noThrow_0 15 rfl rfl)
theorem dX4_noThrow_18 : decode cX4_noThrow 18 = .ok (.aload_n 0, 1) := dk_42 (dk_at dksX4_noThrow_0 18 rfl rfl)
theorem dX4_noThrow_19 : decode cX4_noThrow 19 = .ok (.lconst 0, 1) := dk_9 (dk_at dksX4_noThrow_0 19 rfl rfl)
theorem dX4_noThrow_20 : decode cX4_noThrow 20 = .ok (.putfield 297, 3) := dk_181 1 41 (dk_at dksX4_noThrow_0 20 rfl rfl)
theorem dX4_noThrow_23 : decode cX4_noThrow 23 = .ok (.return_, 1) := dk_177 (dk_at dksX4_noThrow_0 23 rfl rfl)
abbrev cX4_start : ByteArray := prog_32_method_61_code
def yX4_start : MethodName := ⟨RX4, "start", "(I)I"⟩
def dkwX4_start_4 : List UInt8 := [132, 2, 1, 167, 255, 163, 3, 172]
abbrev dktX4_start_4 : List UInt8 := dkwX4_start_4 ++ []
def dkwX4_start_3 : List UInt8 := [153, 0, 7, 4, 167, 0, 4, 5, 79, 42, 180, 0, 93, 29, 46, 5, 160, 0, 6, 16, 241, 172]
abbrev dktX4_start_3 : List UInt8 := dkwX4_start_3 ++ dktX4_start_4
def dkwX4_start_2 : List UInt8 := [16, 240, 172, 42, 180, 0, 93, 29, 46, 154, 0, 36, 42, 180, 0, 93, 29, 42, 21, 4, 182, 1, 101]
abbrev dktX4_start_2 : List UInt8 := dkwX4_start_2 ++ dktX4_start_3
def dkwX4_start_1 : List UInt8 := [42, 180, 0, 75, 16, 24, 27, 104, 28, 96, 46, 54, 4, 42, 180, 0, 93, 29, 46, 5, 160, 0, 6]
abbrev dktX4_start_1 : List UInt8 := dkwX4_start_1 ++ dktX4_start_2
def dkwX4_start_0 : List UInt8 := [3, 61, 28, 42, 180, 0, 72, 27, 46, 162, 0, 89, 16, 24, 42, 27, 28, 182, 1, 22, 104, 28, 96, 62]
abbrev dktX4_start_0 : List UInt8 := dkwX4_start_0 ++ dktX4_start_1
theorem dksX4_start_0 : cX4_start.data.toList.drop 0 = dktX4_start_0 := by decide +kernel
theorem dksX4_start_1 : cX4_start.data.toList.drop 24 = dktX4_start_1 := dk_seg dksX4_start_0 24 rfl rfl
theorem dksX4_start_2 : cX4_start.data.toList.drop 47 = dktX4_start_2 := dk_seg dksX4_start_1 23 rfl rfl
theorem dksX4_start_3 : cX4_start.data.toList.drop 70 = dktX4_start_3 := dk_seg dksX4_start_2 23 rfl rfl
theorem dksX4_start_4 : cX4_start.data.toList.drop 92 = dktX4_start_4 := dk_seg dksX4_start_3 22 rfl rfl
theorem dX4_start_0 : decode cX4_start 0 = .ok (.iconst 0, 1) := dk_3 (dk_at dksX4_start_0 0 rfl rfl)
theorem dX4_start_1 : decode cX4_start 1 = .ok (.istore_n 2, 1) := dk_61 (dk_at dksX4_start_0 1 rfl rfl)
theorem dX4_start_2 : decode cX4_start 2 = .ok (.iload_n 2, 1) := dk_28 (dk_at dksX4_start_0 2 rfl rfl)
theorem dX4_start_3 : decode cX4_start 3 = .ok (.aload_n 0, 1) := dk_42 (dk_at dksX4_start_0 3 rfl rfl)
theorem dX4_start_4 : decode cX4_start 4 = .ok (.getfield 72, 3) := dk_180 0 72 (dk_at dksX4_start_0 4 rfl rfl)
theorem dX4_start_7 : decode cX4_start 7 = .ok (.iload_n 1, 1) := dk_27 (dk_at dksX4_start_0 7 rfl rfl)
theorem dX4_start_8 : decode cX4_start 8 = .ok (.iaload, 1) := dk_46 (dk_at dksX4_start_0 8 rfl rfl)
theorem dX4_start_9 : decode cX4_start 9 = .ok (.if_icmp .ge 89, 3) := dk_162 0 89 (dk_at dksX4_start_0 9 rfl rfl)
theorem dX4_start_12 : decode cX4_start 12 = .ok (.bipush 24, 2) := dk_16 24 (dk_at dksX4_start_0 12 rfl rfl)
theorem dX4_start_14 : decode cX4_start 14 = .ok (.aload_n 0, 1) := dk_42 (dk_at dksX4_start_0 14 rfl rfl)
theorem dX4_start_15 : decode cX4_start 15 = .ok (.iload_n 1, 1) := dk_27 (dk_at dksX4_start_0 15 rfl rfl)
theorem dX4_start_16 : decode cX4_start 16 = .ok (.iload_n 2, 1) := dk_28 (dk_at dksX4_start_0 16 rfl rfl)
theorem dX4_start_17 : decode cX4_start 17 = .ok (.invokevirtual 278, 3) := dk_182 1 22 (dk_at dksX4_start_0 17 rfl rfl)
theorem dX4_start_20 : decode cX4_start 20 = .ok (.imul, 1) := dk_104 (dk_at dksX4_start_0 20 rfl rfl)
theorem dX4_start_21 : decode cX4_start 21 = .ok (.iload_n 2, 1) := dk_28 (dk_at dksX4_start_0 21 rfl rfl)
theorem dX4_start_22 : decode cX4_start 22 = .ok (.iadd, 1) := dk_96 (dk_at dksX4_start_0 22 rfl rfl)
theorem dX4_start_23 : decode cX4_start 23 = .ok (.istore_n 3, 1) := dk_62 (dk_at dksX4_start_0 23 rfl rfl)
theorem dX4_start_24 : decode cX4_start 24 = .ok (.aload_n 0, 1) := dk_42 (dk_at dksX4_start_1 0 rfl rfl)
theorem dX4_start_25 : decode cX4_start 25 = .ok (.getfield 75, 3) := dk_180 0 75 (dk_at dksX4_start_1 1 rfl rfl)
theorem dX4_start_28 : decode cX4_start 28 = .ok (.bipush 24, 2) := dk_16 24 (dk_at dksX4_start_1 4 rfl rfl)
theorem dX4_start_30 : decode cX4_start 30 = .ok (.iload_n 1, 1) := dk_27 (dk_at dksX4_start_1 6 rfl rfl)
theorem dX4_start_31 : decode cX4_start 31 = .ok (.imul, 1) := dk_104 (dk_at dksX4_start_1 7 rfl rfl)
theorem dX4_start_32 : decode cX4_start 32 = .ok (.iload_n 2, 1) := dk_28 (dk_at dksX4_start_1 8 rfl rfl)
theorem dX4_start_33 : decode cX4_start 33 = .ok (.iadd, 1) := dk_96 (dk_at dksX4_start_1 9 rfl rfl)
theorem dX4_start_34 : decode cX4_start 34 = .ok (.iaload, 1) := dk_46 (dk_at dksX4_start_1 10 rfl rfl)
theorem dX4_start_35 : decode cX4_start 35 = .ok (.istore 4, 2) := dk_54 4 (dk_at dksX4_start_1 11 rfl rfl)
theorem dX4_start_37 : decode cX4_start 37 = .ok (.aload_n 0, 1) := dk_42 (dk_at dksX4_start_1 13 rfl rfl)
theorem dX4_start_38 : decode cX4_start 38 = .ok (.getfield 93, 3) := dk_180 0 93 (dk_at dksX4_start_1 14 rfl rfl)
theorem dX4_start_41 : decode cX4_start 41 = .ok (.iload_n 3, 1) := dk_29 (dk_at dksX4_start_1 17 rfl rfl)
theorem dX4_start_42 : decode cX4_start 42 = .ok (.iaload, 1) := dk_46 (dk_at dksX4_start_1 18 rfl rfl)
theorem dX4_start_43 : decode cX4_start 43 = .ok (.iconst 2, 1) := dk_5 (dk_at dksX4_start_1 19 rfl rfl)
theorem dX4_start_44 : decode cX4_start 44 = .ok (.if_icmp .ne 6, 3) := dk_160 0 6 (dk_at dksX4_start_1 20 rfl rfl)
theorem dX4_start_47 : decode cX4_start 47 = .ok (.bipush (-16), 2) := dk_16 240 (dk_at dksX4_start_2 0 rfl rfl)
theorem dX4_start_49 : decode cX4_start 49 = .ok (.ireturn, 1) := dk_172 (dk_at dksX4_start_2 2 rfl rfl)
theorem dX4_start_50 : decode cX4_start 50 = .ok (.aload_n 0, 1) := dk_42 (dk_at dksX4_start_2 3 rfl rfl)
theorem dX4_start_51 : decode cX4_start 51 = .ok (.getfield 93, 3) := dk_180 0 93 (dk_at dksX4_start_2 4 rfl rfl)
theorem dX4_start_54 : decode cX4_start 54 = .ok (.iload_n 3, 1) := dk_29 (dk_at dksX4_start_2 7 rfl rfl)
theorem dX4_start_55 : decode cX4_start 55 = .ok (.iaload, 1) := dk_46 (dk_at dksX4_start_2 8 rfl rfl)
theorem dX4_start_56 : decode cX4_start 56 = .ok (.ifCond .ne 36, 3) := dk_154 0 36 (dk_at dksX4_start_2 9 rfl rfl)
theorem dX4_start_59 : decode cX4_start 59 = .ok (.aload_n 0, 1) := dk_42 (dk_at dksX4_start_2 12 rfl rfl)
theorem dX4_start_60 : decode cX4_start 60 = .ok (.getfield 93, 3) := dk_180 0 93 (dk_at dksX4_start_2 13 rfl rfl)
theorem dX4_start_63 : decode cX4_start 63 = .ok (.iload_n 3, 1) := dk_29 (dk_at dksX4_start_2 16 rfl rfl)
theorem dX4_start_64 : decode cX4_start 64 = .ok (.aload_n 0, 1) := dk_42 (dk_at dksX4_start_2 17 rfl rfl)
theorem dX4_start_65 : decode cX4_start 65 = .ok (.iload 4, 2) := dk_21 4 (dk_at dksX4_start_2 18 rfl rfl)
theorem dX4_start_67 : decode cX4_start 67 = .ok (.invokevirtual 357, 3) := dk_182 1 101 (dk_at dksX4_start_2 20 rfl rfl)
theorem dX4_start_70 : decode cX4_start 70 = .ok (.ifCond .eq 7, 3) := dk_153 0 7 (dk_at dksX4_start_3 0 rfl rfl)
theorem dX4_start_73 : decode cX4_start 73 = .ok (.iconst 1, 1) := dk_4 (dk_at dksX4_start_3 3 rfl rfl)
theorem dX4_start_74 : decode cX4_start 74 = .ok (.goto 4, 3) := dk_167 0 4 (dk_at dksX4_start_3 4 rfl rfl)
theorem dX4_start_77 : decode cX4_start 77 = .ok (.iconst 2, 1) := dk_5 (dk_at dksX4_start_3 7 rfl rfl)
theorem dX4_start_78 : decode cX4_start 78 = .ok (.iastore, 1) := dk_79 (dk_at dksX4_start_3 8 rfl rfl)
theorem dX4_start_79 : decode cX4_start 79 = .ok (.aload_n 0, 1) := dk_42 (dk_at dksX4_start_3 9 rfl rfl)
theorem dX4_start_80 : decode cX4_start 80 = .ok (.getfield 93, 3) := dk_180 0 93 (dk_at dksX4_start_3 10 rfl rfl)
theorem dX4_start_83 : decode cX4_start 83 = .ok (.iload_n 3, 1) := dk_29 (dk_at dksX4_start_3 13 rfl rfl)
theorem dX4_start_84 : decode cX4_start 84 = .ok (.iaload, 1) := dk_46 (dk_at dksX4_start_3 14 rfl rfl)
theorem dX4_start_85 : decode cX4_start 85 = .ok (.iconst 2, 1) := dk_5 (dk_at dksX4_start_3 15 rfl rfl)
theorem dX4_start_86 : decode cX4_start 86 = .ok (.if_icmp .ne 6, 3) := dk_160 0 6 (dk_at dksX4_start_3 16 rfl rfl)
theorem dX4_start_89 : decode cX4_start 89 = .ok (.bipush (-15), 2) := dk_16 241 (dk_at dksX4_start_3 19 rfl rfl)
theorem dX4_start_91 : decode cX4_start 91 = .ok (.ireturn, 1) := dk_172 (dk_at dksX4_start_3 21 rfl rfl)
theorem dX4_start_92 : decode cX4_start 92 = .ok (.iinc 2 1, 3) := dk_132 2 1 (dk_at dksX4_start_4 0 rfl rfl)
theorem dX4_start_95 : decode cX4_start 95 = .ok (.goto (-93), 3) := dk_167 255 163 (dk_at dksX4_start_4 3 rfl rfl)
theorem dX4_start_98 : decode cX4_start 98 = .ok (.iconst 0, 1) := dk_3 (dk_at dksX4_start_4 6 rfl rfl)
theorem dX4_start_99 : decode cX4_start 99 = .ok (.ireturn, 1) := dk_172 (dk_at dksX4_start_4 7 rfl rfl)
abbrev cX4_isStarted : ByteArray := prog_32_method_62_code
def yX4_isStarted : MethodName := ⟨RX4, "isStarted", "(I)Z"⟩
def dkwX4_isStarted_2 : List UInt8 := [182, 1, 107, 42, 180, 1, 45, 154, 0, 7, 4, 167, 0, 4, 3, 172]
abbrev dktX4_isStarted_2 : List UInt8 := dkwX4_isStarted_2 ++ []
def dkwX4_isStarted_1 : List UInt8 := [182, 1, 104, 42, 3, 181, 1, 45, 42, 28, 16, 100, 3, 16, 247, 16, 247, 9, 182, 1, 52, 42]
abbrev dktX4_isStarted_1 : List UInt8 := dkwX4_isStarted_1 ++ dktX4_isStarted_2
def dkwX4_isStarted_0 : List UInt8 := [27, 5, 3, 184, 0, 209, 61, 42, 180, 0, 35, 28, 46, 156, 0, 5, 4, 172, 42, 16, 100, 3]
abbrev dktX4_isStarted_0 : List UInt8 := dkwX4_isStarted_0 ++ dktX4_isStarted_1
theorem dksX4_isStarted_0 : cX4_isStarted.data.toList.drop 0 = dktX4_isStarted_0 := by decide +kernel
theorem dksX4_isStarted_1 : cX4_isStarted.data.toList.drop 22 = dktX4_isStarted_1 := dk_seg dksX4_isStarted_0 22 rfl rfl
theorem dksX4_isStarted_2 : cX4_isStarted.data.toList.drop 44 = dktX4_isStarted_2 := dk_seg dksX4_isStarted_1 22 rfl rfl
theorem dX4_isStarted_0 : decode cX4_isStarted 0 = .ok (.iload_n 1, 1) := dk_27 (dk_at dksX4_isStarted_0 0 rfl rfl)
theorem dX4_isStarted_1 : decode cX4_isStarted 1 = .ok (.iconst 2, 1) := dk_5 (dk_at dksX4_isStarted_0 1 rfl rfl)
theorem dX4_isStarted_2 : decode cX4_isStarted 2 = .ok (.iconst 0, 1) := dk_3 (dk_at dksX4_isStarted_0 2 rfl rfl)
theorem dX4_isStarted_3 : decode cX4_isStarted 3 = .ok (.invokestatic 209, 3) := dk_184 0 209 (dk_at dksX4_isStarted_0 3 rfl rfl)
theorem dX4_isStarted_6 : decode cX4_isStarted 6 = .ok (.istore_n 2, 1) := dk_61 (dk_at dksX4_isStarted_0 6 rfl rfl)
theorem dX4_isStarted_7 : decode cX4_isStarted 7 = .ok (.aload_n 0, 1) := dk_42 (dk_at dksX4_isStarted_0 7 rfl rfl)
theorem dX4_isStarted_8 : decode cX4_isStarted 8 = .ok (.getfield 35, 3) := dk_180 0 35 (dk_at dksX4_isStarted_0 8 rfl rfl)
theorem dX4_isStarted_11 : decode cX4_isStarted 11 = .ok (.iload_n 2, 1) := dk_28 (dk_at dksX4_isStarted_0 11 rfl rfl)
theorem dX4_isStarted_12 : decode cX4_isStarted 12 = .ok (.iaload, 1) := dk_46 (dk_at dksX4_isStarted_0 12 rfl rfl)
theorem dX4_isStarted_13 : decode cX4_isStarted 13 = .ok (.ifCond .ge 5, 3) := dk_156 0 5 (dk_at dksX4_isStarted_0 13 rfl rfl)
theorem dX4_isStarted_16 : decode cX4_isStarted 16 = .ok (.iconst 1, 1) := dk_4 (dk_at dksX4_isStarted_0 16 rfl rfl)
theorem dX4_isStarted_17 : decode cX4_isStarted 17 = .ok (.ireturn, 1) := dk_172 (dk_at dksX4_isStarted_0 17 rfl rfl)
theorem dX4_isStarted_18 : decode cX4_isStarted 18 = .ok (.aload_n 0, 1) := dk_42 (dk_at dksX4_isStarted_0 18 rfl rfl)
theorem dX4_isStarted_19 : decode cX4_isStarted 19 = .ok (.bipush 100, 2) := dk_16 100 (dk_at dksX4_isStarted_0 19 rfl rfl)
theorem dX4_isStarted_21 : decode cX4_isStarted 21 = .ok (.iconst 0, 1) := dk_3 (dk_at dksX4_isStarted_0 21 rfl rfl)
theorem dX4_isStarted_22 : decode cX4_isStarted 22 = .ok (.invokevirtual 360, 3) := dk_182 1 104 (dk_at dksX4_isStarted_1 0 rfl rfl)
theorem dX4_isStarted_25 : decode cX4_isStarted 25 = .ok (.aload_n 0, 1) := dk_42 (dk_at dksX4_isStarted_1 3 rfl rfl)
theorem dX4_isStarted_26 : decode cX4_isStarted 26 = .ok (.iconst 0, 1) := dk_3 (dk_at dksX4_isStarted_1 4 rfl rfl)
theorem dX4_isStarted_27 : decode cX4_isStarted 27 = .ok (.putfield 301, 3) := dk_181 1 45 (dk_at dksX4_isStarted_1 5 rfl rfl)
theorem dX4_isStarted_30 : decode cX4_isStarted 30 = .ok (.aload_n 0, 1) := dk_42 (dk_at dksX4_isStarted_1 8 rfl rfl)
theorem dX4_isStarted_31 : decode cX4_isStarted 31 = .ok (.iload_n 2, 1) := dk_28 (dk_at dksX4_isStarted_1 9 rfl rfl)
theorem dX4_isStarted_32 : decode cX4_isStarted 32 = .ok (.bipush 100, 2) := dk_16 100 (dk_at dksX4_isStarted_1 10 rfl rfl)
theorem dX4_isStarted_34 : decode cX4_isStarted 34 = .ok (.iconst 0, 1) := dk_3 (dk_at dksX4_isStarted_1 12 rfl rfl)
theorem dX4_isStarted_35 : decode cX4_isStarted 35 = .ok (.bipush (-9), 2) := dk_16 247 (dk_at dksX4_isStarted_1 13 rfl rfl)
theorem dX4_isStarted_37 : decode cX4_isStarted 37 = .ok (.bipush (-9), 2) := dk_16 247 (dk_at dksX4_isStarted_1 15 rfl rfl)
theorem dX4_isStarted_39 : decode cX4_isStarted 39 = .ok (.lconst 0, 1) := dk_9 (dk_at dksX4_isStarted_1 17 rfl rfl)
theorem dX4_isStarted_40 : decode cX4_isStarted 40 = .ok (.invokevirtual 308, 3) := dk_182 1 52 (dk_at dksX4_isStarted_1 18 rfl rfl)
theorem dX4_isStarted_43 : decode cX4_isStarted 43 = .ok (.aload_n 0, 1) := dk_42 (dk_at dksX4_isStarted_1 21 rfl rfl)
theorem dX4_isStarted_44 : decode cX4_isStarted 44 = .ok (.invokevirtual 363, 3) := dk_182 1 107 (dk_at dksX4_isStarted_2 0 rfl rfl)
theorem dX4_isStarted_47 : decode cX4_isStarted 47 = .ok (.aload_n 0, 1) := dk_42 (dk_at dksX4_isStarted_2 3 rfl rfl)
theorem dX4_isStarted_48 : decode cX4_isStarted 48 = .ok (.getfield 301, 3) := dk_180 1 45 (dk_at dksX4_isStarted_2 4 rfl rfl)
theorem dX4_isStarted_51 : decode cX4_isStarted 51 = .ok (.ifCond .ne 7, 3) := dk_154 0 7 (dk_at dksX4_isStarted_2 7 rfl rfl)
theorem dX4_isStarted_54 : decode cX4_isStarted 54 = .ok (.iconst 1, 1) := dk_4 (dk_at dksX4_isStarted_2 10 rfl rfl)
theorem dX4_isStarted_55 : decode cX4_isStarted 55 = .ok (.goto 4, 3) := dk_167 0 4 (dk_at dksX4_isStarted_2 11 rfl rfl)
theorem dX4_isStarted_58 : decode cX4_isStarted 58 = .ok (.iconst 0, 1) := dk_3 (dk_at dksX4_isStarted_2 14 rfl rfl)
theorem dX4_isStarted_59 : decode cX4_isStarted 59 = .ok (.ireturn, 1) := dk_172 (dk_at dksX4_isStarted_2 15 rfl rfl)
abbrev cX4_clear : ByteArray := prog_32_method_44_code
def yX4_clear : MethodName := ⟨RX4, "clear", "(II)V"⟩
def dkwX4_clear_3 : List UInt8 := [132, 4, 1, 167, 255, 221, 177]
abbrev dktX4_clear_3 : List UInt8 := dkwX4_clear_3 ++ []
def dkwX4_clear_2 : List UInt8 := [5, 29, 104, 21, 4, 96, 16, 247, 79, 42, 180, 0, 128, 5, 29, 104, 21, 4, 96, 16, 247, 79]
abbrev dktX4_clear_2 : List UInt8 := dkwX4_clear_2 ++ dktX4_clear_3
def dkwX4_clear_1 : List UInt8 := [21, 4, 96, 9, 80, 132, 4, 1, 167, 255, 235, 3, 54, 4, 21, 4, 5, 162, 0, 35, 42, 180, 0, 121]
abbrev dktX4_clear_1 : List UInt8 := dkwX4_clear_1 ++ dktX4_clear_2
def dkwX4_clear_0 : List UInt8 := [16, 24, 27, 104, 28, 96, 62, 3, 54, 4, 21, 4, 7, 162, 0, 21, 42, 180, 0, 117, 7, 29, 104]
abbrev dktX4_clear_0 : List UInt8 := dkwX4_clear_0 ++ dktX4_clear_1
theorem dksX4_clear_0 : cX4_clear.data.toList.drop 0 = dktX4_clear_0 := by decide +kernel
theorem dksX4_clear_1 : cX4_clear.data.toList.drop 23 = dktX4_clear_1 := dk_seg dksX4_clear_0 23 rfl rfl
theorem dksX4_clear_2 : cX4_clear.data.toList.drop 47 = dktX4_clear_2 := dk_seg dksX4_clear_1 24 rfl rfl
theorem dksX4_clear_3 : cX4_clear.data.toList.drop 69 = dktX4_clear_3 := dk_seg dksX4_clear_2 22 rfl rfl
theorem dX4_clear_0 : decode cX4_clear 0 = .ok (.bipush 24, 2) := dk_16 24 (dk_at dksX4_clear_0 0 rfl rfl)
theorem dX4_clear_2 : decode cX4_clear 2 = .ok (.iload_n 1, 1) := dk_27 (dk_at dksX4_clear_0 2 rfl rfl)
theorem dX4_clear_3 : decode cX4_clear 3 = .ok (.imul, 1) := dk_104 (dk_at dksX4_clear_0 3 rfl rfl)
theorem dX4_clear_4 : decode cX4_clear 4 = .ok (.iload_n 2, 1) := dk_28 (dk_at dksX4_clear_0 4 rfl rfl)
theorem dX4_clear_5 : decode cX4_clear 5 = .ok (.iadd, 1) := dk_96 (dk_at dksX4_clear_0 5 rfl rfl)
theorem dX4_clear_6 : decode cX4_clear 6 = .ok (.istore_n 3, 1) := dk_62 (dk_at dksX4_clear_0 6 rfl rfl)
theorem dX4_clear_7 : decode cX4_clear 7 = .ok (.iconst 0, 1) := dk_3 (dk_at dksX4_clear_0 7 rfl rfl)
theorem dX4_clear_8 : decode cX4_clear 8 = .ok (.istore 4, 2) := dk_54 4 (dk_at dksX4_clear_0 8 rfl rfl)
theorem dX4_clear_10 : decode cX4_clear 10 = .ok (.iload 4, 2) := dk_21 4 (dk_at dksX4_clear_0 10 rfl rfl)
theorem dX4_clear_12 : decode cX4_clear 12 = .ok (.iconst 4, 1) := dk_7 (dk_at dksX4_clear_0 12 rfl rfl)
theorem dX4_clear_13 : decode cX4_clear 13 = .ok (.if_icmp .ge 21, 3) := dk_162 0 21 (dk_at dksX4_clear_0 13 rfl rfl)
theorem dX4_clear_16 : decode cX4_clear 16 = .ok (.aload_n 0, 1) := dk_42 (dk_at dksX4_clear_0 16 rfl rfl)
theorem dX4_clear_17 : decode cX4_clear 17 = .ok (.getfield 117, 3) := dk_180 0 117 (dk_at dksX4_clear_0 17 rfl rfl)
theorem dX4_clear_20 : decode cX4_clear 20 = .ok (.iconst 4, 1) := dk_7 (dk_at dksX4_clear_0 20 rfl rfl)
theorem dX4_clear_21 : decode cX4_clear 21 = .ok (.iload_n 3, 1) := dk_29 (dk_at dksX4_clear_0 21 rfl rfl)
theorem dX4_clear_22 : decode cX4_clear 22 = .ok (.imul, 1) := dk_104 (dk_at dksX4_clear_0 22 rfl rfl)
theorem dX4_clear_23 : decode cX4_clear 23 = .ok (.iload 4, 2) := dk_21 4 (dk_at dksX4_clear_1 0 rfl rfl)
theorem dX4_clear_25 : decode cX4_clear 25 = .ok (.iadd, 1) := dk_96 (dk_at dksX4_clear_1 2 rfl rfl)
theorem dX4_clear_26 : decode cX4_clear 26 = .ok (.lconst 0, 1) := dk_9 (dk_at dksX4_clear_1 3 rfl rfl)
theorem dX4_clear_27 : decode cX4_clear 27 = .ok (.lastore, 1) := dk_80 (dk_at dksX4_clear_1 4 rfl rfl)
theorem dX4_clear_28 : decode cX4_clear 28 = .ok (.iinc 4 1, 3) := dk_132 4 1 (dk_at dksX4_clear_1 5 rfl rfl)
theorem dX4_clear_31 : decode cX4_clear 31 = .ok (.goto (-21), 3) := dk_167 255 235 (dk_at dksX4_clear_1 8 rfl rfl)
theorem dX4_clear_34 : decode cX4_clear 34 = .ok (.iconst 0, 1) := dk_3 (dk_at dksX4_clear_1 11 rfl rfl)
theorem dX4_clear_35 : decode cX4_clear 35 = .ok (.istore 4, 2) := dk_54 4 (dk_at dksX4_clear_1 12 rfl rfl)
theorem dX4_clear_37 : decode cX4_clear 37 = .ok (.iload 4, 2) := dk_21 4 (dk_at dksX4_clear_1 14 rfl rfl)
theorem dX4_clear_39 : decode cX4_clear 39 = .ok (.iconst 2, 1) := dk_5 (dk_at dksX4_clear_1 16 rfl rfl)
theorem dX4_clear_40 : decode cX4_clear 40 = .ok (.if_icmp .ge 35, 3) := dk_162 0 35 (dk_at dksX4_clear_1 17 rfl rfl)
theorem dX4_clear_43 : decode cX4_clear 43 = .ok (.aload_n 0, 1) := dk_42 (dk_at dksX4_clear_1 20 rfl rfl)
theorem dX4_clear_44 : decode cX4_clear 44 = .ok (.getfield 121, 3) := dk_180 0 121 (dk_at dksX4_clear_1 21 rfl rfl)
theorem dX4_clear_47 : decode cX4_clear 47 = .ok (.iconst 2, 1) := dk_5 (dk_at dksX4_clear_2 0 rfl rfl)
theorem dX4_clear_48 : decode cX4_clear 48 = .ok (.iload_n 3, 1) := dk_29 (dk_at dksX4_clear_2 1 rfl rfl)
theorem dX4_clear_49 : decode cX4_clear 49 = .ok (.imul, 1) := dk_104 (dk_at dksX4_clear_2 2 rfl rfl)
theorem dX4_clear_50 : decode cX4_clear 50 = .ok (.iload 4, 2) := dk_21 4 (dk_at dksX4_clear_2 3 rfl rfl)
theorem dX4_clear_52 : decode cX4_clear 52 = .ok (.iadd, 1) := dk_96 (dk_at dksX4_clear_2 5 rfl rfl)
theorem dX4_clear_53 : decode cX4_clear 53 = .ok (.bipush (-9), 2) := dk_16 247 (dk_at dksX4_clear_2 6 rfl rfl)
theorem dX4_clear_55 : decode cX4_clear 55 = .ok (.iastore, 1) := dk_79 (dk_at dksX4_clear_2 8 rfl rfl)
theorem dX4_clear_56 : decode cX4_clear 56 = .ok (.aload_n 0, 1) := dk_42 (dk_at dksX4_clear_2 9 rfl rfl)
theorem dX4_clear_57 : decode cX4_clear 57 = .ok (.getfield 128, 3) := dk_180 0 128 (dk_at dksX4_clear_2 10 rfl rfl)
theorem dX4_clear_60 : decode cX4_clear 60 = .ok (.iconst 2, 1) := dk_5 (dk_at dksX4_clear_2 13 rfl rfl)
theorem dX4_clear_61 : decode cX4_clear 61 = .ok (.iload_n 3, 1) := dk_29 (dk_at dksX4_clear_2 14 rfl rfl)
theorem dX4_clear_62 : decode cX4_clear 62 = .ok (.imul, 1) := dk_104 (dk_at dksX4_clear_2 15 rfl rfl)
theorem dX4_clear_63 : decode cX4_clear 63 = .ok (.iload 4, 2) := dk_21 4 (dk_at dksX4_clear_2 16 rfl rfl)
theorem dX4_clear_65 : decode cX4_clear 65 = .ok (.iadd, 1) := dk_96 (dk_at dksX4_clear_2 18 rfl rfl)
theorem dX4_clear_66 : decode cX4_clear 66 = .ok (.bipush (-9), 2) := dk_16 247 (dk_at dksX4_clear_2 19 rfl rfl)
theorem dX4_clear_68 : decode cX4_clear 68 = .ok (.iastore, 1) := dk_79 (dk_at dksX4_clear_2 21 rfl rfl)
theorem dX4_clear_69 : decode cX4_clear 69 = .ok (.iinc 4 1, 3) := dk_132 4 1 (dk_at dksX4_clear_3 0 rfl rfl)
theorem dX4_clear_72 : decode cX4_clear 72 = .ok (.goto (-35), 3) := dk_167 255 221 (dk_at dksX4_clear_3 3 rfl rfl)
theorem dX4_clear_75 : decode cX4_clear 75 = .ok (.return_, 1) := dk_177 (dk_at dksX4_clear_3 6 rfl rfl)
abbrev cX4_enter : ByteArray := prog_32_method_47_code
def yX4_enter : MethodName := ⟨RX4, "enter", "(IIIIIJ)V"⟩
def dkwX4_enter_10 : List UInt8 := [181, 1, 35, 177]
abbrev dktX4_enter_10 : List UInt8 := dkwX4_enter_10 ++ []
def dkwX4_enter_9 : List UInt8 := [112, 79, 42, 180, 0, 182, 42, 180, 1, 35, 42, 180, 1, 29, 79, 42, 89, 180, 1, 35, 4, 96]
abbrev dktX4_enter_9 : List UInt8 := dkwX4_enter_9 ++ dktX4_enter_10
def dkwX4_enter_8 : List UInt8 := [42, 180, 1, 35, 27, 16, 25, 112, 16, 24, 160, 0, 8, 16, 247, 167, 0, 10, 27, 16, 25, 112, 16, 12]
abbrev dktX4_enter_8 : List UInt8 := dkwX4_enter_8 ++ dktX4_enter_9
def dkwX4_enter_7 : List UInt8 := [160, 0, 7, 5, 167, 0, 15, 27, 184, 0, 246, 153, 0, 7, 3, 167, 0, 4, 4, 79, 42, 180, 0, 179]
abbrev dktX4_enter_7 : List UInt8 := dkwX4_enter_7 ++ dktX4_enter_8
def dkwX4_enter_6 : List UInt8 := [180, 1, 35, 27, 16, 25, 108, 79, 42, 180, 0, 176, 42, 180, 1, 35, 27, 16, 25, 112, 16, 24]
abbrev dktX4_enter_6 : List UInt8 := dkwX4_enter_6 ++ dktX4_enter_7
def dkwX4_enter_5 : List UInt8 := [180, 1, 29, 4, 96, 181, 1, 29, 42, 180, 1, 35, 16, 60, 162, 0, 103, 42, 180, 0, 173, 42]
abbrev dktX4_enter_5 : List UInt8 := dkwX4_enter_5 ++ dktX4_enter_6
def dkwX4_enter_4 : List UInt8 := [180, 0, 158, 42, 180, 1, 29, 22, 6, 80, 42, 180, 0, 161, 42, 180, 1, 29, 3, 84, 42, 89]
abbrev dktX4_enter_4 : List UInt8 := dkwX4_enter_4 ++ dktX4_enter_5
def dkwX4_enter_3 : List UInt8 := [42, 180, 0, 152, 42, 180, 1, 29, 3, 79, 42, 180, 0, 155, 42, 180, 1, 29, 22, 6, 80, 42]
abbrev dktX4_enter_3 : List UInt8 := dkwX4_enter_3 ++ dktX4_enter_4
def dkwX4_enter_2 : List UInt8 := [29, 79, 42, 180, 0, 146, 42, 180, 1, 29, 21, 4, 79, 42, 180, 0, 149, 42, 180, 1, 29, 21, 5, 79]
abbrev dktX4_enter_2 : List UInt8 := dkwX4_enter_2 ++ dktX4_enter_3
def dkwX4_enter_1 : List UInt8 := [42, 180, 1, 29, 27, 79, 42, 180, 0, 140, 42, 180, 1, 29, 28, 79, 42, 180, 0, 143, 42, 180, 1, 29]
abbrev dktX4_enter_1 : List UInt8 := dkwX4_enter_1 ++ dktX4_enter_2
def dkwX4_enter_0 : List UInt8 := [42, 180, 1, 29, 16, 40, 160, 0, 14, 42, 7, 181, 1, 45, 42, 3, 181, 1, 29, 177, 42, 180, 0, 137]
abbrev dktX4_enter_0 : List UInt8 := dkwX4_enter_0 ++ dktX4_enter_1
theorem dksX4_enter_0 : cX4_enter.data.toList.drop 0 = dktX4_enter_0 := by decide +kernel
theorem dksX4_enter_1 : cX4_enter.data.toList.drop 24 = dktX4_enter_1 := dk_seg dksX4_enter_0 24 rfl rfl
theorem dksX4_enter_2 : cX4_enter.data.toList.drop 48 = dktX4_enter_2 := dk_seg dksX4_enter_1 24 rfl rfl
theorem dksX4_enter_3 : cX4_enter.data.toList.drop 72 = dktX4_enter_3 := dk_seg dksX4_enter_2 24 rfl rfl
theorem dksX4_enter_4 : cX4_enter.data.toList.drop 94 = dktX4_enter_4 := dk_seg dksX4_enter_3 22 rfl rfl
theorem dksX4_enter_5 : cX4_enter.data.toList.drop 116 = dktX4_enter_5 := dk_seg dksX4_enter_4 22 rfl rfl
theorem dksX4_enter_6 : cX4_enter.data.toList.drop 138 = dktX4_enter_6 := dk_seg dksX4_enter_5 22 rfl rfl
theorem dksX4_enter_7 : cX4_enter.data.toList.drop 160 = dktX4_enter_7 := dk_seg dksX4_enter_6 22 rfl rfl
theorem dksX4_enter_8 : cX4_enter.data.toList.drop 184 = dktX4_enter_8 := dk_seg dksX4_enter_7 24 rfl rfl
theorem dksX4_enter_9 : cX4_enter.data.toList.drop 208 = dktX4_enter_9 := dk_seg dksX4_enter_8 24 rfl rfl
theorem dksX4_enter_10 : cX4_enter.data.toList.drop 230 = dktX4_enter_10 := dk_seg dksX4_enter_9 22 rfl rfl
theorem dX4_enter_0 : decode cX4_enter 0 = .ok (.aload_n 0, 1) := dk_42 (dk_at dksX4_enter_0 0 rfl rfl)
theorem dX4_enter_1 : decode cX4_enter 1 = .ok (.getfield 285, 3) := dk_180 1 29 (dk_at dksX4_enter_0 1 rfl rfl)
theorem dX4_enter_4 : decode cX4_enter 4 = .ok (.bipush 40, 2) := dk_16 40 (dk_at dksX4_enter_0 4 rfl rfl)
theorem dX4_enter_6 : decode cX4_enter 6 = .ok (.if_icmp .ne 14, 3) := dk_160 0 14 (dk_at dksX4_enter_0 6 rfl rfl)
theorem dX4_enter_9 : decode cX4_enter 9 = .ok (.aload_n 0, 1) := dk_42 (dk_at dksX4_enter_0 9 rfl rfl)
theorem dX4_enter_10 : decode cX4_enter 10 = .ok (.iconst 4, 1) := dk_7 (dk_at dksX4_enter_0 10 rfl rfl)
theorem dX4_enter_11 : decode cX4_enter 11 = .ok (.putfield 301, 3) := dk_181 1 45 (dk_at dksX4_enter_0 11 rfl rfl)
theorem dX4_enter_14 : decode cX4_enter 14 = .ok (.aload_n 0, 1) := dk_42 (dk_at dksX4_enter_0 14 rfl rfl)
theorem dX4_enter_15 : decode cX4_enter 15 = .ok (.iconst 0, 1) := dk_3 (dk_at dksX4_enter_0 15 rfl rfl)
theorem dX4_enter_16 : decode cX4_enter 16 = .ok (.putfield 285, 3) := dk_181 1 29 (dk_at dksX4_enter_0 16 rfl rfl)
theorem dX4_enter_19 : decode cX4_enter 19 = .ok (.return_, 1) := dk_177 (dk_at dksX4_enter_0 19 rfl rfl)
theorem dX4_enter_20 : decode cX4_enter 20 = .ok (.aload_n 0, 1) := dk_42 (dk_at dksX4_enter_0 20 rfl rfl)
theorem dX4_enter_21 : decode cX4_enter 21 = .ok (.getfield 137, 3) := dk_180 0 137 (dk_at dksX4_enter_0 21 rfl rfl)
theorem dX4_enter_24 : decode cX4_enter 24 = .ok (.aload_n 0, 1) := dk_42 (dk_at dksX4_enter_1 0 rfl rfl)
theorem dX4_enter_25 : decode cX4_enter 25 = .ok (.getfield 285, 3) := dk_180 1 29 (dk_at dksX4_enter_1 1 rfl rfl)
theorem dX4_enter_28 : decode cX4_enter 28 = .ok (.iload_n 1, 1) := dk_27 (dk_at dksX4_enter_1 4 rfl rfl)
theorem dX4_enter_29 : decode cX4_enter 29 = .ok (.iastore, 1) := dk_79 (dk_at dksX4_enter_1 5 rfl rfl)
theorem dX4_enter_30 : decode cX4_enter 30 = .ok (.aload_n 0, 1) := dk_42 (dk_at dksX4_enter_1 6 rfl rfl)
theorem dX4_enter_31 : decode cX4_enter 31 = .ok (.getfield 140, 3) := dk_180 0 140 (dk_at dksX4_enter_1 7 rfl rfl)
theorem dX4_enter_34 : decode cX4_enter 34 = .ok (.aload_n 0, 1) := dk_42 (dk_at dksX4_enter_1 10 rfl rfl)
theorem dX4_enter_35 : decode cX4_enter 35 = .ok (.getfield 285, 3) := dk_180 1 29 (dk_at dksX4_enter_1 11 rfl rfl)
theorem dX4_enter_38 : decode cX4_enter 38 = .ok (.iload_n 2, 1) := dk_28 (dk_at dksX4_enter_1 14 rfl rfl)
theorem dX4_enter_39 : decode cX4_enter 39 = .ok (.iastore, 1) := dk_79 (dk_at dksX4_enter_1 15 rfl rfl)
theorem dX4_enter_40 : decode cX4_enter 40 = .ok (.aload_n 0, 1) := dk_42 (dk_at dksX4_enter_1 16 rfl rfl)
theorem dX4_enter_41 : decode cX4_enter 41 = .ok (.getfield 143, 3) := dk_180 0 143 (dk_at dksX4_enter_1 17 rfl rfl)
theorem dX4_enter_44 : decode cX4_enter 44 = .ok (.aload_n 0, 1) := dk_42 (dk_at dksX4_enter_1 20 rfl rfl)
theorem dX4_enter_45 : decode cX4_enter 45 = .ok (.getfield 285, 3) := dk_180 1 29 (dk_at dksX4_enter_1 21 rfl rfl)
theorem dX4_enter_48 : decode cX4_enter 48 = .ok (.iload_n 3, 1) := dk_29 (dk_at dksX4_enter_2 0 rfl rfl)
theorem dX4_enter_49 : decode cX4_enter 49 = .ok (.iastore, 1) := dk_79 (dk_at dksX4_enter_2 1 rfl rfl)
theorem dX4_enter_50 : decode cX4_enter 50 = .ok (.aload_n 0, 1) := dk_42 (dk_at dksX4_enter_2 2 rfl rfl)
theorem dX4_enter_51 : decode cX4_enter 51 = .ok (.getfield 146, 3) := dk_180 0 146 (dk_at dksX4_enter_2 3 rfl rfl)
theorem dX4_enter_54 : decode cX4_enter 54 = .ok (.aload_n 0, 1) := dk_42 (dk_at dksX4_enter_2 6 rfl rfl)
theorem dX4_enter_55 : decode cX4_enter 55 = .ok (.getfield 285, 3) := dk_180 1 29 (dk_at dksX4_enter_2 7 rfl rfl)
theorem dX4_enter_58 : decode cX4_enter 58 = .ok (.iload 4, 2) := dk_21 4 (dk_at dksX4_enter_2 10 rfl rfl)
theorem dX4_enter_60 : decode cX4_enter 60 = .ok (.iastore, 1) := dk_79 (dk_at dksX4_enter_2 12 rfl rfl)
theorem dX4_enter_61 : decode cX4_enter 61 = .ok (.aload_n 0, 1) := dk_42 (dk_at dksX4_enter_2 13 rfl rfl)
theorem dX4_enter_62 : decode cX4_enter 62 = .ok (.getfield 149, 3) := dk_180 0 149 (dk_at dksX4_enter_2 14 rfl rfl)
theorem dX4_enter_65 : decode cX4_enter 65 = .ok (.aload_n 0, 1) := dk_42 (dk_at dksX4_enter_2 17 rfl rfl)
theorem dX4_enter_66 : decode cX4_enter 66 = .ok (.getfield 285, 3) := dk_180 1 29 (dk_at dksX4_enter_2 18 rfl rfl)
theorem dX4_enter_69 : decode cX4_enter 69 = .ok (.iload 5, 2) := dk_21 5 (dk_at dksX4_enter_2 21 rfl rfl)
theorem dX4_enter_71 : decode cX4_enter 71 = .ok (.iastore, 1) := dk_79 (dk_at dksX4_enter_2 23 rfl rfl)
theorem dX4_enter_72 : decode cX4_enter 72 = .ok (.aload_n 0, 1) := dk_42 (dk_at dksX4_enter_3 0 rfl rfl)
theorem dX4_enter_73 : decode cX4_enter 73 = .ok (.getfield 152, 3) := dk_180 0 152 (dk_at dksX4_enter_3 1 rfl rfl)
theorem dX4_enter_76 : decode cX4_enter 76 = .ok (.aload_n 0, 1) := dk_42 (dk_at dksX4_enter_3 4 rfl rfl)
theorem dX4_enter_77 : decode cX4_enter 77 = .ok (.getfield 285, 3) := dk_180 1 29 (dk_at dksX4_enter_3 5 rfl rfl)
theorem dX4_enter_80 : decode cX4_enter 80 = .ok (.iconst 0, 1) := dk_3 (dk_at dksX4_enter_3 8 rfl rfl)
theorem dX4_enter_81 : decode cX4_enter 81 = .ok (.iastore, 1) := dk_79 (dk_at dksX4_enter_3 9 rfl rfl)
theorem dX4_enter_82 : decode cX4_enter 82 = .ok (.aload_n 0, 1) := dk_42 (dk_at dksX4_enter_3 10 rfl rfl)
theorem dX4_enter_83 : decode cX4_enter 83 = .ok (.getfield 155, 3) := dk_180 0 155 (dk_at dksX4_enter_3 11 rfl rfl)
theorem dX4_enter_86 : decode cX4_enter 86 = .ok (.aload_n 0, 1) := dk_42 (dk_at dksX4_enter_3 14 rfl rfl)
theorem dX4_enter_87 : decode cX4_enter 87 = .ok (.getfield 285, 3) := dk_180 1 29 (dk_at dksX4_enter_3 15 rfl rfl)
theorem dX4_enter_90 : decode cX4_enter 90 = .ok (.lload 6, 2) := dk_22 6 (dk_at dksX4_enter_3 18 rfl rfl)
theorem dX4_enter_92 : decode cX4_enter 92 = .ok (.lastore, 1) := dk_80 (dk_at dksX4_enter_3 20 rfl rfl)
theorem dX4_enter_93 : decode cX4_enter 93 = .ok (.aload_n 0, 1) := dk_42 (dk_at dksX4_enter_3 21 rfl rfl)
theorem dX4_enter_94 : decode cX4_enter 94 = .ok (.getfield 158, 3) := dk_180 0 158 (dk_at dksX4_enter_4 0 rfl rfl)
theorem dX4_enter_97 : decode cX4_enter 97 = .ok (.aload_n 0, 1) := dk_42 (dk_at dksX4_enter_4 3 rfl rfl)
theorem dX4_enter_98 : decode cX4_enter 98 = .ok (.getfield 285, 3) := dk_180 1 29 (dk_at dksX4_enter_4 4 rfl rfl)
theorem dX4_enter_101 : decode cX4_enter 101 = .ok (.lload 6, 2) := dk_22 6 (dk_at dksX4_enter_4 7 rfl rfl)
theorem dX4_enter_103 : decode cX4_enter 103 = .ok (.lastore, 1) := dk_80 (dk_at dksX4_enter_4 9 rfl rfl)
theorem dX4_enter_104 : decode cX4_enter 104 = .ok (.aload_n 0, 1) := dk_42 (dk_at dksX4_enter_4 10 rfl rfl)
theorem dX4_enter_105 : decode cX4_enter 105 = .ok (.getfield 161, 3) := dk_180 0 161 (dk_at dksX4_enter_4 11 rfl rfl)
theorem dX4_enter_108 : decode cX4_enter 108 = .ok (.aload_n 0, 1) := dk_42 (dk_at dksX4_enter_4 14 rfl rfl)
theorem dX4_enter_109 : decode cX4_enter 109 = .ok (.getfield 285, 3) := dk_180 1 29 (dk_at dksX4_enter_4 15 rfl rfl)
theorem dX4_enter_112 : decode cX4_enter 112 = .ok (.iconst 0, 1) := dk_3 (dk_at dksX4_enter_4 18 rfl rfl)
theorem dX4_enter_113 : decode cX4_enter 113 = .ok (.bastore, 1) := dk_84 (dk_at dksX4_enter_4 19 rfl rfl)
theorem dX4_enter_114 : decode cX4_enter 114 = .ok (.aload_n 0, 1) := dk_42 (dk_at dksX4_enter_4 20 rfl rfl)
theorem dX4_enter_115 : decode cX4_enter 115 = .ok (.dup, 1) := dk_89 (dk_at dksX4_enter_4 21 rfl rfl)
theorem dX4_enter_116 : decode cX4_enter 116 = .ok (.getfield 285, 3) := dk_180 1 29 (dk_at dksX4_enter_5 0 rfl rfl)
theorem dX4_enter_119 : decode cX4_enter 119 = .ok (.iconst 1, 1) := dk_4 (dk_at dksX4_enter_5 3 rfl rfl)
theorem dX4_enter_120 : decode cX4_enter 120 = .ok (.iadd, 1) := dk_96 (dk_at dksX4_enter_5 4 rfl rfl)
theorem dX4_enter_121 : decode cX4_enter 121 = .ok (.putfield 285, 3) := dk_181 1 29 (dk_at dksX4_enter_5 5 rfl rfl)
theorem dX4_enter_124 : decode cX4_enter 124 = .ok (.aload_n 0, 1) := dk_42 (dk_at dksX4_enter_5 8 rfl rfl)
theorem dX4_enter_125 : decode cX4_enter 125 = .ok (.getfield 291, 3) := dk_180 1 35 (dk_at dksX4_enter_5 9 rfl rfl)
theorem dX4_enter_128 : decode cX4_enter 128 = .ok (.bipush 60, 2) := dk_16 60 (dk_at dksX4_enter_5 12 rfl rfl)
theorem dX4_enter_130 : decode cX4_enter 130 = .ok (.if_icmp .ge 103, 3) := dk_162 0 103 (dk_at dksX4_enter_5 14 rfl rfl)
theorem dX4_enter_133 : decode cX4_enter 133 = .ok (.aload_n 0, 1) := dk_42 (dk_at dksX4_enter_5 17 rfl rfl)
theorem dX4_enter_134 : decode cX4_enter 134 = .ok (.getfield 173, 3) := dk_180 0 173 (dk_at dksX4_enter_5 18 rfl rfl)
theorem dX4_enter_137 : decode cX4_enter 137 = .ok (.aload_n 0, 1) := dk_42 (dk_at dksX4_enter_5 21 rfl rfl)
theorem dX4_enter_138 : decode cX4_enter 138 = .ok (.getfield 291, 3) := dk_180 1 35 (dk_at dksX4_enter_6 0 rfl rfl)
theorem dX4_enter_141 : decode cX4_enter 141 = .ok (.iload_n 1, 1) := dk_27 (dk_at dksX4_enter_6 3 rfl rfl)
theorem dX4_enter_142 : decode cX4_enter 142 = .ok (.bipush 25, 2) := dk_16 25 (dk_at dksX4_enter_6 4 rfl rfl)
theorem dX4_enter_144 : decode cX4_enter 144 = .ok (.idiv, 1) := dk_108 (dk_at dksX4_enter_6 6 rfl rfl)
theorem dX4_enter_145 : decode cX4_enter 145 = .ok (.iastore, 1) := dk_79 (dk_at dksX4_enter_6 7 rfl rfl)
theorem dX4_enter_146 : decode cX4_enter 146 = .ok (.aload_n 0, 1) := dk_42 (dk_at dksX4_enter_6 8 rfl rfl)
theorem dX4_enter_147 : decode cX4_enter 147 = .ok (.getfield 176, 3) := dk_180 0 176 (dk_at dksX4_enter_6 9 rfl rfl)
theorem dX4_enter_150 : decode cX4_enter 150 = .ok (.aload_n 0, 1) := dk_42 (dk_at dksX4_enter_6 12 rfl rfl)
theorem dX4_enter_151 : decode cX4_enter 151 = .ok (.getfield 291, 3) := dk_180 1 35 (dk_at dksX4_enter_6 13 rfl rfl)
theorem dX4_enter_154 : decode cX4_enter 154 = .ok (.iload_n 1, 1) := dk_27 (dk_at dksX4_enter_6 16 rfl rfl)
theorem dX4_enter_155 : decode cX4_enter 155 = .ok (.bipush 25, 2) := dk_16 25 (dk_at dksX4_enter_6 17 rfl rfl)
theorem dX4_enter_157 : decode cX4_enter 157 = .ok (.irem, 1) := dk_112 (dk_at dksX4_enter_6 19 rfl rfl)
theorem dX4_enter_158 : decode cX4_enter 158 = .ok (.bipush 24, 2) := dk_16 24 (dk_at dksX4_enter_6 20 rfl rfl)
theorem dX4_enter_160 : decode cX4_enter 160 = .ok (.if_icmp .ne 7, 3) := dk_160 0 7 (dk_at dksX4_enter_7 0 rfl rfl)
theorem dX4_enter_163 : decode cX4_enter 163 = .ok (.iconst 2, 1) := dk_5 (dk_at dksX4_enter_7 3 rfl rfl)
theorem dX4_enter_164 : decode cX4_enter 164 = .ok (.goto 15, 3) := dk_167 0 15 (dk_at dksX4_enter_7 4 rfl rfl)
theorem dX4_enter_167 : decode cX4_enter 167 = .ok (.iload_n 1, 1) := dk_27 (dk_at dksX4_enter_7 7 rfl rfl)
theorem dX4_enter_168 : decode cX4_enter 168 = .ok (.invokestatic 246, 3) := dk_184 0 246 (dk_at dksX4_enter_7 8 rfl rfl)
theorem dX4_enter_171 : decode cX4_enter 171 = .ok (.ifCond .eq 7, 3) := dk_153 0 7 (dk_at dksX4_enter_7 11 rfl rfl)
theorem dX4_enter_174 : decode cX4_enter 174 = .ok (.iconst 0, 1) := dk_3 (dk_at dksX4_enter_7 14 rfl rfl)
theorem dX4_enter_175 : decode cX4_enter 175 = .ok (.goto 4, 3) := dk_167 0 4 (dk_at dksX4_enter_7 15 rfl rfl)
theorem dX4_enter_178 : decode cX4_enter 178 = .ok (.iconst 1, 1) := dk_4 (dk_at dksX4_enter_7 18 rfl rfl)
theorem dX4_enter_179 : decode cX4_enter 179 = .ok (.iastore, 1) := dk_79 (dk_at dksX4_enter_7 19 rfl rfl)
theorem dX4_enter_180 : decode cX4_enter 180 = .ok (.aload_n 0, 1) := dk_42 (dk_at dksX4_enter_7 20 rfl rfl)
theorem dX4_enter_181 : decode cX4_enter 181 = .ok (.getfield 179, 3) := dk_180 0 179 (dk_at dksX4_enter_7 21 rfl rfl)
theorem dX4_enter_184 : decode cX4_enter 184 = .ok (.aload_n 0, 1) := dk_42 (dk_at dksX4_enter_8 0 rfl rfl)
theorem dX4_enter_185 : decode cX4_enter 185 = .ok (.getfield 291, 3) := dk_180 1 35 (dk_at dksX4_enter_8 1 rfl rfl)
theorem dX4_enter_188 : decode cX4_enter 188 = .ok (.iload_n 1, 1) := dk_27 (dk_at dksX4_enter_8 4 rfl rfl)
theorem dX4_enter_189 : decode cX4_enter 189 = .ok (.bipush 25, 2) := dk_16 25 (dk_at dksX4_enter_8 5 rfl rfl)
theorem dX4_enter_191 : decode cX4_enter 191 = .ok (.irem, 1) := dk_112 (dk_at dksX4_enter_8 7 rfl rfl)
theorem dX4_enter_192 : decode cX4_enter 192 = .ok (.bipush 24, 2) := dk_16 24 (dk_at dksX4_enter_8 8 rfl rfl)
theorem dX4_enter_194 : decode cX4_enter 194 = .ok (.if_icmp .ne 8, 3) := dk_160 0 8 (dk_at dksX4_enter_8 10 rfl rfl)
theorem dX4_enter_197 : decode cX4_enter 197 = .ok (.bipush (-9), 2) := dk_16 247 (dk_at dksX4_enter_8 13 rfl rfl)
theorem dX4_enter_199 : decode cX4_enter 199 = .ok (.goto 10, 3) := dk_167 0 10 (dk_at dksX4_enter_8 15 rfl rfl)
theorem dX4_enter_202 : decode cX4_enter 202 = .ok (.iload_n 1, 1) := dk_27 (dk_at dksX4_enter_8 18 rfl rfl)
theorem dX4_enter_203 : decode cX4_enter 203 = .ok (.bipush 25, 2) := dk_16 25 (dk_at dksX4_enter_8 19 rfl rfl)
theorem dX4_enter_205 : decode cX4_enter 205 = .ok (.irem, 1) := dk_112 (dk_at dksX4_enter_8 21 rfl rfl)
theorem dX4_enter_206 : decode cX4_enter 206 = .ok (.bipush 12, 2) := dk_16 12 (dk_at dksX4_enter_8 22 rfl rfl)
theorem dX4_enter_208 : decode cX4_enter 208 = .ok (.irem, 1) := dk_112 (dk_at dksX4_enter_9 0 rfl rfl)
theorem dX4_enter_209 : decode cX4_enter 209 = .ok (.iastore, 1) := dk_79 (dk_at dksX4_enter_9 1 rfl rfl)
theorem dX4_enter_210 : decode cX4_enter 210 = .ok (.aload_n 0, 1) := dk_42 (dk_at dksX4_enter_9 2 rfl rfl)
theorem dX4_enter_211 : decode cX4_enter 211 = .ok (.getfield 182, 3) := dk_180 0 182 (dk_at dksX4_enter_9 3 rfl rfl)
theorem dX4_enter_214 : decode cX4_enter 214 = .ok (.aload_n 0, 1) := dk_42 (dk_at dksX4_enter_9 6 rfl rfl)
theorem dX4_enter_215 : decode cX4_enter 215 = .ok (.getfield 291, 3) := dk_180 1 35 (dk_at dksX4_enter_9 7 rfl rfl)
theorem dX4_enter_218 : decode cX4_enter 218 = .ok (.aload_n 0, 1) := dk_42 (dk_at dksX4_enter_9 10 rfl rfl)
theorem dX4_enter_219 : decode cX4_enter 219 = .ok (.getfield 285, 3) := dk_180 1 29 (dk_at dksX4_enter_9 11 rfl rfl)
theorem dX4_enter_222 : decode cX4_enter 222 = .ok (.iastore, 1) := dk_79 (dk_at dksX4_enter_9 14 rfl rfl)
theorem dX4_enter_223 : decode cX4_enter 223 = .ok (.aload_n 0, 1) := dk_42 (dk_at dksX4_enter_9 15 rfl rfl)
theorem dX4_enter_224 : decode cX4_enter 224 = .ok (.dup, 1) := dk_89 (dk_at dksX4_enter_9 16 rfl rfl)
theorem dX4_enter_225 : decode cX4_enter 225 = .ok (.getfield 291, 3) := dk_180 1 35 (dk_at dksX4_enter_9 17 rfl rfl)
theorem dX4_enter_228 : decode cX4_enter 228 = .ok (.iconst 1, 1) := dk_4 (dk_at dksX4_enter_9 20 rfl rfl)
theorem dX4_enter_229 : decode cX4_enter 229 = .ok (.iadd, 1) := dk_96 (dk_at dksX4_enter_9 21 rfl rfl)
theorem dX4_enter_230 : decode cX4_enter 230 = .ok (.putfield 291, 3) := dk_181 1 35 (dk_at dksX4_enter_10 0 rfl rfl)
theorem dX4_enter_233 : decode cX4_enter 233 = .ok (.return_, 1) := dk_177 (dk_at dksX4_enter_10 3 rfl rfl)
abbrev cX4_goes : ByteArray := prog_32_method_60_code
def yX4_goes : MethodName := ⟨RX4, "goes", "()V"⟩
def dkwX4_goes_0 : List UInt8 := [42, 180, 1, 29, 158, 0, 10, 42, 182, 1, 98, 167, 255, 245, 177]
abbrev dktX4_goes_0 : List UInt8 := dkwX4_goes_0 ++ []
theorem dksX4_goes_0 : cX4_goes.data.toList.drop 0 = dktX4_goes_0 := by decide +kernel
theorem dX4_goes_0 : decode cX4_goes 0 = .ok (.aload_n 0, 1) := dk_42 (dk_at dksX4_goes_0 0 rfl rfl)
theorem dX4_goes_1 : decode cX4_goes 1 = .ok (.getfield 285, 3) := dk_180 1 29 (dk_at dksX4_goes_0 1 rfl rfl)
theorem dX4_goes_4 : decode cX4_goes 4 = .ok (.ifCond .le 10, 3) := dk_158 0 10 (dk_at dksX4_goes_0 4 rfl rfl)
theorem dX4_goes_7 : decode cX4_goes 7 = .ok (.aload_n 0, 1) := dk_42 (dk_at dksX4_goes_0 7 rfl rfl)
theorem dX4_goes_8 : decode cX4_goes 8 = .ok (.invokevirtual 354, 3) := dk_182 1 98 (dk_at dksX4_goes_0 8 rfl rfl)
theorem dX4_goes_11 : decode cX4_goes 11 = .ok (.goto (-11), 3) := dk_167 255 245 (dk_at dksX4_goes_0 11 rfl rfl)
theorem dX4_goes_14 : decode cX4_goes 14 = .ok (.return_, 1) := dk_177 (dk_at dksX4_goes_0 14 rfl rfl)
abbrev cX4_goOn : ByteArray := prog_32_method_53_code
def yX4_goOn : MethodName := ⟨RX4, "goOn", "()V"⟩
def dkwX4_goOn_7 : List UInt8 := [180, 0, 41, 29, 46, 42, 180, 0, 44, 29, 46, 42, 180, 0, 47, 29, 46, 182, 1, 67, 177]
abbrev dktX4_goOn_7 : List UInt8 := dkwX4_goOn_7 ++ []
def dkwX4_goOn_6 : List UInt8 := [42, 27, 42, 180, 0, 41, 29, 46, 42, 180, 0, 44, 29, 46, 182, 1, 63, 167, 0, 26, 42, 27, 42]
abbrev dktX4_goOn_6 : List UInt8 := dkwX4_goOn_6 ++ dktX4_goOn_7
def dkwX4_goOn_5 : List UInt8 := [46, 96, 62, 42, 180, 0, 152, 27, 92, 46, 4, 96, 79, 42, 180, 0, 41, 29, 46, 16, 9, 162, 0, 23]
abbrev dktX4_goOn_5 : List UInt8 := dkwX4_goOn_5 ++ dktX4_goOn_6
def dkwX4_goOn_4 : List UInt8 := [3, 181, 1, 29, 177, 42, 89, 180, 1, 32, 4, 96, 181, 1, 32, 16, 10, 28, 104, 42, 180, 0, 152, 27]
abbrev dktX4_goOn_4 : List UInt8 := dkwX4_goOn_4 ++ dktX4_goOn_5
def dkwX4_goOn_3 : List UInt8 := [180, 1, 29, 4, 100, 33, 80, 177, 42, 180, 1, 32, 17, 5, 220, 160, 0, 14, 42, 6, 181, 1, 45, 42]
abbrev dktX4_goOn_3 : List UInt8 := dkwX4_goOn_3 ++ dktX4_goOn_4
def dkwX4_goOn_2 : List UInt8 := [180, 1, 29, 154, 0, 16, 42, 33, 181, 1, 60, 42, 3, 181, 1, 45, 167, 0, 15, 42, 180, 0, 155, 42]
abbrev dktX4_goOn_2 : List UInt8 := dkwX4_goOn_2 ++ dktX4_goOn_3
def dkwX4_goOn_1 : List UInt8 := [28, 46, 161, 0, 53, 42, 180, 0, 155, 27, 47, 66, 42, 89, 180, 1, 29, 4, 100, 181, 1, 29, 42]
abbrev dktX4_goOn_1 : List UInt8 := dkwX4_goOn_1 ++ dktX4_goOn_2
def dkwX4_goOn_0 : List UInt8 := [42, 180, 1, 29, 4, 100, 60, 42, 180, 0, 137, 27, 46, 61, 42, 180, 0, 152, 27, 46, 42, 180, 0, 35]
abbrev dktX4_goOn_0 : List UInt8 := dkwX4_goOn_0 ++ dktX4_goOn_1
theorem dksX4_goOn_0 : cX4_goOn.data.toList.drop 0 = dktX4_goOn_0 := by decide +kernel
theorem dksX4_goOn_1 : cX4_goOn.data.toList.drop 24 = dktX4_goOn_1 := dk_seg dksX4_goOn_0 24 rfl rfl
theorem dksX4_goOn_2 : cX4_goOn.data.toList.drop 47 = dktX4_goOn_2 := dk_seg dksX4_goOn_1 23 rfl rfl
theorem dksX4_goOn_3 : cX4_goOn.data.toList.drop 71 = dktX4_goOn_3 := dk_seg dksX4_goOn_2 24 rfl rfl
theorem dksX4_goOn_4 : cX4_goOn.data.toList.drop 95 = dktX4_goOn_4 := dk_seg dksX4_goOn_3 24 rfl rfl
theorem dksX4_goOn_5 : cX4_goOn.data.toList.drop 119 = dktX4_goOn_5 := dk_seg dksX4_goOn_4 24 rfl rfl
theorem dksX4_goOn_6 : cX4_goOn.data.toList.drop 143 = dktX4_goOn_6 := dk_seg dksX4_goOn_5 24 rfl rfl
theorem dksX4_goOn_7 : cX4_goOn.data.toList.drop 166 = dktX4_goOn_7 := dk_seg dksX4_goOn_6 23 rfl rfl
theorem dX4_goOn_0 : decode cX4_goOn 0 = .ok (.aload_n 0, 1) := dk_42 (dk_at dksX4_goOn_0 0 rfl rfl)
theorem dX4_goOn_1 : decode cX4_goOn 1 = .ok (.getfield 285, 3) := dk_180 1 29 (dk_at dksX4_goOn_0 1 rfl rfl)
theorem dX4_goOn_4 : decode cX4_goOn 4 = .ok (.iconst 1, 1) := dk_4 (dk_at dksX4_goOn_0 4 rfl rfl)
theorem dX4_goOn_5 : decode cX4_goOn 5 = .ok (.isub, 1) := dk_100 (dk_at dksX4_goOn_0 5 rfl rfl)
theorem dX4_goOn_6 : decode cX4_goOn 6 = .ok (.istore_n 1, 1) := dk_60 (dk_at dksX4_goOn_0 6 rfl rfl)
theorem dX4_goOn_7 : decode cX4_goOn 7 = .ok (.aload_n 0, 1) := dk_42 (dk_at dksX4_goOn_0 7 rfl rfl)
theorem dX4_goOn_8 : decode cX4_goOn 8 = .ok (.getfield 137, 3) := dk_180 0 137 (dk_at dksX4_goOn_0 8 rfl rfl)
theorem dX4_goOn_11 : decode cX4_goOn 11 = .ok (.iload_n 1, 1) := dk_27 (dk_at dksX4_goOn_0 11 rfl rfl)
theorem dX4_goOn_12 : decode cX4_goOn 12 = .ok (.iaload, 1) := dk_46 (dk_at dksX4_goOn_0 12 rfl rfl)
theorem dX4_goOn_13 : decode cX4_goOn 13 = .ok (.istore_n 2, 1) := dk_61 (dk_at dksX4_goOn_0 13 rfl rfl)
theorem dX4_goOn_14 : decode cX4_goOn 14 = .ok (.aload_n 0, 1) := dk_42 (dk_at dksX4_goOn_0 14 rfl rfl)
theorem dX4_goOn_15 : decode cX4_goOn 15 = .ok (.getfield 152, 3) := dk_180 0 152 (dk_at dksX4_goOn_0 15 rfl rfl)
theorem dX4_goOn_18 : decode cX4_goOn 18 = .ok (.iload_n 1, 1) := dk_27 (dk_at dksX4_goOn_0 18 rfl rfl)
theorem dX4_goOn_19 : decode cX4_goOn 19 = .ok (.iaload, 1) := dk_46 (dk_at dksX4_goOn_0 19 rfl rfl)
theorem dX4_goOn_20 : decode cX4_goOn 20 = .ok (.aload_n 0, 1) := dk_42 (dk_at dksX4_goOn_0 20 rfl rfl)
theorem dX4_goOn_21 : decode cX4_goOn 21 = .ok (.getfield 35, 3) := dk_180 0 35 (dk_at dksX4_goOn_0 21 rfl rfl)
theorem dX4_goOn_24 : decode cX4_goOn 24 = .ok (.iload_n 2, 1) := dk_28 (dk_at dksX4_goOn_1 0 rfl rfl)
theorem dX4_goOn_25 : decode cX4_goOn 25 = .ok (.iaload, 1) := dk_46 (dk_at dksX4_goOn_1 1 rfl rfl)
theorem dX4_goOn_26 : decode cX4_goOn 26 = .ok (.if_icmp .lt 53, 3) := dk_161 0 53 (dk_at dksX4_goOn_1 2 rfl rfl)
theorem dX4_goOn_29 : decode cX4_goOn 29 = .ok (.aload_n 0, 1) := dk_42 (dk_at dksX4_goOn_1 5 rfl rfl)
theorem dX4_goOn_30 : decode cX4_goOn 30 = .ok (.getfield 155, 3) := dk_180 0 155 (dk_at dksX4_goOn_1 6 rfl rfl)
theorem dX4_goOn_33 : decode cX4_goOn 33 = .ok (.iload_n 1, 1) := dk_27 (dk_at dksX4_goOn_1 9 rfl rfl)
theorem dX4_goOn_34 : decode cX4_goOn 34 = .ok (.laload, 1) := dk_47 (dk_at dksX4_goOn_1 10 rfl rfl)
theorem dX4_goOn_35 : decode cX4_goOn 35 = .ok (.lstore_n 3, 1) := dk_66 (dk_at dksX4_goOn_1 11 rfl rfl)
theorem dX4_goOn_36 : decode cX4_goOn 36 = .ok (.aload_n 0, 1) := dk_42 (dk_at dksX4_goOn_1 12 rfl rfl)
theorem dX4_goOn_37 : decode cX4_goOn 37 = .ok (.dup, 1) := dk_89 (dk_at dksX4_goOn_1 13 rfl rfl)
theorem dX4_goOn_38 : decode cX4_goOn 38 = .ok (.getfield 285, 3) := dk_180 1 29 (dk_at dksX4_goOn_1 14 rfl rfl)
theorem dX4_goOn_41 : decode cX4_goOn 41 = .ok (.iconst 1, 1) := dk_4 (dk_at dksX4_goOn_1 17 rfl rfl)
theorem dX4_goOn_42 : decode cX4_goOn 42 = .ok (.isub, 1) := dk_100 (dk_at dksX4_goOn_1 18 rfl rfl)
theorem dX4_goOn_43 : decode cX4_goOn 43 = .ok (.putfield 285, 3) := dk_181 1 29 (dk_at dksX4_goOn_1 19 rfl rfl)
theorem dX4_goOn_46 : decode cX4_goOn 46 = .ok (.aload_n 0, 1) := dk_42 (dk_at dksX4_goOn_1 22 rfl rfl)
theorem dX4_goOn_47 : decode cX4_goOn 47 = .ok (.getfield 285, 3) := dk_180 1 29 (dk_at dksX4_goOn_2 0 rfl rfl)
theorem dX4_goOn_50 : decode cX4_goOn 50 = .ok (.ifCond .ne 16, 3) := dk_154 0 16 (dk_at dksX4_goOn_2 3 rfl rfl)
theorem dX4_goOn_53 : decode cX4_goOn 53 = .ok (.aload_n 0, 1) := dk_42 (dk_at dksX4_goOn_2 6 rfl rfl)
theorem dX4_goOn_54 : decode cX4_goOn 54 = .ok (.lload_n 3, 1) := dk_33 (dk_at dksX4_goOn_2 7 rfl rfl)
theorem dX4_goOn_55 : decode cX4_goOn 55 = .ok (.putfield 316, 3) := dk_181 1 60 (dk_at dksX4_goOn_2 8 rfl rfl)
theorem dX4_goOn_58 : decode cX4_goOn 58 = .ok (.aload_n 0, 1) := dk_42 (dk_at dksX4_goOn_2 11 rfl rfl)
theorem dX4_goOn_59 : decode cX4_goOn 59 = .ok (.iconst 0, 1) := dk_3 (dk_at dksX4_goOn_2 12 rfl rfl)
theorem dX4_goOn_60 : decode cX4_goOn 60 = .ok (.putfield 301, 3) := dk_181 1 45 (dk_at dksX4_goOn_2 13 rfl rfl)
theorem dX4_goOn_63 : decode cX4_goOn 63 = .ok (.goto 15, 3) := dk_167 0 15 (dk_at dksX4_goOn_2 16 rfl rfl)
theorem dX4_goOn_66 : decode cX4_goOn 66 = .ok (.aload_n 0, 1) := dk_42 (dk_at dksX4_goOn_2 19 rfl rfl)
theorem dX4_goOn_67 : decode cX4_goOn 67 = .ok (.getfield 155, 3) := dk_180 0 155 (dk_at dksX4_goOn_2 20 rfl rfl)
theorem dX4_goOn_70 : decode cX4_goOn 70 = .ok (.aload_n 0, 1) := dk_42 (dk_at dksX4_goOn_2 23 rfl rfl)
theorem dX4_goOn_71 : decode cX4_goOn 71 = .ok (.getfield 285, 3) := dk_180 1 29 (dk_at dksX4_goOn_3 0 rfl rfl)
theorem dX4_goOn_74 : decode cX4_goOn 74 = .ok (.iconst 1, 1) := dk_4 (dk_at dksX4_goOn_3 3 rfl rfl)
theorem dX4_goOn_75 : decode cX4_goOn 75 = .ok (.isub, 1) := dk_100 (dk_at dksX4_goOn_3 4 rfl rfl)
theorem dX4_goOn_76 : decode cX4_goOn 76 = .ok (.lload_n 3, 1) := dk_33 (dk_at dksX4_goOn_3 5 rfl rfl)
theorem dX4_goOn_77 : decode cX4_goOn 77 = .ok (.lastore, 1) := dk_80 (dk_at dksX4_goOn_3 6 rfl rfl)
theorem dX4_goOn_78 : decode cX4_goOn 78 = .ok (.return_, 1) := dk_177 (dk_at dksX4_goOn_3 7 rfl rfl)
theorem dX4_goOn_79 : decode cX4_goOn 79 = .ok (.aload_n 0, 1) := dk_42 (dk_at dksX4_goOn_3 8 rfl rfl)
theorem dX4_goOn_80 : decode cX4_goOn 80 = .ok (.getfield 288, 3) := dk_180 1 32 (dk_at dksX4_goOn_3 9 rfl rfl)
theorem dX4_goOn_83 : decode cX4_goOn 83 = .ok (.sipush 1500, 3) := dk_17 5 220 (dk_at dksX4_goOn_3 12 rfl rfl)
theorem dX4_goOn_86 : decode cX4_goOn 86 = .ok (.if_icmp .ne 14, 3) := dk_160 0 14 (dk_at dksX4_goOn_3 15 rfl rfl)
theorem dX4_goOn_89 : decode cX4_goOn 89 = .ok (.aload_n 0, 1) := dk_42 (dk_at dksX4_goOn_3 18 rfl rfl)
theorem dX4_goOn_90 : decode cX4_goOn 90 = .ok (.iconst 3, 1) := dk_6 (dk_at dksX4_goOn_3 19 rfl rfl)
theorem dX4_goOn_91 : decode cX4_goOn 91 = .ok (.putfield 301, 3) := dk_181 1 45 (dk_at dksX4_goOn_3 20 rfl rfl)
theorem dX4_goOn_94 : decode cX4_goOn 94 = .ok (.aload_n 0, 1) := dk_42 (dk_at dksX4_goOn_3 23 rfl rfl)
theorem dX4_goOn_95 : decode cX4_goOn 95 = .ok (.iconst 0, 1) := dk_3 (dk_at dksX4_goOn_4 0 rfl rfl)
theorem dX4_goOn_96 : decode cX4_goOn 96 = .ok (.putfield 285, 3) := dk_181 1 29 (dk_at dksX4_goOn_4 1 rfl rfl)
theorem dX4_goOn_99 : decode cX4_goOn 99 = .ok (.return_, 1) := dk_177 (dk_at dksX4_goOn_4 4 rfl rfl)
theorem dX4_goOn_100 : decode cX4_goOn 100 = .ok (.aload_n 0, 1) := dk_42 (dk_at dksX4_goOn_4 5 rfl rfl)
theorem dX4_goOn_101 : decode cX4_goOn 101 = .ok (.dup, 1) := dk_89 (dk_at dksX4_goOn_4 6 rfl rfl)
theorem dX4_goOn_102 : decode cX4_goOn 102 = .ok (.getfield 288, 3) := dk_180 1 32 (dk_at dksX4_goOn_4 7 rfl rfl)
theorem dX4_goOn_105 : decode cX4_goOn 105 = .ok (.iconst 1, 1) := dk_4 (dk_at dksX4_goOn_4 10 rfl rfl)
theorem dX4_goOn_106 : decode cX4_goOn 106 = .ok (.iadd, 1) := dk_96 (dk_at dksX4_goOn_4 11 rfl rfl)
theorem dX4_goOn_107 : decode cX4_goOn 107 = .ok (.putfield 288, 3) := dk_181 1 32 (dk_at dksX4_goOn_4 12 rfl rfl)
theorem dX4_goOn_110 : decode cX4_goOn 110 = .ok (.bipush 10, 2) := dk_16 10 (dk_at dksX4_goOn_4 15 rfl rfl)
theorem dX4_goOn_112 : decode cX4_goOn 112 = .ok (.iload_n 2, 1) := dk_28 (dk_at dksX4_goOn_4 17 rfl rfl)
theorem dX4_goOn_113 : decode cX4_goOn 113 = .ok (.imul, 1) := dk_104 (dk_at dksX4_goOn_4 18 rfl rfl)
theorem dX4_goOn_114 : decode cX4_goOn 114 = .ok (.aload_n 0, 1) := dk_42 (dk_at dksX4_goOn_4 19 rfl rfl)
theorem dX4_goOn_115 : decode cX4_goOn 115 = .ok (.getfield 152, 3) := dk_180 0 152 (dk_at dksX4_goOn_4 20 rfl rfl)
theorem dX4_goOn_118 : decode cX4_goOn 118 = .ok (.iload_n 1, 1) := dk_27 (dk_at dksX4_goOn_4 23 rfl rfl)
theorem dX4_goOn_119 : decode cX4_goOn 119 = .ok (.iaload, 1) := dk_46 (dk_at dksX4_goOn_5 0 rfl rfl)
theorem dX4_goOn_120 : decode cX4_goOn 120 = .ok (.iadd, 1) := dk_96 (dk_at dksX4_goOn_5 1 rfl rfl)
theorem dX4_goOn_121 : decode cX4_goOn 121 = .ok (.istore_n 3, 1) := dk_62 (dk_at dksX4_goOn_5 2 rfl rfl)
theorem dX4_goOn_122 : decode cX4_goOn 122 = .ok (.aload_n 0, 1) := dk_42 (dk_at dksX4_goOn_5 3 rfl rfl)
theorem dX4_goOn_123 : decode cX4_goOn 123 = .ok (.getfield 152, 3) := dk_180 0 152 (dk_at dksX4_goOn_5 4 rfl rfl)
theorem dX4_goOn_126 : decode cX4_goOn 126 = .ok (.iload_n 1, 1) := dk_27 (dk_at dksX4_goOn_5 7 rfl rfl)
theorem dX4_goOn_127 : decode cX4_goOn 127 = .ok (.dup2, 1) := dk_92 (dk_at dksX4_goOn_5 8 rfl rfl)
theorem dX4_goOn_128 : decode cX4_goOn 128 = .ok (.iaload, 1) := dk_46 (dk_at dksX4_goOn_5 9 rfl rfl)
theorem dX4_goOn_129 : decode cX4_goOn 129 = .ok (.iconst 1, 1) := dk_4 (dk_at dksX4_goOn_5 10 rfl rfl)
theorem dX4_goOn_130 : decode cX4_goOn 130 = .ok (.iadd, 1) := dk_96 (dk_at dksX4_goOn_5 11 rfl rfl)
theorem dX4_goOn_131 : decode cX4_goOn 131 = .ok (.iastore, 1) := dk_79 (dk_at dksX4_goOn_5 12 rfl rfl)
theorem dX4_goOn_132 : decode cX4_goOn 132 = .ok (.aload_n 0, 1) := dk_42 (dk_at dksX4_goOn_5 13 rfl rfl)
theorem dX4_goOn_133 : decode cX4_goOn 133 = .ok (.getfield 41, 3) := dk_180 0 41 (dk_at dksX4_goOn_5 14 rfl rfl)
theorem dX4_goOn_136 : decode cX4_goOn 136 = .ok (.iload_n 3, 1) := dk_29 (dk_at dksX4_goOn_5 17 rfl rfl)
theorem dX4_goOn_137 : decode cX4_goOn 137 = .ok (.iaload, 1) := dk_46 (dk_at dksX4_goOn_5 18 rfl rfl)
theorem dX4_goOn_138 : decode cX4_goOn 138 = .ok (.bipush 9, 2) := dk_16 9 (dk_at dksX4_goOn_5 19 rfl rfl)
theorem dX4_goOn_140 : decode cX4_goOn 140 = .ok (.if_icmp .ge 23, 3) := dk_162 0 23 (dk_at dksX4_goOn_5 21 rfl rfl)
theorem dX4_goOn_143 : decode cX4_goOn 143 = .ok (.aload_n 0, 1) := dk_42 (dk_at dksX4_goOn_6 0 rfl rfl)
theorem dX4_goOn_144 : decode cX4_goOn 144 = .ok (.iload_n 1, 1) := dk_27 (dk_at dksX4_goOn_6 1 rfl rfl)
theorem dX4_goOn_145 : decode cX4_goOn 145 = .ok (.aload_n 0, 1) := dk_42 (dk_at dksX4_goOn_6 2 rfl rfl)
theorem dX4_goOn_146 : decode cX4_goOn 146 = .ok (.getfield 41, 3) := dk_180 0 41 (dk_at dksX4_goOn_6 3 rfl rfl)
theorem dX4_goOn_149 : decode cX4_goOn 149 = .ok (.iload_n 3, 1) := dk_29 (dk_at dksX4_goOn_6 6 rfl rfl)
theorem dX4_goOn_150 : decode cX4_goOn 150 = .ok (.iaload, 1) := dk_46 (dk_at dksX4_goOn_6 7 rfl rfl)
theorem dX4_goOn_151 : decode cX4_goOn 151 = .ok (.aload_n 0, 1) := dk_42 (dk_at dksX4_goOn_6 8 rfl rfl)
theorem dX4_goOn_152 : decode cX4_goOn 152 = .ok (.getfield 44, 3) := dk_180 0 44 (dk_at dksX4_goOn_6 9 rfl rfl)
theorem dX4_goOn_155 : decode cX4_goOn 155 = .ok (.iload_n 3, 1) := dk_29 (dk_at dksX4_goOn_6 12 rfl rfl)
theorem dX4_goOn_156 : decode cX4_goOn 156 = .ok (.iaload, 1) := dk_46 (dk_at dksX4_goOn_6 13 rfl rfl)
theorem dX4_goOn_157 : decode cX4_goOn 157 = .ok (.invokevirtual 319, 3) := dk_182 1 63 (dk_at dksX4_goOn_6 14 rfl rfl)
theorem dX4_goOn_160 : decode cX4_goOn 160 = .ok (.goto 26, 3) := dk_167 0 26 (dk_at dksX4_goOn_6 17 rfl rfl)
theorem dX4_goOn_163 : decode cX4_goOn 163 = .ok (.aload_n 0, 1) := dk_42 (dk_at dksX4_goOn_6 20 rfl rfl)
theorem dX4_goOn_164 : decode cX4_goOn 164 = .ok (.iload_n 1, 1) := dk_27 (dk_at dksX4_goOn_6 21 rfl rfl)
theorem dX4_goOn_165 : decode cX4_goOn 165 = .ok (.aload_n 0, 1) := dk_42 (dk_at dksX4_goOn_6 22 rfl rfl)
theorem dX4_goOn_166 : decode cX4_goOn 166 = .ok (.getfield 41, 3) := dk_180 0 41 (dk_at dksX4_goOn_7 0 rfl rfl)
theorem dX4_goOn_169 : decode cX4_goOn 169 = .ok (.iload_n 3, 1) := dk_29 (dk_at dksX4_goOn_7 3 rfl rfl)
theorem dX4_goOn_170 : decode cX4_goOn 170 = .ok (.iaload, 1) := dk_46 (dk_at dksX4_goOn_7 4 rfl rfl)
theorem dX4_goOn_171 : decode cX4_goOn 171 = .ok (.aload_n 0, 1) := dk_42 (dk_at dksX4_goOn_7 5 rfl rfl)
theorem dX4_goOn_172 : decode cX4_goOn 172 = .ok (.getfield 44, 3) := dk_180 0 44 (dk_at dksX4_goOn_7 6 rfl rfl)
theorem dX4_goOn_175 : decode cX4_goOn 175 = .ok (.iload_n 3, 1) := dk_29 (dk_at dksX4_goOn_7 9 rfl rfl)
theorem dX4_goOn_176 : decode cX4_goOn 176 = .ok (.iaload, 1) := dk_46 (dk_at dksX4_goOn_7 10 rfl rfl)
theorem dX4_goOn_177 : decode cX4_goOn 177 = .ok (.aload_n 0, 1) := dk_42 (dk_at dksX4_goOn_7 11 rfl rfl)
theorem dX4_goOn_178 : decode cX4_goOn 178 = .ok (.getfield 47, 3) := dk_180 0 47 (dk_at dksX4_goOn_7 12 rfl rfl)
theorem dX4_goOn_181 : decode cX4_goOn 181 = .ok (.iload_n 3, 1) := dk_29 (dk_at dksX4_goOn_7 15 rfl rfl)
theorem dX4_goOn_182 : decode cX4_goOn 182 = .ok (.iaload, 1) := dk_46 (dk_at dksX4_goOn_7 16 rfl rfl)
theorem dX4_goOn_183 : decode cX4_goOn 183 = .ok (.invokevirtual 323, 3) := dk_182 1 67 (dk_at dksX4_goOn_7 17 rfl rfl)
theorem dX4_goOn_186 : decode cX4_goOn 186 = .ok (.return_, 1) := dk_177 (dk_at dksX4_goOn_7 20 rfl rfl)
abbrev cX4_reckon : ByteArray := prog_32_method_54_code
def yX4_reckon : MethodName := ⟨RX4, "reckon", "(III)V"⟩
def dkwX4_reckon_8 : List UInt8 := [27, 42, 180, 0, 131, 29, 47, 80, 167, 0, 15, 42, 180, 0, 131, 29, 42, 180, 0, 155, 27, 47, 80, 177]
abbrev dktX4_reckon_8 : List UInt8 := dkwX4_reckon_8 ++ []
def dkwX4_reckon_7 : List UInt8 := [182, 1, 48, 167, 0, 44, 42, 180, 0, 155, 27, 92, 47, 22, 4, 109, 80, 167, 0, 30, 42, 180, 0, 155]
abbrev dktX4_reckon_7 : List UInt8 := dkwX4_reckon_7 ++ dktX4_reckon_8
def dkwX4_reckon_6 : List UInt8 := [180, 0, 117, 42, 27, 29, 182, 1, 71, 47, 55, 4, 22, 4, 9, 148, 154, 0, 13, 42, 16, 10, 9]
abbrev dktX4_reckon_6 : List UInt8 := dkwX4_reckon_6 ++ dktX4_reckon_7
def dkwX4_reckon_5 : List UInt8 := [167, 0, 94, 42, 180, 0, 117, 42, 27, 29, 182, 1, 71, 42, 180, 0, 155, 27, 47, 80, 167, 0, 74, 42]
abbrev dktX4_reckon_5 : List UInt8 := dkwX4_reckon_5 ++ dktX4_reckon_6
def dkwX4_reckon_4 : List UInt8 := [29, 133, 105, 80, 167, 0, 114, 42, 180, 0, 155, 27, 42, 180, 0, 117, 42, 27, 29, 182, 1, 71, 47, 80]
abbrev dktX4_reckon_4 : List UInt8 := dkwX4_reckon_4 ++ dktX4_reckon_5
def dkwX4_reckon_3 : List UInt8 := [167, 0, 142, 42, 180, 0, 155, 27, 92, 47, 29, 133, 97, 80, 167, 0, 128, 42, 180, 0, 155, 27, 92, 47]
abbrev dktX4_reckon_3 : List UInt8 := dkwX4_reckon_3 ++ dktX4_reckon_4
def dkwX4_reckon_2 : List UInt8 := [42, 180, 0, 155, 27, 29, 133, 80, 167, 0, 157, 42, 180, 0, 155, 27, 42, 180, 0, 158, 27, 47, 80]
abbrev dktX4_reckon_2 : List UInt8 := dkwX4_reckon_2 ++ dktX4_reckon_3
def dkwX4_reckon_1 : List UInt8 := [170, 0, 0, 0, 0, 0, 200, 0, 0, 0, 0, 0, 0, 0, 7, 0, 0, 0, 47, 0, 0, 0, 58, 0, 0, 0, 73, 0, 0, 0, 87, 0, 0, 0, 101, 0, 0, 0, 121, 0, 0, 0, 141, 0, 0, 0, 185]
abbrev dktX4_reckon_1 : List UInt8 := dkwX4_reckon_1 ++ dktX4_reckon_2
def dkwX4_reckon_0 : List UInt8 := [28]
abbrev dktX4_reckon_0 : List UInt8 := dkwX4_reckon_0 ++ dktX4_reckon_1
theorem dksX4_reckon_0 : cX4_reckon.data.toList.drop 0 = dktX4_reckon_0 := by decide +kernel
theorem dksX4_reckon_1 : cX4_reckon.data.toList.drop 1 = dktX4_reckon_1 := dk_seg dksX4_reckon_0 1 rfl rfl
theorem dksX4_reckon_2 : cX4_reckon.data.toList.drop 48 = dktX4_reckon_2 := dk_seg dksX4_reckon_1 47 rfl rfl
theorem dksX4_reckon_3 : cX4_reckon.data.toList.drop 71 = dktX4_reckon_3 := dk_seg dksX4_reckon_2 23 rfl rfl
theorem dksX4_reckon_4 : cX4_reckon.data.toList.drop 95 = dktX4_reckon_4 := dk_seg dksX4_reckon_3 24 rfl rfl
theorem dksX4_reckon_5 : cX4_reckon.data.toList.drop 119 = dktX4_reckon_5 := dk_seg dksX4_reckon_4 24 rfl rfl
theorem dksX4_reckon_6 : cX4_reckon.data.toList.drop 143 = dktX4_reckon_6 := dk_seg dksX4_reckon_5 24 rfl rfl
theorem dksX4_reckon_7 : cX4_reckon.data.toList.drop 166 = dktX4_reckon_7 := dk_seg dksX4_reckon_6 23 rfl rfl
theorem dksX4_reckon_8 : cX4_reckon.data.toList.drop 190 = dktX4_reckon_8 := dk_seg dksX4_reckon_7 24 rfl rfl
theorem dX4_reckon_0 : decode cX4_reckon 0 = .ok (.iload_n 2, 1) := dk_28 (dk_at dksX4_reckon_0 0 rfl rfl)
theorem dX4_reckon_1 : decode cX4_reckon 1 = .ok (.tableswitch 200 0 7 #[47, 58, 73, 87, 101, 121, 141, 185], 47) := by decide +kernel
theorem dX4_reckon_48 : decode cX4_reckon 48 = .ok (.aload_n 0, 1) := dk_42 (dk_at dksX4_reckon_2 0 rfl rfl)
theorem dX4_reckon_49 : decode cX4_reckon 49 = .ok (.getfield 155, 3) := dk_180 0 155 (dk_at dksX4_reckon_2 1 rfl rfl)
theorem dX4_reckon_52 : decode cX4_reckon 52 = .ok (.iload_n 1, 1) := dk_27 (dk_at dksX4_reckon_2 4 rfl rfl)
theorem dX4_reckon_53 : decode cX4_reckon 53 = .ok (.iload_n 3, 1) := dk_29 (dk_at dksX4_reckon_2 5 rfl rfl)
theorem dX4_reckon_54 : decode cX4_reckon 54 = .ok (.i2l, 1) := dk_133 (dk_at dksX4_reckon_2 6 rfl rfl)
theorem dX4_reckon_55 : decode cX4_reckon 55 = .ok (.lastore, 1) := dk_80 (dk_at dksX4_reckon_2 7 rfl rfl)
theorem dX4_reckon_56 : decode cX4_reckon 56 = .ok (.goto 157, 3) := dk_167 0 157 (dk_at dksX4_reckon_2 8 rfl rfl)
theorem dX4_reckon_59 : decode cX4_reckon 59 = .ok (.aload_n 0, 1) := dk_42 (dk_at dksX4_reckon_2 11 rfl rfl)
theorem dX4_reckon_60 : decode cX4_reckon 60 = .ok (.getfield 155, 3) := dk_180 0 155 (dk_at dksX4_reckon_2 12 rfl rfl)
theorem dX4_reckon_63 : decode cX4_reckon 63 = .ok (.iload_n 1, 1) := dk_27 (dk_at dksX4_reckon_2 15 rfl rfl)
theorem dX4_reckon_64 : decode cX4_reckon 64 = .ok (.aload_n 0, 1) := dk_42 (dk_at dksX4_reckon_2 16 rfl rfl)
theorem dX4_reckon_65 : decode cX4_reckon 65 = .ok (.getfield 158, 3) := dk_180 0 158 (dk_at dksX4_reckon_2 17 rfl rfl)
theorem dX4_reckon_68 : decode cX4_reckon 68 = .ok (.iload_n 1, 1) := dk_27 (dk_at dksX4_reckon_2 20 rfl rfl)
theorem dX4_reckon_69 : decode cX4_reckon 69 = .ok (.laload, 1) := dk_47 (dk_at dksX4_reckon_2 21 rfl rfl)
theorem dX4_reckon_70 : decode cX4_reckon 70 = .ok (.lastore, 1) := dk_80 (dk_at dksX4_reckon_2 22 rfl rfl)
theorem dX4_reckon_71 : decode cX4_reckon 71 = .ok (.goto 142, 3) := dk_167 0 142 (dk_at dksX4_reckon_3 0 rfl rfl)
theorem dX4_reckon_74 : decode cX4_reckon 74 = .ok (.aload_n 0, 1) := dk_42 (dk_at dksX4_reckon_3 3 rfl rfl)
theorem dX4_reckon_75 : decode cX4_reckon 75 = .ok (.getfield 155, 3) := dk_180 0 155 (dk_at dksX4_reckon_3 4 rfl rfl)
theorem dX4_reckon_78 : decode cX4_reckon 78 = .ok (.iload_n 1, 1) := dk_27 (dk_at dksX4_reckon_3 7 rfl rfl)
theorem dX4_reckon_79 : decode cX4_reckon 79 = .ok (.dup2, 1) := dk_92 (dk_at dksX4_reckon_3 8 rfl rfl)
theorem dX4_reckon_80 : decode cX4_reckon 80 = .ok (.laload, 1) := dk_47 (dk_at dksX4_reckon_3 9 rfl rfl)
theorem dX4_reckon_81 : decode cX4_reckon 81 = .ok (.iload_n 3, 1) := dk_29 (dk_at dksX4_reckon_3 10 rfl rfl)
theorem dX4_reckon_82 : decode cX4_reckon 82 = .ok (.i2l, 1) := dk_133 (dk_at dksX4_reckon_3 11 rfl rfl)
theorem dX4_reckon_83 : decode cX4_reckon 83 = .ok (.ladd, 1) := dk_97 (dk_at dksX4_reckon_3 12 rfl rfl)
theorem dX4_reckon_84 : decode cX4_reckon 84 = .ok (.lastore, 1) := dk_80 (dk_at dksX4_reckon_3 13 rfl rfl)
theorem dX4_reckon_85 : decode cX4_reckon 85 = .ok (.goto 128, 3) := dk_167 0 128 (dk_at dksX4_reckon_3 14 rfl rfl)
theorem dX4_reckon_88 : decode cX4_reckon 88 = .ok (.aload_n 0, 1) := dk_42 (dk_at dksX4_reckon_3 17 rfl rfl)
theorem dX4_reckon_89 : decode cX4_reckon 89 = .ok (.getfield 155, 3) := dk_180 0 155 (dk_at dksX4_reckon_3 18 rfl rfl)
theorem dX4_reckon_92 : decode cX4_reckon 92 = .ok (.iload_n 1, 1) := dk_27 (dk_at dksX4_reckon_3 21 rfl rfl)
theorem dX4_reckon_93 : decode cX4_reckon 93 = .ok (.dup2, 1) := dk_92 (dk_at dksX4_reckon_3 22 rfl rfl)
theorem dX4_reckon_94 : decode cX4_reckon 94 = .ok (.laload, 1) := dk_47 (dk_at dksX4_reckon_3 23 rfl rfl)
theorem dX4_reckon_95 : decode cX4_reckon 95 = .ok (.iload_n 3, 1) := dk_29 (dk_at dksX4_reckon_4 0 rfl rfl)
theorem dX4_reckon_96 : decode cX4_reckon 96 = .ok (.i2l, 1) := dk_133 (dk_at dksX4_reckon_4 1 rfl rfl)
theorem dX4_reckon_97 : decode cX4_reckon 97 = .ok (.lmul, 1) := dk_105 (dk_at dksX4_reckon_4 2 rfl rfl)
theorem dX4_reckon_98 : decode cX4_reckon 98 = .ok (.lastore, 1) := dk_80 (dk_at dksX4_reckon_4 3 rfl rfl)
theorem dX4_reckon_99 : decode cX4_reckon 99 = .ok (.goto 114, 3) := dk_167 0 114 (dk_at dksX4_reckon_4 4 rfl rfl)
theorem dX4_reckon_102 : decode cX4_reckon 102 = .ok (.aload_n 0, 1) := dk_42 (dk_at dksX4_reckon_4 7 rfl rfl)
theorem dX4_reckon_103 : decode cX4_reckon 103 = .ok (.getfield 155, 3) := dk_180 0 155 (dk_at dksX4_reckon_4 8 rfl rfl)
theorem dX4_reckon_106 : decode cX4_reckon 106 = .ok (.iload_n 1, 1) := dk_27 (dk_at dksX4_reckon_4 11 rfl rfl)
theorem dX4_reckon_107 : decode cX4_reckon 107 = .ok (.aload_n 0, 1) := dk_42 (dk_at dksX4_reckon_4 12 rfl rfl)
theorem dX4_reckon_108 : decode cX4_reckon 108 = .ok (.getfield 117, 3) := dk_180 0 117 (dk_at dksX4_reckon_4 13 rfl rfl)
theorem dX4_reckon_111 : decode cX4_reckon 111 = .ok (.aload_n 0, 1) := dk_42 (dk_at dksX4_reckon_4 16 rfl rfl)
theorem dX4_reckon_112 : decode cX4_reckon 112 = .ok (.iload_n 1, 1) := dk_27 (dk_at dksX4_reckon_4 17 rfl rfl)
theorem dX4_reckon_113 : decode cX4_reckon 113 = .ok (.iload_n 3, 1) := dk_29 (dk_at dksX4_reckon_4 18 rfl rfl)
theorem dX4_reckon_114 : decode cX4_reckon 114 = .ok (.invokevirtual 327, 3) := dk_182 1 71 (dk_at dksX4_reckon_4 19 rfl rfl)
theorem dX4_reckon_117 : decode cX4_reckon 117 = .ok (.laload, 1) := dk_47 (dk_at dksX4_reckon_4 22 rfl rfl)
theorem dX4_reckon_118 : decode cX4_reckon 118 = .ok (.lastore, 1) := dk_80 (dk_at dksX4_reckon_4 23 rfl rfl)
theorem dX4_reckon_119 : decode cX4_reckon 119 = .ok (.goto 94, 3) := dk_167 0 94 (dk_at dksX4_reckon_5 0 rfl rfl)
theorem dX4_reckon_122 : decode cX4_reckon 122 = .ok (.aload_n 0, 1) := dk_42 (dk_at dksX4_reckon_5 3 rfl rfl)
theorem dX4_reckon_123 : decode cX4_reckon 123 = .ok (.getfield 117, 3) := dk_180 0 117 (dk_at dksX4_reckon_5 4 rfl rfl)
theorem dX4_reckon_126 : decode cX4_reckon 126 = .ok (.aload_n 0, 1) := dk_42 (dk_at dksX4_reckon_5 7 rfl rfl)
theorem dX4_reckon_127 : decode cX4_reckon 127 = .ok (.iload_n 1, 1) := dk_27 (dk_at dksX4_reckon_5 8 rfl rfl)
theorem dX4_reckon_128 : decode cX4_reckon 128 = .ok (.iload_n 3, 1) := dk_29 (dk_at dksX4_reckon_5 9 rfl rfl)
theorem dX4_reckon_129 : decode cX4_reckon 129 = .ok (.invokevirtual 327, 3) := dk_182 1 71 (dk_at dksX4_reckon_5 10 rfl rfl)
theorem dX4_reckon_132 : decode cX4_reckon 132 = .ok (.aload_n 0, 1) := dk_42 (dk_at dksX4_reckon_5 13 rfl rfl)
theorem dX4_reckon_133 : decode cX4_reckon 133 = .ok (.getfield 155, 3) := dk_180 0 155 (dk_at dksX4_reckon_5 14 rfl rfl)
theorem dX4_reckon_136 : decode cX4_reckon 136 = .ok (.iload_n 1, 1) := dk_27 (dk_at dksX4_reckon_5 17 rfl rfl)
theorem dX4_reckon_137 : decode cX4_reckon 137 = .ok (.laload, 1) := dk_47 (dk_at dksX4_reckon_5 18 rfl rfl)
theorem dX4_reckon_138 : decode cX4_reckon 138 = .ok (.lastore, 1) := dk_80 (dk_at dksX4_reckon_5 19 rfl rfl)
theorem dX4_reckon_139 : decode cX4_reckon 139 = .ok (.goto 74, 3) := dk_167 0 74 (dk_at dksX4_reckon_5 20 rfl rfl)
theorem dX4_reckon_142 : decode cX4_reckon 142 = .ok (.aload_n 0, 1) := dk_42 (dk_at dksX4_reckon_5 23 rfl rfl)
theorem dX4_reckon_143 : decode cX4_reckon 143 = .ok (.getfield 117, 3) := dk_180 0 117 (dk_at dksX4_reckon_6 0 rfl rfl)
theorem dX4_reckon_146 : decode cX4_reckon 146 = .ok (.aload_n 0, 1) := dk_42 (dk_at dksX4_reckon_6 3 rfl rfl)
theorem dX4_reckon_147 : decode cX4_reckon 147 = .ok (.iload_n 1, 1) := dk_27 (dk_at dksX4_reckon_6 4 rfl rfl)
theorem dX4_reckon_148 : decode cX4_reckon 148 = .ok (.iload_n 3, 1) := dk_29 (dk_at dksX4_reckon_6 5 rfl rfl)
theorem dX4_reckon_149 : decode cX4_reckon 149 = .ok (.invokevirtual 327, 3) := dk_182 1 71 (dk_at dksX4_reckon_6 6 rfl rfl)
theorem dX4_reckon_152 : decode cX4_reckon 152 = .ok (.laload, 1) := dk_47 (dk_at dksX4_reckon_6 9 rfl rfl)
theorem dX4_reckon_153 : decode cX4_reckon 153 = .ok (.lstore 4, 2) := dk_55 4 (dk_at dksX4_reckon_6 10 rfl rfl)
theorem dX4_reckon_155 : decode cX4_reckon 155 = .ok (.lload 4, 2) := dk_22 4 (dk_at dksX4_reckon_6 12 rfl rfl)
theorem dX4_reckon_157 : decode cX4_reckon 157 = .ok (.lconst 0, 1) := dk_9 (dk_at dksX4_reckon_6 14 rfl rfl)
theorem dX4_reckon_158 : decode cX4_reckon 158 = .ok (.lcmp, 1) := dk_148 (dk_at dksX4_reckon_6 15 rfl rfl)
theorem dX4_reckon_159 : decode cX4_reckon 159 = .ok (.ifCond .ne 13, 3) := dk_154 0 13 (dk_at dksX4_reckon_6 16 rfl rfl)
theorem dX4_reckon_162 : decode cX4_reckon 162 = .ok (.aload_n 0, 1) := dk_42 (dk_at dksX4_reckon_6 19 rfl rfl)
theorem dX4_reckon_163 : decode cX4_reckon 163 = .ok (.bipush 10, 2) := dk_16 10 (dk_at dksX4_reckon_6 20 rfl rfl)
theorem dX4_reckon_165 : decode cX4_reckon 165 = .ok (.lconst 0, 1) := dk_9 (dk_at dksX4_reckon_6 22 rfl rfl)
theorem dX4_reckon_166 : decode cX4_reckon 166 = .ok (.invokevirtual 304, 3) := dk_182 1 48 (dk_at dksX4_reckon_7 0 rfl rfl)
theorem dX4_reckon_169 : decode cX4_reckon 169 = .ok (.goto 44, 3) := dk_167 0 44 (dk_at dksX4_reckon_7 3 rfl rfl)
theorem dX4_reckon_172 : decode cX4_reckon 172 = .ok (.aload_n 0, 1) := dk_42 (dk_at dksX4_reckon_7 6 rfl rfl)
theorem dX4_reckon_173 : decode cX4_reckon 173 = .ok (.getfield 155, 3) := dk_180 0 155 (dk_at dksX4_reckon_7 7 rfl rfl)
theorem dX4_reckon_176 : decode cX4_reckon 176 = .ok (.iload_n 1, 1) := dk_27 (dk_at dksX4_reckon_7 10 rfl rfl)
theorem dX4_reckon_177 : decode cX4_reckon 177 = .ok (.dup2, 1) := dk_92 (dk_at dksX4_reckon_7 11 rfl rfl)
theorem dX4_reckon_178 : decode cX4_reckon 178 = .ok (.laload, 1) := dk_47 (dk_at dksX4_reckon_7 12 rfl rfl)
theorem dX4_reckon_179 : decode cX4_reckon 179 = .ok (.lload 4, 2) := dk_22 4 (dk_at dksX4_reckon_7 13 rfl rfl)
theorem dX4_reckon_181 : decode cX4_reckon 181 = .ok (.ldiv, 1) := dk_109 (dk_at dksX4_reckon_7 15 rfl rfl)
theorem dX4_reckon_182 : decode cX4_reckon 182 = .ok (.lastore, 1) := dk_80 (dk_at dksX4_reckon_7 16 rfl rfl)
theorem dX4_reckon_183 : decode cX4_reckon 183 = .ok (.goto 30, 3) := dk_167 0 30 (dk_at dksX4_reckon_7 17 rfl rfl)
theorem dX4_reckon_186 : decode cX4_reckon 186 = .ok (.aload_n 0, 1) := dk_42 (dk_at dksX4_reckon_7 20 rfl rfl)
theorem dX4_reckon_187 : decode cX4_reckon 187 = .ok (.getfield 155, 3) := dk_180 0 155 (dk_at dksX4_reckon_7 21 rfl rfl)
theorem dX4_reckon_190 : decode cX4_reckon 190 = .ok (.iload_n 1, 1) := dk_27 (dk_at dksX4_reckon_8 0 rfl rfl)
theorem dX4_reckon_191 : decode cX4_reckon 191 = .ok (.aload_n 0, 1) := dk_42 (dk_at dksX4_reckon_8 1 rfl rfl)
theorem dX4_reckon_192 : decode cX4_reckon 192 = .ok (.getfield 131, 3) := dk_180 0 131 (dk_at dksX4_reckon_8 2 rfl rfl)
theorem dX4_reckon_195 : decode cX4_reckon 195 = .ok (.iload_n 3, 1) := dk_29 (dk_at dksX4_reckon_8 5 rfl rfl)
theorem dX4_reckon_196 : decode cX4_reckon 196 = .ok (.laload, 1) := dk_47 (dk_at dksX4_reckon_8 6 rfl rfl)
theorem dX4_reckon_197 : decode cX4_reckon 197 = .ok (.lastore, 1) := dk_80 (dk_at dksX4_reckon_8 7 rfl rfl)
theorem dX4_reckon_198 : decode cX4_reckon 198 = .ok (.goto 15, 3) := dk_167 0 15 (dk_at dksX4_reckon_8 8 rfl rfl)
theorem dX4_reckon_201 : decode cX4_reckon 201 = .ok (.aload_n 0, 1) := dk_42 (dk_at dksX4_reckon_8 11 rfl rfl)
theorem dX4_reckon_202 : decode cX4_reckon 202 = .ok (.getfield 131, 3) := dk_180 0 131 (dk_at dksX4_reckon_8 12 rfl rfl)
theorem dX4_reckon_205 : decode cX4_reckon 205 = .ok (.iload_n 3, 1) := dk_29 (dk_at dksX4_reckon_8 15 rfl rfl)
theorem dX4_reckon_206 : decode cX4_reckon 206 = .ok (.aload_n 0, 1) := dk_42 (dk_at dksX4_reckon_8 16 rfl rfl)
theorem dX4_reckon_207 : decode cX4_reckon 207 = .ok (.getfield 155, 3) := dk_180 0 155 (dk_at dksX4_reckon_8 17 rfl rfl)
theorem dX4_reckon_210 : decode cX4_reckon 210 = .ok (.iload_n 1, 1) := dk_27 (dk_at dksX4_reckon_8 20 rfl rfl)
theorem dX4_reckon_211 : decode cX4_reckon 211 = .ok (.laload, 1) := dk_47 (dk_at dksX4_reckon_8 21 rfl rfl)
theorem dX4_reckon_212 : decode cX4_reckon 212 = .ok (.lastore, 1) := dk_80 (dk_at dksX4_reckon_8 22 rfl rfl)
theorem dX4_reckon_213 : decode cX4_reckon 213 = .ok (.return_, 1) := dk_177 (dk_at dksX4_reckon_8 23 rfl rfl)
abbrev cX4_cellAt : ByteArray := prog_32_method_51_code
def yX4_cellAt : MethodName := ⟨RX4, "cellAt", "(II)I"⟩
def dkwX4_cellAt_0 : List UInt8 := [7, 16, 24, 42, 180, 0, 140, 27, 46, 104, 42, 180, 0, 143, 27, 46, 96, 104, 28, 96, 172]
abbrev dktX4_cellAt_0 : List UInt8 := dkwX4_cellAt_0 ++ []
theorem dksX4_cellAt_0 : cX4_cellAt.data.toList.drop 0 = dktX4_cellAt_0 := by decide +kernel
theorem dX4_cellAt_0 : decode cX4_cellAt 0 = .ok (.iconst 4, 1) := dk_7 (dk_at dksX4_cellAt_0 0 rfl rfl)
theorem dX4_cellAt_1 : decode cX4_cellAt 1 = .ok (.bipush 24, 2) := dk_16 24 (dk_at dksX4_cellAt_0 1 rfl rfl)
theorem dX4_cellAt_3 : decode cX4_cellAt 3 = .ok (.aload_n 0, 1) := dk_42 (dk_at dksX4_cellAt_0 3 rfl rfl)
theorem dX4_cellAt_4 : decode cX4_cellAt 4 = .ok (.getfield 140, 3) := dk_180 0 140 (dk_at dksX4_cellAt_0 4 rfl rfl)
theorem dX4_cellAt_7 : decode cX4_cellAt 7 = .ok (.iload_n 1, 1) := dk_27 (dk_at dksX4_cellAt_0 7 rfl rfl)
theorem dX4_cellAt_8 : decode cX4_cellAt 8 = .ok (.iaload, 1) := dk_46 (dk_at dksX4_cellAt_0 8 rfl rfl)
theorem dX4_cellAt_9 : decode cX4_cellAt 9 = .ok (.imul, 1) := dk_104 (dk_at dksX4_cellAt_0 9 rfl rfl)
theorem dX4_cellAt_10 : decode cX4_cellAt 10 = .ok (.aload_n 0, 1) := dk_42 (dk_at dksX4_cellAt_0 10 rfl rfl)
theorem dX4_cellAt_11 : decode cX4_cellAt 11 = .ok (.getfield 143, 3) := dk_180 0 143 (dk_at dksX4_cellAt_0 11 rfl rfl)
theorem dX4_cellAt_14 : decode cX4_cellAt 14 = .ok (.iload_n 1, 1) := dk_27 (dk_at dksX4_cellAt_0 14 rfl rfl)
theorem dX4_cellAt_15 : decode cX4_cellAt 15 = .ok (.iaload, 1) := dk_46 (dk_at dksX4_cellAt_0 15 rfl rfl)
theorem dX4_cellAt_16 : decode cX4_cellAt 16 = .ok (.iadd, 1) := dk_96 (dk_at dksX4_cellAt_0 16 rfl rfl)
theorem dX4_cellAt_17 : decode cX4_cellAt 17 = .ok (.imul, 1) := dk_104 (dk_at dksX4_cellAt_0 17 rfl rfl)
theorem dX4_cellAt_18 : decode cX4_cellAt 18 = .ok (.iload_n 2, 1) := dk_28 (dk_at dksX4_cellAt_0 18 rfl rfl)
theorem dX4_cellAt_19 : decode cX4_cellAt 19 = .ok (.iadd, 1) := dk_96 (dk_at dksX4_cellAt_0 19 rfl rfl)
theorem dX4_cellAt_20 : decode cX4_cellAt 20 = .ok (.ireturn, 1) := dk_172 (dk_at dksX4_cellAt_0 20 rfl rfl)
abbrev cX4_raise : ByteArray := prog_32_method_50_code
def yX4_raise : MethodName := ⟨RX4, "raise", "(IJ)V"⟩
def dkwX4_raise_5 : List UInt8 := [167, 255, 184, 42, 4, 181, 1, 45, 177]
abbrev dktX4_raise_5 : List UInt8 := dkwX4_raise_5 ++ []
def dkwX4_raise_4 : List UInt8 := [42, 180, 0, 155, 21, 4, 32, 80, 42, 182, 1, 38, 177, 42, 89, 180, 1, 29, 4, 100, 181, 1, 29]
abbrev dktX4_raise_4 : List UInt8 := dkwX4_raise_4 ++ dktX4_raise_5
def dkwX4_raise_3 : List UInt8 := [42, 180, 0, 38, 42, 180, 0, 137, 21, 4, 46, 46, 27, 160, 0, 24, 42, 180, 0, 161, 21, 4, 4, 84]
abbrev dktX4_raise_3 : List UInt8 := dkwX4_raise_3 ++ dktX4_raise_4
def dkwX4_raise_2 : List UInt8 := [180, 1, 29, 158, 0, 71, 42, 180, 1, 29, 4, 100, 54, 4, 42, 180, 0, 161, 21, 4, 51, 154, 0, 40]
abbrev dktX4_raise_2 : List UInt8 := dkwX4_raise_2 ++ dktX4_raise_3
def dkwX4_raise_1 : List UInt8 := [181, 0, 167, 42, 42, 180, 0, 152, 21, 4, 46, 4, 100, 181, 0, 170, 42, 32, 181, 1, 41, 42]
abbrev dktX4_raise_1 : List UInt8 := dkwX4_raise_1 ++ dktX4_raise_2
def dkwX4_raise_0 : List UInt8 := [42, 180, 1, 29, 4, 100, 54, 4, 42, 27, 181, 0, 164, 42, 42, 180, 0, 137, 21, 4, 46, 16, 25, 108]
abbrev dktX4_raise_0 : List UInt8 := dkwX4_raise_0 ++ dktX4_raise_1
theorem dksX4_raise_0 : cX4_raise.data.toList.drop 0 = dktX4_raise_0 := by decide +kernel
theorem dksX4_raise_1 : cX4_raise.data.toList.drop 24 = dktX4_raise_1 := dk_seg dksX4_raise_0 24 rfl rfl
theorem dksX4_raise_2 : cX4_raise.data.toList.drop 46 = dktX4_raise_2 := dk_seg dksX4_raise_1 22 rfl rfl
theorem dksX4_raise_3 : cX4_raise.data.toList.drop 70 = dktX4_raise_3 := dk_seg dksX4_raise_2 24 rfl rfl
theorem dksX4_raise_4 : cX4_raise.data.toList.drop 94 = dktX4_raise_4 := dk_seg dksX4_raise_3 24 rfl rfl
theorem dksX4_raise_5 : cX4_raise.data.toList.drop 117 = dktX4_raise_5 := dk_seg dksX4_raise_4 23 rfl rfl
theorem dX4_raise_0 : decode cX4_raise 0 = .ok (.aload_n 0, 1) := dk_42 (dk_at dksX4_raise_0 0 rfl rfl)
theorem dX4_raise_1 : decode cX4_raise 1 = .ok (.getfield 285, 3) := dk_180 1 29 (dk_at dksX4_raise_0 1 rfl rfl)
theorem dX4_raise_4 : decode cX4_raise 4 = .ok (.iconst 1, 1) := dk_4 (dk_at dksX4_raise_0 4 rfl rfl)
theorem dX4_raise_5 : decode cX4_raise 5 = .ok (.isub, 1) := dk_100 (dk_at dksX4_raise_0 5 rfl rfl)
theorem dX4_raise_6 : decode cX4_raise 6 = .ok (.istore 4, 2) := dk_54 4 (dk_at dksX4_raise_0 6 rfl rfl)
theorem dX4_raise_8 : decode cX4_raise 8 = .ok (.aload_n 0, 1) := dk_42 (dk_at dksX4_raise_0 8 rfl rfl)
theorem dX4_raise_9 : decode cX4_raise 9 = .ok (.iload_n 1, 1) := dk_27 (dk_at dksX4_raise_0 9 rfl rfl)
theorem dX4_raise_10 : decode cX4_raise 10 = .ok (.putfield 164, 3) := dk_181 0 164 (dk_at dksX4_raise_0 10 rfl rfl)
theorem dX4_raise_13 : decode cX4_raise 13 = .ok (.aload_n 0, 1) := dk_42 (dk_at dksX4_raise_0 13 rfl rfl)
theorem dX4_raise_14 : decode cX4_raise 14 = .ok (.aload_n 0, 1) := dk_42 (dk_at dksX4_raise_0 14 rfl rfl)
theorem dX4_raise_15 : decode cX4_raise 15 = .ok (.getfield 137, 3) := dk_180 0 137 (dk_at dksX4_raise_0 15 rfl rfl)
theorem dX4_raise_18 : decode cX4_raise 18 = .ok (.iload 4, 2) := dk_21 4 (dk_at dksX4_raise_0 18 rfl rfl)
theorem dX4_raise_20 : decode cX4_raise 20 = .ok (.iaload, 1) := dk_46 (dk_at dksX4_raise_0 20 rfl rfl)
theorem dX4_raise_21 : decode cX4_raise 21 = .ok (.bipush 25, 2) := dk_16 25 (dk_at dksX4_raise_0 21 rfl rfl)
theorem dX4_raise_23 : decode cX4_raise 23 = .ok (.idiv, 1) := dk_108 (dk_at dksX4_raise_0 23 rfl rfl)
theorem dX4_raise_24 : decode cX4_raise 24 = .ok (.putfield 167, 3) := dk_181 0 167 (dk_at dksX4_raise_1 0 rfl rfl)
theorem dX4_raise_27 : decode cX4_raise 27 = .ok (.aload_n 0, 1) := dk_42 (dk_at dksX4_raise_1 3 rfl rfl)
theorem dX4_raise_28 : decode cX4_raise 28 = .ok (.aload_n 0, 1) := dk_42 (dk_at dksX4_raise_1 4 rfl rfl)
theorem dX4_raise_29 : decode cX4_raise 29 = .ok (.getfield 152, 3) := dk_180 0 152 (dk_at dksX4_raise_1 5 rfl rfl)
theorem dX4_raise_32 : decode cX4_raise 32 = .ok (.iload 4, 2) := dk_21 4 (dk_at dksX4_raise_1 8 rfl rfl)
theorem dX4_raise_34 : decode cX4_raise 34 = .ok (.iaload, 1) := dk_46 (dk_at dksX4_raise_1 10 rfl rfl)
theorem dX4_raise_35 : decode cX4_raise 35 = .ok (.iconst 1, 1) := dk_4 (dk_at dksX4_raise_1 11 rfl rfl)
theorem dX4_raise_36 : decode cX4_raise 36 = .ok (.isub, 1) := dk_100 (dk_at dksX4_raise_1 12 rfl rfl)
theorem dX4_raise_37 : decode cX4_raise 37 = .ok (.putfield 170, 3) := dk_181 0 170 (dk_at dksX4_raise_1 13 rfl rfl)
theorem dX4_raise_40 : decode cX4_raise 40 = .ok (.aload_n 0, 1) := dk_42 (dk_at dksX4_raise_1 16 rfl rfl)
theorem dX4_raise_41 : decode cX4_raise 41 = .ok (.lload_n 2, 1) := dk_32 (dk_at dksX4_raise_1 17 rfl rfl)
theorem dX4_raise_42 : decode cX4_raise 42 = .ok (.putfield 297, 3) := dk_181 1 41 (dk_at dksX4_raise_1 18 rfl rfl)
theorem dX4_raise_45 : decode cX4_raise 45 = .ok (.aload_n 0, 1) := dk_42 (dk_at dksX4_raise_1 21 rfl rfl)
theorem dX4_raise_46 : decode cX4_raise 46 = .ok (.getfield 285, 3) := dk_180 1 29 (dk_at dksX4_raise_2 0 rfl rfl)
theorem dX4_raise_49 : decode cX4_raise 49 = .ok (.ifCond .le 71, 3) := dk_158 0 71 (dk_at dksX4_raise_2 3 rfl rfl)
theorem dX4_raise_52 : decode cX4_raise 52 = .ok (.aload_n 0, 1) := dk_42 (dk_at dksX4_raise_2 6 rfl rfl)
theorem dX4_raise_53 : decode cX4_raise 53 = .ok (.getfield 285, 3) := dk_180 1 29 (dk_at dksX4_raise_2 7 rfl rfl)
theorem dX4_raise_56 : decode cX4_raise 56 = .ok (.iconst 1, 1) := dk_4 (dk_at dksX4_raise_2 10 rfl rfl)
theorem dX4_raise_57 : decode cX4_raise 57 = .ok (.isub, 1) := dk_100 (dk_at dksX4_raise_2 11 rfl rfl)
theorem dX4_raise_58 : decode cX4_raise 58 = .ok (.istore 4, 2) := dk_54 4 (dk_at dksX4_raise_2 12 rfl rfl)
theorem dX4_raise_60 : decode cX4_raise 60 = .ok (.aload_n 0, 1) := dk_42 (dk_at dksX4_raise_2 14 rfl rfl)
theorem dX4_raise_61 : decode cX4_raise 61 = .ok (.getfield 161, 3) := dk_180 0 161 (dk_at dksX4_raise_2 15 rfl rfl)
theorem dX4_raise_64 : decode cX4_raise 64 = .ok (.iload 4, 2) := dk_21 4 (dk_at dksX4_raise_2 18 rfl rfl)
theorem dX4_raise_66 : decode cX4_raise 66 = .ok (.baload, 1) := dk_51 (dk_at dksX4_raise_2 20 rfl rfl)
theorem dX4_raise_67 : decode cX4_raise 67 = .ok (.ifCond .ne 40, 3) := dk_154 0 40 (dk_at dksX4_raise_2 21 rfl rfl)
theorem dX4_raise_70 : decode cX4_raise 70 = .ok (.aload_n 0, 1) := dk_42 (dk_at dksX4_raise_3 0 rfl rfl)
theorem dX4_raise_71 : decode cX4_raise 71 = .ok (.getfield 38, 3) := dk_180 0 38 (dk_at dksX4_raise_3 1 rfl rfl)
theorem dX4_raise_74 : decode cX4_raise 74 = .ok (.aload_n 0, 1) := dk_42 (dk_at dksX4_raise_3 4 rfl rfl)
theorem dX4_raise_75 : decode cX4_raise 75 = .ok (.getfield 137, 3) := dk_180 0 137 (dk_at dksX4_raise_3 5 rfl rfl)
theorem dX4_raise_78 : decode cX4_raise 78 = .ok (.iload 4, 2) := dk_21 4 (dk_at dksX4_raise_3 8 rfl rfl)
theorem dX4_raise_80 : decode cX4_raise 80 = .ok (.iaload, 1) := dk_46 (dk_at dksX4_raise_3 10 rfl rfl)
theorem dX4_raise_81 : decode cX4_raise 81 = .ok (.iaload, 1) := dk_46 (dk_at dksX4_raise_3 11 rfl rfl)
theorem dX4_raise_82 : decode cX4_raise 82 = .ok (.iload_n 1, 1) := dk_27 (dk_at dksX4_raise_3 12 rfl rfl)
theorem dX4_raise_83 : decode cX4_raise 83 = .ok (.if_icmp .ne 24, 3) := dk_160 0 24 (dk_at dksX4_raise_3 13 rfl rfl)
theorem dX4_raise_86 : decode cX4_raise 86 = .ok (.aload_n 0, 1) := dk_42 (dk_at dksX4_raise_3 16 rfl rfl)
theorem dX4_raise_87 : decode cX4_raise 87 = .ok (.getfield 161, 3) := dk_180 0 161 (dk_at dksX4_raise_3 17 rfl rfl)
theorem dX4_raise_90 : decode cX4_raise 90 = .ok (.iload 4, 2) := dk_21 4 (dk_at dksX4_raise_3 20 rfl rfl)
theorem dX4_raise_92 : decode cX4_raise 92 = .ok (.iconst 1, 1) := dk_4 (dk_at dksX4_raise_3 22 rfl rfl)
theorem dX4_raise_93 : decode cX4_raise 93 = .ok (.bastore, 1) := dk_84 (dk_at dksX4_raise_3 23 rfl rfl)
theorem dX4_raise_94 : decode cX4_raise 94 = .ok (.aload_n 0, 1) := dk_42 (dk_at dksX4_raise_4 0 rfl rfl)
theorem dX4_raise_95 : decode cX4_raise 95 = .ok (.getfield 155, 3) := dk_180 0 155 (dk_at dksX4_raise_4 1 rfl rfl)
theorem dX4_raise_98 : decode cX4_raise 98 = .ok (.iload 4, 2) := dk_21 4 (dk_at dksX4_raise_4 4 rfl rfl)
theorem dX4_raise_100 : decode cX4_raise 100 = .ok (.lload_n 2, 1) := dk_32 (dk_at dksX4_raise_4 6 rfl rfl)
theorem dX4_raise_101 : decode cX4_raise 101 = .ok (.lastore, 1) := dk_80 (dk_at dksX4_raise_4 7 rfl rfl)
theorem dX4_raise_102 : decode cX4_raise 102 = .ok (.aload_n 0, 1) := dk_42 (dk_at dksX4_raise_4 8 rfl rfl)
theorem dX4_raise_103 : decode cX4_raise 103 = .ok (.invokevirtual 294, 3) := dk_182 1 38 (dk_at dksX4_raise_4 9 rfl rfl)
theorem dX4_raise_106 : decode cX4_raise 106 = .ok (.return_, 1) := dk_177 (dk_at dksX4_raise_4 12 rfl rfl)
theorem dX4_raise_107 : decode cX4_raise 107 = .ok (.aload_n 0, 1) := dk_42 (dk_at dksX4_raise_4 13 rfl rfl)
theorem dX4_raise_108 : decode cX4_raise 108 = .ok (.dup, 1) := dk_89 (dk_at dksX4_raise_4 14 rfl rfl)
theorem dX4_raise_109 : decode cX4_raise 109 = .ok (.getfield 285, 3) := dk_180 1 29 (dk_at dksX4_raise_4 15 rfl rfl)
theorem dX4_raise_112 : decode cX4_raise 112 = .ok (.iconst 1, 1) := dk_4 (dk_at dksX4_raise_4 18 rfl rfl)
theorem dX4_raise_113 : decode cX4_raise 113 = .ok (.isub, 1) := dk_100 (dk_at dksX4_raise_4 19 rfl rfl)
theorem dX4_raise_114 : decode cX4_raise 114 = .ok (.putfield 285, 3) := dk_181 1 29 (dk_at dksX4_raise_4 20 rfl rfl)
theorem dX4_raise_117 : decode cX4_raise 117 = .ok (.goto (-72), 3) := dk_167 255 184 (dk_at dksX4_raise_5 0 rfl rfl)
theorem dX4_raise_120 : decode cX4_raise 120 = .ok (.aload_n 0, 1) := dk_42 (dk_at dksX4_raise_5 3 rfl rfl)
theorem dX4_raise_121 : decode cX4_raise 121 = .ok (.iconst 1, 1) := dk_4 (dk_at dksX4_raise_5 4 rfl rfl)
theorem dX4_raise_122 : decode cX4_raise 122 = .ok (.putfield 301, 3) := dk_181 1 45 (dk_at dksX4_raise_5 5 rfl rfl)
theorem dX4_raise_125 : decode cX4_raise 125 = .ok (.return_, 1) := dk_177 (dk_at dksX4_raise_5 8 rfl rfl)
abbrev cX4_control : ByteArray := prog_32_method_55_code
def yX4_control : MethodName := ⟨RX4, "control", "(IIII)V"⟩
def dkwX4_control_9 : List UInt8 := [47, 182, 1, 87, 167, 0, 12, 42, 27, 28, 29, 21, 4, 182, 1, 90, 177]
abbrev dktX4_control_9 : List UInt8 := dkwX4_control_9 ++ []
def dkwX4_control_8 : List UInt8 := [42, 27, 29, 182, 1, 84, 167, 0, 34, 42, 27, 28, 29, 42, 180, 0, 117, 42, 27, 21, 4, 182, 1, 71]
abbrev dktX4_control_8 : List UInt8 := dkwX4_control_8 ++ dktX4_control_9
def dkwX4_control_7 : List UInt8 := [42, 180, 1, 81, 42, 180, 0, 155, 27, 47, 80, 42, 89, 180, 1, 81, 4, 96, 181, 1, 81, 167, 0, 43]
abbrev dktX4_control_7 : List UInt8 := dkwX4_control_7 ++ dktX4_control_8
def dkwX4_control_6 : List UInt8 := [180, 0, 155, 27, 47, 182, 1, 48, 167, 0, 80, 42, 180, 1, 81, 16, 100, 162, 0, 18, 42, 180, 0, 134]
abbrev dktX4_control_6 : List UInt8 := dkwX4_control_6 ++ dktX4_control_7
def dkwX4_control_5 : List UInt8 := [180, 0, 155, 27, 47, 9, 148, 154, 0, 7, 29, 167, 0, 4, 3, 96, 79, 167, 0, 94, 42, 29, 42]
abbrev dktX4_control_5 : List UInt8 := dkwX4_control_5 ++ dktX4_control_6
def dkwX4_control_4 : List UInt8 := [21, 5, 29, 42, 180, 0, 155, 27, 47, 182, 1, 78, 167, 0, 122, 42, 180, 0, 152, 27, 92, 46, 42]
abbrev dktX4_control_4 : List UInt8 := dkwX4_control_4 ++ dktX4_control_5
def dkwX4_control_3 : List UInt8 := [182, 1, 56, 167, 0, 154, 42, 21, 5, 29, 42, 180, 0, 155, 27, 47, 182, 1, 74, 167, 0, 138, 42]
abbrev dktX4_control_3 : List UInt8 := dkwX4_control_3 ++ dktX4_control_4
def dkwX4_control_2 : List UInt8 := [42, 21, 5, 42, 180, 0, 146, 27, 46, 42, 180, 0, 149, 27, 46, 4, 100, 42, 180, 0, 155, 27, 47]
abbrev dktX4_control_2 : List UInt8 := dkwX4_control_2 ++ dktX4_control_3
def dkwX4_control_1 : List UInt8 := [170, 0, 0, 0, 0, 0, 222, 0, 0, 0, 9, 0, 0, 0, 17, 0, 0, 0, 51, 0, 0, 0, 80, 0, 0, 0, 96, 0, 0, 0, 112, 0, 0, 0, 140, 0, 0, 0, 154, 0, 0, 0, 191, 0, 0, 0, 200, 0, 0, 0, 200]
abbrev dktX4_control_1 : List UInt8 := dkwX4_control_1 ++ dktX4_control_2
def dkwX4_control_0 : List UInt8 := [42, 180, 0, 140, 27, 46, 54, 5, 28]
abbrev dktX4_control_0 : List UInt8 := dkwX4_control_0 ++ dktX4_control_1
theorem dksX4_control_0 : cX4_control.data.toList.drop 0 = dktX4_control_0 := by decide +kernel
theorem dksX4_control_1 : cX4_control.data.toList.drop 9 = dktX4_control_1 := dk_seg dksX4_control_0 9 rfl rfl
theorem dksX4_control_2 : cX4_control.data.toList.drop 60 = dktX4_control_2 := dk_seg dksX4_control_1 51 rfl rfl
theorem dksX4_control_3 : cX4_control.data.toList.drop 83 = dktX4_control_3 := dk_seg dksX4_control_2 23 rfl rfl
theorem dksX4_control_4 : cX4_control.data.toList.drop 106 = dktX4_control_4 := dk_seg dksX4_control_3 23 rfl rfl
theorem dksX4_control_5 : cX4_control.data.toList.drop 129 = dktX4_control_5 := dk_seg dksX4_control_4 23 rfl rfl
theorem dksX4_control_6 : cX4_control.data.toList.drop 152 = dktX4_control_6 := dk_seg dksX4_control_5 23 rfl rfl
theorem dksX4_control_7 : cX4_control.data.toList.drop 176 = dktX4_control_7 := dk_seg dksX4_control_6 24 rfl rfl
theorem dksX4_control_8 : cX4_control.data.toList.drop 200 = dktX4_control_8 := dk_seg dksX4_control_7 24 rfl rfl
theorem dksX4_control_9 : cX4_control.data.toList.drop 224 = dktX4_control_9 := dk_seg dksX4_control_8 24 rfl rfl
theorem dX4_control_0 : decode cX4_control 0 = .ok (.aload_n 0, 1) := dk_42 (dk_at dksX4_control_0 0 rfl rfl)
theorem dX4_control_1 : decode cX4_control 1 = .ok (.getfield 140, 3) := dk_180 0 140 (dk_at dksX4_control_0 1 rfl rfl)
theorem dX4_control_4 : decode cX4_control 4 = .ok (.iload_n 1, 1) := dk_27 (dk_at dksX4_control_0 4 rfl rfl)
theorem dX4_control_5 : decode cX4_control 5 = .ok (.iaload, 1) := dk_46 (dk_at dksX4_control_0 5 rfl rfl)
theorem dX4_control_6 : decode cX4_control 6 = .ok (.istore 5, 2) := dk_54 5 (dk_at dksX4_control_0 6 rfl rfl)
theorem dX4_control_8 : decode cX4_control 8 = .ok (.iload_n 2, 1) := dk_28 (dk_at dksX4_control_0 8 rfl rfl)
theorem dX4_control_9 : decode cX4_control 9 = .ok (.tableswitch 222 9 17 #[51, 80, 96, 112, 140, 154, 191, 200, 200], 51) := by decide +kernel
theorem dX4_control_60 : decode cX4_control 60 = .ok (.aload_n 0, 1) := dk_42 (dk_at dksX4_control_2 0 rfl rfl)
theorem dX4_control_61 : decode cX4_control 61 = .ok (.iload 5, 2) := dk_21 5 (dk_at dksX4_control_2 1 rfl rfl)
theorem dX4_control_63 : decode cX4_control 63 = .ok (.aload_n 0, 1) := dk_42 (dk_at dksX4_control_2 3 rfl rfl)
theorem dX4_control_64 : decode cX4_control 64 = .ok (.getfield 146, 3) := dk_180 0 146 (dk_at dksX4_control_2 4 rfl rfl)
theorem dX4_control_67 : decode cX4_control 67 = .ok (.iload_n 1, 1) := dk_27 (dk_at dksX4_control_2 7 rfl rfl)
theorem dX4_control_68 : decode cX4_control 68 = .ok (.iaload, 1) := dk_46 (dk_at dksX4_control_2 8 rfl rfl)
theorem dX4_control_69 : decode cX4_control 69 = .ok (.aload_n 0, 1) := dk_42 (dk_at dksX4_control_2 9 rfl rfl)
theorem dX4_control_70 : decode cX4_control 70 = .ok (.getfield 149, 3) := dk_180 0 149 (dk_at dksX4_control_2 10 rfl rfl)
theorem dX4_control_73 : decode cX4_control 73 = .ok (.iload_n 1, 1) := dk_27 (dk_at dksX4_control_2 13 rfl rfl)
theorem dX4_control_74 : decode cX4_control 74 = .ok (.iaload, 1) := dk_46 (dk_at dksX4_control_2 14 rfl rfl)
theorem dX4_control_75 : decode cX4_control 75 = .ok (.iconst 1, 1) := dk_4 (dk_at dksX4_control_2 15 rfl rfl)
theorem dX4_control_76 : decode cX4_control 76 = .ok (.isub, 1) := dk_100 (dk_at dksX4_control_2 16 rfl rfl)
theorem dX4_control_77 : decode cX4_control 77 = .ok (.aload_n 0, 1) := dk_42 (dk_at dksX4_control_2 17 rfl rfl)
theorem dX4_control_78 : decode cX4_control 78 = .ok (.getfield 155, 3) := dk_180 0 155 (dk_at dksX4_control_2 18 rfl rfl)
theorem dX4_control_81 : decode cX4_control 81 = .ok (.iload_n 1, 1) := dk_27 (dk_at dksX4_control_2 21 rfl rfl)
theorem dX4_control_82 : decode cX4_control 82 = .ok (.laload, 1) := dk_47 (dk_at dksX4_control_2 22 rfl rfl)
theorem dX4_control_83 : decode cX4_control 83 = .ok (.invokevirtual 312, 3) := dk_182 1 56 (dk_at dksX4_control_3 0 rfl rfl)
theorem dX4_control_86 : decode cX4_control 86 = .ok (.goto 154, 3) := dk_167 0 154 (dk_at dksX4_control_3 3 rfl rfl)
theorem dX4_control_89 : decode cX4_control 89 = .ok (.aload_n 0, 1) := dk_42 (dk_at dksX4_control_3 6 rfl rfl)
theorem dX4_control_90 : decode cX4_control 90 = .ok (.iload 5, 2) := dk_21 5 (dk_at dksX4_control_3 7 rfl rfl)
theorem dX4_control_92 : decode cX4_control 92 = .ok (.iload_n 3, 1) := dk_29 (dk_at dksX4_control_3 9 rfl rfl)
theorem dX4_control_93 : decode cX4_control 93 = .ok (.aload_n 0, 1) := dk_42 (dk_at dksX4_control_3 10 rfl rfl)
theorem dX4_control_94 : decode cX4_control 94 = .ok (.getfield 155, 3) := dk_180 0 155 (dk_at dksX4_control_3 11 rfl rfl)
theorem dX4_control_97 : decode cX4_control 97 = .ok (.iload_n 1, 1) := dk_27 (dk_at dksX4_control_3 14 rfl rfl)
theorem dX4_control_98 : decode cX4_control 98 = .ok (.laload, 1) := dk_47 (dk_at dksX4_control_3 15 rfl rfl)
theorem dX4_control_99 : decode cX4_control 99 = .ok (.invokevirtual 330, 3) := dk_182 1 74 (dk_at dksX4_control_3 16 rfl rfl)
theorem dX4_control_102 : decode cX4_control 102 = .ok (.goto 138, 3) := dk_167 0 138 (dk_at dksX4_control_3 19 rfl rfl)
theorem dX4_control_105 : decode cX4_control 105 = .ok (.aload_n 0, 1) := dk_42 (dk_at dksX4_control_3 22 rfl rfl)
theorem dX4_control_106 : decode cX4_control 106 = .ok (.iload 5, 2) := dk_21 5 (dk_at dksX4_control_4 0 rfl rfl)
theorem dX4_control_108 : decode cX4_control 108 = .ok (.iload_n 3, 1) := dk_29 (dk_at dksX4_control_4 2 rfl rfl)
theorem dX4_control_109 : decode cX4_control 109 = .ok (.aload_n 0, 1) := dk_42 (dk_at dksX4_control_4 3 rfl rfl)
theorem dX4_control_110 : decode cX4_control 110 = .ok (.getfield 155, 3) := dk_180 0 155 (dk_at dksX4_control_4 4 rfl rfl)
theorem dX4_control_113 : decode cX4_control 113 = .ok (.iload_n 1, 1) := dk_27 (dk_at dksX4_control_4 7 rfl rfl)
theorem dX4_control_114 : decode cX4_control 114 = .ok (.laload, 1) := dk_47 (dk_at dksX4_control_4 8 rfl rfl)
theorem dX4_control_115 : decode cX4_control 115 = .ok (.invokevirtual 334, 3) := dk_182 1 78 (dk_at dksX4_control_4 9 rfl rfl)
theorem dX4_control_118 : decode cX4_control 118 = .ok (.goto 122, 3) := dk_167 0 122 (dk_at dksX4_control_4 12 rfl rfl)
theorem dX4_control_121 : decode cX4_control 121 = .ok (.aload_n 0, 1) := dk_42 (dk_at dksX4_control_4 15 rfl rfl)
theorem dX4_control_122 : decode cX4_control 122 = .ok (.getfield 152, 3) := dk_180 0 152 (dk_at dksX4_control_4 16 rfl rfl)
theorem dX4_control_125 : decode cX4_control 125 = .ok (.iload_n 1, 1) := dk_27 (dk_at dksX4_control_4 19 rfl rfl)
theorem dX4_control_126 : decode cX4_control 126 = .ok (.dup2, 1) := dk_92 (dk_at dksX4_control_4 20 rfl rfl)
theorem dX4_control_127 : decode cX4_control 127 = .ok (.iaload, 1) := dk_46 (dk_at dksX4_control_4 21 rfl rfl)
theorem dX4_control_128 : decode cX4_control 128 = .ok (.aload_n 0, 1) := dk_42 (dk_at dksX4_control_4 22 rfl rfl)
theorem dX4_control_129 : decode cX4_control 129 = .ok (.getfield 155, 3) := dk_180 0 155 (dk_at dksX4_control_5 0 rfl rfl)
theorem dX4_control_132 : decode cX4_control 132 = .ok (.iload_n 1, 1) := dk_27 (dk_at dksX4_control_5 3 rfl rfl)
theorem dX4_control_133 : decode cX4_control 133 = .ok (.laload, 1) := dk_47 (dk_at dksX4_control_5 4 rfl rfl)
theorem dX4_control_134 : decode cX4_control 134 = .ok (.lconst 0, 1) := dk_9 (dk_at dksX4_control_5 5 rfl rfl)
theorem dX4_control_135 : decode cX4_control 135 = .ok (.lcmp, 1) := dk_148 (dk_at dksX4_control_5 6 rfl rfl)
theorem dX4_control_136 : decode cX4_control 136 = .ok (.ifCond .ne 7, 3) := dk_154 0 7 (dk_at dksX4_control_5 7 rfl rfl)
theorem dX4_control_139 : decode cX4_control 139 = .ok (.iload_n 3, 1) := dk_29 (dk_at dksX4_control_5 10 rfl rfl)
theorem dX4_control_140 : decode cX4_control 140 = .ok (.goto 4, 3) := dk_167 0 4 (dk_at dksX4_control_5 11 rfl rfl)
theorem dX4_control_143 : decode cX4_control 143 = .ok (.iconst 0, 1) := dk_3 (dk_at dksX4_control_5 14 rfl rfl)
theorem dX4_control_144 : decode cX4_control 144 = .ok (.iadd, 1) := dk_96 (dk_at dksX4_control_5 15 rfl rfl)
theorem dX4_control_145 : decode cX4_control 145 = .ok (.iastore, 1) := dk_79 (dk_at dksX4_control_5 16 rfl rfl)
theorem dX4_control_146 : decode cX4_control 146 = .ok (.goto 94, 3) := dk_167 0 94 (dk_at dksX4_control_5 17 rfl rfl)
theorem dX4_control_149 : decode cX4_control 149 = .ok (.aload_n 0, 1) := dk_42 (dk_at dksX4_control_5 20 rfl rfl)
theorem dX4_control_150 : decode cX4_control 150 = .ok (.iload_n 3, 1) := dk_29 (dk_at dksX4_control_5 21 rfl rfl)
theorem dX4_control_151 : decode cX4_control 151 = .ok (.aload_n 0, 1) := dk_42 (dk_at dksX4_control_5 22 rfl rfl)
theorem dX4_control_152 : decode cX4_control 152 = .ok (.getfield 155, 3) := dk_180 0 155 (dk_at dksX4_control_6 0 rfl rfl)
theorem dX4_control_155 : decode cX4_control 155 = .ok (.iload_n 1, 1) := dk_27 (dk_at dksX4_control_6 3 rfl rfl)
theorem dX4_control_156 : decode cX4_control 156 = .ok (.laload, 1) := dk_47 (dk_at dksX4_control_6 4 rfl rfl)
theorem dX4_control_157 : decode cX4_control 157 = .ok (.invokevirtual 304, 3) := dk_182 1 48 (dk_at dksX4_control_6 5 rfl rfl)
theorem dX4_control_160 : decode cX4_control 160 = .ok (.goto 80, 3) := dk_167 0 80 (dk_at dksX4_control_6 8 rfl rfl)
theorem dX4_control_163 : decode cX4_control 163 = .ok (.aload_n 0, 1) := dk_42 (dk_at dksX4_control_6 11 rfl rfl)
theorem dX4_control_164 : decode cX4_control 164 = .ok (.getfield 337, 3) := dk_180 1 81 (dk_at dksX4_control_6 12 rfl rfl)
theorem dX4_control_167 : decode cX4_control 167 = .ok (.bipush 100, 2) := dk_16 100 (dk_at dksX4_control_6 15 rfl rfl)
theorem dX4_control_169 : decode cX4_control 169 = .ok (.if_icmp .ge 18, 3) := dk_162 0 18 (dk_at dksX4_control_6 17 rfl rfl)
theorem dX4_control_172 : decode cX4_control 172 = .ok (.aload_n 0, 1) := dk_42 (dk_at dksX4_control_6 20 rfl rfl)
theorem dX4_control_173 : decode cX4_control 173 = .ok (.getfield 134, 3) := dk_180 0 134 (dk_at dksX4_control_6 21 rfl rfl)
theorem dX4_control_176 : decode cX4_control 176 = .ok (.aload_n 0, 1) := dk_42 (dk_at dksX4_control_7 0 rfl rfl)
theorem dX4_control_177 : decode cX4_control 177 = .ok (.getfield 337, 3) := dk_180 1 81 (dk_at dksX4_control_7 1 rfl rfl)
theorem dX4_control_180 : decode cX4_control 180 = .ok (.aload_n 0, 1) := dk_42 (dk_at dksX4_control_7 4 rfl rfl)
theorem dX4_control_181 : decode cX4_control 181 = .ok (.getfield 155, 3) := dk_180 0 155 (dk_at dksX4_control_7 5 rfl rfl)
theorem dX4_control_184 : decode cX4_control 184 = .ok (.iload_n 1, 1) := dk_27 (dk_at dksX4_control_7 8 rfl rfl)
theorem dX4_control_185 : decode cX4_control 185 = .ok (.laload, 1) := dk_47 (dk_at dksX4_control_7 9 rfl rfl)
theorem dX4_control_186 : decode cX4_control 186 = .ok (.lastore, 1) := dk_80 (dk_at dksX4_control_7 10 rfl rfl)
theorem dX4_control_187 : decode cX4_control 187 = .ok (.aload_n 0, 1) := dk_42 (dk_at dksX4_control_7 11 rfl rfl)
theorem dX4_control_188 : decode cX4_control 188 = .ok (.dup, 1) := dk_89 (dk_at dksX4_control_7 12 rfl rfl)
theorem dX4_control_189 : decode cX4_control 189 = .ok (.getfield 337, 3) := dk_180 1 81 (dk_at dksX4_control_7 13 rfl rfl)
theorem dX4_control_192 : decode cX4_control 192 = .ok (.iconst 1, 1) := dk_4 (dk_at dksX4_control_7 16 rfl rfl)
theorem dX4_control_193 : decode cX4_control 193 = .ok (.iadd, 1) := dk_96 (dk_at dksX4_control_7 17 rfl rfl)
theorem dX4_control_194 : decode cX4_control 194 = .ok (.putfield 337, 3) := dk_181 1 81 (dk_at dksX4_control_7 18 rfl rfl)
theorem dX4_control_197 : decode cX4_control 197 = .ok (.goto 43, 3) := dk_167 0 43 (dk_at dksX4_control_7 21 rfl rfl)
theorem dX4_control_200 : decode cX4_control 200 = .ok (.aload_n 0, 1) := dk_42 (dk_at dksX4_control_8 0 rfl rfl)
theorem dX4_control_201 : decode cX4_control 201 = .ok (.iload_n 1, 1) := dk_27 (dk_at dksX4_control_8 1 rfl rfl)
theorem dX4_control_202 : decode cX4_control 202 = .ok (.iload_n 3, 1) := dk_29 (dk_at dksX4_control_8 2 rfl rfl)
theorem dX4_control_203 : decode cX4_control 203 = .ok (.invokevirtual 340, 3) := dk_182 1 84 (dk_at dksX4_control_8 3 rfl rfl)
theorem dX4_control_206 : decode cX4_control 206 = .ok (.goto 34, 3) := dk_167 0 34 (dk_at dksX4_control_8 6 rfl rfl)
theorem dX4_control_209 : decode cX4_control 209 = .ok (.aload_n 0, 1) := dk_42 (dk_at dksX4_control_8 9 rfl rfl)
theorem dX4_control_210 : decode cX4_control 210 = .ok (.iload_n 1, 1) := dk_27 (dk_at dksX4_control_8 10 rfl rfl)
theorem dX4_control_211 : decode cX4_control 211 = .ok (.iload_n 2, 1) := dk_28 (dk_at dksX4_control_8 11 rfl rfl)
theorem dX4_control_212 : decode cX4_control 212 = .ok (.iload_n 3, 1) := dk_29 (dk_at dksX4_control_8 12 rfl rfl)
theorem dX4_control_213 : decode cX4_control 213 = .ok (.aload_n 0, 1) := dk_42 (dk_at dksX4_control_8 13 rfl rfl)
theorem dX4_control_214 : decode cX4_control 214 = .ok (.getfield 117, 3) := dk_180 0 117 (dk_at dksX4_control_8 14 rfl rfl)
theorem dX4_control_217 : decode cX4_control 217 = .ok (.aload_n 0, 1) := dk_42 (dk_at dksX4_control_8 17 rfl rfl)
theorem dX4_control_218 : decode cX4_control 218 = .ok (.iload_n 1, 1) := dk_27 (dk_at dksX4_control_8 18 rfl rfl)
theorem dX4_control_219 : decode cX4_control 219 = .ok (.iload 4, 2) := dk_21 4 (dk_at dksX4_control_8 19 rfl rfl)
theorem dX4_control_221 : decode cX4_control 221 = .ok (.invokevirtual 327, 3) := dk_182 1 71 (dk_at dksX4_control_8 21 rfl rfl)
theorem dX4_control_224 : decode cX4_control 224 = .ok (.laload, 1) := dk_47 (dk_at dksX4_control_9 0 rfl rfl)
theorem dX4_control_225 : decode cX4_control 225 = .ok (.invokevirtual 343, 3) := dk_182 1 87 (dk_at dksX4_control_9 1 rfl rfl)
theorem dX4_control_228 : decode cX4_control 228 = .ok (.goto 12, 3) := dk_167 0 12 (dk_at dksX4_control_9 4 rfl rfl)
theorem dX4_control_231 : decode cX4_control 231 = .ok (.aload_n 0, 1) := dk_42 (dk_at dksX4_control_9 7 rfl rfl)
theorem dX4_control_232 : decode cX4_control 232 = .ok (.iload_n 1, 1) := dk_27 (dk_at dksX4_control_9 8 rfl rfl)
theorem dX4_control_233 : decode cX4_control 233 = .ok (.iload_n 2, 1) := dk_28 (dk_at dksX4_control_9 9 rfl rfl)
theorem dX4_control_234 : decode cX4_control 234 = .ok (.iload_n 3, 1) := dk_29 (dk_at dksX4_control_9 10 rfl rfl)
theorem dX4_control_235 : decode cX4_control 235 = .ok (.iload 4, 2) := dk_21 4 (dk_at dksX4_control_9 11 rfl rfl)
theorem dX4_control_237 : decode cX4_control 237 = .ok (.invokevirtual 346, 3) := dk_182 1 90 (dk_at dksX4_control_9 13 rfl rfl)
theorem dX4_control_240 : decode cX4_control 240 = .ok (.return_, 1) := dk_177 (dk_at dksX4_control_9 16 rfl rfl)
abbrev cX4_enterChain : ByteArray := prog_32_method_48_code
def yX4_enterChain : MethodName := ⟨RX4, "enterChain", "(IIIJ)V"⟩
def dkwX4_enterChain_3 : List UInt8 := [177]
abbrev dktX4_enterChain_3 : List UInt8 := dkwX4_enterChain_3 ++ []
def dkwX4_enterChain_2 : List UInt8 := [27, 42, 180, 0, 78, 16, 24, 21, 6, 104, 21, 7, 16, 25, 108, 96, 46, 28, 29, 22, 4, 182, 1, 52]
abbrev dktX4_enterChain_2 : List UInt8 := dkwX4_enterChain_2 ++ dktX4_enterChain_3
def dkwX4_enterChain_1 : List UInt8 := [54, 6, 42, 180, 0, 84, 16, 48, 16, 12, 21, 6, 104, 28, 96, 104, 29, 96, 46, 54, 7, 42, 21, 7]
abbrev dktX4_enterChain_1 : List UInt8 := dkwX4_enterChain_1 ++ dktX4_enterChain_2
def dkwX4_enterChain_0 : List UInt8 := [27, 16, 100, 159, 0, 7, 29, 156, 0, 11, 42, 16, 12, 9, 182, 1, 48, 177, 42, 180, 0, 114, 27, 46]
abbrev dktX4_enterChain_0 : List UInt8 := dkwX4_enterChain_0 ++ dktX4_enterChain_1
theorem dksX4_enterChain_0 : cX4_enterChain.data.toList.drop 0 = dktX4_enterChain_0 := by decide +kernel
theorem dksX4_enterChain_1 : cX4_enterChain.data.toList.drop 24 = dktX4_enterChain_1 := dk_seg dksX4_enterChain_0 24 rfl rfl
theorem dksX4_enterChain_2 : cX4_enterChain.data.toList.drop 48 = dktX4_enterChain_2 := dk_seg dksX4_enterChain_1 24 rfl rfl
theorem dksX4_enterChain_3 : cX4_enterChain.data.toList.drop 72 = dktX4_enterChain_3 := dk_seg dksX4_enterChain_2 24 rfl rfl
theorem dX4_enterChain_0 : decode cX4_enterChain 0 = .ok (.iload_n 1, 1) := dk_27 (dk_at dksX4_enterChain_0 0 rfl rfl)
theorem dX4_enterChain_1 : decode cX4_enterChain 1 = .ok (.bipush 100, 2) := dk_16 100 (dk_at dksX4_enterChain_0 1 rfl rfl)
theorem dX4_enterChain_3 : decode cX4_enterChain 3 = .ok (.if_icmp .eq 7, 3) := dk_159 0 7 (dk_at dksX4_enterChain_0 3 rfl rfl)
theorem dX4_enterChain_6 : decode cX4_enterChain 6 = .ok (.iload_n 3, 1) := dk_29 (dk_at dksX4_enterChain_0 6 rfl rfl)
theorem dX4_enterChain_7 : decode cX4_enterChain 7 = .ok (.ifCond .ge 11, 3) := dk_156 0 11 (dk_at dksX4_enterChain_0 7 rfl rfl)
theorem dX4_enterChain_10 : decode cX4_enterChain 10 = .ok (.aload_n 0, 1) := dk_42 (dk_at dksX4_enterChain_0 10 rfl rfl)
theorem dX4_enterChain_11 : decode cX4_enterChain 11 = .ok (.bipush 12, 2) := dk_16 12 (dk_at dksX4_enterChain_0 11 rfl rfl)
theorem dX4_enterChain_13 : decode cX4_enterChain 13 = .ok (.lconst 0, 1) := dk_9 (dk_at dksX4_enterChain_0 13 rfl rfl)
theorem dX4_enterChain_14 : decode cX4_enterChain 14 = .ok (.invokevirtual 304, 3) := dk_182 1 48 (dk_at dksX4_enterChain_0 14 rfl rfl)
theorem dX4_enterChain_17 : decode cX4_enterChain 17 = .ok (.return_, 1) := dk_177 (dk_at dksX4_enterChain_0 17 rfl rfl)
theorem dX4_enterChain_18 : decode cX4_enterChain 18 = .ok (.aload_n 0, 1) := dk_42 (dk_at dksX4_enterChain_0 18 rfl rfl)
theorem dX4_enterChain_19 : decode cX4_enterChain 19 = .ok (.getfield 114, 3) := dk_180 0 114 (dk_at dksX4_enterChain_0 19 rfl rfl)
theorem dX4_enterChain_22 : decode cX4_enterChain 22 = .ok (.iload_n 1, 1) := dk_27 (dk_at dksX4_enterChain_0 22 rfl rfl)
theorem dX4_enterChain_23 : decode cX4_enterChain 23 = .ok (.iaload, 1) := dk_46 (dk_at dksX4_enterChain_0 23 rfl rfl)
theorem dX4_enterChain_24 : decode cX4_enterChain 24 = .ok (.istore 6, 2) := dk_54 6 (dk_at dksX4_enterChain_1 0 rfl rfl)
theorem dX4_enterChain_26 : decode cX4_enterChain 26 = .ok (.aload_n 0, 1) := dk_42 (dk_at dksX4_enterChain_1 2 rfl rfl)
theorem dX4_enterChain_27 : decode cX4_enterChain 27 = .ok (.getfield 84, 3) := dk_180 0 84 (dk_at dksX4_enterChain_1 3 rfl rfl)
theorem dX4_enterChain_30 : decode cX4_enterChain 30 = .ok (.bipush 48, 2) := dk_16 48 (dk_at dksX4_enterChain_1 6 rfl rfl)
theorem dX4_enterChain_32 : decode cX4_enterChain 32 = .ok (.bipush 12, 2) := dk_16 12 (dk_at dksX4_enterChain_1 8 rfl rfl)
theorem dX4_enterChain_34 : decode cX4_enterChain 34 = .ok (.iload 6, 2) := dk_21 6 (dk_at dksX4_enterChain_1 10 rfl rfl)
theorem dX4_enterChain_36 : decode cX4_enterChain 36 = .ok (.imul, 1) := dk_104 (dk_at dksX4_enterChain_1 12 rfl rfl)
theorem dX4_enterChain_37 : decode cX4_enterChain 37 = .ok (.iload_n 2, 1) := dk_28 (dk_at dksX4_enterChain_1 13 rfl rfl)
theorem dX4_enterChain_38 : decode cX4_enterChain 38 = .ok (.iadd, 1) := dk_96 (dk_at dksX4_enterChain_1 14 rfl rfl)
theorem dX4_enterChain_39 : decode cX4_enterChain 39 = .ok (.imul, 1) := dk_104 (dk_at dksX4_enterChain_1 15 rfl rfl)
theorem dX4_enterChain_40 : decode cX4_enterChain 40 = .ok (.iload_n 3, 1) := dk_29 (dk_at dksX4_enterChain_1 16 rfl rfl)
theorem dX4_enterChain_41 : decode cX4_enterChain 41 = .ok (.iadd, 1) := dk_96 (dk_at dksX4_enterChain_1 17 rfl rfl)
theorem dX4_enterChain_42 : decode cX4_enterChain 42 = .ok (.iaload, 1) := dk_46 (dk_at dksX4_enterChain_1 18 rfl rfl)
theorem dX4_enterChain_43 : decode cX4_enterChain 43 = .ok (.istore 7, 2) := dk_54 7 (dk_at dksX4_enterChain_1 19 rfl rfl)
theorem dX4_enterChain_45 : decode cX4_enterChain 45 = .ok (.aload_n 0, 1) := dk_42 (dk_at dksX4_enterChain_1 21 rfl rfl)
theorem dX4_enterChain_46 : decode cX4_enterChain 46 = .ok (.iload 7, 2) := dk_21 7 (dk_at dksX4_enterChain_1 22 rfl rfl)
theorem dX4_enterChain_48 : decode cX4_enterChain 48 = .ok (.iload_n 1, 1) := dk_27 (dk_at dksX4_enterChain_2 0 rfl rfl)
theorem dX4_enterChain_49 : decode cX4_enterChain 49 = .ok (.aload_n 0, 1) := dk_42 (dk_at dksX4_enterChain_2 1 rfl rfl)
theorem dX4_enterChain_50 : decode cX4_enterChain 50 = .ok (.getfield 78, 3) := dk_180 0 78 (dk_at dksX4_enterChain_2 2 rfl rfl)
theorem dX4_enterChain_53 : decode cX4_enterChain 53 = .ok (.bipush 24, 2) := dk_16 24 (dk_at dksX4_enterChain_2 5 rfl rfl)
theorem dX4_enterChain_55 : decode cX4_enterChain 55 = .ok (.iload 6, 2) := dk_21 6 (dk_at dksX4_enterChain_2 7 rfl rfl)
theorem dX4_enterChain_57 : decode cX4_enterChain 57 = .ok (.imul, 1) := dk_104 (dk_at dksX4_enterChain_2 9 rfl rfl)
theorem dX4_enterChain_58 : decode cX4_enterChain 58 = .ok (.iload 7, 2) := dk_21 7 (dk_at dksX4_enterChain_2 10 rfl rfl)
theorem dX4_enterChain_60 : decode cX4_enterChain 60 = .ok (.bipush 25, 2) := dk_16 25 (dk_at dksX4_enterChain_2 12 rfl rfl)
theorem dX4_enterChain_62 : decode cX4_enterChain 62 = .ok (.idiv, 1) := dk_108 (dk_at dksX4_enterChain_2 14 rfl rfl)
theorem dX4_enterChain_63 : decode cX4_enterChain 63 = .ok (.iadd, 1) := dk_96 (dk_at dksX4_enterChain_2 15 rfl rfl)
theorem dX4_enterChain_64 : decode cX4_enterChain 64 = .ok (.iaload, 1) := dk_46 (dk_at dksX4_enterChain_2 16 rfl rfl)
theorem dX4_enterChain_65 : decode cX4_enterChain 65 = .ok (.iload_n 2, 1) := dk_28 (dk_at dksX4_enterChain_2 17 rfl rfl)
theorem dX4_enterChain_66 : decode cX4_enterChain 66 = .ok (.iload_n 3, 1) := dk_29 (dk_at dksX4_enterChain_2 18 rfl rfl)
theorem dX4_enterChain_67 : decode cX4_enterChain 67 = .ok (.lload 4, 2) := dk_22 4 (dk_at dksX4_enterChain_2 19 rfl rfl)
theorem dX4_enterChain_69 : decode cX4_enterChain 69 = .ok (.invokevirtual 308, 3) := dk_182 1 52 (dk_at dksX4_enterChain_2 21 rfl rfl)
theorem dX4_enterChain_72 : decode cX4_enterChain 72 = .ok (.return_, 1) := dk_177 (dk_at dksX4_enterChain_3 0 rfl rfl)
abbrev cX4_enterLast : ByteArray := prog_32_method_49_code
def yX4_enterLast : MethodName := ⟨RX4, "enterLast", "(IIJ)V"⟩
def dkwX4_enterLast_1 : List UInt8 := [27, 46, 104, 28, 96, 46, 4, 100, 33, 182, 1, 56, 177]
abbrev dktX4_enterLast_1 : List UInt8 := dkwX4_enterLast_1 ++ []
def dkwX4_enterLast_0 : List UInt8 := [42, 27, 28, 27, 16, 100, 160, 0, 8, 16, 247, 167, 0, 21, 42, 180, 0, 81, 16, 12, 42, 180, 0, 114]
abbrev dktX4_enterLast_0 : List UInt8 := dkwX4_enterLast_0 ++ dktX4_enterLast_1
theorem dksX4_enterLast_0 : cX4_enterLast.data.toList.drop 0 = dktX4_enterLast_0 := by decide +kernel
theorem dksX4_enterLast_1 : cX4_enterLast.data.toList.drop 24 = dktX4_enterLast_1 := dk_seg dksX4_enterLast_0 24 rfl rfl
theorem dX4_enterLast_0 : decode cX4_enterLast 0 = .ok (.aload_n 0, 1) := dk_42 (dk_at dksX4_enterLast_0 0 rfl rfl)
theorem dX4_enterLast_1 : decode cX4_enterLast 1 = .ok (.iload_n 1, 1) := dk_27 (dk_at dksX4_enterLast_0 1 rfl rfl)
theorem dX4_enterLast_2 : decode cX4_enterLast 2 = .ok (.iload_n 2, 1) := dk_28 (dk_at dksX4_enterLast_0 2 rfl rfl)
theorem dX4_enterLast_3 : decode cX4_enterLast 3 = .ok (.iload_n 1, 1) := dk_27 (dk_at dksX4_enterLast_0 3 rfl rfl)
theorem dX4_enterLast_4 : decode cX4_enterLast 4 = .ok (.bipush 100, 2) := dk_16 100 (dk_at dksX4_enterLast_0 4 rfl rfl)
theorem dX4_enterLast_6 : decode cX4_enterLast 6 = .ok (.if_icmp .ne 8, 3) := dk_160 0 8 (dk_at dksX4_enterLast_0 6 rfl rfl)
theorem dX4_enterLast_9 : decode cX4_enterLast 9 = .ok (.bipush (-9), 2) := dk_16 247 (dk_at dksX4_enterLast_0 9 rfl rfl)
theorem dX4_enterLast_11 : decode cX4_enterLast 11 = .ok (.goto 21, 3) := dk_167 0 21 (dk_at dksX4_enterLast_0 11 rfl rfl)
theorem dX4_enterLast_14 : decode cX4_enterLast 14 = .ok (.aload_n 0, 1) := dk_42 (dk_at dksX4_enterLast_0 14 rfl rfl)
theorem dX4_enterLast_15 : decode cX4_enterLast 15 = .ok (.getfield 81, 3) := dk_180 0 81 (dk_at dksX4_enterLast_0 15 rfl rfl)
theorem dX4_enterLast_18 : decode cX4_enterLast 18 = .ok (.bipush 12, 2) := dk_16 12 (dk_at dksX4_enterLast_0 18 rfl rfl)
theorem dX4_enterLast_20 : decode cX4_enterLast 20 = .ok (.aload_n 0, 1) := dk_42 (dk_at dksX4_enterLast_0 20 rfl rfl)
theorem dX4_enterLast_21 : decode cX4_enterLast 21 = .ok (.getfield 114, 3) := dk_180 0 114 (dk_at dksX4_enterLast_0 21 rfl rfl)
theorem dX4_enterLast_24 : decode cX4_enterLast 24 = .ok (.iload_n 1, 1) := dk_27 (dk_at dksX4_enterLast_1 0 rfl rfl)
theorem dX4_enterLast_25 : decode cX4_enterLast 25 = .ok (.iaload, 1) := dk_46 (dk_at dksX4_enterLast_1 1 rfl rfl)
theorem dX4_enterLast_26 : decode cX4_enterLast 26 = .ok (.imul, 1) := dk_104 (dk_at dksX4_enterLast_1 2 rfl rfl)
theorem dX4_enterLast_27 : decode cX4_enterLast 27 = .ok (.iload_n 2, 1) := dk_28 (dk_at dksX4_enterLast_1 3 rfl rfl)
theorem dX4_enterLast_28 : decode cX4_enterLast 28 = .ok (.iadd, 1) := dk_96 (dk_at dksX4_enterLast_1 4 rfl rfl)
theorem dX4_enterLast_29 : decode cX4_enterLast 29 = .ok (.iaload, 1) := dk_46 (dk_at dksX4_enterLast_1 5 rfl rfl)
theorem dX4_enterLast_30 : decode cX4_enterLast 30 = .ok (.iconst 1, 1) := dk_4 (dk_at dksX4_enterLast_1 6 rfl rfl)
theorem dX4_enterLast_31 : decode cX4_enterLast 31 = .ok (.isub, 1) := dk_100 (dk_at dksX4_enterLast_1 7 rfl rfl)
theorem dX4_enterLast_32 : decode cX4_enterLast 32 = .ok (.lload_n 3, 1) := dk_33 (dk_at dksX4_enterLast_1 8 rfl rfl)
theorem dX4_enterLast_33 : decode cX4_enterLast 33 = .ok (.invokevirtual 312, 3) := dk_182 1 56 (dk_at dksX4_enterLast_1 9 rfl rfl)
theorem dX4_enterLast_36 : decode cX4_enterLast 36 = .ok (.return_, 1) := dk_177 (dk_at dksX4_enterLast_1 12 rfl rfl)
abbrev cX4_enterAlias : ByteArray := prog_32_method_56_code
def yX4_enterAlias : MethodName := ⟨RX4, "enterAlias", "(IIJ)V"⟩
def dkwX4_enterAlias_2 : List UInt8 := [180, 0, 114, 27, 46, 104, 28, 96, 46, 33, 182, 1, 56, 177]
abbrev dktX4_enterAlias_2 : List UInt8 := dkwX4_enterAlias_2 ++ []
def dkwX4_enterAlias_1 : List UInt8 := [96, 46, 54, 5, 42, 27, 21, 5, 21, 5, 156, 0, 8, 16, 247, 167, 0, 18, 42, 180, 0, 90, 7, 42]
abbrev dktX4_enterAlias_1 : List UInt8 := dkwX4_enterAlias_1 ++ dktX4_enterAlias_2
def dkwX4_enterAlias_0 : List UInt8 := [27, 16, 100, 160, 0, 8, 16, 247, 167, 0, 18, 42, 180, 0, 87, 7, 42, 180, 0, 114, 27, 46, 104, 28]
abbrev dktX4_enterAlias_0 : List UInt8 := dkwX4_enterAlias_0 ++ dktX4_enterAlias_1
theorem dksX4_enterAlias_0 : cX4_enterAlias.data.toList.drop 0 = dktX4_enterAlias_0 := by decide +kernel
theorem dksX4_enterAlias_1 : cX4_enterAlias.data.toList.drop 24 = dktX4_enterAlias_1 := dk_seg dksX4_enterAlias_0 24 rfl rfl
theorem dksX4_enterAlias_2 : cX4_enterAlias.data.toList.drop 48 = dktX4_enterAlias_2 := dk_seg dksX4_enterAlias_1 24 rfl rfl
theorem dX4_enterAlias_0 : decode cX4_enterAlias 0 = .ok (.iload_n 1, 1) := dk_27 (dk_at dksX4_enterAlias_0 0 rfl rfl)
theorem dX4_enterAlias_1 : decode cX4_enterAlias 1 = .ok (.bipush 100, 2) := dk_16 100 (dk_at dksX4_enterAlias_0 1 rfl rfl)
theorem dX4_enterAlias_3 : decode cX4_enterAlias 3 = .ok (.if_icmp .ne 8, 3) := dk_160 0 8 (dk_at dksX4_enterAlias_0 3 rfl rfl)
theorem dX4_enterAlias_6 : decode cX4_enterAlias 6 = .ok (.bipush (-9), 2) := dk_16 247 (dk_at dksX4_enterAlias_0 6 rfl rfl)
theorem dX4_enterAlias_8 : decode cX4_enterAlias 8 = .ok (.goto 18, 3) := dk_167 0 18 (dk_at dksX4_enterAlias_0 8 rfl rfl)
theorem dX4_enterAlias_11 : decode cX4_enterAlias 11 = .ok (.aload_n 0, 1) := dk_42 (dk_at dksX4_enterAlias_0 11 rfl rfl)
theorem dX4_enterAlias_12 : decode cX4_enterAlias 12 = .ok (.getfield 87, 3) := dk_180 0 87 (dk_at dksX4_enterAlias_0 12 rfl rfl)
theorem dX4_enterAlias_15 : decode cX4_enterAlias 15 = .ok (.iconst 4, 1) := dk_7 (dk_at dksX4_enterAlias_0 15 rfl rfl)
theorem dX4_enterAlias_16 : decode cX4_enterAlias 16 = .ok (.aload_n 0, 1) := dk_42 (dk_at dksX4_enterAlias_0 16 rfl rfl)
theorem dX4_enterAlias_17 : decode cX4_enterAlias 17 = .ok (.getfield 114, 3) := dk_180 0 114 (dk_at dksX4_enterAlias_0 17 rfl rfl)
theorem dX4_enterAlias_20 : decode cX4_enterAlias 20 = .ok (.iload_n 1, 1) := dk_27 (dk_at dksX4_enterAlias_0 20 rfl rfl)
theorem dX4_enterAlias_21 : decode cX4_enterAlias 21 = .ok (.iaload, 1) := dk_46 (dk_at dksX4_enterAlias_0 21 rfl rfl)
theorem dX4_enterAlias_22 : decode cX4_enterAlias 22 = .ok (.imul, 1) := dk_104 (dk_at dksX4_enterAlias_0 22 rfl rfl)
theorem dX4_enterAlias_23 : decode cX4_enterAlias 23 = .ok (.iload_n 2, 1) := dk_28 (dk_at dksX4_enterAlias_0 23 rfl rfl)
theorem dX4_enterAlias_24 : decode cX4_enterAlias 24 = .ok (.iadd, 1) := dk_96 (dk_at dksX4_enterAlias_1 0 rfl rfl)
theorem dX4_enterAlias_25 : decode cX4_enterAlias 25 = .ok (.iaload, 1) := dk_46 (dk_at dksX4_enterAlias_1 1 rfl rfl)
theorem dX4_enterAlias_26 : decode cX4_enterAlias 26 = .ok (.istore 5, 2) := dk_54 5 (dk_at dksX4_enterAlias_1 2 rfl rfl)
theorem dX4_enterAlias_28 : decode cX4_enterAlias 28 = .ok (.aload_n 0, 1) := dk_42 (dk_at dksX4_enterAlias_1 4 rfl rfl)
theorem dX4_enterAlias_29 : decode cX4_enterAlias 29 = .ok (.iload_n 1, 1) := dk_27 (dk_at dksX4_enterAlias_1 5 rfl rfl)
theorem dX4_enterAlias_30 : decode cX4_enterAlias 30 = .ok (.iload 5, 2) := dk_21 5 (dk_at dksX4_enterAlias_1 6 rfl rfl)
theorem dX4_enterAlias_32 : decode cX4_enterAlias 32 = .ok (.iload 5, 2) := dk_21 5 (dk_at dksX4_enterAlias_1 8 rfl rfl)
theorem dX4_enterAlias_34 : decode cX4_enterAlias 34 = .ok (.ifCond .ge 8, 3) := dk_156 0 8 (dk_at dksX4_enterAlias_1 10 rfl rfl)
theorem dX4_enterAlias_37 : decode cX4_enterAlias 37 = .ok (.bipush (-9), 2) := dk_16 247 (dk_at dksX4_enterAlias_1 13 rfl rfl)
theorem dX4_enterAlias_39 : decode cX4_enterAlias 39 = .ok (.goto 18, 3) := dk_167 0 18 (dk_at dksX4_enterAlias_1 15 rfl rfl)
theorem dX4_enterAlias_42 : decode cX4_enterAlias 42 = .ok (.aload_n 0, 1) := dk_42 (dk_at dksX4_enterAlias_1 18 rfl rfl)
theorem dX4_enterAlias_43 : decode cX4_enterAlias 43 = .ok (.getfield 90, 3) := dk_180 0 90 (dk_at dksX4_enterAlias_1 19 rfl rfl)
theorem dX4_enterAlias_46 : decode cX4_enterAlias 46 = .ok (.iconst 4, 1) := dk_7 (dk_at dksX4_enterAlias_1 22 rfl rfl)
theorem dX4_enterAlias_47 : decode cX4_enterAlias 47 = .ok (.aload_n 0, 1) := dk_42 (dk_at dksX4_enterAlias_1 23 rfl rfl)
theorem dX4_enterAlias_48 : decode cX4_enterAlias 48 = .ok (.getfield 114, 3) := dk_180 0 114 (dk_at dksX4_enterAlias_2 0 rfl rfl)
theorem dX4_enterAlias_51 : decode cX4_enterAlias 51 = .ok (.iload_n 1, 1) := dk_27 (dk_at dksX4_enterAlias_2 3 rfl rfl)
theorem dX4_enterAlias_52 : decode cX4_enterAlias 52 = .ok (.iaload, 1) := dk_46 (dk_at dksX4_enterAlias_2 4 rfl rfl)
theorem dX4_enterAlias_53 : decode cX4_enterAlias 53 = .ok (.imul, 1) := dk_104 (dk_at dksX4_enterAlias_2 5 rfl rfl)
theorem dX4_enterAlias_54 : decode cX4_enterAlias 54 = .ok (.iload_n 2, 1) := dk_28 (dk_at dksX4_enterAlias_2 6 rfl rfl)
theorem dX4_enterAlias_55 : decode cX4_enterAlias 55 = .ok (.iadd, 1) := dk_96 (dk_at dksX4_enterAlias_2 7 rfl rfl)
theorem dX4_enterAlias_56 : decode cX4_enterAlias 56 = .ok (.iaload, 1) := dk_46 (dk_at dksX4_enterAlias_2 8 rfl rfl)
theorem dX4_enterAlias_57 : decode cX4_enterAlias 57 = .ok (.lload_n 3, 1) := dk_33 (dk_at dksX4_enterAlias_2 9 rfl rfl)
theorem dX4_enterAlias_58 : decode cX4_enterAlias 58 = .ok (.invokevirtual 312, 3) := dk_182 1 56 (dk_at dksX4_enterAlias_2 10 rfl rfl)
theorem dX4_enterAlias_61 : decode cX4_enterAlias 61 = .ok (.return_, 1) := dk_177 (dk_at dksX4_enterAlias_2 13 rfl rfl)
abbrev cX4_makeRow : ByteArray := prog_32_method_57_code
def yX4_makeRow : MethodName := ⟨RX4, "makeRow", "(II)V"⟩
def dkwX4_makeRow_3 : List UInt8 := [132, 5, 1, 167, 255, 228, 177]
abbrev dktX4_makeRow_3 : List UInt8 := dkwX4_makeRow_3 ++ []
def dkwX4_makeRow_2 : List UInt8 := [16, 12, 162, 0, 27, 42, 180, 0, 125, 16, 12, 42, 27, 28, 182, 1, 95, 104, 21, 5, 96, 9, 80]
abbrev dktX4_makeRow_2 : List UInt8 := dkwX4_makeRow_2 ++ dktX4_makeRow_3
def dkwX4_makeRow_1 : List UInt8 := [9, 182, 1, 48, 177, 42, 180, 0, 121, 42, 27, 28, 182, 1, 95, 33, 136, 79, 3, 54, 5, 21, 5]
abbrev dktX4_makeRow_1 : List UInt8 := dkwX4_makeRow_1 ++ dktX4_makeRow_2
def dkwX4_makeRow_0 : List UInt8 := [42, 180, 0, 155, 27, 47, 66, 33, 9, 148, 155, 0, 11, 33, 20, 1, 93, 148, 158, 0, 11, 42, 16, 13]
abbrev dktX4_makeRow_0 : List UInt8 := dkwX4_makeRow_0 ++ dktX4_makeRow_1
theorem dksX4_makeRow_0 : cX4_makeRow.data.toList.drop 0 = dktX4_makeRow_0 := by decide +kernel
theorem dksX4_makeRow_1 : cX4_makeRow.data.toList.drop 24 = dktX4_makeRow_1 := dk_seg dksX4_makeRow_0 24 rfl rfl
theorem dksX4_makeRow_2 : cX4_makeRow.data.toList.drop 47 = dktX4_makeRow_2 := dk_seg dksX4_makeRow_1 23 rfl rfl
theorem dksX4_makeRow_3 : cX4_makeRow.data.toList.drop 70 = dktX4_makeRow_3 := dk_seg dksX4_makeRow_2 23 rfl rfl
theorem dX4_makeRow_0 : decode cX4_makeRow 0 = .ok (.aload_n 0, 1) := dk_42 (dk_at dksX4_makeRow_0 0 rfl rfl)
theorem dX4_makeRow_1 : decode cX4_makeRow 1 = .ok (.getfield 155, 3) := dk_180 0 155 (dk_at dksX4_makeRow_0 1 rfl rfl)
theorem dX4_makeRow_4 : decode cX4_makeRow 4 = .ok (.iload_n 1, 1) := dk_27 (dk_at dksX4_makeRow_0 4 rfl rfl)
theorem dX4_makeRow_5 : decode cX4_makeRow 5 = .ok (.laload, 1) := dk_47 (dk_at dksX4_makeRow_0 5 rfl rfl)
theorem dX4_makeRow_6 : decode cX4_makeRow 6 = .ok (.lstore_n 3, 1) := dk_66 (dk_at dksX4_makeRow_0 6 rfl rfl)
theorem dX4_makeRow_7 : decode cX4_makeRow 7 = .ok (.lload_n 3, 1) := dk_33 (dk_at dksX4_makeRow_0 7 rfl rfl)
theorem dX4_makeRow_8 : decode cX4_makeRow 8 = .ok (.lconst 0, 1) := dk_9 (dk_at dksX4_makeRow_0 8 rfl rfl)
theorem dX4_makeRow_9 : decode cX4_makeRow 9 = .ok (.lcmp, 1) := dk_148 (dk_at dksX4_makeRow_0 9 rfl rfl)
theorem dX4_makeRow_10 : decode cX4_makeRow 10 = .ok (.ifCond .lt 11, 3) := dk_155 0 11 (dk_at dksX4_makeRow_0 10 rfl rfl)
theorem dX4_makeRow_13 : decode cX4_makeRow 13 = .ok (.lload_n 3, 1) := dk_33 (dk_at dksX4_makeRow_0 13 rfl rfl)
theorem dX4_makeRow_14 : decode cX4_makeRow 14 = .ok (.ldc2_w 349, 3) := dk_20 1 93 (dk_at dksX4_makeRow_0 14 rfl rfl)
theorem dX4_makeRow_17 : decode cX4_makeRow 17 = .ok (.lcmp, 1) := dk_148 (dk_at dksX4_makeRow_0 17 rfl rfl)
theorem dX4_makeRow_18 : decode cX4_makeRow 18 = .ok (.ifCond .le 11, 3) := dk_158 0 11 (dk_at dksX4_makeRow_0 18 rfl rfl)
theorem dX4_makeRow_21 : decode cX4_makeRow 21 = .ok (.aload_n 0, 1) := dk_42 (dk_at dksX4_makeRow_0 21 rfl rfl)
theorem dX4_makeRow_22 : decode cX4_makeRow 22 = .ok (.bipush 13, 2) := dk_16 13 (dk_at dksX4_makeRow_0 22 rfl rfl)
theorem dX4_makeRow_24 : decode cX4_makeRow 24 = .ok (.lconst 0, 1) := dk_9 (dk_at dksX4_makeRow_1 0 rfl rfl)
theorem dX4_makeRow_25 : decode cX4_makeRow 25 = .ok (.invokevirtual 304, 3) := dk_182 1 48 (dk_at dksX4_makeRow_1 1 rfl rfl)
theorem dX4_makeRow_28 : decode cX4_makeRow 28 = .ok (.return_, 1) := dk_177 (dk_at dksX4_makeRow_1 4 rfl rfl)
theorem dX4_makeRow_29 : decode cX4_makeRow 29 = .ok (.aload_n 0, 1) := dk_42 (dk_at dksX4_makeRow_1 5 rfl rfl)
theorem dX4_makeRow_30 : decode cX4_makeRow 30 = .ok (.getfield 121, 3) := dk_180 0 121 (dk_at dksX4_makeRow_1 6 rfl rfl)
theorem dX4_makeRow_33 : decode cX4_makeRow 33 = .ok (.aload_n 0, 1) := dk_42 (dk_at dksX4_makeRow_1 9 rfl rfl)
theorem dX4_makeRow_34 : decode cX4_makeRow 34 = .ok (.iload_n 1, 1) := dk_27 (dk_at dksX4_makeRow_1 10 rfl rfl)
theorem dX4_makeRow_35 : decode cX4_makeRow 35 = .ok (.iload_n 2, 1) := dk_28 (dk_at dksX4_makeRow_1 11 rfl rfl)
theorem dX4_makeRow_36 : decode cX4_makeRow 36 = .ok (.invokevirtual 351, 3) := dk_182 1 95 (dk_at dksX4_makeRow_1 12 rfl rfl)
theorem dX4_makeRow_39 : decode cX4_makeRow 39 = .ok (.lload_n 3, 1) := dk_33 (dk_at dksX4_makeRow_1 15 rfl rfl)
theorem dX4_makeRow_40 : decode cX4_makeRow 40 = .ok (.l2i, 1) := dk_136 (dk_at dksX4_makeRow_1 16 rfl rfl)
theorem dX4_makeRow_41 : decode cX4_makeRow 41 = .ok (.iastore, 1) := dk_79 (dk_at dksX4_makeRow_1 17 rfl rfl)
theorem dX4_makeRow_42 : decode cX4_makeRow 42 = .ok (.iconst 0, 1) := dk_3 (dk_at dksX4_makeRow_1 18 rfl rfl)
theorem dX4_makeRow_43 : decode cX4_makeRow 43 = .ok (.istore 5, 2) := dk_54 5 (dk_at dksX4_makeRow_1 19 rfl rfl)
theorem dX4_makeRow_45 : decode cX4_makeRow 45 = .ok (.iload 5, 2) := dk_21 5 (dk_at dksX4_makeRow_1 21 rfl rfl)
theorem dX4_makeRow_47 : decode cX4_makeRow 47 = .ok (.bipush 12, 2) := dk_16 12 (dk_at dksX4_makeRow_2 0 rfl rfl)
theorem dX4_makeRow_49 : decode cX4_makeRow 49 = .ok (.if_icmp .ge 27, 3) := dk_162 0 27 (dk_at dksX4_makeRow_2 2 rfl rfl)
theorem dX4_makeRow_52 : decode cX4_makeRow 52 = .ok (.aload_n 0, 1) := dk_42 (dk_at dksX4_makeRow_2 5 rfl rfl)
theorem dX4_makeRow_53 : decode cX4_makeRow 53 = .ok (.getfield 125, 3) := dk_180 0 125 (dk_at dksX4_makeRow_2 6 rfl rfl)
theorem dX4_makeRow_56 : decode cX4_makeRow 56 = .ok (.bipush 12, 2) := dk_16 12 (dk_at dksX4_makeRow_2 9 rfl rfl)
theorem dX4_makeRow_58 : decode cX4_makeRow 58 = .ok (.aload_n 0, 1) := dk_42 (dk_at dksX4_makeRow_2 11 rfl rfl)
theorem dX4_makeRow_59 : decode cX4_makeRow 59 = .ok (.iload_n 1, 1) := dk_27 (dk_at dksX4_makeRow_2 12 rfl rfl)
theorem dX4_makeRow_60 : decode cX4_makeRow 60 = .ok (.iload_n 2, 1) := dk_28 (dk_at dksX4_makeRow_2 13 rfl rfl)
theorem dX4_makeRow_61 : decode cX4_makeRow 61 = .ok (.invokevirtual 351, 3) := dk_182 1 95 (dk_at dksX4_makeRow_2 14 rfl rfl)
theorem dX4_makeRow_64 : decode cX4_makeRow 64 = .ok (.imul, 1) := dk_104 (dk_at dksX4_makeRow_2 17 rfl rfl)
theorem dX4_makeRow_65 : decode cX4_makeRow 65 = .ok (.iload 5, 2) := dk_21 5 (dk_at dksX4_makeRow_2 18 rfl rfl)
theorem dX4_makeRow_67 : decode cX4_makeRow 67 = .ok (.iadd, 1) := dk_96 (dk_at dksX4_makeRow_2 20 rfl rfl)
theorem dX4_makeRow_68 : decode cX4_makeRow 68 = .ok (.lconst 0, 1) := dk_9 (dk_at dksX4_makeRow_2 21 rfl rfl)
theorem dX4_makeRow_69 : decode cX4_makeRow 69 = .ok (.lastore, 1) := dk_80 (dk_at dksX4_makeRow_2 22 rfl rfl)
theorem dX4_makeRow_70 : decode cX4_makeRow 70 = .ok (.iinc 5 1, 3) := dk_132 5 1 (dk_at dksX4_makeRow_3 0 rfl rfl)
theorem dX4_makeRow_73 : decode cX4_makeRow 73 = .ok (.goto (-28), 3) := dk_167 255 228 (dk_at dksX4_makeRow_3 3 rfl rfl)
theorem dX4_makeRow_76 : decode cX4_makeRow 76 = .ok (.return_, 1) := dk_177 (dk_at dksX4_makeRow_3 6 rfl rfl)
abbrev cX4_rowAt : ByteArray := prog_32_method_52_code
def yX4_rowAt : MethodName := ⟨RX4, "rowAt", "(II)I"⟩
def dkwX4_rowAt_0 : List UInt8 := [5, 16, 24, 42, 180, 0, 140, 27, 46, 104, 42, 180, 0, 143, 27, 46, 96, 104, 28, 96, 172]
abbrev dktX4_rowAt_0 : List UInt8 := dkwX4_rowAt_0 ++ []
theorem dksX4_rowAt_0 : cX4_rowAt.data.toList.drop 0 = dktX4_rowAt_0 := by decide +kernel
theorem dX4_rowAt_0 : decode cX4_rowAt 0 = .ok (.iconst 2, 1) := dk_5 (dk_at dksX4_rowAt_0 0 rfl rfl)
theorem dX4_rowAt_1 : decode cX4_rowAt 1 = .ok (.bipush 24, 2) := dk_16 24 (dk_at dksX4_rowAt_0 1 rfl rfl)
theorem dX4_rowAt_3 : decode cX4_rowAt 3 = .ok (.aload_n 0, 1) := dk_42 (dk_at dksX4_rowAt_0 3 rfl rfl)
theorem dX4_rowAt_4 : decode cX4_rowAt 4 = .ok (.getfield 140, 3) := dk_180 0 140 (dk_at dksX4_rowAt_0 4 rfl rfl)
theorem dX4_rowAt_7 : decode cX4_rowAt 7 = .ok (.iload_n 1, 1) := dk_27 (dk_at dksX4_rowAt_0 7 rfl rfl)
theorem dX4_rowAt_8 : decode cX4_rowAt 8 = .ok (.iaload, 1) := dk_46 (dk_at dksX4_rowAt_0 8 rfl rfl)
theorem dX4_rowAt_9 : decode cX4_rowAt 9 = .ok (.imul, 1) := dk_104 (dk_at dksX4_rowAt_0 9 rfl rfl)
theorem dX4_rowAt_10 : decode cX4_rowAt 10 = .ok (.aload_n 0, 1) := dk_42 (dk_at dksX4_rowAt_0 10 rfl rfl)
theorem dX4_rowAt_11 : decode cX4_rowAt 11 = .ok (.getfield 143, 3) := dk_180 0 143 (dk_at dksX4_rowAt_0 11 rfl rfl)
theorem dX4_rowAt_14 : decode cX4_rowAt 14 = .ok (.iload_n 1, 1) := dk_27 (dk_at dksX4_rowAt_0 14 rfl rfl)
theorem dX4_rowAt_15 : decode cX4_rowAt 15 = .ok (.iaload, 1) := dk_46 (dk_at dksX4_rowAt_0 15 rfl rfl)
theorem dX4_rowAt_16 : decode cX4_rowAt 16 = .ok (.iadd, 1) := dk_96 (dk_at dksX4_rowAt_0 16 rfl rfl)
theorem dX4_rowAt_17 : decode cX4_rowAt 17 = .ok (.imul, 1) := dk_104 (dk_at dksX4_rowAt_0 17 rfl rfl)
theorem dX4_rowAt_18 : decode cX4_rowAt 18 = .ok (.iload_n 2, 1) := dk_28 (dk_at dksX4_rowAt_0 18 rfl rfl)
theorem dX4_rowAt_19 : decode cX4_rowAt 19 = .ok (.iadd, 1) := dk_96 (dk_at dksX4_rowAt_0 19 rfl rfl)
theorem dX4_rowAt_20 : decode cX4_rowAt 20 = .ok (.ireturn, 1) := dk_172 (dk_at dksX4_rowAt_0 20 rfl rfl)
abbrev cX4_placeInRow : ByteArray := prog_32_method_58_code
def yX4_placeInRow : MethodName := ⟨RX4, "placeInRow", "(IIIJ)V"⟩
def dkwX4_placeInRow_4 : List UInt8 := [21, 6, 104, 22, 4, 136, 96, 42, 180, 0, 155, 27, 47, 80, 177]
abbrev dktX4_placeInRow_4 : List UInt8 := dkwX4_placeInRow_4 ++ []
def dkwX4_placeInRow_3 : List UInt8 := [42, 180, 0, 125, 16, 12, 21, 6, 104, 22, 4, 136, 96, 47, 80, 167, 0, 23, 42, 180, 0, 125, 16, 12]
abbrev dktX4_placeInRow_3 : List UInt8 := dkwX4_placeInRow_3 ++ dktX4_placeInRow_4
def dkwX4_placeInRow_2 : List UInt8 := [155, 0, 13, 42, 16, 15, 9, 182, 1, 48, 167, 0, 52, 28, 16, 16, 160, 0, 26, 42, 180, 0, 155, 27]
abbrev dktX4_placeInRow_2 : List UInt8 := dkwX4_placeInRow_2 ++ dktX4_placeInRow_3
def dkwX4_placeInRow_1 : List UInt8 := [182, 1, 48, 167, 0, 83, 22, 4, 9, 148, 155, 0, 17, 22, 4, 42, 180, 0, 121, 21, 6, 46, 133, 148]
abbrev dktX4_placeInRow_1 : List UInt8 := dkwX4_placeInRow_1 ++ dktX4_placeInRow_2
def dkwX4_placeInRow_0 : List UInt8 := [42, 27, 29, 182, 1, 95, 54, 6, 42, 180, 0, 121, 21, 6, 46, 156, 0, 13, 42, 16, 14, 9]
abbrev dktX4_placeInRow_0 : List UInt8 := dkwX4_placeInRow_0 ++ dktX4_placeInRow_1
theorem dksX4_placeInRow_0 : cX4_placeInRow.data.toList.drop 0 = dktX4_placeInRow_0 := by decide +kernel
theorem dksX4_placeInRow_1 : cX4_placeInRow.data.toList.drop 22 = dktX4_placeInRow_1 := dk_seg dksX4_placeInRow_0 22 rfl rfl
theorem dksX4_placeInRow_2 : cX4_placeInRow.data.toList.drop 46 = dktX4_placeInRow_2 := dk_seg dksX4_placeInRow_1 24 rfl rfl
theorem dksX4_placeInRow_3 : cX4_placeInRow.data.toList.drop 70 = dktX4_placeInRow_3 := dk_seg dksX4_placeInRow_2 24 rfl rfl
theorem dksX4_placeInRow_4 : cX4_placeInRow.data.toList.drop 94 = dktX4_placeInRow_4 := dk_seg dksX4_placeInRow_3 24 rfl rfl
theorem dX4_placeInRow_0 : decode cX4_placeInRow 0 = .ok (.aload_n 0, 1) := dk_42 (dk_at dksX4_placeInRow_0 0 rfl rfl)
theorem dX4_placeInRow_1 : decode cX4_placeInRow 1 = .ok (.iload_n 1, 1) := dk_27 (dk_at dksX4_placeInRow_0 1 rfl rfl)
theorem dX4_placeInRow_2 : decode cX4_placeInRow 2 = .ok (.iload_n 3, 1) := dk_29 (dk_at dksX4_placeInRow_0 2 rfl rfl)
theorem dX4_placeInRow_3 : decode cX4_placeInRow 3 = .ok (.invokevirtual 351, 3) := dk_182 1 95 (dk_at dksX4_placeInRow_0 3 rfl rfl)
theorem dX4_placeInRow_6 : decode cX4_placeInRow 6 = .ok (.istore 6, 2) := dk_54 6 (dk_at dksX4_placeInRow_0 6 rfl rfl)
theorem dX4_placeInRow_8 : decode cX4_placeInRow 8 = .ok (.aload_n 0, 1) := dk_42 (dk_at dksX4_placeInRow_0 8 rfl rfl)
theorem dX4_placeInRow_9 : decode cX4_placeInRow 9 = .ok (.getfield 121, 3) := dk_180 0 121 (dk_at dksX4_placeInRow_0 9 rfl rfl)
theorem dX4_placeInRow_12 : decode cX4_placeInRow 12 = .ok (.iload 6, 2) := dk_21 6 (dk_at dksX4_placeInRow_0 12 rfl rfl)
theorem dX4_placeInRow_14 : decode cX4_placeInRow 14 = .ok (.iaload, 1) := dk_46 (dk_at dksX4_placeInRow_0 14 rfl rfl)
theorem dX4_placeInRow_15 : decode cX4_placeInRow 15 = .ok (.ifCond .ge 13, 3) := dk_156 0 13 (dk_at dksX4_placeInRow_0 15 rfl rfl)
theorem dX4_placeInRow_18 : decode cX4_placeInRow 18 = .ok (.aload_n 0, 1) := dk_42 (dk_at dksX4_placeInRow_0 18 rfl rfl)
theorem dX4_placeInRow_19 : decode cX4_placeInRow 19 = .ok (.bipush 14, 2) := dk_16 14 (dk_at dksX4_placeInRow_0 19 rfl rfl)
theorem dX4_placeInRow_21 : decode cX4_placeInRow 21 = .ok (.lconst 0, 1) := dk_9 (dk_at dksX4_placeInRow_0 21 rfl rfl)
theorem dX4_placeInRow_22 : decode cX4_placeInRow 22 = .ok (.invokevirtual 304, 3) := dk_182 1 48 (dk_at dksX4_placeInRow_1 0 rfl rfl)
theorem dX4_placeInRow_25 : decode cX4_placeInRow 25 = .ok (.goto 83, 3) := dk_167 0 83 (dk_at dksX4_placeInRow_1 3 rfl rfl)
theorem dX4_placeInRow_28 : decode cX4_placeInRow 28 = .ok (.lload 4, 2) := dk_22 4 (dk_at dksX4_placeInRow_1 6 rfl rfl)
theorem dX4_placeInRow_30 : decode cX4_placeInRow 30 = .ok (.lconst 0, 1) := dk_9 (dk_at dksX4_placeInRow_1 8 rfl rfl)
theorem dX4_placeInRow_31 : decode cX4_placeInRow 31 = .ok (.lcmp, 1) := dk_148 (dk_at dksX4_placeInRow_1 9 rfl rfl)
theorem dX4_placeInRow_32 : decode cX4_placeInRow 32 = .ok (.ifCond .lt 17, 3) := dk_155 0 17 (dk_at dksX4_placeInRow_1 10 rfl rfl)
theorem dX4_placeInRow_35 : decode cX4_placeInRow 35 = .ok (.lload 4, 2) := dk_22 4 (dk_at dksX4_placeInRow_1 13 rfl rfl)
theorem dX4_placeInRow_37 : decode cX4_placeInRow 37 = .ok (.aload_n 0, 1) := dk_42 (dk_at dksX4_placeInRow_1 15 rfl rfl)
theorem dX4_placeInRow_38 : decode cX4_placeInRow 38 = .ok (.getfield 121, 3) := dk_180 0 121 (dk_at dksX4_placeInRow_1 16 rfl rfl)
theorem dX4_placeInRow_41 : decode cX4_placeInRow 41 = .ok (.iload 6, 2) := dk_21 6 (dk_at dksX4_placeInRow_1 19 rfl rfl)
theorem dX4_placeInRow_43 : decode cX4_placeInRow 43 = .ok (.iaload, 1) := dk_46 (dk_at dksX4_placeInRow_1 21 rfl rfl)
theorem dX4_placeInRow_44 : decode cX4_placeInRow 44 = .ok (.i2l, 1) := dk_133 (dk_at dksX4_placeInRow_1 22 rfl rfl)
theorem dX4_placeInRow_45 : decode cX4_placeInRow 45 = .ok (.lcmp, 1) := dk_148 (dk_at dksX4_placeInRow_1 23 rfl rfl)
theorem dX4_placeInRow_46 : decode cX4_placeInRow 46 = .ok (.ifCond .lt 13, 3) := dk_155 0 13 (dk_at dksX4_placeInRow_2 0 rfl rfl)
theorem dX4_placeInRow_49 : decode cX4_placeInRow 49 = .ok (.aload_n 0, 1) := dk_42 (dk_at dksX4_placeInRow_2 3 rfl rfl)
theorem dX4_placeInRow_50 : decode cX4_placeInRow 50 = .ok (.bipush 15, 2) := dk_16 15 (dk_at dksX4_placeInRow_2 4 rfl rfl)
theorem dX4_placeInRow_52 : decode cX4_placeInRow 52 = .ok (.lconst 0, 1) := dk_9 (dk_at dksX4_placeInRow_2 6 rfl rfl)
theorem dX4_placeInRow_53 : decode cX4_placeInRow 53 = .ok (.invokevirtual 304, 3) := dk_182 1 48 (dk_at dksX4_placeInRow_2 7 rfl rfl)
theorem dX4_placeInRow_56 : decode cX4_placeInRow 56 = .ok (.goto 52, 3) := dk_167 0 52 (dk_at dksX4_placeInRow_2 10 rfl rfl)
theorem dX4_placeInRow_59 : decode cX4_placeInRow 59 = .ok (.iload_n 2, 1) := dk_28 (dk_at dksX4_placeInRow_2 13 rfl rfl)
theorem dX4_placeInRow_60 : decode cX4_placeInRow 60 = .ok (.bipush 16, 2) := dk_16 16 (dk_at dksX4_placeInRow_2 14 rfl rfl)
theorem dX4_placeInRow_62 : decode cX4_placeInRow 62 = .ok (.if_icmp .ne 26, 3) := dk_160 0 26 (dk_at dksX4_placeInRow_2 16 rfl rfl)
theorem dX4_placeInRow_65 : decode cX4_placeInRow 65 = .ok (.aload_n 0, 1) := dk_42 (dk_at dksX4_placeInRow_2 19 rfl rfl)
theorem dX4_placeInRow_66 : decode cX4_placeInRow 66 = .ok (.getfield 155, 3) := dk_180 0 155 (dk_at dksX4_placeInRow_2 20 rfl rfl)
theorem dX4_placeInRow_69 : decode cX4_placeInRow 69 = .ok (.iload_n 1, 1) := dk_27 (dk_at dksX4_placeInRow_2 23 rfl rfl)
theorem dX4_placeInRow_70 : decode cX4_placeInRow 70 = .ok (.aload_n 0, 1) := dk_42 (dk_at dksX4_placeInRow_3 0 rfl rfl)
theorem dX4_placeInRow_71 : decode cX4_placeInRow 71 = .ok (.getfield 125, 3) := dk_180 0 125 (dk_at dksX4_placeInRow_3 1 rfl rfl)
theorem dX4_placeInRow_74 : decode cX4_placeInRow 74 = .ok (.bipush 12, 2) := dk_16 12 (dk_at dksX4_placeInRow_3 4 rfl rfl)
theorem dX4_placeInRow_76 : decode cX4_placeInRow 76 = .ok (.iload 6, 2) := dk_21 6 (dk_at dksX4_placeInRow_3 6 rfl rfl)
theorem dX4_placeInRow_78 : decode cX4_placeInRow 78 = .ok (.imul, 1) := dk_104 (dk_at dksX4_placeInRow_3 8 rfl rfl)
theorem dX4_placeInRow_79 : decode cX4_placeInRow 79 = .ok (.lload 4, 2) := dk_22 4 (dk_at dksX4_placeInRow_3 9 rfl rfl)
theorem dX4_placeInRow_81 : decode cX4_placeInRow 81 = .ok (.l2i, 1) := dk_136 (dk_at dksX4_placeInRow_3 11 rfl rfl)
theorem dX4_placeInRow_82 : decode cX4_placeInRow 82 = .ok (.iadd, 1) := dk_96 (dk_at dksX4_placeInRow_3 12 rfl rfl)
theorem dX4_placeInRow_83 : decode cX4_placeInRow 83 = .ok (.laload, 1) := dk_47 (dk_at dksX4_placeInRow_3 13 rfl rfl)
theorem dX4_placeInRow_84 : decode cX4_placeInRow 84 = .ok (.lastore, 1) := dk_80 (dk_at dksX4_placeInRow_3 14 rfl rfl)
theorem dX4_placeInRow_85 : decode cX4_placeInRow 85 = .ok (.goto 23, 3) := dk_167 0 23 (dk_at dksX4_placeInRow_3 15 rfl rfl)
theorem dX4_placeInRow_88 : decode cX4_placeInRow 88 = .ok (.aload_n 0, 1) := dk_42 (dk_at dksX4_placeInRow_3 18 rfl rfl)
theorem dX4_placeInRow_89 : decode cX4_placeInRow 89 = .ok (.getfield 125, 3) := dk_180 0 125 (dk_at dksX4_placeInRow_3 19 rfl rfl)
theorem dX4_placeInRow_92 : decode cX4_placeInRow 92 = .ok (.bipush 12, 2) := dk_16 12 (dk_at dksX4_placeInRow_3 22 rfl rfl)
theorem dX4_placeInRow_94 : decode cX4_placeInRow 94 = .ok (.iload 6, 2) := dk_21 6 (dk_at dksX4_placeInRow_4 0 rfl rfl)
theorem dX4_placeInRow_96 : decode cX4_placeInRow 96 = .ok (.imul, 1) := dk_104 (dk_at dksX4_placeInRow_4 2 rfl rfl)
theorem dX4_placeInRow_97 : decode cX4_placeInRow 97 = .ok (.lload 4, 2) := dk_22 4 (dk_at dksX4_placeInRow_4 3 rfl rfl)
theorem dX4_placeInRow_99 : decode cX4_placeInRow 99 = .ok (.l2i, 1) := dk_136 (dk_at dksX4_placeInRow_4 5 rfl rfl)
theorem dX4_placeInRow_100 : decode cX4_placeInRow 100 = .ok (.iadd, 1) := dk_96 (dk_at dksX4_placeInRow_4 6 rfl rfl)
theorem dX4_placeInRow_101 : decode cX4_placeInRow 101 = .ok (.aload_n 0, 1) := dk_42 (dk_at dksX4_placeInRow_4 7 rfl rfl)
theorem dX4_placeInRow_102 : decode cX4_placeInRow 102 = .ok (.getfield 155, 3) := dk_180 0 155 (dk_at dksX4_placeInRow_4 8 rfl rfl)
theorem dX4_placeInRow_105 : decode cX4_placeInRow 105 = .ok (.iload_n 1, 1) := dk_27 (dk_at dksX4_placeInRow_4 11 rfl rfl)
theorem dX4_placeInRow_106 : decode cX4_placeInRow 106 = .ok (.laload, 1) := dk_47 (dk_at dksX4_placeInRow_4 12 rfl rfl)
theorem dX4_placeInRow_107 : decode cX4_placeInRow 107 = .ok (.lastore, 1) := dk_80 (dk_at dksX4_placeInRow_4 13 rfl rfl)
theorem dX4_placeInRow_108 : decode cX4_placeInRow 108 = .ok (.return_, 1) := dk_177 (dk_at dksX4_placeInRow_4 14 rfl rfl)
abbrev cX4_toOther : ByteArray := prog_32_method_59_code
def yX4_toOther : MethodName := ⟨RX4, "toOther", "(IIII)V"⟩
def dkwX4_toOther_4 : List UInt8 := [182, 1, 48, 177]
abbrev dktX4_toOther_4 : List UInt8 := dkwX4_toOther_4 ++ []
def dkwX4_toOther_3 : List UInt8 := [21, 4, 182, 1, 19, 153, 0, 13, 42, 180, 0, 155, 27, 10, 80, 167, 0, 10, 42, 16, 16, 9]
abbrev dktX4_toOther_3 : List UInt8 := dkwX4_toOther_3 ++ dktX4_toOther_4
def dkwX4_toOther_2 : List UInt8 := [182, 1, 74, 167, 0, 45, 21, 4, 42, 180, 0, 200, 162, 0, 29, 42, 42, 180, 0, 114, 21, 5, 46]
abbrev dktX4_toOther_2 : List UInt8 := dkwX4_toOther_2 ++ dktX4_toOther_3
def dkwX4_toOther_1 : List UInt8 := [182, 1, 48, 167, 0, 68, 28, 16, 18, 160, 0, 20, 42, 21, 5, 21, 4, 42, 180, 0, 155, 27, 47]
abbrev dktX4_toOther_1 : List UInt8 := dkwX4_toOther_1 ++ dktX4_toOther_2
def dkwX4_toOther_0 : List UInt8 := [42, 180, 0, 128, 42, 27, 29, 182, 1, 95, 46, 54, 5, 21, 5, 156, 0, 13, 42, 16, 14, 9]
abbrev dktX4_toOther_0 : List UInt8 := dkwX4_toOther_0 ++ dktX4_toOther_1
theorem dksX4_toOther_0 : cX4_toOther.data.toList.drop 0 = dktX4_toOther_0 := by decide +kernel
theorem dksX4_toOther_1 : cX4_toOther.data.toList.drop 22 = dktX4_toOther_1 := dk_seg dksX4_toOther_0 22 rfl rfl
theorem dksX4_toOther_2 : cX4_toOther.data.toList.drop 45 = dktX4_toOther_2 := dk_seg dksX4_toOther_1 23 rfl rfl
theorem dksX4_toOther_3 : cX4_toOther.data.toList.drop 68 = dktX4_toOther_3 := dk_seg dksX4_toOther_2 23 rfl rfl
theorem dksX4_toOther_4 : cX4_toOther.data.toList.drop 90 = dktX4_toOther_4 := dk_seg dksX4_toOther_3 22 rfl rfl
theorem dX4_toOther_0 : decode cX4_toOther 0 = .ok (.aload_n 0, 1) := dk_42 (dk_at dksX4_toOther_0 0 rfl rfl)
theorem dX4_toOther_1 : decode cX4_toOther 1 = .ok (.getfield 128, 3) := dk_180 0 128 (dk_at dksX4_toOther_0 1 rfl rfl)
theorem dX4_toOther_4 : decode cX4_toOther 4 = .ok (.aload_n 0, 1) := dk_42 (dk_at dksX4_toOther_0 4 rfl rfl)
theorem dX4_toOther_5 : decode cX4_toOther 5 = .ok (.iload_n 1, 1) := dk_27 (dk_at dksX4_toOther_0 5 rfl rfl)
theorem dX4_toOther_6 : decode cX4_toOther 6 = .ok (.iload_n 3, 1) := dk_29 (dk_at dksX4_toOther_0 6 rfl rfl)
theorem dX4_toOther_7 : decode cX4_toOther 7 = .ok (.invokevirtual 351, 3) := dk_182 1 95 (dk_at dksX4_toOther_0 7 rfl rfl)
theorem dX4_toOther_10 : decode cX4_toOther 10 = .ok (.iaload, 1) := dk_46 (dk_at dksX4_toOther_0 10 rfl rfl)
theorem dX4_toOther_11 : decode cX4_toOther 11 = .ok (.istore 5, 2) := dk_54 5 (dk_at dksX4_toOther_0 11 rfl rfl)
theorem dX4_toOther_13 : decode cX4_toOther 13 = .ok (.iload 5, 2) := dk_21 5 (dk_at dksX4_toOther_0 13 rfl rfl)
theorem dX4_toOther_15 : decode cX4_toOther 15 = .ok (.ifCond .ge 13, 3) := dk_156 0 13 (dk_at dksX4_toOther_0 15 rfl rfl)
theorem dX4_toOther_18 : decode cX4_toOther 18 = .ok (.aload_n 0, 1) := dk_42 (dk_at dksX4_toOther_0 18 rfl rfl)
theorem dX4_toOther_19 : decode cX4_toOther 19 = .ok (.bipush 14, 2) := dk_16 14 (dk_at dksX4_toOther_0 19 rfl rfl)
theorem dX4_toOther_21 : decode cX4_toOther 21 = .ok (.lconst 0, 1) := dk_9 (dk_at dksX4_toOther_0 21 rfl rfl)
theorem dX4_toOther_22 : decode cX4_toOther 22 = .ok (.invokevirtual 304, 3) := dk_182 1 48 (dk_at dksX4_toOther_1 0 rfl rfl)
theorem dX4_toOther_25 : decode cX4_toOther 25 = .ok (.goto 68, 3) := dk_167 0 68 (dk_at dksX4_toOther_1 3 rfl rfl)
theorem dX4_toOther_28 : decode cX4_toOther 28 = .ok (.iload_n 2, 1) := dk_28 (dk_at dksX4_toOther_1 6 rfl rfl)
theorem dX4_toOther_29 : decode cX4_toOther 29 = .ok (.bipush 18, 2) := dk_16 18 (dk_at dksX4_toOther_1 7 rfl rfl)
theorem dX4_toOther_31 : decode cX4_toOther 31 = .ok (.if_icmp .ne 20, 3) := dk_160 0 20 (dk_at dksX4_toOther_1 9 rfl rfl)
theorem dX4_toOther_34 : decode cX4_toOther 34 = .ok (.aload_n 0, 1) := dk_42 (dk_at dksX4_toOther_1 12 rfl rfl)
theorem dX4_toOther_35 : decode cX4_toOther 35 = .ok (.iload 5, 2) := dk_21 5 (dk_at dksX4_toOther_1 13 rfl rfl)
theorem dX4_toOther_37 : decode cX4_toOther 37 = .ok (.iload 4, 2) := dk_21 4 (dk_at dksX4_toOther_1 15 rfl rfl)
theorem dX4_toOther_39 : decode cX4_toOther 39 = .ok (.aload_n 0, 1) := dk_42 (dk_at dksX4_toOther_1 17 rfl rfl)
theorem dX4_toOther_40 : decode cX4_toOther 40 = .ok (.getfield 155, 3) := dk_180 0 155 (dk_at dksX4_toOther_1 18 rfl rfl)
theorem dX4_toOther_43 : decode cX4_toOther 43 = .ok (.iload_n 1, 1) := dk_27 (dk_at dksX4_toOther_1 21 rfl rfl)
theorem dX4_toOther_44 : decode cX4_toOther 44 = .ok (.laload, 1) := dk_47 (dk_at dksX4_toOther_1 22 rfl rfl)
theorem dX4_toOther_45 : decode cX4_toOther 45 = .ok (.invokevirtual 330, 3) := dk_182 1 74 (dk_at dksX4_toOther_2 0 rfl rfl)
theorem dX4_toOther_48 : decode cX4_toOther 48 = .ok (.goto 45, 3) := dk_167 0 45 (dk_at dksX4_toOther_2 3 rfl rfl)
theorem dX4_toOther_51 : decode cX4_toOther 51 = .ok (.iload 4, 2) := dk_21 4 (dk_at dksX4_toOther_2 6 rfl rfl)
theorem dX4_toOther_53 : decode cX4_toOther 53 = .ok (.aload_n 0, 1) := dk_42 (dk_at dksX4_toOther_2 8 rfl rfl)
theorem dX4_toOther_54 : decode cX4_toOther 54 = .ok (.getfield 200, 3) := dk_180 0 200 (dk_at dksX4_toOther_2 9 rfl rfl)
theorem dX4_toOther_57 : decode cX4_toOther 57 = .ok (.if_icmp .ge 29, 3) := dk_162 0 29 (dk_at dksX4_toOther_2 12 rfl rfl)
theorem dX4_toOther_60 : decode cX4_toOther 60 = .ok (.aload_n 0, 1) := dk_42 (dk_at dksX4_toOther_2 15 rfl rfl)
theorem dX4_toOther_61 : decode cX4_toOther 61 = .ok (.aload_n 0, 1) := dk_42 (dk_at dksX4_toOther_2 16 rfl rfl)
theorem dX4_toOther_62 : decode cX4_toOther 62 = .ok (.getfield 114, 3) := dk_180 0 114 (dk_at dksX4_toOther_2 17 rfl rfl)
theorem dX4_toOther_65 : decode cX4_toOther 65 = .ok (.iload 5, 2) := dk_21 5 (dk_at dksX4_toOther_2 20 rfl rfl)
theorem dX4_toOther_67 : decode cX4_toOther 67 = .ok (.iaload, 1) := dk_46 (dk_at dksX4_toOther_2 22 rfl rfl)
theorem dX4_toOther_68 : decode cX4_toOther 68 = .ok (.iload 4, 2) := dk_21 4 (dk_at dksX4_toOther_3 0 rfl rfl)
theorem dX4_toOther_70 : decode cX4_toOther 70 = .ok (.invokevirtual 275, 3) := dk_182 1 19 (dk_at dksX4_toOther_3 2 rfl rfl)
theorem dX4_toOther_73 : decode cX4_toOther 73 = .ok (.ifCond .eq 13, 3) := dk_153 0 13 (dk_at dksX4_toOther_3 5 rfl rfl)
theorem dX4_toOther_76 : decode cX4_toOther 76 = .ok (.aload_n 0, 1) := dk_42 (dk_at dksX4_toOther_3 8 rfl rfl)
theorem dX4_toOther_77 : decode cX4_toOther 77 = .ok (.getfield 155, 3) := dk_180 0 155 (dk_at dksX4_toOther_3 9 rfl rfl)
theorem dX4_toOther_80 : decode cX4_toOther 80 = .ok (.iload_n 1, 1) := dk_27 (dk_at dksX4_toOther_3 12 rfl rfl)
theorem dX4_toOther_81 : decode cX4_toOther 81 = .ok (.lconst 1, 1) := dk_10 (dk_at dksX4_toOther_3 13 rfl rfl)
theorem dX4_toOther_82 : decode cX4_toOther 82 = .ok (.lastore, 1) := dk_80 (dk_at dksX4_toOther_3 14 rfl rfl)
theorem dX4_toOther_83 : decode cX4_toOther 83 = .ok (.goto 10, 3) := dk_167 0 10 (dk_at dksX4_toOther_3 15 rfl rfl)
theorem dX4_toOther_86 : decode cX4_toOther 86 = .ok (.aload_n 0, 1) := dk_42 (dk_at dksX4_toOther_3 18 rfl rfl)
theorem dX4_toOther_87 : decode cX4_toOther 87 = .ok (.bipush 16, 2) := dk_16 16 (dk_at dksX4_toOther_3 19 rfl rfl)
theorem dX4_toOther_89 : decode cX4_toOther 89 = .ok (.lconst 0, 1) := dk_9 (dk_at dksX4_toOther_3 21 rfl rfl)
theorem dX4_toOther_90 : decode cX4_toOther 90 = .ok (.invokevirtual 304, 3) := dk_182 1 48 (dk_at dksX4_toOther_4 0 rfl rfl)
theorem dX4_toOther_93 : decode cX4_toOther 93 = .ok (.return_, 1) := dk_177 (dk_at dksX4_toOther_4 3 rfl rfl)
abbrev cX4_call : ByteArray := prog_32_method_65_code
def yX4_call : MethodName := ⟨RX4, "call", "(IIJ)I"⟩
def dkwX4_call_4 : List UInt8 := [172]
abbrev dktX4_call_4 : List UInt8 := dkwX4_call_4 ++ []
def dkwX4_call_3 : List UInt8 := [180, 1, 45, 154, 0, 10, 42, 180, 1, 60, 167, 0, 7, 42, 180, 1, 122, 181, 1, 122, 42, 180, 1, 45]
abbrev dktX4_call_3 : List UInt8 := dkwX4_call_3 ++ dktX4_call_4
def dkwX4_call_2 : List UInt8 := [5, 172, 42, 3, 181, 1, 45, 42, 27, 28, 21, 5, 33, 182, 1, 56, 42, 182, 1, 107, 42, 42]
abbrev dktX4_call_2 : List UInt8 := dkwX4_call_2 ++ dktX4_call_3
def dkwX4_call_1 : List UInt8 := [180, 0, 81, 16, 12, 42, 180, 0, 114, 27, 46, 104, 28, 96, 46, 4, 100, 54, 5, 21, 5, 156, 0, 5]
abbrev dktX4_call_1 : List UInt8 := dkwX4_call_1 ++ dktX4_call_2
def dkwX4_call_0 : List UInt8 := [42, 27, 182, 1, 119, 153, 0, 10, 28, 184, 0, 206, 154, 0, 5, 2, 172, 42, 182, 1, 113, 42]
abbrev dktX4_call_0 : List UInt8 := dkwX4_call_0 ++ dktX4_call_1
theorem dksX4_call_0 : cX4_call.data.toList.drop 0 = dktX4_call_0 := by decide +kernel
theorem dksX4_call_1 : cX4_call.data.toList.drop 22 = dktX4_call_1 := dk_seg dksX4_call_0 22 rfl rfl
theorem dksX4_call_2 : cX4_call.data.toList.drop 46 = dktX4_call_2 := dk_seg dksX4_call_1 24 rfl rfl
theorem dksX4_call_3 : cX4_call.data.toList.drop 68 = dktX4_call_3 := dk_seg dksX4_call_2 22 rfl rfl
theorem dksX4_call_4 : cX4_call.data.toList.drop 92 = dktX4_call_4 := dk_seg dksX4_call_3 24 rfl rfl
theorem dX4_call_0 : decode cX4_call 0 = .ok (.aload_n 0, 1) := dk_42 (dk_at dksX4_call_0 0 rfl rfl)
theorem dX4_call_1 : decode cX4_call 1 = .ok (.iload_n 1, 1) := dk_27 (dk_at dksX4_call_0 1 rfl rfl)
theorem dX4_call_2 : decode cX4_call 2 = .ok (.invokevirtual 375, 3) := dk_182 1 119 (dk_at dksX4_call_0 2 rfl rfl)
theorem dX4_call_5 : decode cX4_call 5 = .ok (.ifCond .eq 10, 3) := dk_153 0 10 (dk_at dksX4_call_0 5 rfl rfl)
theorem dX4_call_8 : decode cX4_call 8 = .ok (.iload_n 2, 1) := dk_28 (dk_at dksX4_call_0 8 rfl rfl)
theorem dX4_call_9 : decode cX4_call 9 = .ok (.invokestatic 206, 3) := dk_184 0 206 (dk_at dksX4_call_0 9 rfl rfl)
theorem dX4_call_12 : decode cX4_call 12 = .ok (.ifCond .ne 5, 3) := dk_154 0 5 (dk_at dksX4_call_0 12 rfl rfl)
theorem dX4_call_15 : decode cX4_call 15 = .ok (.iconst (-1), 1) := dk_2 (dk_at dksX4_call_0 15 rfl rfl)
theorem dX4_call_16 : decode cX4_call 16 = .ok (.ireturn, 1) := dk_172 (dk_at dksX4_call_0 16 rfl rfl)
theorem dX4_call_17 : decode cX4_call 17 = .ok (.aload_n 0, 1) := dk_42 (dk_at dksX4_call_0 17 rfl rfl)
theorem dX4_call_18 : decode cX4_call 18 = .ok (.invokevirtual 369, 3) := dk_182 1 113 (dk_at dksX4_call_0 18 rfl rfl)
theorem dX4_call_21 : decode cX4_call 21 = .ok (.aload_n 0, 1) := dk_42 (dk_at dksX4_call_0 21 rfl rfl)
theorem dX4_call_22 : decode cX4_call 22 = .ok (.getfield 81, 3) := dk_180 0 81 (dk_at dksX4_call_1 0 rfl rfl)
theorem dX4_call_25 : decode cX4_call 25 = .ok (.bipush 12, 2) := dk_16 12 (dk_at dksX4_call_1 3 rfl rfl)
theorem dX4_call_27 : decode cX4_call 27 = .ok (.aload_n 0, 1) := dk_42 (dk_at dksX4_call_1 5 rfl rfl)
theorem dX4_call_28 : decode cX4_call 28 = .ok (.getfield 114, 3) := dk_180 0 114 (dk_at dksX4_call_1 6 rfl rfl)
theorem dX4_call_31 : decode cX4_call 31 = .ok (.iload_n 1, 1) := dk_27 (dk_at dksX4_call_1 9 rfl rfl)
theorem dX4_call_32 : decode cX4_call 32 = .ok (.iaload, 1) := dk_46 (dk_at dksX4_call_1 10 rfl rfl)
theorem dX4_call_33 : decode cX4_call 33 = .ok (.imul, 1) := dk_104 (dk_at dksX4_call_1 11 rfl rfl)
theorem dX4_call_34 : decode cX4_call 34 = .ok (.iload_n 2, 1) := dk_28 (dk_at dksX4_call_1 12 rfl rfl)
theorem dX4_call_35 : decode cX4_call 35 = .ok (.iadd, 1) := dk_96 (dk_at dksX4_call_1 13 rfl rfl)
theorem dX4_call_36 : decode cX4_call 36 = .ok (.iaload, 1) := dk_46 (dk_at dksX4_call_1 14 rfl rfl)
theorem dX4_call_37 : decode cX4_call 37 = .ok (.iconst 1, 1) := dk_4 (dk_at dksX4_call_1 15 rfl rfl)
theorem dX4_call_38 : decode cX4_call 38 = .ok (.isub, 1) := dk_100 (dk_at dksX4_call_1 16 rfl rfl)
theorem dX4_call_39 : decode cX4_call 39 = .ok (.istore 5, 2) := dk_54 5 (dk_at dksX4_call_1 17 rfl rfl)
theorem dX4_call_41 : decode cX4_call 41 = .ok (.iload 5, 2) := dk_21 5 (dk_at dksX4_call_1 19 rfl rfl)
theorem dX4_call_43 : decode cX4_call 43 = .ok (.ifCond .ge 5, 3) := dk_156 0 5 (dk_at dksX4_call_1 21 rfl rfl)
theorem dX4_call_46 : decode cX4_call 46 = .ok (.iconst 2, 1) := dk_5 (dk_at dksX4_call_2 0 rfl rfl)
theorem dX4_call_47 : decode cX4_call 47 = .ok (.ireturn, 1) := dk_172 (dk_at dksX4_call_2 1 rfl rfl)
theorem dX4_call_48 : decode cX4_call 48 = .ok (.aload_n 0, 1) := dk_42 (dk_at dksX4_call_2 2 rfl rfl)
theorem dX4_call_49 : decode cX4_call 49 = .ok (.iconst 0, 1) := dk_3 (dk_at dksX4_call_2 3 rfl rfl)
theorem dX4_call_50 : decode cX4_call 50 = .ok (.putfield 301, 3) := dk_181 1 45 (dk_at dksX4_call_2 4 rfl rfl)
theorem dX4_call_53 : decode cX4_call 53 = .ok (.aload_n 0, 1) := dk_42 (dk_at dksX4_call_2 7 rfl rfl)
theorem dX4_call_54 : decode cX4_call 54 = .ok (.iload_n 1, 1) := dk_27 (dk_at dksX4_call_2 8 rfl rfl)
theorem dX4_call_55 : decode cX4_call 55 = .ok (.iload_n 2, 1) := dk_28 (dk_at dksX4_call_2 9 rfl rfl)
theorem dX4_call_56 : decode cX4_call 56 = .ok (.iload 5, 2) := dk_21 5 (dk_at dksX4_call_2 10 rfl rfl)
theorem dX4_call_58 : decode cX4_call 58 = .ok (.lload_n 3, 1) := dk_33 (dk_at dksX4_call_2 12 rfl rfl)
theorem dX4_call_59 : decode cX4_call 59 = .ok (.invokevirtual 312, 3) := dk_182 1 56 (dk_at dksX4_call_2 13 rfl rfl)
theorem dX4_call_62 : decode cX4_call 62 = .ok (.aload_n 0, 1) := dk_42 (dk_at dksX4_call_2 16 rfl rfl)
theorem dX4_call_63 : decode cX4_call 63 = .ok (.invokevirtual 363, 3) := dk_182 1 107 (dk_at dksX4_call_2 17 rfl rfl)
theorem dX4_call_66 : decode cX4_call 66 = .ok (.aload_n 0, 1) := dk_42 (dk_at dksX4_call_2 20 rfl rfl)
theorem dX4_call_67 : decode cX4_call 67 = .ok (.aload_n 0, 1) := dk_42 (dk_at dksX4_call_2 21 rfl rfl)
theorem dX4_call_68 : decode cX4_call 68 = .ok (.getfield 301, 3) := dk_180 1 45 (dk_at dksX4_call_3 0 rfl rfl)
theorem dX4_call_71 : decode cX4_call 71 = .ok (.ifCond .ne 10, 3) := dk_154 0 10 (dk_at dksX4_call_3 3 rfl rfl)
theorem dX4_call_74 : decode cX4_call 74 = .ok (.aload_n 0, 1) := dk_42 (dk_at dksX4_call_3 6 rfl rfl)
theorem dX4_call_75 : decode cX4_call 75 = .ok (.getfield 316, 3) := dk_180 1 60 (dk_at dksX4_call_3 7 rfl rfl)
theorem dX4_call_78 : decode cX4_call 78 = .ok (.goto 7, 3) := dk_167 0 7 (dk_at dksX4_call_3 10 rfl rfl)
theorem dX4_call_81 : decode cX4_call 81 = .ok (.aload_n 0, 1) := dk_42 (dk_at dksX4_call_3 13 rfl rfl)
theorem dX4_call_82 : decode cX4_call 82 = .ok (.getfield 378, 3) := dk_180 1 122 (dk_at dksX4_call_3 14 rfl rfl)
theorem dX4_call_85 : decode cX4_call 85 = .ok (.putfield 378, 3) := dk_181 1 122 (dk_at dksX4_call_3 17 rfl rfl)
theorem dX4_call_88 : decode cX4_call 88 = .ok (.aload_n 0, 1) := dk_42 (dk_at dksX4_call_3 20 rfl rfl)
theorem dX4_call_89 : decode cX4_call 89 = .ok (.getfield 301, 3) := dk_180 1 45 (dk_at dksX4_call_3 21 rfl rfl)
theorem dX4_call_92 : decode cX4_call 92 = .ok (.ireturn, 1) := dk_172 (dk_at dksX4_call_4 0 rfl rfl)
abbrev cX4_isObject : ByteArray := prog_32_method_64_code
def yX4_isObject : MethodName := ⟨RX4, "isObject", "(I)Z"⟩
def dkwX4_isObject_0 : List UInt8 := [27, 3, 42, 180, 1, 110, 4, 100, 184, 0, 188, 172]
abbrev dktX4_isObject_0 : List UInt8 := dkwX4_isObject_0 ++ []
theorem dksX4_isObject_0 : cX4_isObject.data.toList.drop 0 = dktX4_isObject_0 := by decide +kernel
theorem dX4_isObject_0 : decode cX4_isObject 0 = .ok (.iload_n 1, 1) := dk_27 (dk_at dksX4_isObject_0 0 rfl rfl)
theorem dX4_isObject_1 : decode cX4_isObject 1 = .ok (.iconst 0, 1) := dk_3 (dk_at dksX4_isObject_0 1 rfl rfl)
theorem dX4_isObject_2 : decode cX4_isObject 2 = .ok (.aload_n 0, 1) := dk_42 (dk_at dksX4_isObject_0 2 rfl rfl)
theorem dX4_isObject_3 : decode cX4_isObject 3 = .ok (.getfield 366, 3) := dk_180 1 110 (dk_at dksX4_isObject_0 3 rfl rfl)
theorem dX4_isObject_6 : decode cX4_isObject 6 = .ok (.iconst 1, 1) := dk_4 (dk_at dksX4_isObject_0 6 rfl rfl)
theorem dX4_isObject_7 : decode cX4_isObject 7 = .ok (.isub, 1) := dk_100 (dk_at dksX4_isObject_0 7 rfl rfl)
theorem dX4_isObject_8 : decode cX4_isObject 8 = .ok (.invokestatic 188, 3) := dk_184 0 188 (dk_at dksX4_isObject_0 8 rfl rfl)
theorem dX4_isObject_11 : decode cX4_isObject 11 = .ok (.ireturn, 1) := dk_172 (dk_at dksX4_isObject_0 11 rfl rfl)
abbrev cX4_answer : ByteArray := prog_32_method_66_code
def yX4_answer : MethodName := ⟨RX4, "answer", "()J"⟩
theorem dX4_answer_0 : decode cX4_answer 0 = .ok (.aload_n 0, 1) := by decide +kernel
theorem dX4_answer_1 : decode cX4_answer 1 = .ok (.getfield 378, 3) := by decide +kernel
theorem dX4_answer_4 : decode cX4_answer 4 = .ok (.lreturn, 1) := by decide +kernel
abbrev cX4_threw : ByteArray := prog_32_method_67_code
def yX4_threw : MethodName := ⟨RX4, "threw", "(I)I"⟩
def dkwX4_threw_1 : List UInt8 := [5, 160, 0, 10, 42, 180, 0, 170, 167, 0, 4, 2, 172]
abbrev dktX4_threw_1 : List UInt8 := dkwX4_threw_1 ++ []
def dkwX4_threw_0 : List UInt8 := [27, 154, 0, 10, 42, 180, 0, 164, 167, 0, 28, 27, 4, 160, 0, 10, 42, 180, 0, 167, 167, 0, 16, 27]
abbrev dktX4_threw_0 : List UInt8 := dkwX4_threw_0 ++ dktX4_threw_1
theorem dksX4_threw_0 : cX4_threw.data.toList.drop 0 = dktX4_threw_0 := by decide +kernel
theorem dksX4_threw_1 : cX4_threw.data.toList.drop 24 = dktX4_threw_1 := dk_seg dksX4_threw_0 24 rfl rfl
theorem dX4_threw_0 : decode cX4_threw 0 = .ok (.iload_n 1, 1) := dk_27 (dk_at dksX4_threw_0 0 rfl rfl)
theorem dX4_threw_1 : decode cX4_threw 1 = .ok (.ifCond .ne 10, 3) := dk_154 0 10 (dk_at dksX4_threw_0 1 rfl rfl)
theorem dX4_threw_4 : decode cX4_threw 4 = .ok (.aload_n 0, 1) := dk_42 (dk_at dksX4_threw_0 4 rfl rfl)
theorem dX4_threw_5 : decode cX4_threw 5 = .ok (.getfield 164, 3) := dk_180 0 164 (dk_at dksX4_threw_0 5 rfl rfl)
theorem dX4_threw_8 : decode cX4_threw 8 = .ok (.goto 28, 3) := dk_167 0 28 (dk_at dksX4_threw_0 8 rfl rfl)
theorem dX4_threw_11 : decode cX4_threw 11 = .ok (.iload_n 1, 1) := dk_27 (dk_at dksX4_threw_0 11 rfl rfl)
theorem dX4_threw_12 : decode cX4_threw 12 = .ok (.iconst 1, 1) := dk_4 (dk_at dksX4_threw_0 12 rfl rfl)
theorem dX4_threw_13 : decode cX4_threw 13 = .ok (.if_icmp .ne 10, 3) := dk_160 0 10 (dk_at dksX4_threw_0 13 rfl rfl)
theorem dX4_threw_16 : decode cX4_threw 16 = .ok (.aload_n 0, 1) := dk_42 (dk_at dksX4_threw_0 16 rfl rfl)
theorem dX4_threw_17 : decode cX4_threw 17 = .ok (.getfield 167, 3) := dk_180 0 167 (dk_at dksX4_threw_0 17 rfl rfl)
theorem dX4_threw_20 : decode cX4_threw 20 = .ok (.goto 16, 3) := dk_167 0 16 (dk_at dksX4_threw_0 20 rfl rfl)
theorem dX4_threw_23 : decode cX4_threw 23 = .ok (.iload_n 1, 1) := dk_27 (dk_at dksX4_threw_0 23 rfl rfl)
theorem dX4_threw_24 : decode cX4_threw 24 = .ok (.iconst 2, 1) := dk_5 (dk_at dksX4_threw_1 0 rfl rfl)
theorem dX4_threw_25 : decode cX4_threw 25 = .ok (.if_icmp .ne 10, 3) := dk_160 0 10 (dk_at dksX4_threw_1 1 rfl rfl)
theorem dX4_threw_28 : decode cX4_threw 28 = .ok (.aload_n 0, 1) := dk_42 (dk_at dksX4_threw_1 4 rfl rfl)
theorem dX4_threw_29 : decode cX4_threw 29 = .ok (.getfield 170, 3) := dk_180 0 170 (dk_at dksX4_threw_1 5 rfl rfl)
theorem dX4_threw_32 : decode cX4_threw 32 = .ok (.goto 4, 3) := dk_167 0 4 (dk_at dksX4_threw_1 8 rfl rfl)
theorem dX4_threw_35 : decode cX4_threw 35 = .ok (.iconst (-1), 1) := dk_2 (dk_at dksX4_threw_1 11 rfl rfl)
theorem dX4_threw_36 : decode cX4_threw 36 = .ok (.ireturn, 1) := dk_172 (dk_at dksX4_threw_1 12 rfl rfl)
abbrev cX4_with : ByteArray := prog_32_method_68_code
def yX4_with : MethodName := ⟨RX4, "with", "()J"⟩
theorem dX4_with_0 : decode cX4_with 0 = .ok (.aload_n 0, 1) := by decide +kernel
theorem dX4_with_1 : decode cX4_with 1 = .ok (.getfield 297, 3) := by decide +kernel
theorem dX4_with_4 : decode cX4_with 4 = .ok (.lreturn, 1) := by decide +kernel
abbrev cX4_ran : ByteArray := prog_32_method_69_code
def yX4_ran : MethodName := ⟨RX4, "ran", "(II)I"⟩
def dkwX4_ran_3 : List UInt8 := [180, 0, 182, 27, 46, 172]
abbrev dktX4_ran_3 : List UInt8 := dkwX4_ran_3 ++ []
def dkwX4_ran_2 : List UInt8 := [42, 180, 0, 176, 27, 46, 167, 0, 23, 28, 5, 160, 0, 12, 42, 180, 0, 179, 27, 46, 167, 0, 9, 42]
abbrev dktX4_ran_2 : List UInt8 := dkwX4_ran_2 ++ dktX4_ran_3
def dkwX4_ran_1 : List UInt8 := [154, 0, 6, 16, 247, 172, 28, 154, 0, 12, 42, 180, 0, 173, 27, 46, 167, 0, 37, 28, 4, 160, 0, 12]
abbrev dktX4_ran_1 : List UInt8 := dkwX4_ran_1 ++ dktX4_ran_2
def dkwX4_ran_0 : List UInt8 := [28, 3, 6, 184, 0, 188, 154, 0, 5, 2, 172, 27, 3, 42, 180, 1, 35, 4, 100, 184, 0, 188]
abbrev dktX4_ran_0 : List UInt8 := dkwX4_ran_0 ++ dktX4_ran_1
theorem dksX4_ran_0 : cX4_ran.data.toList.drop 0 = dktX4_ran_0 := by decide +kernel
theorem dksX4_ran_1 : cX4_ran.data.toList.drop 22 = dktX4_ran_1 := dk_seg dksX4_ran_0 22 rfl rfl
theorem dksX4_ran_2 : cX4_ran.data.toList.drop 46 = dktX4_ran_2 := dk_seg dksX4_ran_1 24 rfl rfl
theorem dksX4_ran_3 : cX4_ran.data.toList.drop 70 = dktX4_ran_3 := dk_seg dksX4_ran_2 24 rfl rfl
theorem dX4_ran_0 : decode cX4_ran 0 = .ok (.iload_n 2, 1) := dk_28 (dk_at dksX4_ran_0 0 rfl rfl)
theorem dX4_ran_1 : decode cX4_ran 1 = .ok (.iconst 0, 1) := dk_3 (dk_at dksX4_ran_0 1 rfl rfl)
theorem dX4_ran_2 : decode cX4_ran 2 = .ok (.iconst 3, 1) := dk_6 (dk_at dksX4_ran_0 2 rfl rfl)
theorem dX4_ran_3 : decode cX4_ran 3 = .ok (.invokestatic 188, 3) := dk_184 0 188 (dk_at dksX4_ran_0 3 rfl rfl)
theorem dX4_ran_6 : decode cX4_ran 6 = .ok (.ifCond .ne 5, 3) := dk_154 0 5 (dk_at dksX4_ran_0 6 rfl rfl)
theorem dX4_ran_9 : decode cX4_ran 9 = .ok (.iconst (-1), 1) := dk_2 (dk_at dksX4_ran_0 9 rfl rfl)
theorem dX4_ran_10 : decode cX4_ran 10 = .ok (.ireturn, 1) := dk_172 (dk_at dksX4_ran_0 10 rfl rfl)
theorem dX4_ran_11 : decode cX4_ran 11 = .ok (.iload_n 1, 1) := dk_27 (dk_at dksX4_ran_0 11 rfl rfl)
theorem dX4_ran_12 : decode cX4_ran 12 = .ok (.iconst 0, 1) := dk_3 (dk_at dksX4_ran_0 12 rfl rfl)
theorem dX4_ran_13 : decode cX4_ran 13 = .ok (.aload_n 0, 1) := dk_42 (dk_at dksX4_ran_0 13 rfl rfl)
theorem dX4_ran_14 : decode cX4_ran 14 = .ok (.getfield 291, 3) := dk_180 1 35 (dk_at dksX4_ran_0 14 rfl rfl)
theorem dX4_ran_17 : decode cX4_ran 17 = .ok (.iconst 1, 1) := dk_4 (dk_at dksX4_ran_0 17 rfl rfl)
theorem dX4_ran_18 : decode cX4_ran 18 = .ok (.isub, 1) := dk_100 (dk_at dksX4_ran_0 18 rfl rfl)
theorem dX4_ran_19 : decode cX4_ran 19 = .ok (.invokestatic 188, 3) := dk_184 0 188 (dk_at dksX4_ran_0 19 rfl rfl)
theorem dX4_ran_22 : decode cX4_ran 22 = .ok (.ifCond .ne 6, 3) := dk_154 0 6 (dk_at dksX4_ran_1 0 rfl rfl)
theorem dX4_ran_25 : decode cX4_ran 25 = .ok (.bipush (-9), 2) := dk_16 247 (dk_at dksX4_ran_1 3 rfl rfl)
theorem dX4_ran_27 : decode cX4_ran 27 = .ok (.ireturn, 1) := dk_172 (dk_at dksX4_ran_1 5 rfl rfl)
theorem dX4_ran_28 : decode cX4_ran 28 = .ok (.iload_n 2, 1) := dk_28 (dk_at dksX4_ran_1 6 rfl rfl)
theorem dX4_ran_29 : decode cX4_ran 29 = .ok (.ifCond .ne 12, 3) := dk_154 0 12 (dk_at dksX4_ran_1 7 rfl rfl)
theorem dX4_ran_32 : decode cX4_ran 32 = .ok (.aload_n 0, 1) := dk_42 (dk_at dksX4_ran_1 10 rfl rfl)
theorem dX4_ran_33 : decode cX4_ran 33 = .ok (.getfield 173, 3) := dk_180 0 173 (dk_at dksX4_ran_1 11 rfl rfl)
theorem dX4_ran_36 : decode cX4_ran 36 = .ok (.iload_n 1, 1) := dk_27 (dk_at dksX4_ran_1 14 rfl rfl)
theorem dX4_ran_37 : decode cX4_ran 37 = .ok (.iaload, 1) := dk_46 (dk_at dksX4_ran_1 15 rfl rfl)
theorem dX4_ran_38 : decode cX4_ran 38 = .ok (.goto 37, 3) := dk_167 0 37 (dk_at dksX4_ran_1 16 rfl rfl)
theorem dX4_ran_41 : decode cX4_ran 41 = .ok (.iload_n 2, 1) := dk_28 (dk_at dksX4_ran_1 19 rfl rfl)
theorem dX4_ran_42 : decode cX4_ran 42 = .ok (.iconst 1, 1) := dk_4 (dk_at dksX4_ran_1 20 rfl rfl)
theorem dX4_ran_43 : decode cX4_ran 43 = .ok (.if_icmp .ne 12, 3) := dk_160 0 12 (dk_at dksX4_ran_1 21 rfl rfl)
theorem dX4_ran_46 : decode cX4_ran 46 = .ok (.aload_n 0, 1) := dk_42 (dk_at dksX4_ran_2 0 rfl rfl)
theorem dX4_ran_47 : decode cX4_ran 47 = .ok (.getfield 176, 3) := dk_180 0 176 (dk_at dksX4_ran_2 1 rfl rfl)
theorem dX4_ran_50 : decode cX4_ran 50 = .ok (.iload_n 1, 1) := dk_27 (dk_at dksX4_ran_2 4 rfl rfl)
theorem dX4_ran_51 : decode cX4_ran 51 = .ok (.iaload, 1) := dk_46 (dk_at dksX4_ran_2 5 rfl rfl)
theorem dX4_ran_52 : decode cX4_ran 52 = .ok (.goto 23, 3) := dk_167 0 23 (dk_at dksX4_ran_2 6 rfl rfl)
theorem dX4_ran_55 : decode cX4_ran 55 = .ok (.iload_n 2, 1) := dk_28 (dk_at dksX4_ran_2 9 rfl rfl)
theorem dX4_ran_56 : decode cX4_ran 56 = .ok (.iconst 2, 1) := dk_5 (dk_at dksX4_ran_2 10 rfl rfl)
theorem dX4_ran_57 : decode cX4_ran 57 = .ok (.if_icmp .ne 12, 3) := dk_160 0 12 (dk_at dksX4_ran_2 11 rfl rfl)
theorem dX4_ran_60 : decode cX4_ran 60 = .ok (.aload_n 0, 1) := dk_42 (dk_at dksX4_ran_2 14 rfl rfl)
theorem dX4_ran_61 : decode cX4_ran 61 = .ok (.getfield 179, 3) := dk_180 0 179 (dk_at dksX4_ran_2 15 rfl rfl)
theorem dX4_ran_64 : decode cX4_ran 64 = .ok (.iload_n 1, 1) := dk_27 (dk_at dksX4_ran_2 18 rfl rfl)
theorem dX4_ran_65 : decode cX4_ran 65 = .ok (.iaload, 1) := dk_46 (dk_at dksX4_ran_2 19 rfl rfl)
theorem dX4_ran_66 : decode cX4_ran 66 = .ok (.goto 9, 3) := dk_167 0 9 (dk_at dksX4_ran_2 20 rfl rfl)
theorem dX4_ran_69 : decode cX4_ran 69 = .ok (.aload_n 0, 1) := dk_42 (dk_at dksX4_ran_2 23 rfl rfl)
theorem dX4_ran_70 : decode cX4_ran 70 = .ok (.getfield 182, 3) := dk_180 0 182 (dk_at dksX4_ran_3 0 rfl rfl)
theorem dX4_ran_73 : decode cX4_ran 73 = .ok (.iload_n 1, 1) := dk_27 (dk_at dksX4_ran_3 3 rfl rfl)
theorem dX4_ran_74 : decode cX4_ran 74 = .ok (.iaload, 1) := dk_46 (dk_at dksX4_ran_3 4 rfl rfl)
theorem dX4_ran_75 : decode cX4_ran 75 = .ok (.ireturn, 1) := dk_172 (dk_at dksX4_ran_3 5 rfl rfl)
abbrev cX4_marks : ByteArray := prog_32_method_70_code
def yX4_marks : MethodName := ⟨RX4, "marks", "()I"⟩
theorem dX4_marks_0 : decode cX4_marks 0 = .ok (.aload_n 0, 1) := by decide +kernel
theorem dX4_marks_1 : decode cX4_marks 1 = .ok (.getfield 337, 3) := by decide +kernel
theorem dX4_marks_4 : decode cX4_marks 4 = .ok (.ireturn, 1) := by decide +kernel
abbrev cX4_mark : ByteArray := prog_32_method_72_code
def yX4_mark : MethodName := ⟨RX4, "mark", "(I)I"⟩
def dkwX4_mark_1 : List UInt8 := [180, 0, 134, 27, 47, 182, 1, 128, 167, 0, 5, 16, 247, 172]
abbrev dktX4_mark_1 : List UInt8 := dkwX4_mark_1 ++ []
def dkwX4_mark_0 : List UInt8 := [27, 3, 42, 180, 1, 81, 4, 100, 184, 0, 188, 153, 0, 22, 27, 16, 100, 162, 0, 16, 42, 42]
abbrev dktX4_mark_0 : List UInt8 := dkwX4_mark_0 ++ dktX4_mark_1
theorem dksX4_mark_0 : cX4_mark.data.toList.drop 0 = dktX4_mark_0 := by decide +kernel
theorem dksX4_mark_1 : cX4_mark.data.toList.drop 22 = dktX4_mark_1 := dk_seg dksX4_mark_0 22 rfl rfl
theorem dX4_mark_0 : decode cX4_mark 0 = .ok (.iload_n 1, 1) := dk_27 (dk_at dksX4_mark_0 0 rfl rfl)
theorem dX4_mark_1 : decode cX4_mark 1 = .ok (.iconst 0, 1) := dk_3 (dk_at dksX4_mark_0 1 rfl rfl)
theorem dX4_mark_2 : decode cX4_mark 2 = .ok (.aload_n 0, 1) := dk_42 (dk_at dksX4_mark_0 2 rfl rfl)
theorem dX4_mark_3 : decode cX4_mark 3 = .ok (.getfield 337, 3) := dk_180 1 81 (dk_at dksX4_mark_0 3 rfl rfl)
theorem dX4_mark_6 : decode cX4_mark 6 = .ok (.iconst 1, 1) := dk_4 (dk_at dksX4_mark_0 6 rfl rfl)
theorem dX4_mark_7 : decode cX4_mark 7 = .ok (.isub, 1) := dk_100 (dk_at dksX4_mark_0 7 rfl rfl)
theorem dX4_mark_8 : decode cX4_mark 8 = .ok (.invokestatic 188, 3) := dk_184 0 188 (dk_at dksX4_mark_0 8 rfl rfl)
theorem dX4_mark_11 : decode cX4_mark 11 = .ok (.ifCond .eq 22, 3) := dk_153 0 22 (dk_at dksX4_mark_0 11 rfl rfl)
theorem dX4_mark_14 : decode cX4_mark 14 = .ok (.iload_n 1, 1) := dk_27 (dk_at dksX4_mark_0 14 rfl rfl)
theorem dX4_mark_15 : decode cX4_mark 15 = .ok (.bipush 100, 2) := dk_16 100 (dk_at dksX4_mark_0 15 rfl rfl)
theorem dX4_mark_17 : decode cX4_mark 17 = .ok (.if_icmp .ge 16, 3) := dk_162 0 16 (dk_at dksX4_mark_0 17 rfl rfl)
theorem dX4_mark_20 : decode cX4_mark 20 = .ok (.aload_n 0, 1) := dk_42 (dk_at dksX4_mark_0 20 rfl rfl)
theorem dX4_mark_21 : decode cX4_mark 21 = .ok (.aload_n 0, 1) := dk_42 (dk_at dksX4_mark_0 21 rfl rfl)
theorem dX4_mark_22 : decode cX4_mark 22 = .ok (.getfield 134, 3) := dk_180 0 134 (dk_at dksX4_mark_1 0 rfl rfl)
theorem dX4_mark_25 : decode cX4_mark 25 = .ok (.iload_n 1, 1) := dk_27 (dk_at dksX4_mark_1 3 rfl rfl)
theorem dX4_mark_26 : decode cX4_mark 26 = .ok (.laload, 1) := dk_47 (dk_at dksX4_mark_1 4 rfl rfl)
theorem dX4_mark_27 : decode cX4_mark 27 = .ok (.invokevirtual 384, 3) := dk_182 1 128 (dk_at dksX4_mark_1 5 rfl rfl)
theorem dX4_mark_30 : decode cX4_mark 30 = .ok (.goto 5, 3) := dk_167 0 5 (dk_at dksX4_mark_1 8 rfl rfl)
theorem dX4_mark_33 : decode cX4_mark 33 = .ok (.bipush (-9), 2) := dk_16 247 (dk_at dksX4_mark_1 11 rfl rfl)
theorem dX4_mark_35 : decode cX4_mark 35 = .ok (.ireturn, 1) := dk_172 (dk_at dksX4_mark_1 13 rfl rfl)
abbrev cX4_tells : ByteArray := prog_32_method_71_code
def yX4_tells : MethodName := ⟨RX4, "tells", "(J)I"⟩
def dkwX4_tells_0 : List UInt8 := [42, 31, 181, 1, 125, 4, 172]
abbrev dktX4_tells_0 : List UInt8 := dkwX4_tells_0 ++ []
theorem dksX4_tells_0 : cX4_tells.data.toList.drop 0 = dktX4_tells_0 := by decide +kernel
theorem dX4_tells_0 : decode cX4_tells 0 = .ok (.aload_n 0, 1) := dk_42 (dk_at dksX4_tells_0 0 rfl rfl)
theorem dX4_tells_1 : decode cX4_tells 1 = .ok (.lload_n 1, 1) := dk_31 (dk_at dksX4_tells_0 1 rfl rfl)
theorem dX4_tells_2 : decode cX4_tells 2 = .ok (.putfield 381, 3) := dk_181 1 125 (dk_at dksX4_tells_0 2 rfl rfl)
theorem dX4_tells_5 : decode cX4_tells 5 = .ok (.iconst 1, 1) := dk_4 (dk_at dksX4_tells_0 5 rfl rfl)
theorem dX4_tells_6 : decode cX4_tells 6 = .ok (.ireturn, 1) := dk_172 (dk_at dksX4_tells_0 6 rfl rfl)
abbrev cX4_cell : ByteArray := prog_32_method_74_code
def yX4_cell : MethodName := ⟨RX4, "cell", "(III)I"⟩
def dkwX4_cell_2 : List UInt8 := [29, 96, 47, 182, 1, 128, 172]
abbrev dktX4_cell_2 : List UInt8 := dkwX4_cell_2 ++ []
def dkwX4_cell_1 : List UInt8 := [184, 0, 188, 154, 0, 7, 2, 167, 0, 23, 42, 42, 180, 0, 117, 7, 16, 24, 27, 104, 21, 4, 96, 104]
abbrev dktX4_cell_1 : List UInt8 := dkwX4_cell_1 ++ dktX4_cell_2
def dkwX4_cell_0 : List UInt8 := [42, 27, 28, 182, 1, 132, 54, 4, 21, 4, 155, 0, 19, 29, 3, 42, 180, 0, 7, 28, 46, 4, 100]
abbrev dktX4_cell_0 : List UInt8 := dkwX4_cell_0 ++ dktX4_cell_1
theorem dksX4_cell_0 : cX4_cell.data.toList.drop 0 = dktX4_cell_0 := by decide +kernel
theorem dksX4_cell_1 : cX4_cell.data.toList.drop 23 = dktX4_cell_1 := dk_seg dksX4_cell_0 23 rfl rfl
theorem dksX4_cell_2 : cX4_cell.data.toList.drop 47 = dktX4_cell_2 := dk_seg dksX4_cell_1 24 rfl rfl
theorem dX4_cell_0 : decode cX4_cell 0 = .ok (.aload_n 0, 1) := dk_42 (dk_at dksX4_cell_0 0 rfl rfl)
theorem dX4_cell_1 : decode cX4_cell 1 = .ok (.iload_n 1, 1) := dk_27 (dk_at dksX4_cell_0 1 rfl rfl)
theorem dX4_cell_2 : decode cX4_cell 2 = .ok (.iload_n 2, 1) := dk_28 (dk_at dksX4_cell_0 2 rfl rfl)
theorem dX4_cell_3 : decode cX4_cell 3 = .ok (.invokevirtual 388, 3) := dk_182 1 132 (dk_at dksX4_cell_0 3 rfl rfl)
theorem dX4_cell_6 : decode cX4_cell 6 = .ok (.istore 4, 2) := dk_54 4 (dk_at dksX4_cell_0 6 rfl rfl)
theorem dX4_cell_8 : decode cX4_cell 8 = .ok (.iload 4, 2) := dk_21 4 (dk_at dksX4_cell_0 8 rfl rfl)
theorem dX4_cell_10 : decode cX4_cell 10 = .ok (.ifCond .lt 19, 3) := dk_155 0 19 (dk_at dksX4_cell_0 10 rfl rfl)
theorem dX4_cell_13 : decode cX4_cell 13 = .ok (.iload_n 3, 1) := dk_29 (dk_at dksX4_cell_0 13 rfl rfl)
theorem dX4_cell_14 : decode cX4_cell 14 = .ok (.iconst 0, 1) := dk_3 (dk_at dksX4_cell_0 14 rfl rfl)
theorem dX4_cell_15 : decode cX4_cell 15 = .ok (.aload_n 0, 1) := dk_42 (dk_at dksX4_cell_0 15 rfl rfl)
theorem dX4_cell_16 : decode cX4_cell 16 = .ok (.getfield 7, 3) := dk_180 0 7 (dk_at dksX4_cell_0 16 rfl rfl)
theorem dX4_cell_19 : decode cX4_cell 19 = .ok (.iload_n 2, 1) := dk_28 (dk_at dksX4_cell_0 19 rfl rfl)
theorem dX4_cell_20 : decode cX4_cell 20 = .ok (.iaload, 1) := dk_46 (dk_at dksX4_cell_0 20 rfl rfl)
theorem dX4_cell_21 : decode cX4_cell 21 = .ok (.iconst 1, 1) := dk_4 (dk_at dksX4_cell_0 21 rfl rfl)
theorem dX4_cell_22 : decode cX4_cell 22 = .ok (.isub, 1) := dk_100 (dk_at dksX4_cell_0 22 rfl rfl)
theorem dX4_cell_23 : decode cX4_cell 23 = .ok (.invokestatic 188, 3) := dk_184 0 188 (dk_at dksX4_cell_1 0 rfl rfl)
theorem dX4_cell_26 : decode cX4_cell 26 = .ok (.ifCond .ne 7, 3) := dk_154 0 7 (dk_at dksX4_cell_1 3 rfl rfl)
theorem dX4_cell_29 : decode cX4_cell 29 = .ok (.iconst (-1), 1) := dk_2 (dk_at dksX4_cell_1 6 rfl rfl)
theorem dX4_cell_30 : decode cX4_cell 30 = .ok (.goto 23, 3) := dk_167 0 23 (dk_at dksX4_cell_1 7 rfl rfl)
theorem dX4_cell_33 : decode cX4_cell 33 = .ok (.aload_n 0, 1) := dk_42 (dk_at dksX4_cell_1 10 rfl rfl)
theorem dX4_cell_34 : decode cX4_cell 34 = .ok (.aload_n 0, 1) := dk_42 (dk_at dksX4_cell_1 11 rfl rfl)
theorem dX4_cell_35 : decode cX4_cell 35 = .ok (.getfield 117, 3) := dk_180 0 117 (dk_at dksX4_cell_1 12 rfl rfl)
theorem dX4_cell_38 : decode cX4_cell 38 = .ok (.iconst 4, 1) := dk_7 (dk_at dksX4_cell_1 15 rfl rfl)
theorem dX4_cell_39 : decode cX4_cell 39 = .ok (.bipush 24, 2) := dk_16 24 (dk_at dksX4_cell_1 16 rfl rfl)
theorem dX4_cell_41 : decode cX4_cell 41 = .ok (.iload_n 1, 1) := dk_27 (dk_at dksX4_cell_1 18 rfl rfl)
theorem dX4_cell_42 : decode cX4_cell 42 = .ok (.imul, 1) := dk_104 (dk_at dksX4_cell_1 19 rfl rfl)
theorem dX4_cell_43 : decode cX4_cell 43 = .ok (.iload 4, 2) := dk_21 4 (dk_at dksX4_cell_1 20 rfl rfl)
theorem dX4_cell_45 : decode cX4_cell 45 = .ok (.iadd, 1) := dk_96 (dk_at dksX4_cell_1 22 rfl rfl)
theorem dX4_cell_46 : decode cX4_cell 46 = .ok (.imul, 1) := dk_104 (dk_at dksX4_cell_1 23 rfl rfl)
theorem dX4_cell_47 : decode cX4_cell 47 = .ok (.iload_n 3, 1) := dk_29 (dk_at dksX4_cell_2 0 rfl rfl)
theorem dX4_cell_48 : decode cX4_cell 48 = .ok (.iadd, 1) := dk_96 (dk_at dksX4_cell_2 1 rfl rfl)
theorem dX4_cell_49 : decode cX4_cell 49 = .ok (.laload, 1) := dk_47 (dk_at dksX4_cell_2 2 rfl rfl)
theorem dX4_cell_50 : decode cX4_cell 50 = .ok (.invokevirtual 384, 3) := dk_182 1 128 (dk_at dksX4_cell_2 3 rfl rfl)
theorem dX4_cell_53 : decode cX4_cell 53 = .ok (.ireturn, 1) := dk_172 (dk_at dksX4_cell_2 6 rfl rfl)
abbrev cX4_placeIn : ByteArray := prog_32_method_73_code
def yX4_placeIn : MethodName := ⟨RX4, "placeIn", "(II)I"⟩
def dkwX4_placeIn_1 : List UInt8 := [180, 0, 114, 27, 46, 104, 28, 96, 46, 167, 0, 5, 16, 247, 172]
abbrev dktX4_placeIn_1 : List UInt8 := dkwX4_placeIn_1 ++ []
def dkwX4_placeIn_0 : List UInt8 := [42, 27, 182, 1, 119, 153, 0, 30, 42, 28, 182, 0, 192, 153, 0, 22, 42, 180, 0, 78, 16, 24, 42]
abbrev dktX4_placeIn_0 : List UInt8 := dkwX4_placeIn_0 ++ dktX4_placeIn_1
theorem dksX4_placeIn_0 : cX4_placeIn.data.toList.drop 0 = dktX4_placeIn_0 := by decide +kernel
theorem dksX4_placeIn_1 : cX4_placeIn.data.toList.drop 23 = dktX4_placeIn_1 := dk_seg dksX4_placeIn_0 23 rfl rfl
theorem dX4_placeIn_0 : decode cX4_placeIn 0 = .ok (.aload_n 0, 1) := dk_42 (dk_at dksX4_placeIn_0 0 rfl rfl)
theorem dX4_placeIn_1 : decode cX4_placeIn 1 = .ok (.iload_n 1, 1) := dk_27 (dk_at dksX4_placeIn_0 1 rfl rfl)
theorem dX4_placeIn_2 : decode cX4_placeIn 2 = .ok (.invokevirtual 375, 3) := dk_182 1 119 (dk_at dksX4_placeIn_0 2 rfl rfl)
theorem dX4_placeIn_5 : decode cX4_placeIn 5 = .ok (.ifCond .eq 30, 3) := dk_153 0 30 (dk_at dksX4_placeIn_0 5 rfl rfl)
theorem dX4_placeIn_8 : decode cX4_placeIn 8 = .ok (.aload_n 0, 1) := dk_42 (dk_at dksX4_placeIn_0 8 rfl rfl)
theorem dX4_placeIn_9 : decode cX4_placeIn 9 = .ok (.iload_n 2, 1) := dk_28 (dk_at dksX4_placeIn_0 9 rfl rfl)
theorem dX4_placeIn_10 : decode cX4_placeIn 10 = .ok (.invokevirtual 192, 3) := dk_182 0 192 (dk_at dksX4_placeIn_0 10 rfl rfl)
theorem dX4_placeIn_13 : decode cX4_placeIn 13 = .ok (.ifCond .eq 22, 3) := dk_153 0 22 (dk_at dksX4_placeIn_0 13 rfl rfl)
theorem dX4_placeIn_16 : decode cX4_placeIn 16 = .ok (.aload_n 0, 1) := dk_42 (dk_at dksX4_placeIn_0 16 rfl rfl)
theorem dX4_placeIn_17 : decode cX4_placeIn 17 = .ok (.getfield 78, 3) := dk_180 0 78 (dk_at dksX4_placeIn_0 17 rfl rfl)
theorem dX4_placeIn_20 : decode cX4_placeIn 20 = .ok (.bipush 24, 2) := dk_16 24 (dk_at dksX4_placeIn_0 20 rfl rfl)
theorem dX4_placeIn_22 : decode cX4_placeIn 22 = .ok (.aload_n 0, 1) := dk_42 (dk_at dksX4_placeIn_0 22 rfl rfl)
theorem dX4_placeIn_23 : decode cX4_placeIn 23 = .ok (.getfield 114, 3) := dk_180 0 114 (dk_at dksX4_placeIn_1 0 rfl rfl)
theorem dX4_placeIn_26 : decode cX4_placeIn 26 = .ok (.iload_n 1, 1) := dk_27 (dk_at dksX4_placeIn_1 3 rfl rfl)
theorem dX4_placeIn_27 : decode cX4_placeIn 27 = .ok (.iaload, 1) := dk_46 (dk_at dksX4_placeIn_1 4 rfl rfl)
theorem dX4_placeIn_28 : decode cX4_placeIn 28 = .ok (.imul, 1) := dk_104 (dk_at dksX4_placeIn_1 5 rfl rfl)
theorem dX4_placeIn_29 : decode cX4_placeIn 29 = .ok (.iload_n 2, 1) := dk_28 (dk_at dksX4_placeIn_1 6 rfl rfl)
theorem dX4_placeIn_30 : decode cX4_placeIn 30 = .ok (.iadd, 1) := dk_96 (dk_at dksX4_placeIn_1 7 rfl rfl)
theorem dX4_placeIn_31 : decode cX4_placeIn 31 = .ok (.iaload, 1) := dk_46 (dk_at dksX4_placeIn_1 8 rfl rfl)
theorem dX4_placeIn_32 : decode cX4_placeIn 32 = .ok (.goto 5, 3) := dk_167 0 5 (dk_at dksX4_placeIn_1 9 rfl rfl)
theorem dX4_placeIn_35 : decode cX4_placeIn 35 = .ok (.bipush (-9), 2) := dk_16 247 (dk_at dksX4_placeIn_1 12 rfl rfl)
theorem dX4_placeIn_37 : decode cX4_placeIn 37 = .ok (.ireturn, 1) := dk_172 (dk_at dksX4_placeIn_1 14 rfl rfl)
abbrev cX4_row : ByteArray := prog_32_method_75_code
def yX4_row : MethodName := ⟨RX4, "row", "(IIII)I"⟩
def dkwX4_row_5 : List UInt8 := [167, 0, 5, 16, 247, 172]
abbrev dktX4_row_5 : List UInt8 := dkwX4_row_5 ++ []
def dkwX4_row_4 : List UInt8 := [184, 0, 188, 153, 0, 23, 42, 42, 180, 0, 125, 16, 12, 21, 6, 104, 21, 4, 96, 47, 182, 1, 128]
abbrev dktX4_row_4 : List UInt8 := dkwX4_row_4 ++ dktX4_row_5
def dkwX4_row_3 : List UInt8 := [21, 6, 46, 133, 182, 1, 128, 167, 0, 43, 21, 4, 3, 42, 180, 0, 121, 21, 6, 46, 4, 100]
abbrev dktX4_row_3 : List UInt8 := dkwX4_row_3 ++ dktX4_row_4
def dkwX4_row_2 : List UInt8 := [180, 0, 121, 21, 6, 46, 156, 0, 6, 16, 247, 172, 21, 4, 2, 160, 0, 18, 42, 42, 180, 0, 121]
abbrev dktX4_row_2 : List UInt8 := dkwX4_row_2 ++ dktX4_row_3
def dkwX4_row_1 : List UInt8 := [184, 0, 188, 154, 0, 5, 2, 172, 5, 16, 24, 27, 104, 21, 5, 96, 104, 29, 96, 54, 6, 42]
abbrev dktX4_row_1 : List UInt8 := dkwX4_row_1 ++ dktX4_row_2
def dkwX4_row_0 : List UInt8 := [42, 27, 28, 182, 1, 132, 54, 5, 21, 5, 155, 0, 19, 29, 3, 42, 180, 0, 13, 28, 46, 4, 100]
abbrev dktX4_row_0 : List UInt8 := dkwX4_row_0 ++ dktX4_row_1
theorem dksX4_row_0 : cX4_row.data.toList.drop 0 = dktX4_row_0 := by decide +kernel
theorem dksX4_row_1 : cX4_row.data.toList.drop 23 = dktX4_row_1 := dk_seg dksX4_row_0 23 rfl rfl
theorem dksX4_row_2 : cX4_row.data.toList.drop 45 = dktX4_row_2 := dk_seg dksX4_row_1 22 rfl rfl
theorem dksX4_row_3 : cX4_row.data.toList.drop 68 = dktX4_row_3 := dk_seg dksX4_row_2 23 rfl rfl
theorem dksX4_row_4 : cX4_row.data.toList.drop 90 = dktX4_row_4 := dk_seg dksX4_row_3 22 rfl rfl
theorem dksX4_row_5 : cX4_row.data.toList.drop 113 = dktX4_row_5 := dk_seg dksX4_row_4 23 rfl rfl
theorem dX4_row_0 : decode cX4_row 0 = .ok (.aload_n 0, 1) := dk_42 (dk_at dksX4_row_0 0 rfl rfl)
theorem dX4_row_1 : decode cX4_row 1 = .ok (.iload_n 1, 1) := dk_27 (dk_at dksX4_row_0 1 rfl rfl)
theorem dX4_row_2 : decode cX4_row 2 = .ok (.iload_n 2, 1) := dk_28 (dk_at dksX4_row_0 2 rfl rfl)
theorem dX4_row_3 : decode cX4_row 3 = .ok (.invokevirtual 388, 3) := dk_182 1 132 (dk_at dksX4_row_0 3 rfl rfl)
theorem dX4_row_6 : decode cX4_row 6 = .ok (.istore 5, 2) := dk_54 5 (dk_at dksX4_row_0 6 rfl rfl)
theorem dX4_row_8 : decode cX4_row 8 = .ok (.iload 5, 2) := dk_21 5 (dk_at dksX4_row_0 8 rfl rfl)
theorem dX4_row_10 : decode cX4_row 10 = .ok (.ifCond .lt 19, 3) := dk_155 0 19 (dk_at dksX4_row_0 10 rfl rfl)
theorem dX4_row_13 : decode cX4_row 13 = .ok (.iload_n 3, 1) := dk_29 (dk_at dksX4_row_0 13 rfl rfl)
theorem dX4_row_14 : decode cX4_row 14 = .ok (.iconst 0, 1) := dk_3 (dk_at dksX4_row_0 14 rfl rfl)
theorem dX4_row_15 : decode cX4_row 15 = .ok (.aload_n 0, 1) := dk_42 (dk_at dksX4_row_0 15 rfl rfl)
theorem dX4_row_16 : decode cX4_row 16 = .ok (.getfield 13, 3) := dk_180 0 13 (dk_at dksX4_row_0 16 rfl rfl)
theorem dX4_row_19 : decode cX4_row 19 = .ok (.iload_n 2, 1) := dk_28 (dk_at dksX4_row_0 19 rfl rfl)
theorem dX4_row_20 : decode cX4_row 20 = .ok (.iaload, 1) := dk_46 (dk_at dksX4_row_0 20 rfl rfl)
theorem dX4_row_21 : decode cX4_row 21 = .ok (.iconst 1, 1) := dk_4 (dk_at dksX4_row_0 21 rfl rfl)
theorem dX4_row_22 : decode cX4_row 22 = .ok (.isub, 1) := dk_100 (dk_at dksX4_row_0 22 rfl rfl)
theorem dX4_row_23 : decode cX4_row 23 = .ok (.invokestatic 188, 3) := dk_184 0 188 (dk_at dksX4_row_1 0 rfl rfl)
theorem dX4_row_26 : decode cX4_row 26 = .ok (.ifCond .ne 5, 3) := dk_154 0 5 (dk_at dksX4_row_1 3 rfl rfl)
theorem dX4_row_29 : decode cX4_row 29 = .ok (.iconst (-1), 1) := dk_2 (dk_at dksX4_row_1 6 rfl rfl)
theorem dX4_row_30 : decode cX4_row 30 = .ok (.ireturn, 1) := dk_172 (dk_at dksX4_row_1 7 rfl rfl)
theorem dX4_row_31 : decode cX4_row 31 = .ok (.iconst 2, 1) := dk_5 (dk_at dksX4_row_1 8 rfl rfl)
theorem dX4_row_32 : decode cX4_row 32 = .ok (.bipush 24, 2) := dk_16 24 (dk_at dksX4_row_1 9 rfl rfl)
theorem dX4_row_34 : decode cX4_row 34 = .ok (.iload_n 1, 1) := dk_27 (dk_at dksX4_row_1 11 rfl rfl)
theorem dX4_row_35 : decode cX4_row 35 = .ok (.imul, 1) := dk_104 (dk_at dksX4_row_1 12 rfl rfl)
theorem dX4_row_36 : decode cX4_row 36 = .ok (.iload 5, 2) := dk_21 5 (dk_at dksX4_row_1 13 rfl rfl)
theorem dX4_row_38 : decode cX4_row 38 = .ok (.iadd, 1) := dk_96 (dk_at dksX4_row_1 15 rfl rfl)
theorem dX4_row_39 : decode cX4_row 39 = .ok (.imul, 1) := dk_104 (dk_at dksX4_row_1 16 rfl rfl)
theorem dX4_row_40 : decode cX4_row 40 = .ok (.iload_n 3, 1) := dk_29 (dk_at dksX4_row_1 17 rfl rfl)
theorem dX4_row_41 : decode cX4_row 41 = .ok (.iadd, 1) := dk_96 (dk_at dksX4_row_1 18 rfl rfl)
theorem dX4_row_42 : decode cX4_row 42 = .ok (.istore 6, 2) := dk_54 6 (dk_at dksX4_row_1 19 rfl rfl)
theorem dX4_row_44 : decode cX4_row 44 = .ok (.aload_n 0, 1) := dk_42 (dk_at dksX4_row_1 21 rfl rfl)
theorem dX4_row_45 : decode cX4_row 45 = .ok (.getfield 121, 3) := dk_180 0 121 (dk_at dksX4_row_2 0 rfl rfl)
theorem dX4_row_48 : decode cX4_row 48 = .ok (.iload 6, 2) := dk_21 6 (dk_at dksX4_row_2 3 rfl rfl)
theorem dX4_row_50 : decode cX4_row 50 = .ok (.iaload, 1) := dk_46 (dk_at dksX4_row_2 5 rfl rfl)
theorem dX4_row_51 : decode cX4_row 51 = .ok (.ifCond .ge 6, 3) := dk_156 0 6 (dk_at dksX4_row_2 6 rfl rfl)
theorem dX4_row_54 : decode cX4_row 54 = .ok (.bipush (-9), 2) := dk_16 247 (dk_at dksX4_row_2 9 rfl rfl)
theorem dX4_row_56 : decode cX4_row 56 = .ok (.ireturn, 1) := dk_172 (dk_at dksX4_row_2 11 rfl rfl)
theorem dX4_row_57 : decode cX4_row 57 = .ok (.iload 4, 2) := dk_21 4 (dk_at dksX4_row_2 12 rfl rfl)
theorem dX4_row_59 : decode cX4_row 59 = .ok (.iconst (-1), 1) := dk_2 (dk_at dksX4_row_2 14 rfl rfl)
theorem dX4_row_60 : decode cX4_row 60 = .ok (.if_icmp .ne 18, 3) := dk_160 0 18 (dk_at dksX4_row_2 15 rfl rfl)
theorem dX4_row_63 : decode cX4_row 63 = .ok (.aload_n 0, 1) := dk_42 (dk_at dksX4_row_2 18 rfl rfl)
theorem dX4_row_64 : decode cX4_row 64 = .ok (.aload_n 0, 1) := dk_42 (dk_at dksX4_row_2 19 rfl rfl)
theorem dX4_row_65 : decode cX4_row 65 = .ok (.getfield 121, 3) := dk_180 0 121 (dk_at dksX4_row_2 20 rfl rfl)
theorem dX4_row_68 : decode cX4_row 68 = .ok (.iload 6, 2) := dk_21 6 (dk_at dksX4_row_3 0 rfl rfl)
theorem dX4_row_70 : decode cX4_row 70 = .ok (.iaload, 1) := dk_46 (dk_at dksX4_row_3 2 rfl rfl)
theorem dX4_row_71 : decode cX4_row 71 = .ok (.i2l, 1) := dk_133 (dk_at dksX4_row_3 3 rfl rfl)
theorem dX4_row_72 : decode cX4_row 72 = .ok (.invokevirtual 384, 3) := dk_182 1 128 (dk_at dksX4_row_3 4 rfl rfl)
theorem dX4_row_75 : decode cX4_row 75 = .ok (.goto 43, 3) := dk_167 0 43 (dk_at dksX4_row_3 7 rfl rfl)
theorem dX4_row_78 : decode cX4_row 78 = .ok (.iload 4, 2) := dk_21 4 (dk_at dksX4_row_3 10 rfl rfl)
theorem dX4_row_80 : decode cX4_row 80 = .ok (.iconst 0, 1) := dk_3 (dk_at dksX4_row_3 12 rfl rfl)
theorem dX4_row_81 : decode cX4_row 81 = .ok (.aload_n 0, 1) := dk_42 (dk_at dksX4_row_3 13 rfl rfl)
theorem dX4_row_82 : decode cX4_row 82 = .ok (.getfield 121, 3) := dk_180 0 121 (dk_at dksX4_row_3 14 rfl rfl)
theorem dX4_row_85 : decode cX4_row 85 = .ok (.iload 6, 2) := dk_21 6 (dk_at dksX4_row_3 17 rfl rfl)
theorem dX4_row_87 : decode cX4_row 87 = .ok (.iaload, 1) := dk_46 (dk_at dksX4_row_3 19 rfl rfl)
theorem dX4_row_88 : decode cX4_row 88 = .ok (.iconst 1, 1) := dk_4 (dk_at dksX4_row_3 20 rfl rfl)
theorem dX4_row_89 : decode cX4_row 89 = .ok (.isub, 1) := dk_100 (dk_at dksX4_row_3 21 rfl rfl)
theorem dX4_row_90 : decode cX4_row 90 = .ok (.invokestatic 188, 3) := dk_184 0 188 (dk_at dksX4_row_4 0 rfl rfl)
theorem dX4_row_93 : decode cX4_row 93 = .ok (.ifCond .eq 23, 3) := dk_153 0 23 (dk_at dksX4_row_4 3 rfl rfl)
theorem dX4_row_96 : decode cX4_row 96 = .ok (.aload_n 0, 1) := dk_42 (dk_at dksX4_row_4 6 rfl rfl)
theorem dX4_row_97 : decode cX4_row 97 = .ok (.aload_n 0, 1) := dk_42 (dk_at dksX4_row_4 7 rfl rfl)
theorem dX4_row_98 : decode cX4_row 98 = .ok (.getfield 125, 3) := dk_180 0 125 (dk_at dksX4_row_4 8 rfl rfl)
theorem dX4_row_101 : decode cX4_row 101 = .ok (.bipush 12, 2) := dk_16 12 (dk_at dksX4_row_4 11 rfl rfl)
theorem dX4_row_103 : decode cX4_row 103 = .ok (.iload 6, 2) := dk_21 6 (dk_at dksX4_row_4 13 rfl rfl)
theorem dX4_row_105 : decode cX4_row 105 = .ok (.imul, 1) := dk_104 (dk_at dksX4_row_4 15 rfl rfl)
theorem dX4_row_106 : decode cX4_row 106 = .ok (.iload 4, 2) := dk_21 4 (dk_at dksX4_row_4 16 rfl rfl)
theorem dX4_row_108 : decode cX4_row 108 = .ok (.iadd, 1) := dk_96 (dk_at dksX4_row_4 18 rfl rfl)
theorem dX4_row_109 : decode cX4_row 109 = .ok (.laload, 1) := dk_47 (dk_at dksX4_row_4 19 rfl rfl)
theorem dX4_row_110 : decode cX4_row 110 = .ok (.invokevirtual 384, 3) := dk_182 1 128 (dk_at dksX4_row_4 20 rfl rfl)
theorem dX4_row_113 : decode cX4_row 113 = .ok (.goto 5, 3) := dk_167 0 5 (dk_at dksX4_row_5 0 rfl rfl)
theorem dX4_row_116 : decode cX4_row 116 = .ok (.bipush (-9), 2) := dk_16 247 (dk_at dksX4_row_5 3 rfl rfl)
theorem dX4_row_118 : decode cX4_row 118 = .ok (.ireturn, 1) := dk_172 (dk_at dksX4_row_5 5 rfl rfl)
abbrev cX4_hold : ByteArray := prog_32_method_76_code
def yX4_hold : MethodName := ⟨RX4, "hold", "(IIII)I"⟩
def dkwX4_hold_3 : List UInt8 := [180, 0, 128, 21, 6, 21, 4, 79, 21, 7, 172]
abbrev dktX4_hold_3 : List UInt8 := dkwX4_hold_3 ++ []
def dkwX4_hold_2 : List UInt8 := [5, 16, 24, 27, 104, 21, 5, 96, 104, 29, 96, 54, 6, 42, 180, 0, 128, 21, 6, 46, 54, 7, 42]
abbrev dktX4_hold_2 : List UInt8 := dkwX4_hold_2 ++ dktX4_hold_3
def dkwX4_hold_1 : List UInt8 := [184, 0, 188, 153, 0, 19, 21, 4, 16, 247, 159, 0, 14, 42, 21, 4, 182, 1, 119, 154, 0, 5, 2, 172]
abbrev dktX4_hold_1 : List UInt8 := dkwX4_hold_1 ++ dktX4_hold_2
def dkwX4_hold_0 : List UInt8 := [42, 27, 28, 182, 1, 132, 54, 5, 21, 5, 155, 0, 35, 29, 3, 42, 180, 0, 16, 28, 46, 4, 100]
abbrev dktX4_hold_0 : List UInt8 := dkwX4_hold_0 ++ dktX4_hold_1
theorem dksX4_hold_0 : cX4_hold.data.toList.drop 0 = dktX4_hold_0 := by decide +kernel
theorem dksX4_hold_1 : cX4_hold.data.toList.drop 23 = dktX4_hold_1 := dk_seg dksX4_hold_0 23 rfl rfl
theorem dksX4_hold_2 : cX4_hold.data.toList.drop 47 = dktX4_hold_2 := dk_seg dksX4_hold_1 24 rfl rfl
theorem dksX4_hold_3 : cX4_hold.data.toList.drop 70 = dktX4_hold_3 := dk_seg dksX4_hold_2 23 rfl rfl
theorem dX4_hold_0 : decode cX4_hold 0 = .ok (.aload_n 0, 1) := dk_42 (dk_at dksX4_hold_0 0 rfl rfl)
theorem dX4_hold_1 : decode cX4_hold 1 = .ok (.iload_n 1, 1) := dk_27 (dk_at dksX4_hold_0 1 rfl rfl)
theorem dX4_hold_2 : decode cX4_hold 2 = .ok (.iload_n 2, 1) := dk_28 (dk_at dksX4_hold_0 2 rfl rfl)
theorem dX4_hold_3 : decode cX4_hold 3 = .ok (.invokevirtual 388, 3) := dk_182 1 132 (dk_at dksX4_hold_0 3 rfl rfl)
theorem dX4_hold_6 : decode cX4_hold 6 = .ok (.istore 5, 2) := dk_54 5 (dk_at dksX4_hold_0 6 rfl rfl)
theorem dX4_hold_8 : decode cX4_hold 8 = .ok (.iload 5, 2) := dk_21 5 (dk_at dksX4_hold_0 8 rfl rfl)
theorem dX4_hold_10 : decode cX4_hold 10 = .ok (.ifCond .lt 35, 3) := dk_155 0 35 (dk_at dksX4_hold_0 10 rfl rfl)
theorem dX4_hold_13 : decode cX4_hold 13 = .ok (.iload_n 3, 1) := dk_29 (dk_at dksX4_hold_0 13 rfl rfl)
theorem dX4_hold_14 : decode cX4_hold 14 = .ok (.iconst 0, 1) := dk_3 (dk_at dksX4_hold_0 14 rfl rfl)
theorem dX4_hold_15 : decode cX4_hold 15 = .ok (.aload_n 0, 1) := dk_42 (dk_at dksX4_hold_0 15 rfl rfl)
theorem dX4_hold_16 : decode cX4_hold 16 = .ok (.getfield 16, 3) := dk_180 0 16 (dk_at dksX4_hold_0 16 rfl rfl)
theorem dX4_hold_19 : decode cX4_hold 19 = .ok (.iload_n 2, 1) := dk_28 (dk_at dksX4_hold_0 19 rfl rfl)
theorem dX4_hold_20 : decode cX4_hold 20 = .ok (.iaload, 1) := dk_46 (dk_at dksX4_hold_0 20 rfl rfl)
theorem dX4_hold_21 : decode cX4_hold 21 = .ok (.iconst 1, 1) := dk_4 (dk_at dksX4_hold_0 21 rfl rfl)
theorem dX4_hold_22 : decode cX4_hold 22 = .ok (.isub, 1) := dk_100 (dk_at dksX4_hold_0 22 rfl rfl)
theorem dX4_hold_23 : decode cX4_hold 23 = .ok (.invokestatic 188, 3) := dk_184 0 188 (dk_at dksX4_hold_1 0 rfl rfl)
theorem dX4_hold_26 : decode cX4_hold 26 = .ok (.ifCond .eq 19, 3) := dk_153 0 19 (dk_at dksX4_hold_1 3 rfl rfl)
theorem dX4_hold_29 : decode cX4_hold 29 = .ok (.iload 4, 2) := dk_21 4 (dk_at dksX4_hold_1 6 rfl rfl)
theorem dX4_hold_31 : decode cX4_hold 31 = .ok (.bipush (-9), 2) := dk_16 247 (dk_at dksX4_hold_1 8 rfl rfl)
theorem dX4_hold_33 : decode cX4_hold 33 = .ok (.if_icmp .eq 14, 3) := dk_159 0 14 (dk_at dksX4_hold_1 10 rfl rfl)
theorem dX4_hold_36 : decode cX4_hold 36 = .ok (.aload_n 0, 1) := dk_42 (dk_at dksX4_hold_1 13 rfl rfl)
theorem dX4_hold_37 : decode cX4_hold 37 = .ok (.iload 4, 2) := dk_21 4 (dk_at dksX4_hold_1 14 rfl rfl)
theorem dX4_hold_39 : decode cX4_hold 39 = .ok (.invokevirtual 375, 3) := dk_182 1 119 (dk_at dksX4_hold_1 16 rfl rfl)
theorem dX4_hold_42 : decode cX4_hold 42 = .ok (.ifCond .ne 5, 3) := dk_154 0 5 (dk_at dksX4_hold_1 19 rfl rfl)
theorem dX4_hold_45 : decode cX4_hold 45 = .ok (.iconst (-1), 1) := dk_2 (dk_at dksX4_hold_1 22 rfl rfl)
theorem dX4_hold_46 : decode cX4_hold 46 = .ok (.ireturn, 1) := dk_172 (dk_at dksX4_hold_1 23 rfl rfl)
theorem dX4_hold_47 : decode cX4_hold 47 = .ok (.iconst 2, 1) := dk_5 (dk_at dksX4_hold_2 0 rfl rfl)
theorem dX4_hold_48 : decode cX4_hold 48 = .ok (.bipush 24, 2) := dk_16 24 (dk_at dksX4_hold_2 1 rfl rfl)
theorem dX4_hold_50 : decode cX4_hold 50 = .ok (.iload_n 1, 1) := dk_27 (dk_at dksX4_hold_2 3 rfl rfl)
theorem dX4_hold_51 : decode cX4_hold 51 = .ok (.imul, 1) := dk_104 (dk_at dksX4_hold_2 4 rfl rfl)
theorem dX4_hold_52 : decode cX4_hold 52 = .ok (.iload 5, 2) := dk_21 5 (dk_at dksX4_hold_2 5 rfl rfl)
theorem dX4_hold_54 : decode cX4_hold 54 = .ok (.iadd, 1) := dk_96 (dk_at dksX4_hold_2 7 rfl rfl)
theorem dX4_hold_55 : decode cX4_hold 55 = .ok (.imul, 1) := dk_104 (dk_at dksX4_hold_2 8 rfl rfl)
theorem dX4_hold_56 : decode cX4_hold 56 = .ok (.iload_n 3, 1) := dk_29 (dk_at dksX4_hold_2 9 rfl rfl)
theorem dX4_hold_57 : decode cX4_hold 57 = .ok (.iadd, 1) := dk_96 (dk_at dksX4_hold_2 10 rfl rfl)
theorem dX4_hold_58 : decode cX4_hold 58 = .ok (.istore 6, 2) := dk_54 6 (dk_at dksX4_hold_2 11 rfl rfl)
theorem dX4_hold_60 : decode cX4_hold 60 = .ok (.aload_n 0, 1) := dk_42 (dk_at dksX4_hold_2 13 rfl rfl)
theorem dX4_hold_61 : decode cX4_hold 61 = .ok (.getfield 128, 3) := dk_180 0 128 (dk_at dksX4_hold_2 14 rfl rfl)
theorem dX4_hold_64 : decode cX4_hold 64 = .ok (.iload 6, 2) := dk_21 6 (dk_at dksX4_hold_2 17 rfl rfl)
theorem dX4_hold_66 : decode cX4_hold 66 = .ok (.iaload, 1) := dk_46 (dk_at dksX4_hold_2 19 rfl rfl)
theorem dX4_hold_67 : decode cX4_hold 67 = .ok (.istore 7, 2) := dk_54 7 (dk_at dksX4_hold_2 20 rfl rfl)
theorem dX4_hold_69 : decode cX4_hold 69 = .ok (.aload_n 0, 1) := dk_42 (dk_at dksX4_hold_2 22 rfl rfl)
theorem dX4_hold_70 : decode cX4_hold 70 = .ok (.getfield 128, 3) := dk_180 0 128 (dk_at dksX4_hold_3 0 rfl rfl)
theorem dX4_hold_73 : decode cX4_hold 73 = .ok (.iload 6, 2) := dk_21 6 (dk_at dksX4_hold_3 3 rfl rfl)
theorem dX4_hold_75 : decode cX4_hold 75 = .ok (.iload 4, 2) := dk_21 4 (dk_at dksX4_hold_3 5 rfl rfl)
theorem dX4_hold_77 : decode cX4_hold 77 = .ok (.iastore, 1) := dk_79 (dk_at dksX4_hold_3 7 rfl rfl)
theorem dX4_hold_78 : decode cX4_hold 78 = .ok (.iload 7, 2) := dk_21 7 (dk_at dksX4_hold_3 8 rfl rfl)
theorem dX4_hold_80 : decode cX4_hold 80 = .ok (.ireturn, 1) := dk_172 (dk_at dksX4_hold_3 10 rfl rfl)
abbrev cX4_shared : ByteArray := prog_32_method_77_code
def yX4_shared : MethodName := ⟨RX4, "shared", "(I)I"⟩
def dkwX4_shared_1 : List UInt8 := [172]
abbrev dktX4_shared_1 : List UInt8 := dkwX4_shared_1 ++ []
def dkwX4_shared_0 : List UInt8 := [27, 3, 16, 7, 184, 0, 188, 153, 0, 16, 42, 42, 180, 0, 131, 27, 47, 182, 1, 128, 167, 0, 4, 2]
abbrev dktX4_shared_0 : List UInt8 := dkwX4_shared_0 ++ dktX4_shared_1
theorem dksX4_shared_0 : cX4_shared.data.toList.drop 0 = dktX4_shared_0 := by decide +kernel
theorem dksX4_shared_1 : cX4_shared.data.toList.drop 24 = dktX4_shared_1 := dk_seg dksX4_shared_0 24 rfl rfl
theorem dX4_shared_0 : decode cX4_shared 0 = .ok (.iload_n 1, 1) := dk_27 (dk_at dksX4_shared_0 0 rfl rfl)
theorem dX4_shared_1 : decode cX4_shared 1 = .ok (.iconst 0, 1) := dk_3 (dk_at dksX4_shared_0 1 rfl rfl)
theorem dX4_shared_2 : decode cX4_shared 2 = .ok (.bipush 7, 2) := dk_16 7 (dk_at dksX4_shared_0 2 rfl rfl)
theorem dX4_shared_4 : decode cX4_shared 4 = .ok (.invokestatic 188, 3) := dk_184 0 188 (dk_at dksX4_shared_0 4 rfl rfl)
theorem dX4_shared_7 : decode cX4_shared 7 = .ok (.ifCond .eq 16, 3) := dk_153 0 16 (dk_at dksX4_shared_0 7 rfl rfl)
theorem dX4_shared_10 : decode cX4_shared 10 = .ok (.aload_n 0, 1) := dk_42 (dk_at dksX4_shared_0 10 rfl rfl)
theorem dX4_shared_11 : decode cX4_shared 11 = .ok (.aload_n 0, 1) := dk_42 (dk_at dksX4_shared_0 11 rfl rfl)
theorem dX4_shared_12 : decode cX4_shared 12 = .ok (.getfield 131, 3) := dk_180 0 131 (dk_at dksX4_shared_0 12 rfl rfl)
theorem dX4_shared_15 : decode cX4_shared 15 = .ok (.iload_n 1, 1) := dk_27 (dk_at dksX4_shared_0 15 rfl rfl)
theorem dX4_shared_16 : decode cX4_shared 16 = .ok (.laload, 1) := dk_47 (dk_at dksX4_shared_0 16 rfl rfl)
theorem dX4_shared_17 : decode cX4_shared 17 = .ok (.invokevirtual 384, 3) := dk_182 1 128 (dk_at dksX4_shared_0 17 rfl rfl)
theorem dX4_shared_20 : decode cX4_shared 20 = .ok (.goto 4, 3) := dk_167 0 4 (dk_at dksX4_shared_0 20 rfl rfl)
theorem dX4_shared_23 : decode cX4_shared 23 = .ok (.iconst (-1), 1) := dk_2 (dk_at dksX4_shared_0 23 rfl rfl)
theorem dX4_shared_24 : decode cX4_shared 24 = .ok (.ireturn, 1) := dk_172 (dk_at dksX4_shared_1 0 rfl rfl)
abbrev cX4_told : ByteArray := prog_32_method_78_code
def yX4_told : MethodName := ⟨RX4, "told", "()J"⟩
theorem dX4_told_0 : decode cX4_told 0 = .ok (.aload_n 0, 1) := by decide +kernel
theorem dX4_told_1 : decode cX4_told 1 = .ok (.getfield 381, 3) := by decide +kernel
theorem dX4_told_4 : decode cX4_told 4 = .ok (.lreturn, 1) := by decide +kernel
abbrev cX4_count : ByteArray := prog_32_method_79_code
def yX4_count : MethodName := ⟨RX4, "count", "(I)I"⟩
def dkwX4_count_3 : List UInt8 := [172, 42, 180, 0, 217, 172, 2, 172]
abbrev dktX4_count_3 : List UInt8 := dkwX4_count_3 ++ []
def dkwX4_count_2 : List UInt8 := [42, 180, 0, 185, 172, 42, 180, 0, 200, 172, 42, 180, 1, 110, 172, 42, 180, 0, 203, 172, 42, 180, 1, 32]
abbrev dktX4_count_2 : List UInt8 := dkwX4_count_2 ++ dktX4_count_3
def dkwX4_count_1 : List UInt8 := [170, 0, 0, 0, 0, 0, 69, 0, 0, 0, 0, 0, 0, 0, 5, 0, 0, 0, 39, 0, 0, 0, 44, 0, 0, 0, 49, 0, 0, 0, 54, 0, 0, 0, 59, 0, 0, 0, 64]
abbrev dktX4_count_1 : List UInt8 := dkwX4_count_1 ++ dktX4_count_2
def dkwX4_count_0 : List UInt8 := [27]
abbrev dktX4_count_0 : List UInt8 := dkwX4_count_0 ++ dktX4_count_1
theorem dksX4_count_0 : cX4_count.data.toList.drop 0 = dktX4_count_0 := by decide +kernel
theorem dksX4_count_1 : cX4_count.data.toList.drop 1 = dktX4_count_1 := dk_seg dksX4_count_0 1 rfl rfl
theorem dksX4_count_2 : cX4_count.data.toList.drop 40 = dktX4_count_2 := dk_seg dksX4_count_1 39 rfl rfl
theorem dksX4_count_3 : cX4_count.data.toList.drop 64 = dktX4_count_3 := dk_seg dksX4_count_2 24 rfl rfl
theorem dX4_count_0 : decode cX4_count 0 = .ok (.iload_n 1, 1) := dk_27 (dk_at dksX4_count_0 0 rfl rfl)
theorem dX4_count_1 : decode cX4_count 1 = .ok (.tableswitch 69 0 5 #[39, 44, 49, 54, 59, 64], 39) := by decide +kernel
theorem dX4_count_40 : decode cX4_count 40 = .ok (.aload_n 0, 1) := dk_42 (dk_at dksX4_count_2 0 rfl rfl)
theorem dX4_count_41 : decode cX4_count 41 = .ok (.getfield 185, 3) := dk_180 0 185 (dk_at dksX4_count_2 1 rfl rfl)
theorem dX4_count_44 : decode cX4_count 44 = .ok (.ireturn, 1) := dk_172 (dk_at dksX4_count_2 4 rfl rfl)
theorem dX4_count_45 : decode cX4_count 45 = .ok (.aload_n 0, 1) := dk_42 (dk_at dksX4_count_2 5 rfl rfl)
theorem dX4_count_46 : decode cX4_count 46 = .ok (.getfield 200, 3) := dk_180 0 200 (dk_at dksX4_count_2 6 rfl rfl)
theorem dX4_count_49 : decode cX4_count 49 = .ok (.ireturn, 1) := dk_172 (dk_at dksX4_count_2 9 rfl rfl)
theorem dX4_count_50 : decode cX4_count 50 = .ok (.aload_n 0, 1) := dk_42 (dk_at dksX4_count_2 10 rfl rfl)
theorem dX4_count_51 : decode cX4_count 51 = .ok (.getfield 366, 3) := dk_180 1 110 (dk_at dksX4_count_2 11 rfl rfl)
theorem dX4_count_54 : decode cX4_count 54 = .ok (.ireturn, 1) := dk_172 (dk_at dksX4_count_2 14 rfl rfl)
theorem dX4_count_55 : decode cX4_count 55 = .ok (.aload_n 0, 1) := dk_42 (dk_at dksX4_count_2 15 rfl rfl)
theorem dX4_count_56 : decode cX4_count 56 = .ok (.getfield 203, 3) := dk_180 0 203 (dk_at dksX4_count_2 16 rfl rfl)
theorem dX4_count_59 : decode cX4_count 59 = .ok (.ireturn, 1) := dk_172 (dk_at dksX4_count_2 19 rfl rfl)
theorem dX4_count_60 : decode cX4_count 60 = .ok (.aload_n 0, 1) := dk_42 (dk_at dksX4_count_2 20 rfl rfl)
theorem dX4_count_61 : decode cX4_count 61 = .ok (.getfield 288, 3) := dk_180 1 32 (dk_at dksX4_count_2 21 rfl rfl)
theorem dX4_count_64 : decode cX4_count 64 = .ok (.ireturn, 1) := dk_172 (dk_at dksX4_count_3 0 rfl rfl)
theorem dX4_count_65 : decode cX4_count 65 = .ok (.aload_n 0, 1) := dk_42 (dk_at dksX4_count_3 1 rfl rfl)
theorem dX4_count_66 : decode cX4_count 66 = .ok (.getfield 217, 3) := dk_180 0 217 (dk_at dksX4_count_3 2 rfl rfl)
theorem dX4_count_69 : decode cX4_count 69 = .ok (.ireturn, 1) := dk_172 (dk_at dksX4_count_3 5 rfl rfl)
theorem dX4_count_70 : decode cX4_count 70 = .ok (.iconst (-1), 1) := dk_2 (dk_at dksX4_count_3 6 rfl rfl)
theorem dX4_count_71 : decode cX4_count 71 = .ok (.ireturn, 1) := dk_172 (dk_at dksX4_count_3 7 rfl rfl)
abbrev cX4_digest : ByteArray := prog_32_method_80_code
def yX4_digest : MethodName := ⟨RX4, "digest", "()J"⟩
def dkwX4_digest_8 : List UInt8 := [180, 0, 131, 29, 47, 97, 64, 132, 3, 1, 167, 255, 234, 31, 173]
abbrev dktX4_digest_8 : List UInt8 := dkwX4_digest_8 ++ []
def dkwX4_digest_7 : List UInt8 := [167, 255, 211, 132, 3, 1, 167, 255, 180, 3, 62, 29, 16, 8, 162, 0, 22, 20, 1, 137, 31, 105, 42]
abbrev dktX4_digest_7 : List UInt8 := dkwX4_digest_7 ++ dktX4_digest_8
def dkwX4_digest_6 : List UInt8 := [180, 0, 75, 16, 24, 42, 180, 0, 114, 29, 46, 104, 21, 4, 96, 46, 182, 1, 139, 64, 132, 4, 1]
abbrev dktX4_digest_6 : List UInt8 := dkwX4_digest_6 ++ dktX4_digest_7
def dkwX4_digest_5 : List UInt8 := [54, 4, 21, 4, 42, 180, 0, 72, 42, 180, 0, 114, 29, 46, 46, 162, 0, 35, 42, 31, 29, 21, 4, 42]
abbrev dktX4_digest_5 : List UInt8 := dkwX4_digest_5 ++ dktX4_digest_6
def dkwX4_digest_4 : List UInt8 := [62, 29, 42, 180, 1, 110, 162, 0, 74, 20, 1, 137, 31, 105, 42, 180, 0, 114, 29, 46, 133, 97, 64, 3]
abbrev dktX4_digest_4 : List UInt8 := dkwX4_digest_4 ++ dktX4_digest_5
def dkwX4_digest_3 : List UInt8 := [105, 42, 29, 21, 4, 182, 1, 26, 133, 97, 64, 132, 4, 1, 167, 255, 227, 132, 3, 1, 167, 255, 170, 3]
abbrev dktX4_digest_3 : List UInt8 := dkwX4_digest_3 ++ dktX4_digest_4
def dkwX4_digest_2 : List UInt8 := [132, 4, 1, 167, 255, 222, 3, 54, 4, 21, 4, 42, 180, 0, 72, 29, 46, 162, 0, 24, 20, 1, 137, 31]
abbrev dktX4_digest_2 : List UInt8 := dkwX4_digest_2 ++ dktX4_digest_3
def dkwX4_digest_1 : List UInt8 := [46, 162, 0, 29, 20, 1, 137, 31, 105, 42, 180, 0, 75, 16, 24, 29, 104, 21, 4, 96, 46, 133, 97, 64]
abbrev dktX4_digest_1 : List UInt8 := dkwX4_digest_1 ++ dktX4_digest_2
def dkwX4_digest_0 : List UInt8 := [20, 1, 135, 64, 3, 62, 29, 42, 180, 0, 200, 162, 0, 84, 3, 54, 4, 21, 4, 42, 180, 0, 72, 29]
abbrev dktX4_digest_0 : List UInt8 := dkwX4_digest_0 ++ dktX4_digest_1
theorem dksX4_digest_0 : cX4_digest.data.toList.drop 0 = dktX4_digest_0 := by decide +kernel
theorem dksX4_digest_1 : cX4_digest.data.toList.drop 24 = dktX4_digest_1 := dk_seg dksX4_digest_0 24 rfl rfl
theorem dksX4_digest_2 : cX4_digest.data.toList.drop 48 = dktX4_digest_2 := dk_seg dksX4_digest_1 24 rfl rfl
theorem dksX4_digest_3 : cX4_digest.data.toList.drop 72 = dktX4_digest_3 := dk_seg dksX4_digest_2 24 rfl rfl
theorem dksX4_digest_4 : cX4_digest.data.toList.drop 96 = dktX4_digest_4 := dk_seg dksX4_digest_3 24 rfl rfl
theorem dksX4_digest_5 : cX4_digest.data.toList.drop 120 = dktX4_digest_5 := dk_seg dksX4_digest_4 24 rfl rfl
theorem dksX4_digest_6 : cX4_digest.data.toList.drop 144 = dktX4_digest_6 := dk_seg dksX4_digest_5 24 rfl rfl
theorem dksX4_digest_7 : cX4_digest.data.toList.drop 167 = dktX4_digest_7 := dk_seg dksX4_digest_6 23 rfl rfl
theorem dksX4_digest_8 : cX4_digest.data.toList.drop 190 = dktX4_digest_8 := dk_seg dksX4_digest_7 23 rfl rfl
theorem dX4_digest_0 : decode cX4_digest 0 = .ok (.ldc2_w 391, 3) := dk_20 1 135 (dk_at dksX4_digest_0 0 rfl rfl)
theorem dX4_digest_3 : decode cX4_digest 3 = .ok (.lstore_n 1, 1) := dk_64 (dk_at dksX4_digest_0 3 rfl rfl)
theorem dX4_digest_4 : decode cX4_digest 4 = .ok (.iconst 0, 1) := dk_3 (dk_at dksX4_digest_0 4 rfl rfl)
theorem dX4_digest_5 : decode cX4_digest 5 = .ok (.istore_n 3, 1) := dk_62 (dk_at dksX4_digest_0 5 rfl rfl)
theorem dX4_digest_6 : decode cX4_digest 6 = .ok (.iload_n 3, 1) := dk_29 (dk_at dksX4_digest_0 6 rfl rfl)
theorem dX4_digest_7 : decode cX4_digest 7 = .ok (.aload_n 0, 1) := dk_42 (dk_at dksX4_digest_0 7 rfl rfl)
theorem dX4_digest_8 : decode cX4_digest 8 = .ok (.getfield 200, 3) := dk_180 0 200 (dk_at dksX4_digest_0 8 rfl rfl)
theorem dX4_digest_11 : decode cX4_digest 11 = .ok (.if_icmp .ge 84, 3) := dk_162 0 84 (dk_at dksX4_digest_0 11 rfl rfl)
theorem dX4_digest_14 : decode cX4_digest 14 = .ok (.iconst 0, 1) := dk_3 (dk_at dksX4_digest_0 14 rfl rfl)
theorem dX4_digest_15 : decode cX4_digest 15 = .ok (.istore 4, 2) := dk_54 4 (dk_at dksX4_digest_0 15 rfl rfl)
theorem dX4_digest_17 : decode cX4_digest 17 = .ok (.iload 4, 2) := dk_21 4 (dk_at dksX4_digest_0 17 rfl rfl)
theorem dX4_digest_19 : decode cX4_digest 19 = .ok (.aload_n 0, 1) := dk_42 (dk_at dksX4_digest_0 19 rfl rfl)
theorem dX4_digest_20 : decode cX4_digest 20 = .ok (.getfield 72, 3) := dk_180 0 72 (dk_at dksX4_digest_0 20 rfl rfl)
theorem dX4_digest_23 : decode cX4_digest 23 = .ok (.iload_n 3, 1) := dk_29 (dk_at dksX4_digest_0 23 rfl rfl)
theorem dX4_digest_24 : decode cX4_digest 24 = .ok (.iaload, 1) := dk_46 (dk_at dksX4_digest_1 0 rfl rfl)
theorem dX4_digest_25 : decode cX4_digest 25 = .ok (.if_icmp .ge 29, 3) := dk_162 0 29 (dk_at dksX4_digest_1 1 rfl rfl)
theorem dX4_digest_28 : decode cX4_digest 28 = .ok (.ldc2_w 393, 3) := dk_20 1 137 (dk_at dksX4_digest_1 4 rfl rfl)
theorem dX4_digest_31 : decode cX4_digest 31 = .ok (.lload_n 1, 1) := dk_31 (dk_at dksX4_digest_1 7 rfl rfl)
theorem dX4_digest_32 : decode cX4_digest 32 = .ok (.lmul, 1) := dk_105 (dk_at dksX4_digest_1 8 rfl rfl)
theorem dX4_digest_33 : decode cX4_digest 33 = .ok (.aload_n 0, 1) := dk_42 (dk_at dksX4_digest_1 9 rfl rfl)
theorem dX4_digest_34 : decode cX4_digest 34 = .ok (.getfield 75, 3) := dk_180 0 75 (dk_at dksX4_digest_1 10 rfl rfl)
theorem dX4_digest_37 : decode cX4_digest 37 = .ok (.bipush 24, 2) := dk_16 24 (dk_at dksX4_digest_1 13 rfl rfl)
theorem dX4_digest_39 : decode cX4_digest 39 = .ok (.iload_n 3, 1) := dk_29 (dk_at dksX4_digest_1 15 rfl rfl)
theorem dX4_digest_40 : decode cX4_digest 40 = .ok (.imul, 1) := dk_104 (dk_at dksX4_digest_1 16 rfl rfl)
theorem dX4_digest_41 : decode cX4_digest 41 = .ok (.iload 4, 2) := dk_21 4 (dk_at dksX4_digest_1 17 rfl rfl)
theorem dX4_digest_43 : decode cX4_digest 43 = .ok (.iadd, 1) := dk_96 (dk_at dksX4_digest_1 19 rfl rfl)
theorem dX4_digest_44 : decode cX4_digest 44 = .ok (.iaload, 1) := dk_46 (dk_at dksX4_digest_1 20 rfl rfl)
theorem dX4_digest_45 : decode cX4_digest 45 = .ok (.i2l, 1) := dk_133 (dk_at dksX4_digest_1 21 rfl rfl)
theorem dX4_digest_46 : decode cX4_digest 46 = .ok (.ladd, 1) := dk_97 (dk_at dksX4_digest_1 22 rfl rfl)
theorem dX4_digest_47 : decode cX4_digest 47 = .ok (.lstore_n 1, 1) := dk_64 (dk_at dksX4_digest_1 23 rfl rfl)
theorem dX4_digest_48 : decode cX4_digest 48 = .ok (.iinc 4 1, 3) := dk_132 4 1 (dk_at dksX4_digest_2 0 rfl rfl)
theorem dX4_digest_51 : decode cX4_digest 51 = .ok (.goto (-34), 3) := dk_167 255 222 (dk_at dksX4_digest_2 3 rfl rfl)
theorem dX4_digest_54 : decode cX4_digest 54 = .ok (.iconst 0, 1) := dk_3 (dk_at dksX4_digest_2 6 rfl rfl)
theorem dX4_digest_55 : decode cX4_digest 55 = .ok (.istore 4, 2) := dk_54 4 (dk_at dksX4_digest_2 7 rfl rfl)
theorem dX4_digest_57 : decode cX4_digest 57 = .ok (.iload 4, 2) := dk_21 4 (dk_at dksX4_digest_2 9 rfl rfl)
theorem dX4_digest_59 : decode cX4_digest 59 = .ok (.aload_n 0, 1) := dk_42 (dk_at dksX4_digest_2 11 rfl rfl)
theorem dX4_digest_60 : decode cX4_digest 60 = .ok (.getfield 72, 3) := dk_180 0 72 (dk_at dksX4_digest_2 12 rfl rfl)
theorem dX4_digest_63 : decode cX4_digest 63 = .ok (.iload_n 3, 1) := dk_29 (dk_at dksX4_digest_2 15 rfl rfl)
theorem dX4_digest_64 : decode cX4_digest 64 = .ok (.iaload, 1) := dk_46 (dk_at dksX4_digest_2 16 rfl rfl)
theorem dX4_digest_65 : decode cX4_digest 65 = .ok (.if_icmp .ge 24, 3) := dk_162 0 24 (dk_at dksX4_digest_2 17 rfl rfl)
theorem dX4_digest_68 : decode cX4_digest 68 = .ok (.ldc2_w 393, 3) := dk_20 1 137 (dk_at dksX4_digest_2 20 rfl rfl)
theorem dX4_digest_71 : decode cX4_digest 71 = .ok (.lload_n 1, 1) := dk_31 (dk_at dksX4_digest_2 23 rfl rfl)
theorem dX4_digest_72 : decode cX4_digest 72 = .ok (.lmul, 1) := dk_105 (dk_at dksX4_digest_3 0 rfl rfl)
theorem dX4_digest_73 : decode cX4_digest 73 = .ok (.aload_n 0, 1) := dk_42 (dk_at dksX4_digest_3 1 rfl rfl)
theorem dX4_digest_74 : decode cX4_digest 74 = .ok (.iload_n 3, 1) := dk_29 (dk_at dksX4_digest_3 2 rfl rfl)
theorem dX4_digest_75 : decode cX4_digest 75 = .ok (.iload 4, 2) := dk_21 4 (dk_at dksX4_digest_3 3 rfl rfl)
theorem dX4_digest_77 : decode cX4_digest 77 = .ok (.invokevirtual 282, 3) := dk_182 1 26 (dk_at dksX4_digest_3 5 rfl rfl)
theorem dX4_digest_80 : decode cX4_digest 80 = .ok (.i2l, 1) := dk_133 (dk_at dksX4_digest_3 8 rfl rfl)
theorem dX4_digest_81 : decode cX4_digest 81 = .ok (.ladd, 1) := dk_97 (dk_at dksX4_digest_3 9 rfl rfl)
theorem dX4_digest_82 : decode cX4_digest 82 = .ok (.lstore_n 1, 1) := dk_64 (dk_at dksX4_digest_3 10 rfl rfl)
theorem dX4_digest_83 : decode cX4_digest 83 = .ok (.iinc 4 1, 3) := dk_132 4 1 (dk_at dksX4_digest_3 11 rfl rfl)
theorem dX4_digest_86 : decode cX4_digest 86 = .ok (.goto (-29), 3) := dk_167 255 227 (dk_at dksX4_digest_3 14 rfl rfl)
theorem dX4_digest_89 : decode cX4_digest 89 = .ok (.iinc 3 1, 3) := dk_132 3 1 (dk_at dksX4_digest_3 17 rfl rfl)
theorem dX4_digest_92 : decode cX4_digest 92 = .ok (.goto (-86), 3) := dk_167 255 170 (dk_at dksX4_digest_3 20 rfl rfl)
theorem dX4_digest_95 : decode cX4_digest 95 = .ok (.iconst 0, 1) := dk_3 (dk_at dksX4_digest_3 23 rfl rfl)
theorem dX4_digest_96 : decode cX4_digest 96 = .ok (.istore_n 3, 1) := dk_62 (dk_at dksX4_digest_4 0 rfl rfl)
theorem dX4_digest_97 : decode cX4_digest 97 = .ok (.iload_n 3, 1) := dk_29 (dk_at dksX4_digest_4 1 rfl rfl)
theorem dX4_digest_98 : decode cX4_digest 98 = .ok (.aload_n 0, 1) := dk_42 (dk_at dksX4_digest_4 2 rfl rfl)
theorem dX4_digest_99 : decode cX4_digest 99 = .ok (.getfield 366, 3) := dk_180 1 110 (dk_at dksX4_digest_4 3 rfl rfl)
theorem dX4_digest_102 : decode cX4_digest 102 = .ok (.if_icmp .ge 74, 3) := dk_162 0 74 (dk_at dksX4_digest_4 6 rfl rfl)
theorem dX4_digest_105 : decode cX4_digest 105 = .ok (.ldc2_w 393, 3) := dk_20 1 137 (dk_at dksX4_digest_4 9 rfl rfl)
theorem dX4_digest_108 : decode cX4_digest 108 = .ok (.lload_n 1, 1) := dk_31 (dk_at dksX4_digest_4 12 rfl rfl)
theorem dX4_digest_109 : decode cX4_digest 109 = .ok (.lmul, 1) := dk_105 (dk_at dksX4_digest_4 13 rfl rfl)
theorem dX4_digest_110 : decode cX4_digest 110 = .ok (.aload_n 0, 1) := dk_42 (dk_at dksX4_digest_4 14 rfl rfl)
theorem dX4_digest_111 : decode cX4_digest 111 = .ok (.getfield 114, 3) := dk_180 0 114 (dk_at dksX4_digest_4 15 rfl rfl)
theorem dX4_digest_114 : decode cX4_digest 114 = .ok (.iload_n 3, 1) := dk_29 (dk_at dksX4_digest_4 18 rfl rfl)
theorem dX4_digest_115 : decode cX4_digest 115 = .ok (.iaload, 1) := dk_46 (dk_at dksX4_digest_4 19 rfl rfl)
theorem dX4_digest_116 : decode cX4_digest 116 = .ok (.i2l, 1) := dk_133 (dk_at dksX4_digest_4 20 rfl rfl)
theorem dX4_digest_117 : decode cX4_digest 117 = .ok (.ladd, 1) := dk_97 (dk_at dksX4_digest_4 21 rfl rfl)
theorem dX4_digest_118 : decode cX4_digest 118 = .ok (.lstore_n 1, 1) := dk_64 (dk_at dksX4_digest_4 22 rfl rfl)
theorem dX4_digest_119 : decode cX4_digest 119 = .ok (.iconst 0, 1) := dk_3 (dk_at dksX4_digest_4 23 rfl rfl)
theorem dX4_digest_120 : decode cX4_digest 120 = .ok (.istore 4, 2) := dk_54 4 (dk_at dksX4_digest_5 0 rfl rfl)
theorem dX4_digest_122 : decode cX4_digest 122 = .ok (.iload 4, 2) := dk_21 4 (dk_at dksX4_digest_5 2 rfl rfl)
theorem dX4_digest_124 : decode cX4_digest 124 = .ok (.aload_n 0, 1) := dk_42 (dk_at dksX4_digest_5 4 rfl rfl)
theorem dX4_digest_125 : decode cX4_digest 125 = .ok (.getfield 72, 3) := dk_180 0 72 (dk_at dksX4_digest_5 5 rfl rfl)
theorem dX4_digest_128 : decode cX4_digest 128 = .ok (.aload_n 0, 1) := dk_42 (dk_at dksX4_digest_5 8 rfl rfl)
theorem dX4_digest_129 : decode cX4_digest 129 = .ok (.getfield 114, 3) := dk_180 0 114 (dk_at dksX4_digest_5 9 rfl rfl)
theorem dX4_digest_132 : decode cX4_digest 132 = .ok (.iload_n 3, 1) := dk_29 (dk_at dksX4_digest_5 12 rfl rfl)
theorem dX4_digest_133 : decode cX4_digest 133 = .ok (.iaload, 1) := dk_46 (dk_at dksX4_digest_5 13 rfl rfl)
theorem dX4_digest_134 : decode cX4_digest 134 = .ok (.iaload, 1) := dk_46 (dk_at dksX4_digest_5 14 rfl rfl)
theorem dX4_digest_135 : decode cX4_digest 135 = .ok (.if_icmp .ge 35, 3) := dk_162 0 35 (dk_at dksX4_digest_5 15 rfl rfl)
theorem dX4_digest_138 : decode cX4_digest 138 = .ok (.aload_n 0, 1) := dk_42 (dk_at dksX4_digest_5 18 rfl rfl)
theorem dX4_digest_139 : decode cX4_digest 139 = .ok (.lload_n 1, 1) := dk_31 (dk_at dksX4_digest_5 19 rfl rfl)
theorem dX4_digest_140 : decode cX4_digest 140 = .ok (.iload_n 3, 1) := dk_29 (dk_at dksX4_digest_5 20 rfl rfl)
theorem dX4_digest_141 : decode cX4_digest 141 = .ok (.iload 4, 2) := dk_21 4 (dk_at dksX4_digest_5 21 rfl rfl)
theorem dX4_digest_143 : decode cX4_digest 143 = .ok (.aload_n 0, 1) := dk_42 (dk_at dksX4_digest_5 23 rfl rfl)
theorem dX4_digest_144 : decode cX4_digest 144 = .ok (.getfield 75, 3) := dk_180 0 75 (dk_at dksX4_digest_6 0 rfl rfl)
theorem dX4_digest_147 : decode cX4_digest 147 = .ok (.bipush 24, 2) := dk_16 24 (dk_at dksX4_digest_6 3 rfl rfl)
theorem dX4_digest_149 : decode cX4_digest 149 = .ok (.aload_n 0, 1) := dk_42 (dk_at dksX4_digest_6 5 rfl rfl)
theorem dX4_digest_150 : decode cX4_digest 150 = .ok (.getfield 114, 3) := dk_180 0 114 (dk_at dksX4_digest_6 6 rfl rfl)
theorem dX4_digest_153 : decode cX4_digest 153 = .ok (.iload_n 3, 1) := dk_29 (dk_at dksX4_digest_6 9 rfl rfl)
theorem dX4_digest_154 : decode cX4_digest 154 = .ok (.iaload, 1) := dk_46 (dk_at dksX4_digest_6 10 rfl rfl)
theorem dX4_digest_155 : decode cX4_digest 155 = .ok (.imul, 1) := dk_104 (dk_at dksX4_digest_6 11 rfl rfl)
theorem dX4_digest_156 : decode cX4_digest 156 = .ok (.iload 4, 2) := dk_21 4 (dk_at dksX4_digest_6 12 rfl rfl)
theorem dX4_digest_158 : decode cX4_digest 158 = .ok (.iadd, 1) := dk_96 (dk_at dksX4_digest_6 14 rfl rfl)
theorem dX4_digest_159 : decode cX4_digest 159 = .ok (.iaload, 1) := dk_46 (dk_at dksX4_digest_6 15 rfl rfl)
theorem dX4_digest_160 : decode cX4_digest 160 = .ok (.invokevirtual 395, 3) := dk_182 1 139 (dk_at dksX4_digest_6 16 rfl rfl)
theorem dX4_digest_163 : decode cX4_digest 163 = .ok (.lstore_n 1, 1) := dk_64 (dk_at dksX4_digest_6 19 rfl rfl)
theorem dX4_digest_164 : decode cX4_digest 164 = .ok (.iinc 4 1, 3) := dk_132 4 1 (dk_at dksX4_digest_6 20 rfl rfl)
theorem dX4_digest_167 : decode cX4_digest 167 = .ok (.goto (-45), 3) := dk_167 255 211 (dk_at dksX4_digest_7 0 rfl rfl)
theorem dX4_digest_170 : decode cX4_digest 170 = .ok (.iinc 3 1, 3) := dk_132 3 1 (dk_at dksX4_digest_7 3 rfl rfl)
theorem dX4_digest_173 : decode cX4_digest 173 = .ok (.goto (-76), 3) := dk_167 255 180 (dk_at dksX4_digest_7 6 rfl rfl)
theorem dX4_digest_176 : decode cX4_digest 176 = .ok (.iconst 0, 1) := dk_3 (dk_at dksX4_digest_7 9 rfl rfl)
theorem dX4_digest_177 : decode cX4_digest 177 = .ok (.istore_n 3, 1) := dk_62 (dk_at dksX4_digest_7 10 rfl rfl)
theorem dX4_digest_178 : decode cX4_digest 178 = .ok (.iload_n 3, 1) := dk_29 (dk_at dksX4_digest_7 11 rfl rfl)
theorem dX4_digest_179 : decode cX4_digest 179 = .ok (.bipush 8, 2) := dk_16 8 (dk_at dksX4_digest_7 12 rfl rfl)
theorem dX4_digest_181 : decode cX4_digest 181 = .ok (.if_icmp .ge 22, 3) := dk_162 0 22 (dk_at dksX4_digest_7 14 rfl rfl)
theorem dX4_digest_184 : decode cX4_digest 184 = .ok (.ldc2_w 393, 3) := dk_20 1 137 (dk_at dksX4_digest_7 17 rfl rfl)
theorem dX4_digest_187 : decode cX4_digest 187 = .ok (.lload_n 1, 1) := dk_31 (dk_at dksX4_digest_7 20 rfl rfl)
theorem dX4_digest_188 : decode cX4_digest 188 = .ok (.lmul, 1) := dk_105 (dk_at dksX4_digest_7 21 rfl rfl)
theorem dX4_digest_189 : decode cX4_digest 189 = .ok (.aload_n 0, 1) := dk_42 (dk_at dksX4_digest_7 22 rfl rfl)
theorem dX4_digest_190 : decode cX4_digest 190 = .ok (.getfield 131, 3) := dk_180 0 131 (dk_at dksX4_digest_8 0 rfl rfl)
theorem dX4_digest_193 : decode cX4_digest 193 = .ok (.iload_n 3, 1) := dk_29 (dk_at dksX4_digest_8 3 rfl rfl)
theorem dX4_digest_194 : decode cX4_digest 194 = .ok (.laload, 1) := dk_47 (dk_at dksX4_digest_8 4 rfl rfl)
theorem dX4_digest_195 : decode cX4_digest 195 = .ok (.ladd, 1) := dk_97 (dk_at dksX4_digest_8 5 rfl rfl)
theorem dX4_digest_196 : decode cX4_digest 196 = .ok (.lstore_n 1, 1) := dk_64 (dk_at dksX4_digest_8 6 rfl rfl)
theorem dX4_digest_197 : decode cX4_digest 197 = .ok (.iinc 3 1, 3) := dk_132 3 1 (dk_at dksX4_digest_8 7 rfl rfl)
theorem dX4_digest_200 : decode cX4_digest 200 = .ok (.goto (-22), 3) := dk_167 255 234 (dk_at dksX4_digest_8 10 rfl rfl)
theorem dX4_digest_203 : decode cX4_digest 203 = .ok (.lload_n 1, 1) := dk_31 (dk_at dksX4_digest_8 13 rfl rfl)
theorem dX4_digest_204 : decode cX4_digest 204 = .ok (.lreturn, 1) := dk_173 (dk_at dksX4_digest_8 14 rfl rfl)
abbrev cX4_mixed : ByteArray := prog_32_method_81_code
def yX4_mixed : MethodName := ⟨RX4, "mixed", "(JIII)J"⟩
def dkwX4_mixed_8 : List UInt8 := [21, 9, 96, 46, 133, 97, 55, 6, 132, 9, 1, 167, 255, 219, 22, 6, 173]
abbrev dktX4_mixed_8 : List UInt8 := dkwX4_mixed_8 ++ []
def dkwX4_mixed_7 : List UInt8 := [180, 0, 16, 21, 5, 46, 162, 0, 31, 20, 1, 137, 22, 6, 105, 42, 180, 0, 128, 5, 21, 8, 104]
abbrev dktX4_mixed_7 : List UInt8 := dkwX4_mixed_7 ++ dktX4_mixed_8
def dkwX4_mixed_6 : List UInt8 := [47, 97, 55, 6, 132, 11, 1, 167, 255, 219, 132, 9, 1, 167, 255, 158, 3, 54, 9, 21, 9, 42]
abbrev dktX4_mixed_6 : List UInt8 := dkwX4_mixed_6 ++ dktX4_mixed_7
def dkwX4_mixed_5 : List UInt8 := [21, 10, 46, 162, 0, 31, 20, 1, 137, 22, 6, 105, 42, 180, 0, 125, 16, 12, 21, 10, 104, 21, 11, 96]
abbrev dktX4_mixed_5 : List UInt8 := dkwX4_mixed_5 ++ dktX4_mixed_6
def dkwX4_mixed_4 : List UInt8 := [167, 0, 10, 42, 180, 0, 121, 21, 10, 46, 133, 97, 55, 6, 3, 54, 11, 21, 11, 42, 180, 0, 121]
abbrev dktX4_mixed_4 : List UInt8 := dkwX4_mixed_4 ++ dktX4_mixed_5
def dkwX4_mixed_3 : List UInt8 := [104, 21, 9, 96, 54, 10, 20, 1, 137, 22, 6, 105, 42, 180, 0, 121, 21, 10, 46, 156, 0, 7, 2]
abbrev dktX4_mixed_3 : List UInt8 := dkwX4_mixed_3 ++ dktX4_mixed_4
def dkwX4_mixed_2 : List UInt8 := [132, 9, 1, 167, 255, 220, 3, 54, 9, 21, 9, 42, 180, 0, 13, 21, 5, 46, 162, 0, 92, 5, 21, 8]
abbrev dktX4_mixed_2 : List UInt8 := dkwX4_mixed_2 ++ dktX4_mixed_3
def dkwX4_mixed_1 : List UInt8 := [162, 0, 30, 20, 1, 137, 22, 6, 105, 42, 180, 0, 117, 7, 21, 8, 104, 21, 9, 96, 47, 97, 55, 6]
abbrev dktX4_mixed_1 : List UInt8 := dkwX4_mixed_1 ++ dktX4_mixed_2
def dkwX4_mixed_0 : List UInt8 := [31, 55, 6, 16, 24, 29, 104, 21, 4, 96, 54, 8, 3, 54, 9, 21, 9, 42, 180, 0, 7, 21, 5, 46]
abbrev dktX4_mixed_0 : List UInt8 := dkwX4_mixed_0 ++ dktX4_mixed_1
theorem dksX4_mixed_0 : cX4_mixed.data.toList.drop 0 = dktX4_mixed_0 := by decide +kernel
theorem dksX4_mixed_1 : cX4_mixed.data.toList.drop 24 = dktX4_mixed_1 := dk_seg dksX4_mixed_0 24 rfl rfl
theorem dksX4_mixed_2 : cX4_mixed.data.toList.drop 48 = dktX4_mixed_2 := dk_seg dksX4_mixed_1 24 rfl rfl
theorem dksX4_mixed_3 : cX4_mixed.data.toList.drop 72 = dktX4_mixed_3 := dk_seg dksX4_mixed_2 24 rfl rfl
theorem dksX4_mixed_4 : cX4_mixed.data.toList.drop 95 = dktX4_mixed_4 := dk_seg dksX4_mixed_3 23 rfl rfl
theorem dksX4_mixed_5 : cX4_mixed.data.toList.drop 118 = dktX4_mixed_5 := dk_seg dksX4_mixed_4 23 rfl rfl
theorem dksX4_mixed_6 : cX4_mixed.data.toList.drop 142 = dktX4_mixed_6 := dk_seg dksX4_mixed_5 24 rfl rfl
theorem dksX4_mixed_7 : cX4_mixed.data.toList.drop 164 = dktX4_mixed_7 := dk_seg dksX4_mixed_6 22 rfl rfl
theorem dksX4_mixed_8 : cX4_mixed.data.toList.drop 187 = dktX4_mixed_8 := dk_seg dksX4_mixed_7 23 rfl rfl
theorem dX4_mixed_0 : decode cX4_mixed 0 = .ok (.lload_n 1, 1) := dk_31 (dk_at dksX4_mixed_0 0 rfl rfl)
theorem dX4_mixed_1 : decode cX4_mixed 1 = .ok (.lstore 6, 2) := dk_55 6 (dk_at dksX4_mixed_0 1 rfl rfl)
theorem dX4_mixed_3 : decode cX4_mixed 3 = .ok (.bipush 24, 2) := dk_16 24 (dk_at dksX4_mixed_0 3 rfl rfl)
theorem dX4_mixed_5 : decode cX4_mixed 5 = .ok (.iload_n 3, 1) := dk_29 (dk_at dksX4_mixed_0 5 rfl rfl)
theorem dX4_mixed_6 : decode cX4_mixed 6 = .ok (.imul, 1) := dk_104 (dk_at dksX4_mixed_0 6 rfl rfl)
theorem dX4_mixed_7 : decode cX4_mixed 7 = .ok (.iload 4, 2) := dk_21 4 (dk_at dksX4_mixed_0 7 rfl rfl)
theorem dX4_mixed_9 : decode cX4_mixed 9 = .ok (.iadd, 1) := dk_96 (dk_at dksX4_mixed_0 9 rfl rfl)
theorem dX4_mixed_10 : decode cX4_mixed 10 = .ok (.istore 8, 2) := dk_54 8 (dk_at dksX4_mixed_0 10 rfl rfl)
theorem dX4_mixed_12 : decode cX4_mixed 12 = .ok (.iconst 0, 1) := dk_3 (dk_at dksX4_mixed_0 12 rfl rfl)
theorem dX4_mixed_13 : decode cX4_mixed 13 = .ok (.istore 9, 2) := dk_54 9 (dk_at dksX4_mixed_0 13 rfl rfl)
theorem dX4_mixed_15 : decode cX4_mixed 15 = .ok (.iload 9, 2) := dk_21 9 (dk_at dksX4_mixed_0 15 rfl rfl)
theorem dX4_mixed_17 : decode cX4_mixed 17 = .ok (.aload_n 0, 1) := dk_42 (dk_at dksX4_mixed_0 17 rfl rfl)
theorem dX4_mixed_18 : decode cX4_mixed 18 = .ok (.getfield 7, 3) := dk_180 0 7 (dk_at dksX4_mixed_0 18 rfl rfl)
theorem dX4_mixed_21 : decode cX4_mixed 21 = .ok (.iload 5, 2) := dk_21 5 (dk_at dksX4_mixed_0 21 rfl rfl)
theorem dX4_mixed_23 : decode cX4_mixed 23 = .ok (.iaload, 1) := dk_46 (dk_at dksX4_mixed_0 23 rfl rfl)
theorem dX4_mixed_24 : decode cX4_mixed 24 = .ok (.if_icmp .ge 30, 3) := dk_162 0 30 (dk_at dksX4_mixed_1 0 rfl rfl)
theorem dX4_mixed_27 : decode cX4_mixed 27 = .ok (.ldc2_w 393, 3) := dk_20 1 137 (dk_at dksX4_mixed_1 3 rfl rfl)
theorem dX4_mixed_30 : decode cX4_mixed 30 = .ok (.lload 6, 2) := dk_22 6 (dk_at dksX4_mixed_1 6 rfl rfl)
theorem dX4_mixed_32 : decode cX4_mixed 32 = .ok (.lmul, 1) := dk_105 (dk_at dksX4_mixed_1 8 rfl rfl)
theorem dX4_mixed_33 : decode cX4_mixed 33 = .ok (.aload_n 0, 1) := dk_42 (dk_at dksX4_mixed_1 9 rfl rfl)
theorem dX4_mixed_34 : decode cX4_mixed 34 = .ok (.getfield 117, 3) := dk_180 0 117 (dk_at dksX4_mixed_1 10 rfl rfl)
theorem dX4_mixed_37 : decode cX4_mixed 37 = .ok (.iconst 4, 1) := dk_7 (dk_at dksX4_mixed_1 13 rfl rfl)
theorem dX4_mixed_38 : decode cX4_mixed 38 = .ok (.iload 8, 2) := dk_21 8 (dk_at dksX4_mixed_1 14 rfl rfl)
theorem dX4_mixed_40 : decode cX4_mixed 40 = .ok (.imul, 1) := dk_104 (dk_at dksX4_mixed_1 16 rfl rfl)
theorem dX4_mixed_41 : decode cX4_mixed 41 = .ok (.iload 9, 2) := dk_21 9 (dk_at dksX4_mixed_1 17 rfl rfl)
theorem dX4_mixed_43 : decode cX4_mixed 43 = .ok (.iadd, 1) := dk_96 (dk_at dksX4_mixed_1 19 rfl rfl)
theorem dX4_mixed_44 : decode cX4_mixed 44 = .ok (.laload, 1) := dk_47 (dk_at dksX4_mixed_1 20 rfl rfl)
theorem dX4_mixed_45 : decode cX4_mixed 45 = .ok (.ladd, 1) := dk_97 (dk_at dksX4_mixed_1 21 rfl rfl)
theorem dX4_mixed_46 : decode cX4_mixed 46 = .ok (.lstore 6, 2) := dk_55 6 (dk_at dksX4_mixed_1 22 rfl rfl)
theorem dX4_mixed_48 : decode cX4_mixed 48 = .ok (.iinc 9 1, 3) := dk_132 9 1 (dk_at dksX4_mixed_2 0 rfl rfl)
theorem dX4_mixed_51 : decode cX4_mixed 51 = .ok (.goto (-36), 3) := dk_167 255 220 (dk_at dksX4_mixed_2 3 rfl rfl)
theorem dX4_mixed_54 : decode cX4_mixed 54 = .ok (.iconst 0, 1) := dk_3 (dk_at dksX4_mixed_2 6 rfl rfl)
theorem dX4_mixed_55 : decode cX4_mixed 55 = .ok (.istore 9, 2) := dk_54 9 (dk_at dksX4_mixed_2 7 rfl rfl)
theorem dX4_mixed_57 : decode cX4_mixed 57 = .ok (.iload 9, 2) := dk_21 9 (dk_at dksX4_mixed_2 9 rfl rfl)
theorem dX4_mixed_59 : decode cX4_mixed 59 = .ok (.aload_n 0, 1) := dk_42 (dk_at dksX4_mixed_2 11 rfl rfl)
theorem dX4_mixed_60 : decode cX4_mixed 60 = .ok (.getfield 13, 3) := dk_180 0 13 (dk_at dksX4_mixed_2 12 rfl rfl)
theorem dX4_mixed_63 : decode cX4_mixed 63 = .ok (.iload 5, 2) := dk_21 5 (dk_at dksX4_mixed_2 15 rfl rfl)
theorem dX4_mixed_65 : decode cX4_mixed 65 = .ok (.iaload, 1) := dk_46 (dk_at dksX4_mixed_2 17 rfl rfl)
theorem dX4_mixed_66 : decode cX4_mixed 66 = .ok (.if_icmp .ge 92, 3) := dk_162 0 92 (dk_at dksX4_mixed_2 18 rfl rfl)
theorem dX4_mixed_69 : decode cX4_mixed 69 = .ok (.iconst 2, 1) := dk_5 (dk_at dksX4_mixed_2 21 rfl rfl)
theorem dX4_mixed_70 : decode cX4_mixed 70 = .ok (.iload 8, 2) := dk_21 8 (dk_at dksX4_mixed_2 22 rfl rfl)
theorem dX4_mixed_72 : decode cX4_mixed 72 = .ok (.imul, 1) := dk_104 (dk_at dksX4_mixed_3 0 rfl rfl)
theorem dX4_mixed_73 : decode cX4_mixed 73 = .ok (.iload 9, 2) := dk_21 9 (dk_at dksX4_mixed_3 1 rfl rfl)
theorem dX4_mixed_75 : decode cX4_mixed 75 = .ok (.iadd, 1) := dk_96 (dk_at dksX4_mixed_3 3 rfl rfl)
theorem dX4_mixed_76 : decode cX4_mixed 76 = .ok (.istore 10, 2) := dk_54 10 (dk_at dksX4_mixed_3 4 rfl rfl)
theorem dX4_mixed_78 : decode cX4_mixed 78 = .ok (.ldc2_w 393, 3) := dk_20 1 137 (dk_at dksX4_mixed_3 6 rfl rfl)
theorem dX4_mixed_81 : decode cX4_mixed 81 = .ok (.lload 6, 2) := dk_22 6 (dk_at dksX4_mixed_3 9 rfl rfl)
theorem dX4_mixed_83 : decode cX4_mixed 83 = .ok (.lmul, 1) := dk_105 (dk_at dksX4_mixed_3 11 rfl rfl)
theorem dX4_mixed_84 : decode cX4_mixed 84 = .ok (.aload_n 0, 1) := dk_42 (dk_at dksX4_mixed_3 12 rfl rfl)
theorem dX4_mixed_85 : decode cX4_mixed 85 = .ok (.getfield 121, 3) := dk_180 0 121 (dk_at dksX4_mixed_3 13 rfl rfl)
theorem dX4_mixed_88 : decode cX4_mixed 88 = .ok (.iload 10, 2) := dk_21 10 (dk_at dksX4_mixed_3 16 rfl rfl)
theorem dX4_mixed_90 : decode cX4_mixed 90 = .ok (.iaload, 1) := dk_46 (dk_at dksX4_mixed_3 18 rfl rfl)
theorem dX4_mixed_91 : decode cX4_mixed 91 = .ok (.ifCond .ge 7, 3) := dk_156 0 7 (dk_at dksX4_mixed_3 19 rfl rfl)
theorem dX4_mixed_94 : decode cX4_mixed 94 = .ok (.iconst (-1), 1) := dk_2 (dk_at dksX4_mixed_3 22 rfl rfl)
theorem dX4_mixed_95 : decode cX4_mixed 95 = .ok (.goto 10, 3) := dk_167 0 10 (dk_at dksX4_mixed_4 0 rfl rfl)
theorem dX4_mixed_98 : decode cX4_mixed 98 = .ok (.aload_n 0, 1) := dk_42 (dk_at dksX4_mixed_4 3 rfl rfl)
theorem dX4_mixed_99 : decode cX4_mixed 99 = .ok (.getfield 121, 3) := dk_180 0 121 (dk_at dksX4_mixed_4 4 rfl rfl)
theorem dX4_mixed_102 : decode cX4_mixed 102 = .ok (.iload 10, 2) := dk_21 10 (dk_at dksX4_mixed_4 7 rfl rfl)
theorem dX4_mixed_104 : decode cX4_mixed 104 = .ok (.iaload, 1) := dk_46 (dk_at dksX4_mixed_4 9 rfl rfl)
theorem dX4_mixed_105 : decode cX4_mixed 105 = .ok (.i2l, 1) := dk_133 (dk_at dksX4_mixed_4 10 rfl rfl)
theorem dX4_mixed_106 : decode cX4_mixed 106 = .ok (.ladd, 1) := dk_97 (dk_at dksX4_mixed_4 11 rfl rfl)
theorem dX4_mixed_107 : decode cX4_mixed 107 = .ok (.lstore 6, 2) := dk_55 6 (dk_at dksX4_mixed_4 12 rfl rfl)
theorem dX4_mixed_109 : decode cX4_mixed 109 = .ok (.iconst 0, 1) := dk_3 (dk_at dksX4_mixed_4 14 rfl rfl)
theorem dX4_mixed_110 : decode cX4_mixed 110 = .ok (.istore 11, 2) := dk_54 11 (dk_at dksX4_mixed_4 15 rfl rfl)
theorem dX4_mixed_112 : decode cX4_mixed 112 = .ok (.iload 11, 2) := dk_21 11 (dk_at dksX4_mixed_4 17 rfl rfl)
theorem dX4_mixed_114 : decode cX4_mixed 114 = .ok (.aload_n 0, 1) := dk_42 (dk_at dksX4_mixed_4 19 rfl rfl)
theorem dX4_mixed_115 : decode cX4_mixed 115 = .ok (.getfield 121, 3) := dk_180 0 121 (dk_at dksX4_mixed_4 20 rfl rfl)
theorem dX4_mixed_118 : decode cX4_mixed 118 = .ok (.iload 10, 2) := dk_21 10 (dk_at dksX4_mixed_5 0 rfl rfl)
theorem dX4_mixed_120 : decode cX4_mixed 120 = .ok (.iaload, 1) := dk_46 (dk_at dksX4_mixed_5 2 rfl rfl)
theorem dX4_mixed_121 : decode cX4_mixed 121 = .ok (.if_icmp .ge 31, 3) := dk_162 0 31 (dk_at dksX4_mixed_5 3 rfl rfl)
theorem dX4_mixed_124 : decode cX4_mixed 124 = .ok (.ldc2_w 393, 3) := dk_20 1 137 (dk_at dksX4_mixed_5 6 rfl rfl)
theorem dX4_mixed_127 : decode cX4_mixed 127 = .ok (.lload 6, 2) := dk_22 6 (dk_at dksX4_mixed_5 9 rfl rfl)
theorem dX4_mixed_129 : decode cX4_mixed 129 = .ok (.lmul, 1) := dk_105 (dk_at dksX4_mixed_5 11 rfl rfl)
theorem dX4_mixed_130 : decode cX4_mixed 130 = .ok (.aload_n 0, 1) := dk_42 (dk_at dksX4_mixed_5 12 rfl rfl)
theorem dX4_mixed_131 : decode cX4_mixed 131 = .ok (.getfield 125, 3) := dk_180 0 125 (dk_at dksX4_mixed_5 13 rfl rfl)
theorem dX4_mixed_134 : decode cX4_mixed 134 = .ok (.bipush 12, 2) := dk_16 12 (dk_at dksX4_mixed_5 16 rfl rfl)
theorem dX4_mixed_136 : decode cX4_mixed 136 = .ok (.iload 10, 2) := dk_21 10 (dk_at dksX4_mixed_5 18 rfl rfl)
theorem dX4_mixed_138 : decode cX4_mixed 138 = .ok (.imul, 1) := dk_104 (dk_at dksX4_mixed_5 20 rfl rfl)
theorem dX4_mixed_139 : decode cX4_mixed 139 = .ok (.iload 11, 2) := dk_21 11 (dk_at dksX4_mixed_5 21 rfl rfl)
theorem dX4_mixed_141 : decode cX4_mixed 141 = .ok (.iadd, 1) := dk_96 (dk_at dksX4_mixed_5 23 rfl rfl)
theorem dX4_mixed_142 : decode cX4_mixed 142 = .ok (.laload, 1) := dk_47 (dk_at dksX4_mixed_6 0 rfl rfl)
theorem dX4_mixed_143 : decode cX4_mixed 143 = .ok (.ladd, 1) := dk_97 (dk_at dksX4_mixed_6 1 rfl rfl)
theorem dX4_mixed_144 : decode cX4_mixed 144 = .ok (.lstore 6, 2) := dk_55 6 (dk_at dksX4_mixed_6 2 rfl rfl)
theorem dX4_mixed_146 : decode cX4_mixed 146 = .ok (.iinc 11 1, 3) := dk_132 11 1 (dk_at dksX4_mixed_6 4 rfl rfl)
theorem dX4_mixed_149 : decode cX4_mixed 149 = .ok (.goto (-37), 3) := dk_167 255 219 (dk_at dksX4_mixed_6 7 rfl rfl)
theorem dX4_mixed_152 : decode cX4_mixed 152 = .ok (.iinc 9 1, 3) := dk_132 9 1 (dk_at dksX4_mixed_6 10 rfl rfl)
theorem dX4_mixed_155 : decode cX4_mixed 155 = .ok (.goto (-98), 3) := dk_167 255 158 (dk_at dksX4_mixed_6 13 rfl rfl)
theorem dX4_mixed_158 : decode cX4_mixed 158 = .ok (.iconst 0, 1) := dk_3 (dk_at dksX4_mixed_6 16 rfl rfl)
theorem dX4_mixed_159 : decode cX4_mixed 159 = .ok (.istore 9, 2) := dk_54 9 (dk_at dksX4_mixed_6 17 rfl rfl)
theorem dX4_mixed_161 : decode cX4_mixed 161 = .ok (.iload 9, 2) := dk_21 9 (dk_at dksX4_mixed_6 19 rfl rfl)
theorem dX4_mixed_163 : decode cX4_mixed 163 = .ok (.aload_n 0, 1) := dk_42 (dk_at dksX4_mixed_6 21 rfl rfl)
theorem dX4_mixed_164 : decode cX4_mixed 164 = .ok (.getfield 16, 3) := dk_180 0 16 (dk_at dksX4_mixed_7 0 rfl rfl)
theorem dX4_mixed_167 : decode cX4_mixed 167 = .ok (.iload 5, 2) := dk_21 5 (dk_at dksX4_mixed_7 3 rfl rfl)
theorem dX4_mixed_169 : decode cX4_mixed 169 = .ok (.iaload, 1) := dk_46 (dk_at dksX4_mixed_7 5 rfl rfl)
theorem dX4_mixed_170 : decode cX4_mixed 170 = .ok (.if_icmp .ge 31, 3) := dk_162 0 31 (dk_at dksX4_mixed_7 6 rfl rfl)
theorem dX4_mixed_173 : decode cX4_mixed 173 = .ok (.ldc2_w 393, 3) := dk_20 1 137 (dk_at dksX4_mixed_7 9 rfl rfl)
theorem dX4_mixed_176 : decode cX4_mixed 176 = .ok (.lload 6, 2) := dk_22 6 (dk_at dksX4_mixed_7 12 rfl rfl)
theorem dX4_mixed_178 : decode cX4_mixed 178 = .ok (.lmul, 1) := dk_105 (dk_at dksX4_mixed_7 14 rfl rfl)
theorem dX4_mixed_179 : decode cX4_mixed 179 = .ok (.aload_n 0, 1) := dk_42 (dk_at dksX4_mixed_7 15 rfl rfl)
theorem dX4_mixed_180 : decode cX4_mixed 180 = .ok (.getfield 128, 3) := dk_180 0 128 (dk_at dksX4_mixed_7 16 rfl rfl)
theorem dX4_mixed_183 : decode cX4_mixed 183 = .ok (.iconst 2, 1) := dk_5 (dk_at dksX4_mixed_7 19 rfl rfl)
theorem dX4_mixed_184 : decode cX4_mixed 184 = .ok (.iload 8, 2) := dk_21 8 (dk_at dksX4_mixed_7 20 rfl rfl)
theorem dX4_mixed_186 : decode cX4_mixed 186 = .ok (.imul, 1) := dk_104 (dk_at dksX4_mixed_7 22 rfl rfl)
theorem dX4_mixed_187 : decode cX4_mixed 187 = .ok (.iload 9, 2) := dk_21 9 (dk_at dksX4_mixed_8 0 rfl rfl)
theorem dX4_mixed_189 : decode cX4_mixed 189 = .ok (.iadd, 1) := dk_96 (dk_at dksX4_mixed_8 2 rfl rfl)
theorem dX4_mixed_190 : decode cX4_mixed 190 = .ok (.iaload, 1) := dk_46 (dk_at dksX4_mixed_8 3 rfl rfl)
theorem dX4_mixed_191 : decode cX4_mixed 191 = .ok (.i2l, 1) := dk_133 (dk_at dksX4_mixed_8 4 rfl rfl)
theorem dX4_mixed_192 : decode cX4_mixed 192 = .ok (.ladd, 1) := dk_97 (dk_at dksX4_mixed_8 5 rfl rfl)
theorem dX4_mixed_193 : decode cX4_mixed 193 = .ok (.lstore 6, 2) := dk_55 6 (dk_at dksX4_mixed_8 6 rfl rfl)
theorem dX4_mixed_195 : decode cX4_mixed 195 = .ok (.iinc 9 1, 3) := dk_132 9 1 (dk_at dksX4_mixed_8 8 rfl rfl)
theorem dX4_mixed_198 : decode cX4_mixed 198 = .ok (.goto (-37), 3) := dk_167 255 219 (dk_at dksX4_mixed_8 11 rfl rfl)
theorem dX4_mixed_201 : decode cX4_mixed 201 = .ok (.lload 6, 2) := dk_22 6 (dk_at dksX4_mixed_8 14 rfl rfl)
theorem dX4_mixed_203 : decode cX4_mixed 203 = .ok (.lreturn, 1) := dk_173 (dk_at dksX4_mixed_8 16 rfl rfl)
theorem q85 : (Jvm.Cond.initialized "RoleLoomModel") ∈ lw_all := lw_g (lw_at lw_m1 10 rfl) rfl
theorem q528 : (Jvm.Cond.selects "RoleLoomModel" ({ cls := "java/lang/Object", name := "getClass", desc := "()Ljava/lang/Class;" } : Jvm.MethodName) ({ cls := "java/lang/Object", name := "getClass", desc := "()Ljava/lang/Class;" } : Jvm.MethodName)) ∈ lw_all := lw_g (lw_at lw_m2 213 rfl) rfl
theorem q611 : (Jvm.Cond.selects "RoleLoomModel" ({ cls := "java/lang/Object", name := "equals", desc := "(Ljava/lang/Object;)Z" } : Jvm.MethodName) ({ cls := "java/lang/Object", name := "equals", desc := "(Ljava/lang/Object;)Z" } : Jvm.MethodName)) ∈ lw_all := lw_g (lw_at lw_m3 56 rfl) rfl
theorem q1501 : (Jvm.Cond.instantiable "RoleLoomModel" (73 : Nat)) ∈ lw_all := lw_g (lw_at lw_m6 226 rfl) rfl
theorem q1503 : (Jvm.Cond.instanceMethod ({ cls := "RoleLoomModel", name := "<init>", desc := "()V" } : Jvm.MethodName)) ∈ lw_all := lw_g (lw_at lw_m6 228 rfl) rfl
theorem q1504 : (Jvm.Cond.code ({ cls := "RoleLoomModel", name := "<init>", desc := "()V" } : Jvm.MethodName) prog_32_method_1_code (2 : Nat) (Option.none : Option Jvm.ClassFile.FieldType)) ∈ lw_all := lw_g (lw_at lw_m6 229 rfl) rfl
theorem q1505 : (Jvm.Cond.methodLink "RoleLoomModel" (1 : Nat) ({ cls := "java/lang/Object", name := "<init>", desc := "()V" } : Jvm.MethodName)) ∈ lw_all := lw_g (lw_at lw_m6 230 rfl) rfl
theorem q1506 : (Jvm.Cond.constant "RoleLoomModel" (124 : Nat) (58176 : Int32)) ∈ lw_all := lw_g (lw_at lw_m6 231 rfl) rfl
theorem q1507 : (Jvm.Cond.fieldLink "RoleLoomModel" (185 : Nat) "RoleLoomModel" "parts" "I") ∈ lw_all := lw_g (lw_at lw_m6 232 rfl) rfl
theorem q1508 : (Jvm.Cond.fieldLink "RoleLoomModel" (7 : Nat) "RoleLoomModel" "cellMany" "[I") ∈ lw_all := lw_g (lw_at lw_m6 233 rfl) rfl
theorem q1509 : (Jvm.Cond.fieldLink "RoleLoomModel" (13 : Nat) "RoleLoomModel" "rowMany" "[I") ∈ lw_all := lw_g (lw_at lw_m6 234 rfl) rfl
theorem q1510 : (Jvm.Cond.fieldLink "RoleLoomModel" (16 : Nat) "RoleLoomModel" "holderMany" "[I") ∈ lw_all := lw_g (lw_at lw_m6 235 rfl) rfl
theorem q1511 : (Jvm.Cond.fieldLink "RoleLoomModel" (19 : Nat) "RoleLoomModel" "extendMany" "[I") ∈ lw_all := lw_g (lw_at lw_m6 236 rfl) rfl
theorem q1512 : (Jvm.Cond.fieldLink "RoleLoomModel" (22 : Nat) "RoleLoomModel" "extended" "[I") ∈ lw_all := lw_g (lw_at lw_m6 237 rfl) rfl
theorem q1513 : (Jvm.Cond.fieldLink "RoleLoomModel" (25 : Nat) "RoleLoomModel" "wishes" "[Z") ∈ lw_all := lw_g (lw_at lw_m6 238 rfl) rfl
theorem q1514 : (Jvm.Cond.fieldLink "RoleLoomModel" (203 : Nat) "RoleLoomModel" "wants" "I") ∈ lw_all := lw_g (lw_at lw_m6 239 rfl) rfl
theorem q1515 : (Jvm.Cond.fieldLink "RoleLoomModel" (29 : Nat) "RoleLoomModel" "wantFirst" "[I") ∈ lw_all := lw_g (lw_at lw_m7 0 rfl) rfl
theorem q1516 : (Jvm.Cond.fieldLink "RoleLoomModel" (32 : Nat) "RoleLoomModel" "wantSecond" "[I") ∈ lw_all := lw_g (lw_at lw_m7 1 rfl) rfl
theorem q1517 : (Jvm.Cond.fieldLink "RoleLoomModel" (35 : Nat) "RoleLoomModel" "many" "[I") ∈ lw_all := lw_g (lw_at lw_m7 2 rfl) rfl
theorem q1518 : (Jvm.Cond.fieldLink "RoleLoomModel" (38 : Nat) "RoleLoomModel" "catches" "[I") ∈ lw_all := lw_g (lw_at lw_m7 3 rfl) rfl
theorem q1519 : (Jvm.Cond.fieldLink "RoleLoomModel" (41 : Nat) "RoleLoomModel" "whats" "[I") ∈ lw_all := lw_g (lw_at lw_m7 4 rfl) rfl
theorem q1520 : (Jvm.Cond.fieldLink "RoleLoomModel" (44 : Nat) "RoleLoomModel" "as" "[I") ∈ lw_all := lw_g (lw_at lw_m7 5 rfl) rfl
theorem q1521 : (Jvm.Cond.fieldLink "RoleLoomModel" (47 : Nat) "RoleLoomModel" "bs" "[I") ∈ lw_all := lw_g (lw_at lw_m7 6 rfl) rfl
theorem q1522 : (Jvm.Cond.fieldLink "RoleLoomModel" (50 : Nat) "RoleLoomModel" "lastBody" "I") ∈ lw_all := lw_g (lw_at lw_m7 7 rfl) rfl
theorem q1523 : (Jvm.Cond.fieldLink "RoleLoomModel" (217 : Nat) "RoleLoomModel" "named" "I") ∈ lw_all := lw_g (lw_at lw_m7 8 rfl) rfl
theorem q1524 : (Jvm.Cond.fieldLink "RoleLoomModel" (54 : Nat) "RoleLoomModel" "names" "[I") ∈ lw_all := lw_g (lw_at lw_m7 9 rfl) rfl
theorem q1525 : (Jvm.Cond.fieldLink "RoleLoomModel" (220 : Nat) "RoleLoomModel" "excludes" "I") ∈ lw_all := lw_g (lw_at lw_m7 10 rfl) rfl
theorem q1526 : (Jvm.Cond.fieldLink "RoleLoomModel" (57 : Nat) "RoleLoomModel" "excludePart" "[I") ∈ lw_all := lw_g (lw_at lw_m7 11 rfl) rfl
theorem q1527 : (Jvm.Cond.fieldLink "RoleLoomModel" (60 : Nat) "RoleLoomModel" "excludeMember" "[I") ∈ lw_all := lw_g (lw_at lw_m7 12 rfl) rfl
theorem q1528 : (Jvm.Cond.fieldLink "RoleLoomModel" (63 : Nat) "RoleLoomModel" "aliasPart" "[I") ∈ lw_all := lw_g (lw_at lw_m7 13 rfl) rfl
theorem q1529 : (Jvm.Cond.fieldLink "RoleLoomModel" (66 : Nat) "RoleLoomModel" "aliasMember" "[I") ∈ lw_all := lw_g (lw_at lw_m7 14 rfl) rfl
theorem q1530 : (Jvm.Cond.fieldLink "RoleLoomModel" (69 : Nat) "RoleLoomModel" "isAlias" "[Z") ∈ lw_all := lw_g (lw_at lw_m7 15 rfl) rfl
theorem q1531 : (Jvm.Cond.fieldLink "RoleLoomModel" (200 : Nat) "RoleLoomModel" "roles" "I") ∈ lw_all := lw_g (lw_at lw_m7 16 rfl) rfl
theorem q1532 : (Jvm.Cond.fieldLink "RoleLoomModel" (72 : Nat) "RoleLoomModel" "lineSize" "[I") ∈ lw_all := lw_g (lw_at lw_m7 17 rfl) rfl
theorem q1533 : (Jvm.Cond.fieldLink "RoleLoomModel" (75 : Nat) "RoleLoomModel" "lines" "[I") ∈ lw_all := lw_g (lw_at lw_m7 18 rfl) rfl
theorem q1534 : (Jvm.Cond.fieldLink "RoleLoomModel" (78 : Nat) "RoleLoomModel" "placeOf" "[I") ∈ lw_all := lw_g (lw_at lw_m7 19 rfl) rfl
theorem q1535 : (Jvm.Cond.fieldLink "RoleLoomModel" (81 : Nat) "RoleLoomModel" "chainSize" "[I") ∈ lw_all := lw_g (lw_at lw_m7 20 rfl) rfl
theorem q1536 : (Jvm.Cond.fieldLink "RoleLoomModel" (84 : Nat) "RoleLoomModel" "chains" "[I") ∈ lw_all := lw_g (lw_at lw_m7 21 rfl) rfl
theorem q1537 : (Jvm.Cond.fieldLink "RoleLoomModel" (87 : Nat) "RoleLoomModel" "roleAliasMember" "[I") ∈ lw_all := lw_g (lw_at lw_m7 22 rfl) rfl
theorem q1538 : (Jvm.Cond.fieldLink "RoleLoomModel" (90 : Nat) "RoleLoomModel" "roleAliasAt" "[I") ∈ lw_all := lw_g (lw_at lw_m7 23 rfl) rfl
theorem q1539 : (Jvm.Cond.fieldLink "RoleLoomModel" (93 : Nat) "RoleLoomModel" "starts" "[I") ∈ lw_all := lw_g (lw_at lw_m7 24 rfl) rfl
theorem q1540 : (Jvm.Cond.fieldLink "RoleLoomModel" (96 : Nat) "RoleLoomModel" "rings" "[I") ∈ lw_all := lw_g (lw_at lw_m7 25 rfl) rfl
theorem q1541 : (Jvm.Cond.fieldLink "RoleLoomModel" (240 : Nat) "RoleLoomModel" "ringMany" "I") ∈ lw_all := lw_g (lw_at lw_m7 26 rfl) rfl
theorem q1542 : (Jvm.Cond.fieldLink "RoleLoomModel" (99 : Nat) "RoleLoomModel" "lackPart" "I") ∈ lw_all := lw_g (lw_at lw_m7 27 rfl) rfl
theorem q1543 : (Jvm.Cond.fieldLink "RoleLoomModel" (102 : Nat) "RoleLoomModel" "lackMember" "I") ∈ lw_all := lw_g (lw_at lw_m7 28 rfl) rfl
theorem q1544 : (Jvm.Cond.fieldLink "RoleLoomModel" (105 : Nat) "RoleLoomModel" "isIn" "[Z") ∈ lw_all := lw_g (lw_at lw_m7 29 rfl) rfl
theorem q1545 : (Jvm.Cond.fieldLink "RoleLoomModel" (108 : Nat) "RoleLoomModel" "isLeft" "[Z") ∈ lw_all := lw_g (lw_at lw_m7 30 rfl) rfl
theorem q1546 : (Jvm.Cond.fieldLink "RoleLoomModel" (111 : Nat) "RoleLoomModel" "path" "[I") ∈ lw_all := lw_g (lw_at lw_m7 31 rfl) rfl
theorem q1547 : (Jvm.Cond.fieldLink "RoleLoomModel" (366 : Nat) "RoleLoomModel" "objects" "I") ∈ lw_all := lw_g (lw_at lw_m7 32 rfl) rfl
theorem q1548 : (Jvm.Cond.fieldLink "RoleLoomModel" (114 : Nat) "RoleLoomModel" "roleOf" "[I") ∈ lw_all := lw_g (lw_at lw_m7 33 rfl) rfl
theorem q1549 : (Jvm.Cond.fieldLink "RoleLoomModel" (117 : Nat) "RoleLoomModel" "cells" "[J") ∈ lw_all := lw_g (lw_at lw_m7 34 rfl) rfl
theorem q1550 : (Jvm.Cond.fieldLink "RoleLoomModel" (121 : Nat) "RoleLoomModel" "rowSizes" "[I") ∈ lw_all := lw_g (lw_at lw_m7 35 rfl) rfl
theorem q1551 : (Jvm.Cond.fieldLink "RoleLoomModel" (125 : Nat) "RoleLoomModel" "rowPlaces" "[J") ∈ lw_all := lw_g (lw_at lw_m7 36 rfl) rfl
theorem q1552 : (Jvm.Cond.fieldLink "RoleLoomModel" (128 : Nat) "RoleLoomModel" "holders" "[I") ∈ lw_all := lw_g (lw_at lw_m7 37 rfl) rfl
theorem q1553 : (Jvm.Cond.fieldLink "RoleLoomModel" (131 : Nat) "RoleLoomModel" "sharedCells" "[J") ∈ lw_all := lw_g (lw_at lw_m7 38 rfl) rfl
theorem q1554 : (Jvm.Cond.fieldLink "RoleLoomModel" (337 : Nat) "RoleLoomModel" "marks" "I") ∈ lw_all := lw_g (lw_at lw_m7 39 rfl) rfl
theorem q1555 : (Jvm.Cond.fieldLink "RoleLoomModel" (134 : Nat) "RoleLoomModel" "markValues" "[J") ∈ lw_all := lw_g (lw_at lw_m7 40 rfl) rfl
theorem q1556 : (Jvm.Cond.fieldLink "RoleLoomModel" (381 : Nat) "RoleLoomModel" "told" "J") ∈ lw_all := lw_g (lw_at lw_m7 41 rfl) rfl
theorem q1557 : (Jvm.Cond.fieldLink "RoleLoomModel" (285 : Nat) "RoleLoomModel" "deep" "I") ∈ lw_all := lw_g (lw_at lw_m7 42 rfl) rfl
theorem q1558 : (Jvm.Cond.fieldLink "RoleLoomModel" (137 : Nat) "RoleLoomModel" "runBody" "[I") ∈ lw_all := lw_g (lw_at lw_m7 43 rfl) rfl
theorem q1559 : (Jvm.Cond.fieldLink "RoleLoomModel" (140 : Nat) "RoleLoomModel" "runObject" "[I") ∈ lw_all := lw_g (lw_at lw_m7 44 rfl) rfl
theorem q1560 : (Jvm.Cond.fieldLink "RoleLoomModel" (143 : Nat) "RoleLoomModel" "runPlace" "[I") ∈ lw_all := lw_g (lw_at lw_m7 45 rfl) rfl
theorem q1561 : (Jvm.Cond.fieldLink "RoleLoomModel" (146 : Nat) "RoleLoomModel" "runMember" "[I") ∈ lw_all := lw_g (lw_at lw_m7 46 rfl) rfl
theorem q1562 : (Jvm.Cond.fieldLink "RoleLoomModel" (149 : Nat) "RoleLoomModel" "runChain" "[I") ∈ lw_all := lw_g (lw_at lw_m7 47 rfl) rfl
theorem q1563 : (Jvm.Cond.fieldLink "RoleLoomModel" (152 : Nat) "RoleLoomModel" "runAct" "[I") ∈ lw_all := lw_g (lw_at lw_m7 48 rfl) rfl
theorem q1564 : (Jvm.Cond.fieldLink "RoleLoomModel" (155 : Nat) "RoleLoomModel" "runA" "[J") ∈ lw_all := lw_g (lw_at lw_m7 49 rfl) rfl
theorem q1565 : (Jvm.Cond.fieldLink "RoleLoomModel" (158 : Nat) "RoleLoomModel" "runArgument" "[J") ∈ lw_all := lw_g (lw_at lw_m7 50 rfl) rfl
theorem q1566 : (Jvm.Cond.fieldLink "RoleLoomModel" (161 : Nat) "RoleLoomModel" "runCaught" "[Z") ∈ lw_all := lw_g (lw_at lw_m7 51 rfl) rfl
theorem q1567 : (Jvm.Cond.fieldLink "RoleLoomModel" (288 : Nat) "RoleLoomModel" "turns" "I") ∈ lw_all := lw_g (lw_at lw_m7 52 rfl) rfl
theorem q1568 : (Jvm.Cond.fieldLink "RoleLoomModel" (301 : Nat) "RoleLoomModel" "outcome" "I") ∈ lw_all := lw_g (lw_at lw_m7 53 rfl) rfl
theorem q1569 : (Jvm.Cond.fieldLink "RoleLoomModel" (378 : Nat) "RoleLoomModel" "answer" "J") ∈ lw_all := lw_g (lw_at lw_m7 54 rfl) rfl
theorem q1570 : (Jvm.Cond.fieldLink "RoleLoomModel" (316 : Nat) "RoleLoomModel" "result" "J") ∈ lw_all := lw_g (lw_at lw_m7 55 rfl) rfl
theorem q1571 : (Jvm.Cond.fieldLink "RoleLoomModel" (164 : Nat) "RoleLoomModel" "threwNumber" "I") ∈ lw_all := lw_g (lw_at lw_m7 56 rfl) rfl
theorem q1572 : (Jvm.Cond.fieldLink "RoleLoomModel" (167 : Nat) "RoleLoomModel" "threwPart" "I") ∈ lw_all := lw_g (lw_at lw_m7 57 rfl) rfl
theorem q1573 : (Jvm.Cond.fieldLink "RoleLoomModel" (170 : Nat) "RoleLoomModel" "threwAt" "I") ∈ lw_all := lw_g (lw_at lw_m7 58 rfl) rfl
theorem q1574 : (Jvm.Cond.fieldLink "RoleLoomModel" (297 : Nat) "RoleLoomModel" "threwWith" "J") ∈ lw_all := lw_g (lw_at lw_m7 59 rfl) rfl
theorem q1575 : (Jvm.Cond.fieldLink "RoleLoomModel" (291 : Nat) "RoleLoomModel" "ranMany" "I") ∈ lw_all := lw_g (lw_at lw_m7 60 rfl) rfl
theorem q1576 : (Jvm.Cond.fieldLink "RoleLoomModel" (173 : Nat) "RoleLoomModel" "ranPart" "[I") ∈ lw_all := lw_g (lw_at lw_m7 61 rfl) rfl
theorem q1577 : (Jvm.Cond.fieldLink "RoleLoomModel" (176 : Nat) "RoleLoomModel" "ranUse" "[I") ∈ lw_all := lw_g (lw_at lw_m7 62 rfl) rfl
theorem q1578 : (Jvm.Cond.fieldLink "RoleLoomModel" (179 : Nat) "RoleLoomModel" "ranMember" "[I") ∈ lw_all := lw_g (lw_at lw_m7 63 rfl) rfl
theorem q1579 : (Jvm.Cond.fieldLink "RoleLoomModel" (182 : Nat) "RoleLoomModel" "ranDeep" "[I") ∈ lw_all := lw_g (lw_at lw_m7 64 rfl) rfl
theorem q1580 : (Jvm.Cond.lays "RoleLoomModel" "RoleLoomModel" "parts" "I") ∈ lw_all := lw_g (lw_at lw_m7 65 rfl) rfl
theorem q1581 : (Jvm.Cond.soleField "RoleLoomModel" "parts") ∈ lw_all := lw_g (lw_at lw_m7 66 rfl) rfl
theorem q1582 : (Jvm.Cond.laysFinal "RoleLoomModel" "RoleLoomModel" "cellMany" "[I") ∈ lw_all := lw_g (lw_at lw_m7 67 rfl) rfl
theorem q1583 : (Jvm.Cond.soleField "RoleLoomModel" "cellMany") ∈ lw_all := lw_g (lw_at lw_m7 68 rfl) rfl
theorem q1584 : (Jvm.Cond.laysFinal "RoleLoomModel" "RoleLoomModel" "rowMany" "[I") ∈ lw_all := lw_g (lw_at lw_m7 69 rfl) rfl
theorem q1585 : (Jvm.Cond.soleField "RoleLoomModel" "rowMany") ∈ lw_all := lw_g (lw_at lw_m7 70 rfl) rfl
theorem q1586 : (Jvm.Cond.laysFinal "RoleLoomModel" "RoleLoomModel" "holderMany" "[I") ∈ lw_all := lw_g (lw_at lw_m7 71 rfl) rfl
theorem q1587 : (Jvm.Cond.soleField "RoleLoomModel" "holderMany") ∈ lw_all := lw_g (lw_at lw_m7 72 rfl) rfl
theorem q1588 : (Jvm.Cond.laysFinal "RoleLoomModel" "RoleLoomModel" "extendMany" "[I") ∈ lw_all := lw_g (lw_at lw_m7 73 rfl) rfl
theorem q1589 : (Jvm.Cond.soleField "RoleLoomModel" "extendMany") ∈ lw_all := lw_g (lw_at lw_m7 74 rfl) rfl
theorem q1590 : (Jvm.Cond.laysFinal "RoleLoomModel" "RoleLoomModel" "extended" "[I") ∈ lw_all := lw_g (lw_at lw_m7 75 rfl) rfl
theorem q1591 : (Jvm.Cond.soleField "RoleLoomModel" "extended") ∈ lw_all := lw_g (lw_at lw_m7 76 rfl) rfl
theorem q1592 : (Jvm.Cond.laysFinal "RoleLoomModel" "RoleLoomModel" "wishes" "[Z") ∈ lw_all := lw_g (lw_at lw_m7 77 rfl) rfl
theorem q1593 : (Jvm.Cond.soleField "RoleLoomModel" "wishes") ∈ lw_all := lw_g (lw_at lw_m7 78 rfl) rfl
theorem q1594 : (Jvm.Cond.lays "RoleLoomModel" "RoleLoomModel" "wants" "I") ∈ lw_all := lw_g (lw_at lw_m7 79 rfl) rfl
theorem q1595 : (Jvm.Cond.soleField "RoleLoomModel" "wants") ∈ lw_all := lw_g (lw_at lw_m7 80 rfl) rfl
theorem q1596 : (Jvm.Cond.laysFinal "RoleLoomModel" "RoleLoomModel" "wantFirst" "[I") ∈ lw_all := lw_g (lw_at lw_m7 81 rfl) rfl
theorem q1597 : (Jvm.Cond.soleField "RoleLoomModel" "wantFirst") ∈ lw_all := lw_g (lw_at lw_m7 82 rfl) rfl
theorem q1598 : (Jvm.Cond.laysFinal "RoleLoomModel" "RoleLoomModel" "wantSecond" "[I") ∈ lw_all := lw_g (lw_at lw_m7 83 rfl) rfl
theorem q1599 : (Jvm.Cond.soleField "RoleLoomModel" "wantSecond") ∈ lw_all := lw_g (lw_at lw_m7 84 rfl) rfl
theorem q1600 : (Jvm.Cond.laysFinal "RoleLoomModel" "RoleLoomModel" "many" "[I") ∈ lw_all := lw_g (lw_at lw_m7 85 rfl) rfl
theorem q1601 : (Jvm.Cond.soleField "RoleLoomModel" "many") ∈ lw_all := lw_g (lw_at lw_m7 86 rfl) rfl
theorem q1602 : (Jvm.Cond.laysFinal "RoleLoomModel" "RoleLoomModel" "catches" "[I") ∈ lw_all := lw_g (lw_at lw_m7 87 rfl) rfl
theorem q1603 : (Jvm.Cond.soleField "RoleLoomModel" "catches") ∈ lw_all := lw_g (lw_at lw_m7 88 rfl) rfl
theorem q1604 : (Jvm.Cond.laysFinal "RoleLoomModel" "RoleLoomModel" "whats" "[I") ∈ lw_all := lw_g (lw_at lw_m7 89 rfl) rfl
theorem q1605 : (Jvm.Cond.soleField "RoleLoomModel" "whats") ∈ lw_all := lw_g (lw_at lw_m7 90 rfl) rfl
theorem q1606 : (Jvm.Cond.laysFinal "RoleLoomModel" "RoleLoomModel" "as" "[I") ∈ lw_all := lw_g (lw_at lw_m7 91 rfl) rfl
theorem q1607 : (Jvm.Cond.soleField "RoleLoomModel" "as") ∈ lw_all := lw_g (lw_at lw_m7 92 rfl) rfl
theorem q1608 : (Jvm.Cond.laysFinal "RoleLoomModel" "RoleLoomModel" "bs" "[I") ∈ lw_all := lw_g (lw_at lw_m7 93 rfl) rfl
theorem q1609 : (Jvm.Cond.soleField "RoleLoomModel" "bs") ∈ lw_all := lw_g (lw_at lw_m7 94 rfl) rfl
theorem q1610 : (Jvm.Cond.lays "RoleLoomModel" "RoleLoomModel" "lastBody" "I") ∈ lw_all := lw_g (lw_at lw_m7 95 rfl) rfl
theorem q1611 : (Jvm.Cond.soleField "RoleLoomModel" "lastBody") ∈ lw_all := lw_g (lw_at lw_m7 96 rfl) rfl
theorem q1612 : (Jvm.Cond.lays "RoleLoomModel" "RoleLoomModel" "named" "I") ∈ lw_all := lw_g (lw_at lw_m7 97 rfl) rfl
theorem q1613 : (Jvm.Cond.soleField "RoleLoomModel" "named") ∈ lw_all := lw_g (lw_at lw_m7 98 rfl) rfl
theorem q1614 : (Jvm.Cond.laysFinal "RoleLoomModel" "RoleLoomModel" "names" "[I") ∈ lw_all := lw_g (lw_at lw_m7 99 rfl) rfl
theorem q1615 : (Jvm.Cond.soleField "RoleLoomModel" "names") ∈ lw_all := lw_g (lw_at lw_m7 100 rfl) rfl
theorem q1616 : (Jvm.Cond.lays "RoleLoomModel" "RoleLoomModel" "excludes" "I") ∈ lw_all := lw_g (lw_at lw_m7 101 rfl) rfl
theorem q1617 : (Jvm.Cond.soleField "RoleLoomModel" "excludes") ∈ lw_all := lw_g (lw_at lw_m7 102 rfl) rfl
theorem q1618 : (Jvm.Cond.laysFinal "RoleLoomModel" "RoleLoomModel" "excludePart" "[I") ∈ lw_all := lw_g (lw_at lw_m7 103 rfl) rfl
theorem q1619 : (Jvm.Cond.soleField "RoleLoomModel" "excludePart") ∈ lw_all := lw_g (lw_at lw_m7 104 rfl) rfl
theorem q1620 : (Jvm.Cond.laysFinal "RoleLoomModel" "RoleLoomModel" "excludeMember" "[I") ∈ lw_all := lw_g (lw_at lw_m7 105 rfl) rfl
theorem q1621 : (Jvm.Cond.soleField "RoleLoomModel" "excludeMember") ∈ lw_all := lw_g (lw_at lw_m7 106 rfl) rfl
theorem q1622 : (Jvm.Cond.laysFinal "RoleLoomModel" "RoleLoomModel" "aliasPart" "[I") ∈ lw_all := lw_g (lw_at lw_m7 107 rfl) rfl
theorem q1623 : (Jvm.Cond.soleField "RoleLoomModel" "aliasPart") ∈ lw_all := lw_g (lw_at lw_m7 108 rfl) rfl
theorem q1624 : (Jvm.Cond.laysFinal "RoleLoomModel" "RoleLoomModel" "aliasMember" "[I") ∈ lw_all := lw_g (lw_at lw_m7 109 rfl) rfl
theorem q1625 : (Jvm.Cond.soleField "RoleLoomModel" "aliasMember") ∈ lw_all := lw_g (lw_at lw_m7 110 rfl) rfl
theorem q1626 : (Jvm.Cond.laysFinal "RoleLoomModel" "RoleLoomModel" "isAlias" "[Z") ∈ lw_all := lw_g (lw_at lw_m7 111 rfl) rfl
theorem q1627 : (Jvm.Cond.soleField "RoleLoomModel" "isAlias") ∈ lw_all := lw_g (lw_at lw_m7 112 rfl) rfl
theorem q1628 : (Jvm.Cond.lays "RoleLoomModel" "RoleLoomModel" "roles" "I") ∈ lw_all := lw_g (lw_at lw_m7 113 rfl) rfl
theorem q1629 : (Jvm.Cond.soleField "RoleLoomModel" "roles") ∈ lw_all := lw_g (lw_at lw_m7 114 rfl) rfl
theorem q1630 : (Jvm.Cond.laysFinal "RoleLoomModel" "RoleLoomModel" "lineSize" "[I") ∈ lw_all := lw_g (lw_at lw_m7 115 rfl) rfl
theorem q1631 : (Jvm.Cond.soleField "RoleLoomModel" "lineSize") ∈ lw_all := lw_g (lw_at lw_m7 116 rfl) rfl
theorem q1632 : (Jvm.Cond.laysFinal "RoleLoomModel" "RoleLoomModel" "lines" "[I") ∈ lw_all := lw_g (lw_at lw_m7 117 rfl) rfl
theorem q1633 : (Jvm.Cond.soleField "RoleLoomModel" "lines") ∈ lw_all := lw_g (lw_at lw_m7 118 rfl) rfl
theorem q1634 : (Jvm.Cond.laysFinal "RoleLoomModel" "RoleLoomModel" "placeOf" "[I") ∈ lw_all := lw_g (lw_at lw_m7 119 rfl) rfl
theorem q1635 : (Jvm.Cond.soleField "RoleLoomModel" "placeOf") ∈ lw_all := lw_g (lw_at lw_m7 120 rfl) rfl
theorem q1636 : (Jvm.Cond.laysFinal "RoleLoomModel" "RoleLoomModel" "chainSize" "[I") ∈ lw_all := lw_g (lw_at lw_m7 121 rfl) rfl
theorem q1637 : (Jvm.Cond.soleField "RoleLoomModel" "chainSize") ∈ lw_all := lw_g (lw_at lw_m7 122 rfl) rfl
theorem q1638 : (Jvm.Cond.laysFinal "RoleLoomModel" "RoleLoomModel" "chains" "[I") ∈ lw_all := lw_g (lw_at lw_m7 123 rfl) rfl
theorem q1639 : (Jvm.Cond.soleField "RoleLoomModel" "chains") ∈ lw_all := lw_g (lw_at lw_m7 124 rfl) rfl
theorem q1640 : (Jvm.Cond.laysFinal "RoleLoomModel" "RoleLoomModel" "roleAliasMember" "[I") ∈ lw_all := lw_g (lw_at lw_m7 125 rfl) rfl
theorem q1641 : (Jvm.Cond.soleField "RoleLoomModel" "roleAliasMember") ∈ lw_all := lw_g (lw_at lw_m7 126 rfl) rfl
theorem q1642 : (Jvm.Cond.laysFinal "RoleLoomModel" "RoleLoomModel" "roleAliasAt" "[I") ∈ lw_all := lw_g (lw_at lw_m7 127 rfl) rfl
theorem q1643 : (Jvm.Cond.soleField "RoleLoomModel" "roleAliasAt") ∈ lw_all := lw_g (lw_at lw_m7 128 rfl) rfl
theorem q1644 : (Jvm.Cond.laysFinal "RoleLoomModel" "RoleLoomModel" "starts" "[I") ∈ lw_all := lw_g (lw_at lw_m7 129 rfl) rfl
theorem q1645 : (Jvm.Cond.soleField "RoleLoomModel" "starts") ∈ lw_all := lw_g (lw_at lw_m7 130 rfl) rfl
theorem q1646 : (Jvm.Cond.laysFinal "RoleLoomModel" "RoleLoomModel" "rings" "[I") ∈ lw_all := lw_g (lw_at lw_m7 131 rfl) rfl
theorem q1647 : (Jvm.Cond.soleField "RoleLoomModel" "rings") ∈ lw_all := lw_g (lw_at lw_m7 132 rfl) rfl
theorem q1648 : (Jvm.Cond.lays "RoleLoomModel" "RoleLoomModel" "ringMany" "I") ∈ lw_all := lw_g (lw_at lw_m7 133 rfl) rfl
theorem q1649 : (Jvm.Cond.soleField "RoleLoomModel" "ringMany") ∈ lw_all := lw_g (lw_at lw_m7 134 rfl) rfl
theorem q1650 : (Jvm.Cond.lays "RoleLoomModel" "RoleLoomModel" "lackPart" "I") ∈ lw_all := lw_g (lw_at lw_m7 135 rfl) rfl
theorem q1651 : (Jvm.Cond.soleField "RoleLoomModel" "lackPart") ∈ lw_all := lw_g (lw_at lw_m7 136 rfl) rfl
theorem q1652 : (Jvm.Cond.lays "RoleLoomModel" "RoleLoomModel" "lackMember" "I") ∈ lw_all := lw_g (lw_at lw_m7 137 rfl) rfl
theorem q1653 : (Jvm.Cond.soleField "RoleLoomModel" "lackMember") ∈ lw_all := lw_g (lw_at lw_m7 138 rfl) rfl
theorem q1654 : (Jvm.Cond.laysFinal "RoleLoomModel" "RoleLoomModel" "isIn" "[Z") ∈ lw_all := lw_g (lw_at lw_m7 139 rfl) rfl
theorem q1655 : (Jvm.Cond.soleField "RoleLoomModel" "isIn") ∈ lw_all := lw_g (lw_at lw_m7 140 rfl) rfl
theorem q1656 : (Jvm.Cond.laysFinal "RoleLoomModel" "RoleLoomModel" "isLeft" "[Z") ∈ lw_all := lw_g (lw_at lw_m7 141 rfl) rfl
theorem q1657 : (Jvm.Cond.soleField "RoleLoomModel" "isLeft") ∈ lw_all := lw_g (lw_at lw_m7 142 rfl) rfl
theorem q1658 : (Jvm.Cond.laysFinal "RoleLoomModel" "RoleLoomModel" "path" "[I") ∈ lw_all := lw_g (lw_at lw_m7 143 rfl) rfl
theorem q1659 : (Jvm.Cond.soleField "RoleLoomModel" "path") ∈ lw_all := lw_g (lw_at lw_m7 144 rfl) rfl
theorem q1660 : (Jvm.Cond.lays "RoleLoomModel" "RoleLoomModel" "objects" "I") ∈ lw_all := lw_g (lw_at lw_m7 145 rfl) rfl
theorem q1661 : (Jvm.Cond.soleField "RoleLoomModel" "objects") ∈ lw_all := lw_g (lw_at lw_m7 146 rfl) rfl
theorem q1662 : (Jvm.Cond.laysFinal "RoleLoomModel" "RoleLoomModel" "roleOf" "[I") ∈ lw_all := lw_g (lw_at lw_m7 147 rfl) rfl
theorem q1663 : (Jvm.Cond.soleField "RoleLoomModel" "roleOf") ∈ lw_all := lw_g (lw_at lw_m7 148 rfl) rfl
theorem q1664 : (Jvm.Cond.laysFinal "RoleLoomModel" "RoleLoomModel" "cells" "[J") ∈ lw_all := lw_g (lw_at lw_m7 149 rfl) rfl
theorem q1665 : (Jvm.Cond.soleField "RoleLoomModel" "cells") ∈ lw_all := lw_g (lw_at lw_m7 150 rfl) rfl
theorem q1666 : (Jvm.Cond.laysFinal "RoleLoomModel" "RoleLoomModel" "rowSizes" "[I") ∈ lw_all := lw_g (lw_at lw_m7 151 rfl) rfl
theorem q1667 : (Jvm.Cond.soleField "RoleLoomModel" "rowSizes") ∈ lw_all := lw_g (lw_at lw_m7 152 rfl) rfl
theorem q1668 : (Jvm.Cond.laysFinal "RoleLoomModel" "RoleLoomModel" "rowPlaces" "[J") ∈ lw_all := lw_g (lw_at lw_m7 153 rfl) rfl
theorem q1669 : (Jvm.Cond.soleField "RoleLoomModel" "rowPlaces") ∈ lw_all := lw_g (lw_at lw_m7 154 rfl) rfl
theorem q1670 : (Jvm.Cond.laysFinal "RoleLoomModel" "RoleLoomModel" "holders" "[I") ∈ lw_all := lw_g (lw_at lw_m7 155 rfl) rfl
theorem q1671 : (Jvm.Cond.soleField "RoleLoomModel" "holders") ∈ lw_all := lw_g (lw_at lw_m7 156 rfl) rfl
theorem q1672 : (Jvm.Cond.laysFinal "RoleLoomModel" "RoleLoomModel" "sharedCells" "[J") ∈ lw_all := lw_g (lw_at lw_m7 157 rfl) rfl
theorem q1673 : (Jvm.Cond.soleField "RoleLoomModel" "sharedCells") ∈ lw_all := lw_g (lw_at lw_m7 158 rfl) rfl
theorem q1674 : (Jvm.Cond.lays "RoleLoomModel" "RoleLoomModel" "marks" "I") ∈ lw_all := lw_g (lw_at lw_m7 159 rfl) rfl
theorem q1675 : (Jvm.Cond.soleField "RoleLoomModel" "marks") ∈ lw_all := lw_g (lw_at lw_m7 160 rfl) rfl
theorem q1676 : (Jvm.Cond.laysFinal "RoleLoomModel" "RoleLoomModel" "markValues" "[J") ∈ lw_all := lw_g (lw_at lw_m7 161 rfl) rfl
theorem q1677 : (Jvm.Cond.soleField "RoleLoomModel" "markValues") ∈ lw_all := lw_g (lw_at lw_m7 162 rfl) rfl
theorem q1678 : (Jvm.Cond.lays "RoleLoomModel" "RoleLoomModel" "told" "J") ∈ lw_all := lw_g (lw_at lw_m7 163 rfl) rfl
theorem q1679 : (Jvm.Cond.soleField "RoleLoomModel" "told") ∈ lw_all := lw_g (lw_at lw_m7 164 rfl) rfl
theorem q1680 : (Jvm.Cond.lays "RoleLoomModel" "RoleLoomModel" "deep" "I") ∈ lw_all := lw_g (lw_at lw_m7 165 rfl) rfl
theorem q1681 : (Jvm.Cond.soleField "RoleLoomModel" "deep") ∈ lw_all := lw_g (lw_at lw_m7 166 rfl) rfl
theorem q1682 : (Jvm.Cond.laysFinal "RoleLoomModel" "RoleLoomModel" "runBody" "[I") ∈ lw_all := lw_g (lw_at lw_m7 167 rfl) rfl
theorem q1683 : (Jvm.Cond.soleField "RoleLoomModel" "runBody") ∈ lw_all := lw_g (lw_at lw_m7 168 rfl) rfl
theorem q1684 : (Jvm.Cond.laysFinal "RoleLoomModel" "RoleLoomModel" "runObject" "[I") ∈ lw_all := lw_g (lw_at lw_m7 169 rfl) rfl
theorem q1685 : (Jvm.Cond.soleField "RoleLoomModel" "runObject") ∈ lw_all := lw_g (lw_at lw_m7 170 rfl) rfl
theorem q1686 : (Jvm.Cond.laysFinal "RoleLoomModel" "RoleLoomModel" "runPlace" "[I") ∈ lw_all := lw_g (lw_at lw_m7 171 rfl) rfl
theorem q1687 : (Jvm.Cond.soleField "RoleLoomModel" "runPlace") ∈ lw_all := lw_g (lw_at lw_m7 172 rfl) rfl
theorem q1688 : (Jvm.Cond.laysFinal "RoleLoomModel" "RoleLoomModel" "runMember" "[I") ∈ lw_all := lw_g (lw_at lw_m7 173 rfl) rfl
theorem q1689 : (Jvm.Cond.soleField "RoleLoomModel" "runMember") ∈ lw_all := lw_g (lw_at lw_m7 174 rfl) rfl
theorem q1690 : (Jvm.Cond.laysFinal "RoleLoomModel" "RoleLoomModel" "runChain" "[I") ∈ lw_all := lw_g (lw_at lw_m7 175 rfl) rfl
theorem q1691 : (Jvm.Cond.soleField "RoleLoomModel" "runChain") ∈ lw_all := lw_g (lw_at lw_m7 176 rfl) rfl
theorem q1692 : (Jvm.Cond.laysFinal "RoleLoomModel" "RoleLoomModel" "runAct" "[I") ∈ lw_all := lw_g (lw_at lw_m7 177 rfl) rfl
theorem q1693 : (Jvm.Cond.soleField "RoleLoomModel" "runAct") ∈ lw_all := lw_g (lw_at lw_m7 178 rfl) rfl
theorem q1694 : (Jvm.Cond.laysFinal "RoleLoomModel" "RoleLoomModel" "runA" "[J") ∈ lw_all := lw_g (lw_at lw_m7 179 rfl) rfl
theorem q1695 : (Jvm.Cond.soleField "RoleLoomModel" "runA") ∈ lw_all := lw_g (lw_at lw_m7 180 rfl) rfl
theorem q1696 : (Jvm.Cond.laysFinal "RoleLoomModel" "RoleLoomModel" "runArgument" "[J") ∈ lw_all := lw_g (lw_at lw_m7 181 rfl) rfl
theorem q1697 : (Jvm.Cond.soleField "RoleLoomModel" "runArgument") ∈ lw_all := lw_g (lw_at lw_m7 182 rfl) rfl
theorem q1698 : (Jvm.Cond.laysFinal "RoleLoomModel" "RoleLoomModel" "runCaught" "[Z") ∈ lw_all := lw_g (lw_at lw_m7 183 rfl) rfl
theorem q1699 : (Jvm.Cond.soleField "RoleLoomModel" "runCaught") ∈ lw_all := lw_g (lw_at lw_m7 184 rfl) rfl
theorem q1700 : (Jvm.Cond.lays "RoleLoomModel" "RoleLoomModel" "turns" "I") ∈ lw_all := lw_g (lw_at lw_m7 185 rfl) rfl
theorem q1701 : (Jvm.Cond.soleField "RoleLoomModel" "turns") ∈ lw_all := lw_g (lw_at lw_m7 186 rfl) rfl
theorem q1702 : (Jvm.Cond.lays "RoleLoomModel" "RoleLoomModel" "outcome" "I") ∈ lw_all := lw_g (lw_at lw_m7 187 rfl) rfl
theorem q1703 : (Jvm.Cond.soleField "RoleLoomModel" "outcome") ∈ lw_all := lw_g (lw_at lw_m7 188 rfl) rfl
theorem q1704 : (Jvm.Cond.lays "RoleLoomModel" "RoleLoomModel" "answer" "J") ∈ lw_all := lw_g (lw_at lw_m7 189 rfl) rfl
theorem q1705 : (Jvm.Cond.soleField "RoleLoomModel" "answer") ∈ lw_all := lw_g (lw_at lw_m7 190 rfl) rfl
theorem q1706 : (Jvm.Cond.lays "RoleLoomModel" "RoleLoomModel" "result" "J") ∈ lw_all := lw_g (lw_at lw_m7 191 rfl) rfl
theorem q1707 : (Jvm.Cond.soleField "RoleLoomModel" "result") ∈ lw_all := lw_g (lw_at lw_m7 192 rfl) rfl
theorem q1708 : (Jvm.Cond.lays "RoleLoomModel" "RoleLoomModel" "threwNumber" "I") ∈ lw_all := lw_g (lw_at lw_m7 193 rfl) rfl
theorem q1709 : (Jvm.Cond.soleField "RoleLoomModel" "threwNumber") ∈ lw_all := lw_g (lw_at lw_m7 194 rfl) rfl
theorem q1710 : (Jvm.Cond.lays "RoleLoomModel" "RoleLoomModel" "threwPart" "I") ∈ lw_all := lw_g (lw_at lw_m7 195 rfl) rfl
theorem q1711 : (Jvm.Cond.soleField "RoleLoomModel" "threwPart") ∈ lw_all := lw_g (lw_at lw_m7 196 rfl) rfl
theorem q1712 : (Jvm.Cond.lays "RoleLoomModel" "RoleLoomModel" "threwAt" "I") ∈ lw_all := lw_g (lw_at lw_m7 197 rfl) rfl
theorem q1713 : (Jvm.Cond.soleField "RoleLoomModel" "threwAt") ∈ lw_all := lw_g (lw_at lw_m7 198 rfl) rfl
theorem q1714 : (Jvm.Cond.lays "RoleLoomModel" "RoleLoomModel" "threwWith" "J") ∈ lw_all := lw_g (lw_at lw_m7 199 rfl) rfl
theorem q1715 : (Jvm.Cond.soleField "RoleLoomModel" "threwWith") ∈ lw_all := lw_g (lw_at lw_m7 200 rfl) rfl
theorem q1716 : (Jvm.Cond.lays "RoleLoomModel" "RoleLoomModel" "ranMany" "I") ∈ lw_all := lw_g (lw_at lw_m7 201 rfl) rfl
theorem q1717 : (Jvm.Cond.soleField "RoleLoomModel" "ranMany") ∈ lw_all := lw_g (lw_at lw_m7 202 rfl) rfl
theorem q1718 : (Jvm.Cond.laysFinal "RoleLoomModel" "RoleLoomModel" "ranPart" "[I") ∈ lw_all := lw_g (lw_at lw_m7 203 rfl) rfl
theorem q1719 : (Jvm.Cond.soleField "RoleLoomModel" "ranPart") ∈ lw_all := lw_g (lw_at lw_m7 204 rfl) rfl
theorem q1720 : (Jvm.Cond.laysFinal "RoleLoomModel" "RoleLoomModel" "ranUse" "[I") ∈ lw_all := lw_g (lw_at lw_m7 205 rfl) rfl
theorem q1721 : (Jvm.Cond.soleField "RoleLoomModel" "ranUse") ∈ lw_all := lw_g (lw_at lw_m7 206 rfl) rfl
theorem q1722 : (Jvm.Cond.laysFinal "RoleLoomModel" "RoleLoomModel" "ranMember" "[I") ∈ lw_all := lw_g (lw_at lw_m7 207 rfl) rfl
theorem q1723 : (Jvm.Cond.soleField "RoleLoomModel" "ranMember") ∈ lw_all := lw_g (lw_at lw_m7 208 rfl) rfl
theorem q1724 : (Jvm.Cond.laysFinal "RoleLoomModel" "RoleLoomModel" "ranDeep" "[I") ∈ lw_all := lw_g (lw_at lw_m7 209 rfl) rfl
theorem q1725 : (Jvm.Cond.soleField "RoleLoomModel" "ranDeep") ∈ lw_all := lw_g (lw_at lw_m7 210 rfl) rfl
theorem q1726 : (Jvm.Cond.superclass "RoleLoomModel" "java/lang/Object") ∈ lw_all := lw_g (lw_at lw_m7 211 rfl) rfl
theorem q1728 : (Jvm.Cond.instanceMethod ({ cls := "RoleLoomModel", name := "part", desc := "(III)I" } : Jvm.MethodName)) ∈ lw_all := lw_g (lw_at lw_m7 213 rfl) rfl
theorem q1729 : (Jvm.Cond.selects "RoleLoomModel" ({ cls := "RoleLoomModel", name := "part", desc := "(III)I" } : Jvm.MethodName) ({ cls := "RoleLoomModel", name := "part", desc := "(III)I" } : Jvm.MethodName)) ∈ lw_all := lw_g (lw_at lw_m7 214 rfl) rfl
theorem q1730 : (Jvm.Cond.code ({ cls := "RoleLoomModel", name := "part", desc := "(III)I" } : Jvm.MethodName) prog_32_method_7_code (4 : Nat) (Option.some Jvm.ClassFile.FieldType.int)) ∈ lw_all := lw_g (lw_at lw_m7 215 rfl) rfl
theorem q1731 : (Jvm.Cond.methodLink "RoleLoomModel" (188 : Nat) ({ cls := "RoleLoomModel", name := "in", desc := "(III)Z" } : Jvm.MethodName)) ∈ lw_all := lw_g (lw_at lw_m7 216 rfl) rfl
theorem q1732 : (Jvm.Cond.static ({ cls := "RoleLoomModel", name := "in", desc := "(III)Z" } : Jvm.MethodName)) ∈ lw_all := lw_g (lw_at lw_m7 217 rfl) rfl
theorem q1733 : (Jvm.Cond.code ({ cls := "RoleLoomModel", name := "in", desc := "(III)Z" } : Jvm.MethodName) prog_32_method_3_code (3 : Nat) (Option.some Jvm.ClassFile.FieldType.boolean)) ∈ lw_all := lw_g (lw_at lw_m7 218 rfl) rfl
theorem q1735 : (Jvm.Cond.instanceMethod ({ cls := "RoleLoomModel", name := "extend", desc := "(II)I" } : Jvm.MethodName)) ∈ lw_all := lw_g (lw_at lw_m7 220 rfl) rfl
theorem q1736 : (Jvm.Cond.selects "RoleLoomModel" ({ cls := "RoleLoomModel", name := "extend", desc := "(II)I" } : Jvm.MethodName) ({ cls := "RoleLoomModel", name := "extend", desc := "(II)I" } : Jvm.MethodName)) ∈ lw_all := lw_g (lw_at lw_m7 221 rfl) rfl
theorem q1737 : (Jvm.Cond.code ({ cls := "RoleLoomModel", name := "extend", desc := "(II)I" } : Jvm.MethodName) prog_32_method_9_code (3 : Nat) (Option.some Jvm.ClassFile.FieldType.int)) ∈ lw_all := lw_g (lw_at lw_m7 222 rfl) rfl
theorem q1738 : (Jvm.Cond.methodLink "RoleLoomModel" (192 : Nat) ({ cls := "RoleLoomModel", name := "isPart", desc := "(I)Z" } : Jvm.MethodName)) ∈ lw_all := lw_g (lw_at lw_m7 223 rfl) rfl
theorem q1739 : (Jvm.Cond.privateMethod ({ cls := "RoleLoomModel", name := "isPart", desc := "(I)Z" } : Jvm.MethodName)) ∈ lw_tbl := lw_at lw_m7 224 rfl
theorem q1740 : (Jvm.Cond.instanceMethod ({ cls := "RoleLoomModel", name := "isPart", desc := "(I)Z" } : Jvm.MethodName)) ∈ lw_all := lw_g (lw_at lw_m7 225 rfl) rfl
theorem q1741 : (Jvm.Cond.code ({ cls := "RoleLoomModel", name := "isPart", desc := "(I)Z" } : Jvm.MethodName) prog_32_method_4_code (2 : Nat) (Option.some Jvm.ClassFile.FieldType.boolean)) ∈ lw_all := lw_g (lw_at lw_m7 226 rfl) rfl
theorem q1742 : (Jvm.Cond.methodLink "RoleLoomModel" (196 : Nat) ({ cls := "RoleLoomModel", name := "isExtended", desc := "(II)Z" } : Jvm.MethodName)) ∈ lw_all := lw_g (lw_at lw_m7 227 rfl) rfl
theorem q1743 : (Jvm.Cond.privateMethod ({ cls := "RoleLoomModel", name := "isExtended", desc := "(II)Z" } : Jvm.MethodName)) ∈ lw_tbl := lw_at lw_m7 228 rfl
theorem q1744 : (Jvm.Cond.instanceMethod ({ cls := "RoleLoomModel", name := "isExtended", desc := "(II)Z" } : Jvm.MethodName)) ∈ lw_all := lw_g (lw_at lw_m7 229 rfl) rfl
theorem q1745 : (Jvm.Cond.code ({ cls := "RoleLoomModel", name := "isExtended", desc := "(II)Z" } : Jvm.MethodName) prog_32_method_8_code (5 : Nat) (Option.some Jvm.ClassFile.FieldType.boolean)) ∈ lw_all := lw_g (lw_at lw_m7 230 rfl) rfl
theorem q1747 : (Jvm.Cond.instanceMethod ({ cls := "RoleLoomModel", name := "want", desc := "(II)I" } : Jvm.MethodName)) ∈ lw_all := lw_g (lw_at lw_m7 232 rfl) rfl
theorem q1748 : (Jvm.Cond.selects "RoleLoomModel" ({ cls := "RoleLoomModel", name := "want", desc := "(II)I" } : Jvm.MethodName) ({ cls := "RoleLoomModel", name := "want", desc := "(II)I" } : Jvm.MethodName)) ∈ lw_all := lw_g (lw_at lw_m7 233 rfl) rfl
theorem q1749 : (Jvm.Cond.code ({ cls := "RoleLoomModel", name := "want", desc := "(II)I" } : Jvm.MethodName) prog_32_method_10_code (3 : Nat) (Option.some Jvm.ClassFile.FieldType.int)) ∈ lw_all := lw_g (lw_at lw_m7 234 rfl) rfl
theorem q1751 : (Jvm.Cond.instanceMethod ({ cls := "RoleLoomModel", name := "body", desc := "(IIII)I" } : Jvm.MethodName)) ∈ lw_all := lw_g (lw_at lw_m7 236 rfl) rfl
theorem q1752 : (Jvm.Cond.selects "RoleLoomModel" ({ cls := "RoleLoomModel", name := "body", desc := "(IIII)I" } : Jvm.MethodName) ({ cls := "RoleLoomModel", name := "body", desc := "(IIII)I" } : Jvm.MethodName)) ∈ lw_all := lw_g (lw_at lw_m7 237 rfl) rfl
theorem q1753 : (Jvm.Cond.code ({ cls := "RoleLoomModel", name := "body", desc := "(IIII)I" } : Jvm.MethodName) prog_32_method_11_code (5 : Nat) (Option.some Jvm.ClassFile.FieldType.int)) ∈ lw_all := lw_g (lw_at lw_m7 238 rfl) rfl
theorem q1754 : (Jvm.Cond.methodLink "RoleLoomModel" (206 : Nat) ({ cls := "RoleLoomModel", name := "isMember", desc := "(I)Z" } : Jvm.MethodName)) ∈ lw_all := lw_g (lw_at lw_m7 239 rfl) rfl
theorem q1755 : (Jvm.Cond.static ({ cls := "RoleLoomModel", name := "isMember", desc := "(I)Z" } : Jvm.MethodName)) ∈ lw_all := lw_g (lw_at lw_m8 0 rfl) rfl
theorem q1756 : (Jvm.Cond.code ({ cls := "RoleLoomModel", name := "isMember", desc := "(I)Z" } : Jvm.MethodName) prog_32_method_5_code (1 : Nat) (Option.some Jvm.ClassFile.FieldType.boolean)) ∈ lw_all := lw_g (lw_at lw_m8 1 rfl) rfl
theorem q1757 : (Jvm.Cond.methodLink "RoleLoomModel" (209 : Nat) ({ cls := "RoleLoomModel", name := "bodyOf", desc := "(III)I" } : Jvm.MethodName)) ∈ lw_all := lw_g (lw_at lw_m8 2 rfl) rfl
theorem q1758 : (Jvm.Cond.static ({ cls := "RoleLoomModel", name := "bodyOf", desc := "(III)I" } : Jvm.MethodName)) ∈ lw_all := lw_g (lw_at lw_m8 3 rfl) rfl
theorem q1759 : (Jvm.Cond.code ({ cls := "RoleLoomModel", name := "bodyOf", desc := "(III)I" } : Jvm.MethodName) prog_32_method_6_code (3 : Nat) (Option.some Jvm.ClassFile.FieldType.int)) ∈ lw_all := lw_g (lw_at lw_m8 4 rfl) rfl
theorem q1761 : (Jvm.Cond.instanceMethod ({ cls := "RoleLoomModel", name := "act", desc := "(III)I" } : Jvm.MethodName)) ∈ lw_all := lw_g (lw_at lw_m8 6 rfl) rfl
theorem q1762 : (Jvm.Cond.selects "RoleLoomModel" ({ cls := "RoleLoomModel", name := "act", desc := "(III)I" } : Jvm.MethodName) ({ cls := "RoleLoomModel", name := "act", desc := "(III)I" } : Jvm.MethodName)) ∈ lw_all := lw_g (lw_at lw_m8 7 rfl) rfl
theorem q1763 : (Jvm.Cond.code ({ cls := "RoleLoomModel", name := "act", desc := "(III)I" } : Jvm.MethodName) prog_32_method_13_code (5 : Nat) (Option.some Jvm.ClassFile.FieldType.int)) ∈ lw_all := lw_g (lw_at lw_m8 8 rfl) rfl
theorem q1764 : (Jvm.Cond.methodLink "RoleLoomModel" (213 : Nat) ({ cls := "RoleLoomModel", name := "isRight", desc := "(IIII)Z" } : Jvm.MethodName)) ∈ lw_all := lw_g (lw_at lw_m8 9 rfl) rfl
theorem q1765 : (Jvm.Cond.privateMethod ({ cls := "RoleLoomModel", name := "isRight", desc := "(IIII)Z" } : Jvm.MethodName)) ∈ lw_tbl := lw_at lw_m8 10 rfl
theorem q1766 : (Jvm.Cond.instanceMethod ({ cls := "RoleLoomModel", name := "isRight", desc := "(IIII)Z" } : Jvm.MethodName)) ∈ lw_all := lw_g (lw_at lw_m8 11 rfl) rfl
theorem q1767 : (Jvm.Cond.code ({ cls := "RoleLoomModel", name := "isRight", desc := "(IIII)Z" } : Jvm.MethodName) prog_32_method_12_code (5 : Nat) (Option.some Jvm.ClassFile.FieldType.boolean)) ∈ lw_all := lw_g (lw_at lw_m8 12 rfl) rfl
theorem q1769 : (Jvm.Cond.instanceMethod ({ cls := "RoleLoomModel", name := "wish", desc := "(II)I" } : Jvm.MethodName)) ∈ lw_all := lw_g (lw_at lw_m8 14 rfl) rfl
theorem q1770 : (Jvm.Cond.selects "RoleLoomModel" ({ cls := "RoleLoomModel", name := "wish", desc := "(II)I" } : Jvm.MethodName) ({ cls := "RoleLoomModel", name := "wish", desc := "(II)I" } : Jvm.MethodName)) ∈ lw_all := lw_g (lw_at lw_m8 15 rfl) rfl
theorem q1771 : (Jvm.Cond.code ({ cls := "RoleLoomModel", name := "wish", desc := "(II)I" } : Jvm.MethodName) prog_32_method_14_code (3 : Nat) (Option.some Jvm.ClassFile.FieldType.int)) ∈ lw_all := lw_g (lw_at lw_m8 16 rfl) rfl
theorem q1773 : (Jvm.Cond.instanceMethod ({ cls := "RoleLoomModel", name := "name", desc := "(I)I" } : Jvm.MethodName)) ∈ lw_all := lw_g (lw_at lw_m8 18 rfl) rfl
theorem q1774 : (Jvm.Cond.selects "RoleLoomModel" ({ cls := "RoleLoomModel", name := "name", desc := "(I)I" } : Jvm.MethodName) ({ cls := "RoleLoomModel", name := "name", desc := "(I)I" } : Jvm.MethodName)) ∈ lw_all := lw_g (lw_at lw_m8 19 rfl) rfl
theorem q1775 : (Jvm.Cond.code ({ cls := "RoleLoomModel", name := "name", desc := "(I)I" } : Jvm.MethodName) prog_32_method_15_code (4 : Nat) (Option.some Jvm.ClassFile.FieldType.int)) ∈ lw_all := lw_g (lw_at lw_m8 20 rfl) rfl
theorem q1777 : (Jvm.Cond.instanceMethod ({ cls := "RoleLoomModel", name := "exclude", desc := "(II)I" } : Jvm.MethodName)) ∈ lw_all := lw_g (lw_at lw_m8 22 rfl) rfl
theorem q1778 : (Jvm.Cond.selects "RoleLoomModel" ({ cls := "RoleLoomModel", name := "exclude", desc := "(II)I" } : Jvm.MethodName) ({ cls := "RoleLoomModel", name := "exclude", desc := "(II)I" } : Jvm.MethodName)) ∈ lw_all := lw_g (lw_at lw_m8 23 rfl) rfl
theorem q1779 : (Jvm.Cond.code ({ cls := "RoleLoomModel", name := "exclude", desc := "(II)I" } : Jvm.MethodName) prog_32_method_16_code (3 : Nat) (Option.some Jvm.ClassFile.FieldType.int)) ∈ lw_all := lw_g (lw_at lw_m8 24 rfl) rfl
theorem q1781 : (Jvm.Cond.instanceMethod ({ cls := "RoleLoomModel", name := "alias", desc := "(III)I" } : Jvm.MethodName)) ∈ lw_all := lw_g (lw_at lw_m8 26 rfl) rfl
theorem q1782 : (Jvm.Cond.selects "RoleLoomModel" ({ cls := "RoleLoomModel", name := "alias", desc := "(III)I" } : Jvm.MethodName) ({ cls := "RoleLoomModel", name := "alias", desc := "(III)I" } : Jvm.MethodName)) ∈ lw_all := lw_g (lw_at lw_m8 27 rfl) rfl
theorem q1783 : (Jvm.Cond.code ({ cls := "RoleLoomModel", name := "alias", desc := "(III)I" } : Jvm.MethodName) prog_32_method_17_code (4 : Nat) (Option.some Jvm.ClassFile.FieldType.int)) ∈ lw_all := lw_g (lw_at lw_m8 28 rfl) rfl
theorem q1785 : (Jvm.Cond.instanceMethod ({ cls := "RoleLoomModel", name := "weave", desc := "()I" } : Jvm.MethodName)) ∈ lw_all := lw_g (lw_at lw_m8 30 rfl) rfl
theorem q1786 : (Jvm.Cond.selects "RoleLoomModel" ({ cls := "RoleLoomModel", name := "weave", desc := "()I" } : Jvm.MethodName) ({ cls := "RoleLoomModel", name := "weave", desc := "()I" } : Jvm.MethodName)) ∈ lw_all := lw_g (lw_at lw_m8 31 rfl) rfl
theorem q1787 : (Jvm.Cond.code ({ cls := "RoleLoomModel", name := "weave", desc := "()I" } : Jvm.MethodName) prog_32_method_31_code (3 : Nat) (Option.some Jvm.ClassFile.FieldType.int)) ∈ lw_all := lw_g (lw_at lw_m8 32 rfl) rfl
theorem q1788 : (Jvm.Cond.methodLink "RoleLoomModel" (265 : Nat) ({ cls := "RoleLoomModel", name := "woven", desc := "()I" } : Jvm.MethodName)) ∈ lw_all := lw_g (lw_at lw_m8 33 rfl) rfl
theorem q1789 : (Jvm.Cond.privateMethod ({ cls := "RoleLoomModel", name := "woven", desc := "()I" } : Jvm.MethodName)) ∈ lw_tbl := lw_at lw_m8 34 rfl
theorem q1790 : (Jvm.Cond.instanceMethod ({ cls := "RoleLoomModel", name := "woven", desc := "()I" } : Jvm.MethodName)) ∈ lw_all := lw_g (lw_at lw_m8 35 rfl) rfl
theorem q1791 : (Jvm.Cond.code ({ cls := "RoleLoomModel", name := "woven", desc := "()I" } : Jvm.MethodName) prog_32_method_30_code (2 : Nat) (Option.some Jvm.ClassFile.FieldType.int)) ∈ lw_all := lw_g (lw_at lw_m8 36 rfl) rfl
theorem q1792 : (Jvm.Cond.methodLink "RoleLoomModel" (255 : Nat) ({ cls := "RoleLoomModel", name := "lay", desc := "(I)Z" } : Jvm.MethodName)) ∈ lw_all := lw_g (lw_at lw_m8 37 rfl) rfl
theorem q1793 : (Jvm.Cond.privateMethod ({ cls := "RoleLoomModel", name := "lay", desc := "(I)Z" } : Jvm.MethodName)) ∈ lw_tbl := lw_at lw_m8 38 rfl
theorem q1794 : (Jvm.Cond.instanceMethod ({ cls := "RoleLoomModel", name := "lay", desc := "(I)Z" } : Jvm.MethodName)) ∈ lw_all := lw_g (lw_at lw_m8 39 rfl) rfl
theorem q1795 : (Jvm.Cond.code ({ cls := "RoleLoomModel", name := "lay", desc := "(I)Z" } : Jvm.MethodName) prog_32_method_22_code (4 : Nat) (Option.some Jvm.ClassFile.FieldType.boolean)) ∈ lw_all := lw_g (lw_at lw_m8 40 rfl) rfl
theorem q1796 : (Jvm.Cond.methodLink "RoleLoomModel" (229 : Nat) ({ cls := "RoleLoomModel", name := "close", desc := "()V" } : Jvm.MethodName)) ∈ lw_all := lw_g (lw_at lw_m8 41 rfl) rfl
theorem q1797 : (Jvm.Cond.privateMethod ({ cls := "RoleLoomModel", name := "close", desc := "()V" } : Jvm.MethodName)) ∈ lw_tbl := lw_at lw_m8 42 rfl
theorem q1798 : (Jvm.Cond.instanceMethod ({ cls := "RoleLoomModel", name := "close", desc := "()V" } : Jvm.MethodName)) ∈ lw_all := lw_g (lw_at lw_m8 43 rfl) rfl
theorem q1799 : (Jvm.Cond.code ({ cls := "RoleLoomModel", name := "close", desc := "()V" } : Jvm.MethodName) prog_32_method_21_code (3 : Nat) (Option.none : Option Jvm.ClassFile.FieldType)) ∈ lw_all := lw_g (lw_at lw_m8 44 rfl) rfl
theorem q1800 : (Jvm.Cond.methodLink "RoleLoomModel" (232 : Nat) ({ cls := "RoleLoomModel", name := "leastAhead", desc := "(I)I" } : Jvm.MethodName)) ∈ lw_all := lw_g (lw_at lw_m8 45 rfl) rfl
theorem q1801 : (Jvm.Cond.privateMethod ({ cls := "RoleLoomModel", name := "leastAhead", desc := "(I)I" } : Jvm.MethodName)) ∈ lw_tbl := lw_at lw_m8 46 rfl
theorem q1802 : (Jvm.Cond.instanceMethod ({ cls := "RoleLoomModel", name := "leastAhead", desc := "(I)I" } : Jvm.MethodName)) ∈ lw_all := lw_g (lw_at lw_m8 47 rfl) rfl
theorem q1803 : (Jvm.Cond.code ({ cls := "RoleLoomModel", name := "leastAhead", desc := "(I)I" } : Jvm.MethodName) prog_32_method_20_code (3 : Nat) (Option.some Jvm.ClassFile.FieldType.int)) ∈ lw_all := lw_g (lw_at lw_m8 48 rfl) rfl
theorem q1804 : (Jvm.Cond.methodLink "RoleLoomModel" (226 : Nat) ({ cls := "RoleLoomModel", name := "isAhead", desc := "(II)Z" } : Jvm.MethodName)) ∈ lw_all := lw_g (lw_at lw_m8 49 rfl) rfl
theorem q1805 : (Jvm.Cond.privateMethod ({ cls := "RoleLoomModel", name := "isAhead", desc := "(II)Z" } : Jvm.MethodName)) ∈ lw_tbl := lw_at lw_m8 50 rfl
theorem q1806 : (Jvm.Cond.instanceMethod ({ cls := "RoleLoomModel", name := "isAhead", desc := "(II)Z" } : Jvm.MethodName)) ∈ lw_all := lw_g (lw_at lw_m8 51 rfl) rfl
theorem q1807 : (Jvm.Cond.code ({ cls := "RoleLoomModel", name := "isAhead", desc := "(II)Z" } : Jvm.MethodName) prog_32_method_19_code (7 : Nat) (Option.some Jvm.ClassFile.FieldType.boolean)) ∈ lw_all := lw_g (lw_at lw_m8 52 rfl) rfl
theorem q1808 : (Jvm.Cond.methodLink "RoleLoomModel" (223 : Nat) ({ cls := "RoleLoomModel", name := "isToldBy", desc := "(III)Z" } : Jvm.MethodName)) ∈ lw_all := lw_g (lw_at lw_m8 53 rfl) rfl
theorem q1809 : (Jvm.Cond.privateMethod ({ cls := "RoleLoomModel", name := "isToldBy", desc := "(III)Z" } : Jvm.MethodName)) ∈ lw_tbl := lw_at lw_m8 54 rfl
theorem q1810 : (Jvm.Cond.instanceMethod ({ cls := "RoleLoomModel", name := "isToldBy", desc := "(III)Z" } : Jvm.MethodName)) ∈ lw_all := lw_g (lw_at lw_m8 55 rfl) rfl
theorem q1811 : (Jvm.Cond.code ({ cls := "RoleLoomModel", name := "isToldBy", desc := "(III)Z" } : Jvm.MethodName) prog_32_method_18_code (7 : Nat) (Option.some Jvm.ClassFile.FieldType.boolean)) ∈ lw_all := lw_g (lw_at lw_m8 56 rfl) rfl
theorem q1812 : (Jvm.Cond.methodLink "RoleLoomModel" (236 : Nat) ({ cls := "RoleLoomModel", name := "tellRing", desc := "(I)V" } : Jvm.MethodName)) ∈ lw_all := lw_g (lw_at lw_m8 57 rfl) rfl
theorem q1813 : (Jvm.Cond.privateMethod ({ cls := "RoleLoomModel", name := "tellRing", desc := "(I)V" } : Jvm.MethodName)) ∈ lw_tbl := lw_at lw_m8 58 rfl
theorem q1814 : (Jvm.Cond.instanceMethod ({ cls := "RoleLoomModel", name := "tellRing", desc := "(I)V" } : Jvm.MethodName)) ∈ lw_all := lw_g (lw_at lw_m8 59 rfl) rfl
theorem q1815 : (Jvm.Cond.code ({ cls := "RoleLoomModel", name := "tellRing", desc := "(I)V" } : Jvm.MethodName) prog_32_method_23_code (6 : Nat) (Option.none : Option Jvm.ClassFile.FieldType)) ∈ lw_all := lw_g (lw_at lw_m8 60 rfl) rfl
theorem q1816 : (Jvm.Cond.methodLink "RoleLoomModel" (258 : Nat) ({ cls := "RoleLoomModel", name := "chain", desc := "(II)V" } : Jvm.MethodName)) ∈ lw_all := lw_g (lw_at lw_m8 61 rfl) rfl
theorem q1817 : (Jvm.Cond.privateMethod ({ cls := "RoleLoomModel", name := "chain", desc := "(II)V" } : Jvm.MethodName)) ∈ lw_tbl := lw_at lw_m8 62 rfl
theorem q1818 : (Jvm.Cond.instanceMethod ({ cls := "RoleLoomModel", name := "chain", desc := "(II)V" } : Jvm.MethodName)) ∈ lw_all := lw_g (lw_at lw_m8 63 rfl) rfl
theorem q1819 : (Jvm.Cond.code ({ cls := "RoleLoomModel", name := "chain", desc := "(II)V" } : Jvm.MethodName) prog_32_method_25_code (8 : Nat) (Option.none : Option Jvm.ClassFile.FieldType)) ∈ lw_all := lw_g (lw_at lw_m8 64 rfl) rfl
theorem q1820 : (Jvm.Cond.methodLink "RoleLoomModel" (243 : Nat) ({ cls := "RoleLoomModel", name := "isExcluded", desc := "(II)Z" } : Jvm.MethodName)) ∈ lw_all := lw_g (lw_at lw_m8 65 rfl) rfl
theorem q1821 : (Jvm.Cond.privateMethod ({ cls := "RoleLoomModel", name := "isExcluded", desc := "(II)Z" } : Jvm.MethodName)) ∈ lw_tbl := lw_at lw_m8 66 rfl
theorem q1822 : (Jvm.Cond.instanceMethod ({ cls := "RoleLoomModel", name := "isExcluded", desc := "(II)Z" } : Jvm.MethodName)) ∈ lw_all := lw_g (lw_at lw_m8 67 rfl) rfl
theorem q1823 : (Jvm.Cond.code ({ cls := "RoleLoomModel", name := "isExcluded", desc := "(II)Z" } : Jvm.MethodName) prog_32_method_24_code (5 : Nat) (Option.some Jvm.ClassFile.FieldType.boolean)) ∈ lw_all := lw_g (lw_at lw_m8 68 rfl) rfl
theorem q1824 : (Jvm.Cond.methodLink "RoleLoomModel" (262 : Nat) ({ cls := "RoleLoomModel", name := "lacksAny", desc := "(I)Z" } : Jvm.MethodName)) ∈ lw_all := lw_g (lw_at lw_m8 69 rfl) rfl
theorem q1825 : (Jvm.Cond.privateMethod ({ cls := "RoleLoomModel", name := "lacksAny", desc := "(I)Z" } : Jvm.MethodName)) ∈ lw_tbl := lw_at lw_m8 70 rfl
theorem q1826 : (Jvm.Cond.instanceMethod ({ cls := "RoleLoomModel", name := "lacksAny", desc := "(I)Z" } : Jvm.MethodName)) ∈ lw_all := lw_g (lw_at lw_m8 71 rfl) rfl
theorem q1827 : (Jvm.Cond.code ({ cls := "RoleLoomModel", name := "lacksAny", desc := "(I)Z" } : Jvm.MethodName) prog_32_method_29_code (5 : Nat) (Option.some Jvm.ClassFile.FieldType.boolean)) ∈ lw_all := lw_g (lw_at lw_m8 72 rfl) rfl
theorem q1828 : (Jvm.Cond.methodLink "RoleLoomModel" (249 : Nat) ({ cls := "RoleLoomModel", name := "hasGiven", desc := "(II)Z" } : Jvm.MethodName)) ∈ lw_all := lw_g (lw_at lw_m8 73 rfl) rfl
theorem q1829 : (Jvm.Cond.privateMethod ({ cls := "RoleLoomModel", name := "hasGiven", desc := "(II)Z" } : Jvm.MethodName)) ∈ lw_tbl := lw_at lw_m8 74 rfl
theorem q1830 : (Jvm.Cond.instanceMethod ({ cls := "RoleLoomModel", name := "hasGiven", desc := "(II)Z" } : Jvm.MethodName)) ∈ lw_all := lw_g (lw_at lw_m8 75 rfl) rfl
theorem q1831 : (Jvm.Cond.code ({ cls := "RoleLoomModel", name := "hasGiven", desc := "(II)Z" } : Jvm.MethodName) prog_32_method_27_code (6 : Nat) (Option.some Jvm.ClassFile.FieldType.boolean)) ∈ lw_all := lw_g (lw_at lw_m8 76 rfl) rfl
theorem q1832 : (Jvm.Cond.methodLink "RoleLoomModel" (246 : Nat) ({ cls := "RoleLoomModel", name := "isGiven", desc := "(I)Z" } : Jvm.MethodName)) ∈ lw_all := lw_g (lw_at lw_m8 77 rfl) rfl
theorem q1833 : (Jvm.Cond.static ({ cls := "RoleLoomModel", name := "isGiven", desc := "(I)Z" } : Jvm.MethodName)) ∈ lw_all := lw_g (lw_at lw_m8 78 rfl) rfl
theorem q1834 : (Jvm.Cond.code ({ cls := "RoleLoomModel", name := "isGiven", desc := "(I)Z" } : Jvm.MethodName) prog_32_method_26_code (1 : Nat) (Option.some Jvm.ClassFile.FieldType.boolean)) ∈ lw_all := lw_g (lw_at lw_m8 79 rfl) rfl
theorem q1835 : (Jvm.Cond.methodLink "RoleLoomModel" (252 : Nat) ({ cls := "RoleLoomModel", name := "chainPlace", desc := "(III)I" } : Jvm.MethodName)) ∈ lw_all := lw_g (lw_at lw_m8 80 rfl) rfl
theorem q1836 : (Jvm.Cond.privateMethod ({ cls := "RoleLoomModel", name := "chainPlace", desc := "(III)I" } : Jvm.MethodName)) ∈ lw_tbl := lw_at lw_m8 81 rfl
theorem q1837 : (Jvm.Cond.instanceMethod ({ cls := "RoleLoomModel", name := "chainPlace", desc := "(III)I" } : Jvm.MethodName)) ∈ lw_all := lw_g (lw_at lw_m8 82 rfl) rfl
theorem q1838 : (Jvm.Cond.code ({ cls := "RoleLoomModel", name := "chainPlace", desc := "(III)I" } : Jvm.MethodName) prog_32_method_28_code (6 : Nat) (Option.some Jvm.ClassFile.FieldType.int)) ∈ lw_all := lw_g (lw_at lw_m8 83 rfl) rfl
theorem q1840 : (Jvm.Cond.instanceMethod ({ cls := "RoleLoomModel", name := "ring", desc := "(I)I" } : Jvm.MethodName)) ∈ lw_all := lw_g (lw_at lw_m8 85 rfl) rfl
theorem q1841 : (Jvm.Cond.selects "RoleLoomModel" ({ cls := "RoleLoomModel", name := "ring", desc := "(I)I" } : Jvm.MethodName) ({ cls := "RoleLoomModel", name := "ring", desc := "(I)I" } : Jvm.MethodName)) ∈ lw_all := lw_g (lw_at lw_m8 86 rfl) rfl
theorem q1842 : (Jvm.Cond.code ({ cls := "RoleLoomModel", name := "ring", desc := "(I)I" } : Jvm.MethodName) prog_32_method_32_code (2 : Nat) (Option.some Jvm.ClassFile.FieldType.int)) ∈ lw_all := lw_g (lw_at lw_m8 87 rfl) rfl
theorem q1844 : (Jvm.Cond.instanceMethod ({ cls := "RoleLoomModel", name := "lacks", desc := "(I)I" } : Jvm.MethodName)) ∈ lw_all := lw_g (lw_at lw_m8 89 rfl) rfl
theorem q1845 : (Jvm.Cond.selects "RoleLoomModel" ({ cls := "RoleLoomModel", name := "lacks", desc := "(I)I" } : Jvm.MethodName) ({ cls := "RoleLoomModel", name := "lacks", desc := "(I)I" } : Jvm.MethodName)) ∈ lw_all := lw_g (lw_at lw_m8 90 rfl) rfl
theorem q1846 : (Jvm.Cond.code ({ cls := "RoleLoomModel", name := "lacks", desc := "(I)I" } : Jvm.MethodName) prog_32_method_33_code (2 : Nat) (Option.some Jvm.ClassFile.FieldType.int)) ∈ lw_all := lw_g (lw_at lw_m8 91 rfl) rfl
theorem q1848 : (Jvm.Cond.instanceMethod ({ cls := "RoleLoomModel", name := "line", desc := "(II)I" } : Jvm.MethodName)) ∈ lw_all := lw_g (lw_at lw_m8 93 rfl) rfl
theorem q1849 : (Jvm.Cond.selects "RoleLoomModel" ({ cls := "RoleLoomModel", name := "line", desc := "(II)I" } : Jvm.MethodName) ({ cls := "RoleLoomModel", name := "line", desc := "(II)I" } : Jvm.MethodName)) ∈ lw_all := lw_g (lw_at lw_m8 94 rfl) rfl
theorem q1850 : (Jvm.Cond.code ({ cls := "RoleLoomModel", name := "line", desc := "(II)I" } : Jvm.MethodName) prog_32_method_35_code (3 : Nat) (Option.some Jvm.ClassFile.FieldType.int)) ∈ lw_all := lw_g (lw_at lw_m8 95 rfl) rfl
theorem q1851 : (Jvm.Cond.methodLink "RoleLoomModel" (269 : Nat) ({ cls := "RoleLoomModel", name := "isRole", desc := "(I)Z" } : Jvm.MethodName)) ∈ lw_all := lw_g (lw_at lw_m8 96 rfl) rfl
theorem q1852 : (Jvm.Cond.privateMethod ({ cls := "RoleLoomModel", name := "isRole", desc := "(I)Z" } : Jvm.MethodName)) ∈ lw_tbl := lw_at lw_m8 97 rfl
theorem q1853 : (Jvm.Cond.instanceMethod ({ cls := "RoleLoomModel", name := "isRole", desc := "(I)Z" } : Jvm.MethodName)) ∈ lw_all := lw_g (lw_at lw_m8 98 rfl) rfl
theorem q1854 : (Jvm.Cond.code ({ cls := "RoleLoomModel", name := "isRole", desc := "(I)Z" } : Jvm.MethodName) prog_32_method_34_code (2 : Nat) (Option.some Jvm.ClassFile.FieldType.boolean)) ∈ lw_all := lw_g (lw_at lw_m8 99 rfl) rfl
theorem q1856 : (Jvm.Cond.instanceMethod ({ cls := "RoleLoomModel", name := "chain", desc := "(III)I" } : Jvm.MethodName)) ∈ lw_all := lw_g (lw_at lw_m8 101 rfl) rfl
theorem q1857 : (Jvm.Cond.selects "RoleLoomModel" ({ cls := "RoleLoomModel", name := "chain", desc := "(III)I" } : Jvm.MethodName) ({ cls := "RoleLoomModel", name := "chain", desc := "(III)I" } : Jvm.MethodName)) ∈ lw_all := lw_g (lw_at lw_m8 102 rfl) rfl
theorem q1858 : (Jvm.Cond.code ({ cls := "RoleLoomModel", name := "chain", desc := "(III)I" } : Jvm.MethodName) prog_32_method_36_code (6 : Nat) (Option.some Jvm.ClassFile.FieldType.int)) ∈ lw_all := lw_g (lw_at lw_m8 103 rfl) rfl
theorem q1860 : (Jvm.Cond.instanceMethod ({ cls := "RoleLoomModel", name := "under", desc := "(II)I" } : Jvm.MethodName)) ∈ lw_all := lw_g (lw_at lw_m8 105 rfl) rfl
theorem q1861 : (Jvm.Cond.selects "RoleLoomModel" ({ cls := "RoleLoomModel", name := "under", desc := "(II)I" } : Jvm.MethodName) ({ cls := "RoleLoomModel", name := "under", desc := "(II)I" } : Jvm.MethodName)) ∈ lw_all := lw_g (lw_at lw_m8 106 rfl) rfl
theorem q1862 : (Jvm.Cond.code ({ cls := "RoleLoomModel", name := "under", desc := "(II)I" } : Jvm.MethodName) prog_32_method_39_code (3 : Nat) (Option.some Jvm.ClassFile.FieldType.int)) ∈ lw_all := lw_g (lw_at lw_m8 107 rfl) rfl
theorem q1863 : (Jvm.Cond.methodLink "RoleLoomModel" (275 : Nat) ({ cls := "RoleLoomModel", name := "isUnder", desc := "(II)Z" } : Jvm.MethodName)) ∈ lw_all := lw_g (lw_at lw_m8 108 rfl) rfl
theorem q1864 : (Jvm.Cond.privateMethod ({ cls := "RoleLoomModel", name := "isUnder", desc := "(II)Z" } : Jvm.MethodName)) ∈ lw_tbl := lw_at lw_m8 109 rfl
theorem q1865 : (Jvm.Cond.instanceMethod ({ cls := "RoleLoomModel", name := "isUnder", desc := "(II)Z" } : Jvm.MethodName)) ∈ lw_all := lw_g (lw_at lw_m8 110 rfl) rfl
theorem q1866 : (Jvm.Cond.code ({ cls := "RoleLoomModel", name := "isUnder", desc := "(II)Z" } : Jvm.MethodName) prog_32_method_38_code (3 : Nat) (Option.some Jvm.ClassFile.FieldType.boolean)) ∈ lw_all := lw_g (lw_at lw_m8 111 rfl) rfl
theorem q1867 : (Jvm.Cond.methodLink "RoleLoomModel" (272 : Nat) ({ cls := "RoleLoomModel", name := "areAlike", desc := "(III)Z" } : Jvm.MethodName)) ∈ lw_all := lw_g (lw_at lw_m8 112 rfl) rfl
theorem q1868 : (Jvm.Cond.privateMethod ({ cls := "RoleLoomModel", name := "areAlike", desc := "(III)Z" } : Jvm.MethodName)) ∈ lw_tbl := lw_at lw_m8 113 rfl
theorem q1869 : (Jvm.Cond.instanceMethod ({ cls := "RoleLoomModel", name := "areAlike", desc := "(III)Z" } : Jvm.MethodName)) ∈ lw_all := lw_g (lw_at lw_m8 114 rfl) rfl
theorem q1870 : (Jvm.Cond.code ({ cls := "RoleLoomModel", name := "areAlike", desc := "(III)Z" } : Jvm.MethodName) prog_32_method_37_code (6 : Nat) (Option.some Jvm.ClassFile.FieldType.boolean)) ∈ lw_all := lw_g (lw_at lw_m8 115 rfl) rfl
theorem q1872 : (Jvm.Cond.instanceMethod ({ cls := "RoleLoomModel", name := "step", desc := "(II)I" } : Jvm.MethodName)) ∈ lw_all := lw_g (lw_at lw_m8 117 rfl) rfl
theorem q1873 : (Jvm.Cond.selects "RoleLoomModel" ({ cls := "RoleLoomModel", name := "step", desc := "(II)I" } : Jvm.MethodName) ({ cls := "RoleLoomModel", name := "step", desc := "(II)I" } : Jvm.MethodName)) ∈ lw_all := lw_g (lw_at lw_m8 118 rfl) rfl
theorem q1874 : (Jvm.Cond.code ({ cls := "RoleLoomModel", name := "step", desc := "(II)I" } : Jvm.MethodName) prog_32_method_41_code (3 : Nat) (Option.some Jvm.ClassFile.FieldType.int)) ∈ lw_all := lw_g (lw_at lw_m8 119 rfl) rfl
theorem q1875 : (Jvm.Cond.methodLink "RoleLoomModel" (278 : Nat) ({ cls := "RoleLoomModel", name := "stepOf", desc := "(II)I" } : Jvm.MethodName)) ∈ lw_all := lw_g (lw_at lw_m8 120 rfl) rfl
theorem q1876 : (Jvm.Cond.privateMethod ({ cls := "RoleLoomModel", name := "stepOf", desc := "(II)I" } : Jvm.MethodName)) ∈ lw_tbl := lw_at lw_m8 121 rfl
theorem q1877 : (Jvm.Cond.instanceMethod ({ cls := "RoleLoomModel", name := "stepOf", desc := "(II)I" } : Jvm.MethodName)) ∈ lw_all := lw_g (lw_at lw_m8 122 rfl) rfl
theorem q1878 : (Jvm.Cond.code ({ cls := "RoleLoomModel", name := "stepOf", desc := "(II)I" } : Jvm.MethodName) prog_32_method_40_code (4 : Nat) (Option.some Jvm.ClassFile.FieldType.int)) ∈ lw_all := lw_g (lw_at lw_m8 123 rfl) rfl
theorem q1880 : (Jvm.Cond.instanceMethod ({ cls := "RoleLoomModel", name := "started", desc := "(II)I" } : Jvm.MethodName)) ∈ lw_all := lw_g (lw_at lw_m8 125 rfl) rfl
theorem q1881 : (Jvm.Cond.selects "RoleLoomModel" ({ cls := "RoleLoomModel", name := "started", desc := "(II)I" } : Jvm.MethodName) ({ cls := "RoleLoomModel", name := "started", desc := "(II)I" } : Jvm.MethodName)) ∈ lw_all := lw_g (lw_at lw_m8 126 rfl) rfl
theorem q1882 : (Jvm.Cond.code ({ cls := "RoleLoomModel", name := "started", desc := "(II)I" } : Jvm.MethodName) prog_32_method_43_code (3 : Nat) (Option.some Jvm.ClassFile.FieldType.int)) ∈ lw_all := lw_g (lw_at lw_m8 127 rfl) rfl
theorem q1883 : (Jvm.Cond.methodLink "RoleLoomModel" (282 : Nat) ({ cls := "RoleLoomModel", name := "startedAt", desc := "(II)I" } : Jvm.MethodName)) ∈ lw_all := lw_g (lw_at lw_m8 128 rfl) rfl
theorem q1884 : (Jvm.Cond.privateMethod ({ cls := "RoleLoomModel", name := "startedAt", desc := "(II)I" } : Jvm.MethodName)) ∈ lw_tbl := lw_at lw_m8 129 rfl
theorem q1885 : (Jvm.Cond.instanceMethod ({ cls := "RoleLoomModel", name := "startedAt", desc := "(II)I" } : Jvm.MethodName)) ∈ lw_all := lw_g (lw_at lw_m8 130 rfl) rfl
theorem q1886 : (Jvm.Cond.code ({ cls := "RoleLoomModel", name := "startedAt", desc := "(II)I" } : Jvm.MethodName) prog_32_method_42_code (3 : Nat) (Option.some Jvm.ClassFile.FieldType.int)) ∈ lw_all := lw_g (lw_at lw_m8 131 rfl) rfl
theorem q1888 : (Jvm.Cond.instanceMethod ({ cls := "RoleLoomModel", name := "object", desc := "(I)I" } : Jvm.MethodName)) ∈ lw_all := lw_g (lw_at lw_m8 133 rfl) rfl
theorem q1889 : (Jvm.Cond.selects "RoleLoomModel" ({ cls := "RoleLoomModel", name := "object", desc := "(I)I" } : Jvm.MethodName) ({ cls := "RoleLoomModel", name := "object", desc := "(I)I" } : Jvm.MethodName)) ∈ lw_all := lw_g (lw_at lw_m8 134 rfl) rfl
theorem q1890 : (Jvm.Cond.code ({ cls := "RoleLoomModel", name := "object", desc := "(I)I" } : Jvm.MethodName) prog_32_method_63_code (4 : Nat) (Option.some Jvm.ClassFile.FieldType.int)) ∈ lw_all := lw_g (lw_at lw_m8 135 rfl) rfl
theorem q1891 : (Jvm.Cond.methodLink "RoleLoomModel" (369 : Nat) ({ cls := "RoleLoomModel", name := "begins", desc := "()V" } : Jvm.MethodName)) ∈ lw_all := lw_g (lw_at lw_m8 136 rfl) rfl
theorem q1892 : (Jvm.Cond.privateMethod ({ cls := "RoleLoomModel", name := "begins", desc := "()V" } : Jvm.MethodName)) ∈ lw_tbl := lw_at lw_m8 137 rfl
theorem q1893 : (Jvm.Cond.instanceMethod ({ cls := "RoleLoomModel", name := "begins", desc := "()V" } : Jvm.MethodName)) ∈ lw_all := lw_g (lw_at lw_m8 138 rfl) rfl
theorem q1894 : (Jvm.Cond.code ({ cls := "RoleLoomModel", name := "begins", desc := "()V" } : Jvm.MethodName) prog_32_method_45_code (1 : Nat) (Option.none : Option Jvm.ClassFile.FieldType)) ∈ lw_all := lw_g (lw_at lw_m8 139 rfl) rfl
theorem q1895 : (Jvm.Cond.methodLink "RoleLoomModel" (294 : Nat) ({ cls := "RoleLoomModel", name := "noThrow", desc := "()V" } : Jvm.MethodName)) ∈ lw_all := lw_g (lw_at lw_m8 140 rfl) rfl
theorem q1896 : (Jvm.Cond.privateMethod ({ cls := "RoleLoomModel", name := "noThrow", desc := "()V" } : Jvm.MethodName)) ∈ lw_tbl := lw_at lw_m8 141 rfl
theorem q1897 : (Jvm.Cond.instanceMethod ({ cls := "RoleLoomModel", name := "noThrow", desc := "()V" } : Jvm.MethodName)) ∈ lw_all := lw_g (lw_at lw_m8 142 rfl) rfl
theorem q1898 : (Jvm.Cond.code ({ cls := "RoleLoomModel", name := "noThrow", desc := "()V" } : Jvm.MethodName) prog_32_method_46_code (1 : Nat) (Option.none : Option Jvm.ClassFile.FieldType)) ∈ lw_all := lw_g (lw_at lw_m8 143 rfl) rfl
theorem q1899 : (Jvm.Cond.methodLink "RoleLoomModel" (372 : Nat) ({ cls := "RoleLoomModel", name := "start", desc := "(I)I" } : Jvm.MethodName)) ∈ lw_all := lw_g (lw_at lw_m8 144 rfl) rfl
theorem q1900 : (Jvm.Cond.privateMethod ({ cls := "RoleLoomModel", name := "start", desc := "(I)I" } : Jvm.MethodName)) ∈ lw_tbl := lw_at lw_m8 145 rfl
theorem q1901 : (Jvm.Cond.instanceMethod ({ cls := "RoleLoomModel", name := "start", desc := "(I)I" } : Jvm.MethodName)) ∈ lw_all := lw_g (lw_at lw_m8 146 rfl) rfl
theorem q1902 : (Jvm.Cond.code ({ cls := "RoleLoomModel", name := "start", desc := "(I)I" } : Jvm.MethodName) prog_32_method_61_code (5 : Nat) (Option.some Jvm.ClassFile.FieldType.int)) ∈ lw_all := lw_g (lw_at lw_m8 147 rfl) rfl
theorem q1903 : (Jvm.Cond.methodLink "RoleLoomModel" (357 : Nat) ({ cls := "RoleLoomModel", name := "isStarted", desc := "(I)Z" } : Jvm.MethodName)) ∈ lw_all := lw_g (lw_at lw_m8 148 rfl) rfl
theorem q1904 : (Jvm.Cond.privateMethod ({ cls := "RoleLoomModel", name := "isStarted", desc := "(I)Z" } : Jvm.MethodName)) ∈ lw_tbl := lw_at lw_m8 149 rfl
theorem q1905 : (Jvm.Cond.instanceMethod ({ cls := "RoleLoomModel", name := "isStarted", desc := "(I)Z" } : Jvm.MethodName)) ∈ lw_all := lw_g (lw_at lw_m8 150 rfl) rfl
theorem q1906 : (Jvm.Cond.code ({ cls := "RoleLoomModel", name := "isStarted", desc := "(I)Z" } : Jvm.MethodName) prog_32_method_62_code (3 : Nat) (Option.some Jvm.ClassFile.FieldType.boolean)) ∈ lw_all := lw_g (lw_at lw_m8 151 rfl) rfl
theorem q1907 : (Jvm.Cond.methodLink "RoleLoomModel" (360 : Nat) ({ cls := "RoleLoomModel", name := "clear", desc := "(II)V" } : Jvm.MethodName)) ∈ lw_all := lw_g (lw_at lw_m8 152 rfl) rfl
theorem q1908 : (Jvm.Cond.privateMethod ({ cls := "RoleLoomModel", name := "clear", desc := "(II)V" } : Jvm.MethodName)) ∈ lw_tbl := lw_at lw_m8 153 rfl
theorem q1909 : (Jvm.Cond.instanceMethod ({ cls := "RoleLoomModel", name := "clear", desc := "(II)V" } : Jvm.MethodName)) ∈ lw_all := lw_g (lw_at lw_m8 154 rfl) rfl
theorem q1910 : (Jvm.Cond.code ({ cls := "RoleLoomModel", name := "clear", desc := "(II)V" } : Jvm.MethodName) prog_32_method_44_code (5 : Nat) (Option.none : Option Jvm.ClassFile.FieldType)) ∈ lw_all := lw_g (lw_at lw_m8 155 rfl) rfl
theorem q1911 : (Jvm.Cond.methodLink "RoleLoomModel" (308 : Nat) ({ cls := "RoleLoomModel", name := "enter", desc := "(IIIIIJ)V" } : Jvm.MethodName)) ∈ lw_all := lw_g (lw_at lw_m8 156 rfl) rfl
theorem q1912 : (Jvm.Cond.privateMethod ({ cls := "RoleLoomModel", name := "enter", desc := "(IIIIIJ)V" } : Jvm.MethodName)) ∈ lw_tbl := lw_at lw_m8 157 rfl
theorem q1913 : (Jvm.Cond.instanceMethod ({ cls := "RoleLoomModel", name := "enter", desc := "(IIIIIJ)V" } : Jvm.MethodName)) ∈ lw_all := lw_g (lw_at lw_m8 158 rfl) rfl
theorem q1914 : (Jvm.Cond.code ({ cls := "RoleLoomModel", name := "enter", desc := "(IIIIIJ)V" } : Jvm.MethodName) prog_32_method_47_code (8 : Nat) (Option.none : Option Jvm.ClassFile.FieldType)) ∈ lw_all := lw_g (lw_at lw_m8 159 rfl) rfl
theorem q1915 : (Jvm.Cond.methodLink "RoleLoomModel" (363 : Nat) ({ cls := "RoleLoomModel", name := "goes", desc := "()V" } : Jvm.MethodName)) ∈ lw_all := lw_g (lw_at lw_m8 160 rfl) rfl
theorem q1916 : (Jvm.Cond.privateMethod ({ cls := "RoleLoomModel", name := "goes", desc := "()V" } : Jvm.MethodName)) ∈ lw_tbl := lw_at lw_m8 161 rfl
theorem q1917 : (Jvm.Cond.instanceMethod ({ cls := "RoleLoomModel", name := "goes", desc := "()V" } : Jvm.MethodName)) ∈ lw_all := lw_g (lw_at lw_m8 162 rfl) rfl
theorem q1918 : (Jvm.Cond.code ({ cls := "RoleLoomModel", name := "goes", desc := "()V" } : Jvm.MethodName) prog_32_method_60_code (1 : Nat) (Option.none : Option Jvm.ClassFile.FieldType)) ∈ lw_all := lw_g (lw_at lw_m8 163 rfl) rfl
theorem q1919 : (Jvm.Cond.methodLink "RoleLoomModel" (354 : Nat) ({ cls := "RoleLoomModel", name := "goOn", desc := "()V" } : Jvm.MethodName)) ∈ lw_all := lw_g (lw_at lw_m8 164 rfl) rfl
theorem q1920 : (Jvm.Cond.privateMethod ({ cls := "RoleLoomModel", name := "goOn", desc := "()V" } : Jvm.MethodName)) ∈ lw_tbl := lw_at lw_m8 165 rfl
theorem q1921 : (Jvm.Cond.instanceMethod ({ cls := "RoleLoomModel", name := "goOn", desc := "()V" } : Jvm.MethodName)) ∈ lw_all := lw_g (lw_at lw_m8 166 rfl) rfl
theorem q1922 : (Jvm.Cond.code ({ cls := "RoleLoomModel", name := "goOn", desc := "()V" } : Jvm.MethodName) prog_32_method_53_code (5 : Nat) (Option.none : Option Jvm.ClassFile.FieldType)) ∈ lw_all := lw_g (lw_at lw_m8 167 rfl) rfl
theorem q1923 : (Jvm.Cond.methodLink "RoleLoomModel" (319 : Nat) ({ cls := "RoleLoomModel", name := "reckon", desc := "(III)V" } : Jvm.MethodName)) ∈ lw_all := lw_g (lw_at lw_m8 168 rfl) rfl
theorem q1924 : (Jvm.Cond.privateMethod ({ cls := "RoleLoomModel", name := "reckon", desc := "(III)V" } : Jvm.MethodName)) ∈ lw_tbl := lw_at lw_m8 169 rfl
theorem q1925 : (Jvm.Cond.instanceMethod ({ cls := "RoleLoomModel", name := "reckon", desc := "(III)V" } : Jvm.MethodName)) ∈ lw_all := lw_g (lw_at lw_m8 170 rfl) rfl
theorem q1926 : (Jvm.Cond.code ({ cls := "RoleLoomModel", name := "reckon", desc := "(III)V" } : Jvm.MethodName) prog_32_method_54_code (6 : Nat) (Option.none : Option Jvm.ClassFile.FieldType)) ∈ lw_all := lw_g (lw_at lw_m8 171 rfl) rfl
theorem q1927 : (Jvm.Cond.methodLink "RoleLoomModel" (327 : Nat) ({ cls := "RoleLoomModel", name := "cellAt", desc := "(II)I" } : Jvm.MethodName)) ∈ lw_all := lw_g (lw_at lw_m8 172 rfl) rfl
theorem q1928 : (Jvm.Cond.privateMethod ({ cls := "RoleLoomModel", name := "cellAt", desc := "(II)I" } : Jvm.MethodName)) ∈ lw_tbl := lw_at lw_m8 173 rfl
theorem q1929 : (Jvm.Cond.instanceMethod ({ cls := "RoleLoomModel", name := "cellAt", desc := "(II)I" } : Jvm.MethodName)) ∈ lw_all := lw_g (lw_at lw_m8 174 rfl) rfl
theorem q1930 : (Jvm.Cond.code ({ cls := "RoleLoomModel", name := "cellAt", desc := "(II)I" } : Jvm.MethodName) prog_32_method_51_code (3 : Nat) (Option.some Jvm.ClassFile.FieldType.int)) ∈ lw_all := lw_g (lw_at lw_m8 175 rfl) rfl
theorem q1931 : (Jvm.Cond.methodLink "RoleLoomModel" (304 : Nat) ({ cls := "RoleLoomModel", name := "raise", desc := "(IJ)V" } : Jvm.MethodName)) ∈ lw_all := lw_g (lw_at lw_m8 176 rfl) rfl
theorem q1932 : (Jvm.Cond.privateMethod ({ cls := "RoleLoomModel", name := "raise", desc := "(IJ)V" } : Jvm.MethodName)) ∈ lw_tbl := lw_at lw_m8 177 rfl
theorem q1933 : (Jvm.Cond.instanceMethod ({ cls := "RoleLoomModel", name := "raise", desc := "(IJ)V" } : Jvm.MethodName)) ∈ lw_all := lw_g (lw_at lw_m8 178 rfl) rfl
theorem q1934 : (Jvm.Cond.code ({ cls := "RoleLoomModel", name := "raise", desc := "(IJ)V" } : Jvm.MethodName) prog_32_method_50_code (5 : Nat) (Option.none : Option Jvm.ClassFile.FieldType)) ∈ lw_all := lw_g (lw_at lw_m8 179 rfl) rfl
theorem q1935 : (Jvm.Cond.methodLink "RoleLoomModel" (323 : Nat) ({ cls := "RoleLoomModel", name := "control", desc := "(IIII)V" } : Jvm.MethodName)) ∈ lw_all := lw_g (lw_at lw_m8 180 rfl) rfl
theorem q1936 : (Jvm.Cond.privateMethod ({ cls := "RoleLoomModel", name := "control", desc := "(IIII)V" } : Jvm.MethodName)) ∈ lw_tbl := lw_at lw_m8 181 rfl
theorem q1937 : (Jvm.Cond.instanceMethod ({ cls := "RoleLoomModel", name := "control", desc := "(IIII)V" } : Jvm.MethodName)) ∈ lw_all := lw_g (lw_at lw_m8 182 rfl) rfl
theorem q1938 : (Jvm.Cond.code ({ cls := "RoleLoomModel", name := "control", desc := "(IIII)V" } : Jvm.MethodName) prog_32_method_55_code (6 : Nat) (Option.none : Option Jvm.ClassFile.FieldType)) ∈ lw_all := lw_g (lw_at lw_m8 183 rfl) rfl
theorem q1939 : (Jvm.Cond.methodLink "RoleLoomModel" (312 : Nat) ({ cls := "RoleLoomModel", name := "enterChain", desc := "(IIIJ)V" } : Jvm.MethodName)) ∈ lw_all := lw_g (lw_at lw_m8 184 rfl) rfl
theorem q1940 : (Jvm.Cond.privateMethod ({ cls := "RoleLoomModel", name := "enterChain", desc := "(IIIJ)V" } : Jvm.MethodName)) ∈ lw_tbl := lw_at lw_m8 185 rfl
theorem q1941 : (Jvm.Cond.instanceMethod ({ cls := "RoleLoomModel", name := "enterChain", desc := "(IIIJ)V" } : Jvm.MethodName)) ∈ lw_all := lw_g (lw_at lw_m8 186 rfl) rfl
theorem q1942 : (Jvm.Cond.code ({ cls := "RoleLoomModel", name := "enterChain", desc := "(IIIJ)V" } : Jvm.MethodName) prog_32_method_48_code (8 : Nat) (Option.none : Option Jvm.ClassFile.FieldType)) ∈ lw_all := lw_g (lw_at lw_m8 187 rfl) rfl
theorem q1943 : (Jvm.Cond.methodLink "RoleLoomModel" (330 : Nat) ({ cls := "RoleLoomModel", name := "enterLast", desc := "(IIJ)V" } : Jvm.MethodName)) ∈ lw_all := lw_g (lw_at lw_m8 188 rfl) rfl
theorem q1944 : (Jvm.Cond.privateMethod ({ cls := "RoleLoomModel", name := "enterLast", desc := "(IIJ)V" } : Jvm.MethodName)) ∈ lw_tbl := lw_at lw_m8 189 rfl
theorem q1945 : (Jvm.Cond.instanceMethod ({ cls := "RoleLoomModel", name := "enterLast", desc := "(IIJ)V" } : Jvm.MethodName)) ∈ lw_all := lw_g (lw_at lw_m8 190 rfl) rfl
theorem q1946 : (Jvm.Cond.code ({ cls := "RoleLoomModel", name := "enterLast", desc := "(IIJ)V" } : Jvm.MethodName) prog_32_method_49_code (5 : Nat) (Option.none : Option Jvm.ClassFile.FieldType)) ∈ lw_all := lw_g (lw_at lw_m8 191 rfl) rfl
theorem q1947 : (Jvm.Cond.methodLink "RoleLoomModel" (334 : Nat) ({ cls := "RoleLoomModel", name := "enterAlias", desc := "(IIJ)V" } : Jvm.MethodName)) ∈ lw_all := lw_g (lw_at lw_m8 192 rfl) rfl
theorem q1948 : (Jvm.Cond.privateMethod ({ cls := "RoleLoomModel", name := "enterAlias", desc := "(IIJ)V" } : Jvm.MethodName)) ∈ lw_tbl := lw_at lw_m8 193 rfl
theorem q1949 : (Jvm.Cond.instanceMethod ({ cls := "RoleLoomModel", name := "enterAlias", desc := "(IIJ)V" } : Jvm.MethodName)) ∈ lw_all := lw_g (lw_at lw_m8 194 rfl) rfl
theorem q1950 : (Jvm.Cond.code ({ cls := "RoleLoomModel", name := "enterAlias", desc := "(IIJ)V" } : Jvm.MethodName) prog_32_method_56_code (6 : Nat) (Option.none : Option Jvm.ClassFile.FieldType)) ∈ lw_all := lw_g (lw_at lw_m8 195 rfl) rfl
theorem q1951 : (Jvm.Cond.methodLink "RoleLoomModel" (340 : Nat) ({ cls := "RoleLoomModel", name := "makeRow", desc := "(II)V" } : Jvm.MethodName)) ∈ lw_all := lw_g (lw_at lw_m8 196 rfl) rfl
theorem q1952 : (Jvm.Cond.privateMethod ({ cls := "RoleLoomModel", name := "makeRow", desc := "(II)V" } : Jvm.MethodName)) ∈ lw_tbl := lw_at lw_m8 197 rfl
theorem q1953 : (Jvm.Cond.instanceMethod ({ cls := "RoleLoomModel", name := "makeRow", desc := "(II)V" } : Jvm.MethodName)) ∈ lw_all := lw_g (lw_at lw_m8 198 rfl) rfl
theorem q1954 : (Jvm.Cond.code ({ cls := "RoleLoomModel", name := "makeRow", desc := "(II)V" } : Jvm.MethodName) prog_32_method_57_code (6 : Nat) (Option.none : Option Jvm.ClassFile.FieldType)) ∈ lw_all := lw_g (lw_at lw_m8 199 rfl) rfl
theorem q1955 : (Jvm.Cond.constantLong "RoleLoomModel" (349 : Nat) (12 : Int64)) ∈ lw_all := lw_g (lw_at lw_m8 200 rfl) rfl
theorem q1956 : (Jvm.Cond.methodLink "RoleLoomModel" (351 : Nat) ({ cls := "RoleLoomModel", name := "rowAt", desc := "(II)I" } : Jvm.MethodName)) ∈ lw_all := lw_g (lw_at lw_m8 201 rfl) rfl
theorem q1957 : (Jvm.Cond.privateMethod ({ cls := "RoleLoomModel", name := "rowAt", desc := "(II)I" } : Jvm.MethodName)) ∈ lw_tbl := lw_at lw_m8 202 rfl
theorem q1958 : (Jvm.Cond.instanceMethod ({ cls := "RoleLoomModel", name := "rowAt", desc := "(II)I" } : Jvm.MethodName)) ∈ lw_all := lw_g (lw_at lw_m8 203 rfl) rfl
theorem q1959 : (Jvm.Cond.code ({ cls := "RoleLoomModel", name := "rowAt", desc := "(II)I" } : Jvm.MethodName) prog_32_method_52_code (3 : Nat) (Option.some Jvm.ClassFile.FieldType.int)) ∈ lw_all := lw_g (lw_at lw_m8 204 rfl) rfl
theorem q1960 : (Jvm.Cond.methodLink "RoleLoomModel" (343 : Nat) ({ cls := "RoleLoomModel", name := "placeInRow", desc := "(IIIJ)V" } : Jvm.MethodName)) ∈ lw_all := lw_g (lw_at lw_m8 205 rfl) rfl
theorem q1961 : (Jvm.Cond.privateMethod ({ cls := "RoleLoomModel", name := "placeInRow", desc := "(IIIJ)V" } : Jvm.MethodName)) ∈ lw_tbl := lw_at lw_m8 206 rfl
theorem q1962 : (Jvm.Cond.instanceMethod ({ cls := "RoleLoomModel", name := "placeInRow", desc := "(IIIJ)V" } : Jvm.MethodName)) ∈ lw_all := lw_g (lw_at lw_m8 207 rfl) rfl
theorem q1963 : (Jvm.Cond.code ({ cls := "RoleLoomModel", name := "placeInRow", desc := "(IIIJ)V" } : Jvm.MethodName) prog_32_method_58_code (7 : Nat) (Option.none : Option Jvm.ClassFile.FieldType)) ∈ lw_all := lw_g (lw_at lw_m8 208 rfl) rfl
theorem q1964 : (Jvm.Cond.methodLink "RoleLoomModel" (346 : Nat) ({ cls := "RoleLoomModel", name := "toOther", desc := "(IIII)V" } : Jvm.MethodName)) ∈ lw_all := lw_g (lw_at lw_m8 209 rfl) rfl
theorem q1965 : (Jvm.Cond.privateMethod ({ cls := "RoleLoomModel", name := "toOther", desc := "(IIII)V" } : Jvm.MethodName)) ∈ lw_tbl := lw_at lw_m8 210 rfl
theorem q1966 : (Jvm.Cond.instanceMethod ({ cls := "RoleLoomModel", name := "toOther", desc := "(IIII)V" } : Jvm.MethodName)) ∈ lw_all := lw_g (lw_at lw_m8 211 rfl) rfl
theorem q1967 : (Jvm.Cond.code ({ cls := "RoleLoomModel", name := "toOther", desc := "(IIII)V" } : Jvm.MethodName) prog_32_method_59_code (6 : Nat) (Option.none : Option Jvm.ClassFile.FieldType)) ∈ lw_all := lw_g (lw_at lw_m8 212 rfl) rfl
theorem q1969 : (Jvm.Cond.instanceMethod ({ cls := "RoleLoomModel", name := "call", desc := "(IIJ)I" } : Jvm.MethodName)) ∈ lw_all := lw_g (lw_at lw_m8 214 rfl) rfl
theorem q1970 : (Jvm.Cond.selects "RoleLoomModel" ({ cls := "RoleLoomModel", name := "call", desc := "(IIJ)I" } : Jvm.MethodName) ({ cls := "RoleLoomModel", name := "call", desc := "(IIJ)I" } : Jvm.MethodName)) ∈ lw_all := lw_g (lw_at lw_m8 215 rfl) rfl
theorem q1971 : (Jvm.Cond.code ({ cls := "RoleLoomModel", name := "call", desc := "(IIJ)I" } : Jvm.MethodName) prog_32_method_65_code (6 : Nat) (Option.some Jvm.ClassFile.FieldType.int)) ∈ lw_all := lw_g (lw_at lw_m8 216 rfl) rfl
theorem q1972 : (Jvm.Cond.methodLink "RoleLoomModel" (375 : Nat) ({ cls := "RoleLoomModel", name := "isObject", desc := "(I)Z" } : Jvm.MethodName)) ∈ lw_all := lw_g (lw_at lw_m8 217 rfl) rfl
theorem q1973 : (Jvm.Cond.privateMethod ({ cls := "RoleLoomModel", name := "isObject", desc := "(I)Z" } : Jvm.MethodName)) ∈ lw_tbl := lw_at lw_m8 218 rfl
theorem q1974 : (Jvm.Cond.instanceMethod ({ cls := "RoleLoomModel", name := "isObject", desc := "(I)Z" } : Jvm.MethodName)) ∈ lw_all := lw_g (lw_at lw_m8 219 rfl) rfl
theorem q1975 : (Jvm.Cond.code ({ cls := "RoleLoomModel", name := "isObject", desc := "(I)Z" } : Jvm.MethodName) prog_32_method_64_code (2 : Nat) (Option.some Jvm.ClassFile.FieldType.boolean)) ∈ lw_all := lw_g (lw_at lw_m8 220 rfl) rfl
theorem q1977 : (Jvm.Cond.instanceMethod ({ cls := "RoleLoomModel", name := "answer", desc := "()J" } : Jvm.MethodName)) ∈ lw_all := lw_g (lw_at lw_m8 222 rfl) rfl
theorem q1978 : (Jvm.Cond.selects "RoleLoomModel" ({ cls := "RoleLoomModel", name := "answer", desc := "()J" } : Jvm.MethodName) ({ cls := "RoleLoomModel", name := "answer", desc := "()J" } : Jvm.MethodName)) ∈ lw_all := lw_g (lw_at lw_m8 223 rfl) rfl
theorem q1979 : (Jvm.Cond.code ({ cls := "RoleLoomModel", name := "answer", desc := "()J" } : Jvm.MethodName) prog_32_method_66_code (1 : Nat) (Option.some Jvm.ClassFile.FieldType.long)) ∈ lw_all := lw_g (lw_at lw_m8 224 rfl) rfl
theorem q1981 : (Jvm.Cond.instanceMethod ({ cls := "RoleLoomModel", name := "threw", desc := "(I)I" } : Jvm.MethodName)) ∈ lw_all := lw_g (lw_at lw_m8 226 rfl) rfl
theorem q1982 : (Jvm.Cond.selects "RoleLoomModel" ({ cls := "RoleLoomModel", name := "threw", desc := "(I)I" } : Jvm.MethodName) ({ cls := "RoleLoomModel", name := "threw", desc := "(I)I" } : Jvm.MethodName)) ∈ lw_all := lw_g (lw_at lw_m8 227 rfl) rfl
theorem q1983 : (Jvm.Cond.code ({ cls := "RoleLoomModel", name := "threw", desc := "(I)I" } : Jvm.MethodName) prog_32_method_67_code (2 : Nat) (Option.some Jvm.ClassFile.FieldType.int)) ∈ lw_all := lw_g (lw_at lw_m8 228 rfl) rfl
theorem q1985 : (Jvm.Cond.instanceMethod ({ cls := "RoleLoomModel", name := "with", desc := "()J" } : Jvm.MethodName)) ∈ lw_all := lw_g (lw_at lw_m8 230 rfl) rfl
theorem q1986 : (Jvm.Cond.selects "RoleLoomModel" ({ cls := "RoleLoomModel", name := "with", desc := "()J" } : Jvm.MethodName) ({ cls := "RoleLoomModel", name := "with", desc := "()J" } : Jvm.MethodName)) ∈ lw_all := lw_g (lw_at lw_m8 231 rfl) rfl
theorem q1987 : (Jvm.Cond.code ({ cls := "RoleLoomModel", name := "with", desc := "()J" } : Jvm.MethodName) prog_32_method_68_code (1 : Nat) (Option.some Jvm.ClassFile.FieldType.long)) ∈ lw_all := lw_g (lw_at lw_m8 232 rfl) rfl
theorem q1989 : (Jvm.Cond.instanceMethod ({ cls := "RoleLoomModel", name := "ran", desc := "(II)I" } : Jvm.MethodName)) ∈ lw_all := lw_g (lw_at lw_m8 234 rfl) rfl
theorem q1990 : (Jvm.Cond.selects "RoleLoomModel" ({ cls := "RoleLoomModel", name := "ran", desc := "(II)I" } : Jvm.MethodName) ({ cls := "RoleLoomModel", name := "ran", desc := "(II)I" } : Jvm.MethodName)) ∈ lw_all := lw_g (lw_at lw_m8 235 rfl) rfl
theorem q1991 : (Jvm.Cond.code ({ cls := "RoleLoomModel", name := "ran", desc := "(II)I" } : Jvm.MethodName) prog_32_method_69_code (3 : Nat) (Option.some Jvm.ClassFile.FieldType.int)) ∈ lw_all := lw_g (lw_at lw_m8 236 rfl) rfl
theorem q1993 : (Jvm.Cond.instanceMethod ({ cls := "RoleLoomModel", name := "marks", desc := "()I" } : Jvm.MethodName)) ∈ lw_all := lw_g (lw_at lw_m8 238 rfl) rfl
theorem q1994 : (Jvm.Cond.selects "RoleLoomModel" ({ cls := "RoleLoomModel", name := "marks", desc := "()I" } : Jvm.MethodName) ({ cls := "RoleLoomModel", name := "marks", desc := "()I" } : Jvm.MethodName)) ∈ lw_all := lw_g (lw_at lw_m8 239 rfl) rfl
theorem q1995 : (Jvm.Cond.code ({ cls := "RoleLoomModel", name := "marks", desc := "()I" } : Jvm.MethodName) prog_32_method_70_code (1 : Nat) (Option.some Jvm.ClassFile.FieldType.int)) ∈ lw_all := lw_g (lw_at lw_m9 0 rfl) rfl
theorem q1997 : (Jvm.Cond.instanceMethod ({ cls := "RoleLoomModel", name := "mark", desc := "(I)I" } : Jvm.MethodName)) ∈ lw_all := lw_g (lw_at lw_m9 2 rfl) rfl
theorem q1998 : (Jvm.Cond.selects "RoleLoomModel" ({ cls := "RoleLoomModel", name := "mark", desc := "(I)I" } : Jvm.MethodName) ({ cls := "RoleLoomModel", name := "mark", desc := "(I)I" } : Jvm.MethodName)) ∈ lw_all := lw_g (lw_at lw_m9 3 rfl) rfl
theorem q1999 : (Jvm.Cond.code ({ cls := "RoleLoomModel", name := "mark", desc := "(I)I" } : Jvm.MethodName) prog_32_method_72_code (2 : Nat) (Option.some Jvm.ClassFile.FieldType.int)) ∈ lw_all := lw_g (lw_at lw_m9 4 rfl) rfl
theorem q2000 : (Jvm.Cond.methodLink "RoleLoomModel" (384 : Nat) ({ cls := "RoleLoomModel", name := "tells", desc := "(J)I" } : Jvm.MethodName)) ∈ lw_all := lw_g (lw_at lw_m9 5 rfl) rfl
theorem q2001 : (Jvm.Cond.privateMethod ({ cls := "RoleLoomModel", name := "tells", desc := "(J)I" } : Jvm.MethodName)) ∈ lw_tbl := lw_at lw_m9 6 rfl
theorem q2002 : (Jvm.Cond.instanceMethod ({ cls := "RoleLoomModel", name := "tells", desc := "(J)I" } : Jvm.MethodName)) ∈ lw_all := lw_g (lw_at lw_m9 7 rfl) rfl
theorem q2003 : (Jvm.Cond.code ({ cls := "RoleLoomModel", name := "tells", desc := "(J)I" } : Jvm.MethodName) prog_32_method_71_code (3 : Nat) (Option.some Jvm.ClassFile.FieldType.int)) ∈ lw_all := lw_g (lw_at lw_m9 8 rfl) rfl
theorem q2005 : (Jvm.Cond.instanceMethod ({ cls := "RoleLoomModel", name := "cell", desc := "(III)I" } : Jvm.MethodName)) ∈ lw_all := lw_g (lw_at lw_m9 10 rfl) rfl
theorem q2006 : (Jvm.Cond.selects "RoleLoomModel" ({ cls := "RoleLoomModel", name := "cell", desc := "(III)I" } : Jvm.MethodName) ({ cls := "RoleLoomModel", name := "cell", desc := "(III)I" } : Jvm.MethodName)) ∈ lw_all := lw_g (lw_at lw_m9 11 rfl) rfl
theorem q2007 : (Jvm.Cond.code ({ cls := "RoleLoomModel", name := "cell", desc := "(III)I" } : Jvm.MethodName) prog_32_method_74_code (5 : Nat) (Option.some Jvm.ClassFile.FieldType.int)) ∈ lw_all := lw_g (lw_at lw_m9 12 rfl) rfl
theorem q2008 : (Jvm.Cond.methodLink "RoleLoomModel" (388 : Nat) ({ cls := "RoleLoomModel", name := "placeIn", desc := "(II)I" } : Jvm.MethodName)) ∈ lw_all := lw_g (lw_at lw_m9 13 rfl) rfl
theorem q2009 : (Jvm.Cond.privateMethod ({ cls := "RoleLoomModel", name := "placeIn", desc := "(II)I" } : Jvm.MethodName)) ∈ lw_tbl := lw_at lw_m9 14 rfl
theorem q2010 : (Jvm.Cond.instanceMethod ({ cls := "RoleLoomModel", name := "placeIn", desc := "(II)I" } : Jvm.MethodName)) ∈ lw_all := lw_g (lw_at lw_m9 15 rfl) rfl
theorem q2011 : (Jvm.Cond.code ({ cls := "RoleLoomModel", name := "placeIn", desc := "(II)I" } : Jvm.MethodName) prog_32_method_73_code (3 : Nat) (Option.some Jvm.ClassFile.FieldType.int)) ∈ lw_all := lw_g (lw_at lw_m9 16 rfl) rfl
theorem q2013 : (Jvm.Cond.instanceMethod ({ cls := "RoleLoomModel", name := "row", desc := "(IIII)I" } : Jvm.MethodName)) ∈ lw_all := lw_g (lw_at lw_m9 18 rfl) rfl
theorem q2014 : (Jvm.Cond.selects "RoleLoomModel" ({ cls := "RoleLoomModel", name := "row", desc := "(IIII)I" } : Jvm.MethodName) ({ cls := "RoleLoomModel", name := "row", desc := "(IIII)I" } : Jvm.MethodName)) ∈ lw_all := lw_g (lw_at lw_m9 19 rfl) rfl
theorem q2015 : (Jvm.Cond.code ({ cls := "RoleLoomModel", name := "row", desc := "(IIII)I" } : Jvm.MethodName) prog_32_method_75_code (7 : Nat) (Option.some Jvm.ClassFile.FieldType.int)) ∈ lw_all := lw_g (lw_at lw_m9 20 rfl) rfl
theorem q2017 : (Jvm.Cond.instanceMethod ({ cls := "RoleLoomModel", name := "hold", desc := "(IIII)I" } : Jvm.MethodName)) ∈ lw_all := lw_g (lw_at lw_m9 22 rfl) rfl
theorem q2018 : (Jvm.Cond.selects "RoleLoomModel" ({ cls := "RoleLoomModel", name := "hold", desc := "(IIII)I" } : Jvm.MethodName) ({ cls := "RoleLoomModel", name := "hold", desc := "(IIII)I" } : Jvm.MethodName)) ∈ lw_all := lw_g (lw_at lw_m9 23 rfl) rfl
theorem q2019 : (Jvm.Cond.code ({ cls := "RoleLoomModel", name := "hold", desc := "(IIII)I" } : Jvm.MethodName) prog_32_method_76_code (8 : Nat) (Option.some Jvm.ClassFile.FieldType.int)) ∈ lw_all := lw_g (lw_at lw_m9 24 rfl) rfl
theorem q2021 : (Jvm.Cond.instanceMethod ({ cls := "RoleLoomModel", name := "shared", desc := "(I)I" } : Jvm.MethodName)) ∈ lw_all := lw_g (lw_at lw_m9 26 rfl) rfl
theorem q2022 : (Jvm.Cond.selects "RoleLoomModel" ({ cls := "RoleLoomModel", name := "shared", desc := "(I)I" } : Jvm.MethodName) ({ cls := "RoleLoomModel", name := "shared", desc := "(I)I" } : Jvm.MethodName)) ∈ lw_all := lw_g (lw_at lw_m9 27 rfl) rfl
theorem q2023 : (Jvm.Cond.code ({ cls := "RoleLoomModel", name := "shared", desc := "(I)I" } : Jvm.MethodName) prog_32_method_77_code (2 : Nat) (Option.some Jvm.ClassFile.FieldType.int)) ∈ lw_all := lw_g (lw_at lw_m9 28 rfl) rfl
theorem q2025 : (Jvm.Cond.instanceMethod ({ cls := "RoleLoomModel", name := "told", desc := "()J" } : Jvm.MethodName)) ∈ lw_all := lw_g (lw_at lw_m9 30 rfl) rfl
theorem q2026 : (Jvm.Cond.selects "RoleLoomModel" ({ cls := "RoleLoomModel", name := "told", desc := "()J" } : Jvm.MethodName) ({ cls := "RoleLoomModel", name := "told", desc := "()J" } : Jvm.MethodName)) ∈ lw_all := lw_g (lw_at lw_m9 31 rfl) rfl
theorem q2027 : (Jvm.Cond.code ({ cls := "RoleLoomModel", name := "told", desc := "()J" } : Jvm.MethodName) prog_32_method_78_code (1 : Nat) (Option.some Jvm.ClassFile.FieldType.long)) ∈ lw_all := lw_g (lw_at lw_m9 32 rfl) rfl
theorem q2029 : (Jvm.Cond.instanceMethod ({ cls := "RoleLoomModel", name := "count", desc := "(I)I" } : Jvm.MethodName)) ∈ lw_all := lw_g (lw_at lw_m9 34 rfl) rfl
theorem q2030 : (Jvm.Cond.selects "RoleLoomModel" ({ cls := "RoleLoomModel", name := "count", desc := "(I)I" } : Jvm.MethodName) ({ cls := "RoleLoomModel", name := "count", desc := "(I)I" } : Jvm.MethodName)) ∈ lw_all := lw_g (lw_at lw_m9 35 rfl) rfl
theorem q2031 : (Jvm.Cond.code ({ cls := "RoleLoomModel", name := "count", desc := "(I)I" } : Jvm.MethodName) prog_32_method_79_code (2 : Nat) (Option.some Jvm.ClassFile.FieldType.int)) ∈ lw_all := lw_g (lw_at lw_m9 36 rfl) rfl
theorem q2033 : (Jvm.Cond.instanceMethod ({ cls := "RoleLoomModel", name := "digest", desc := "()J" } : Jvm.MethodName)) ∈ lw_all := lw_g (lw_at lw_m9 38 rfl) rfl
theorem q2034 : (Jvm.Cond.selects "RoleLoomModel" ({ cls := "RoleLoomModel", name := "digest", desc := "()J" } : Jvm.MethodName) ({ cls := "RoleLoomModel", name := "digest", desc := "()J" } : Jvm.MethodName)) ∈ lw_all := lw_g (lw_at lw_m9 39 rfl) rfl
theorem q2035 : (Jvm.Cond.code ({ cls := "RoleLoomModel", name := "digest", desc := "()J" } : Jvm.MethodName) prog_32_method_80_code (5 : Nat) (Option.some Jvm.ClassFile.FieldType.long)) ∈ lw_all := lw_g (lw_at lw_m9 40 rfl) rfl
theorem q2036 : (Jvm.Cond.constantLong "RoleLoomModel" (391 : Nat) (17 : Int64)) ∈ lw_all := lw_g (lw_at lw_m9 41 rfl) rfl
theorem q2037 : (Jvm.Cond.constantLong "RoleLoomModel" (393 : Nat) (31 : Int64)) ∈ lw_all := lw_g (lw_at lw_m9 42 rfl) rfl
theorem q2038 : (Jvm.Cond.methodLink "RoleLoomModel" (395 : Nat) ({ cls := "RoleLoomModel", name := "mixed", desc := "(JIII)J" } : Jvm.MethodName)) ∈ lw_all := lw_g (lw_at lw_m9 43 rfl) rfl
theorem q2039 : (Jvm.Cond.privateMethod ({ cls := "RoleLoomModel", name := "mixed", desc := "(JIII)J" } : Jvm.MethodName)) ∈ lw_tbl := lw_at lw_m9 44 rfl
theorem q2040 : (Jvm.Cond.instanceMethod ({ cls := "RoleLoomModel", name := "mixed", desc := "(JIII)J" } : Jvm.MethodName)) ∈ lw_all := lw_g (lw_at lw_m9 45 rfl) rfl
theorem q2041 : (Jvm.Cond.code ({ cls := "RoleLoomModel", name := "mixed", desc := "(JIII)J" } : Jvm.MethodName) prog_32_method_81_code (12 : Nat) (Option.some Jvm.ClassFile.FieldType.long)) ∈ lw_all := lw_g (lw_at lw_m9 46 rfl) rfl
theorem q2076 : (Jvm.Cond.castable "RoleLoomModel" "java/lang/Object") ∈ lw_tbl := lw_at lw_m9 81 rfl
theorem in_X4 : ∀ w ∈ wsX40, w ∈ lw_all := lw_in wsX40 [1580, 1582, 1584, 1586, 1588, 1590, 1592, 1594, 1596, 1598, 1600, 1602, 1604, 1606, 1608, 1610, 1612, 1614, 1616, 1618, 1620, 1622, 1624, 1626, 1628, 1630, 1632, 1634, 1636, 1638, 1640, 1642, 1644, 1646, 1648, 1650, 1652, 1654, 1656, 1658, 1660, 1662, 1664, 1666, 1668, 1670, 1672, 1674, 1676, 1678, 1680, 1682, 1684, 1686, 1688, 1690, 1692, 1694, 1696, 1698, 1700, 1702, 1704, 1706, 1708, 1710, 1712, 1714, 1716, 1718, 1720, 1722, 1724] (by decide +kernel) (by decide +kernel)
